/-! the component: find, choose -/
section CFI
variable {l : Launch} {D : DD} {d kc ks : Nat} {h h0 : Hp} {Ψ : Option AV → Hp → Prop} {p g : Pg}
theorem trf_0 {v : Int} : trf v = 0 ↔ v = -1 := by
  unfold trf tA
  by_cases e : v = -1
  · rw [if_pos e]; exact ⟨fun _ => e, fun _ => rfl⟩
  · rw [if_neg e]; omega
theorem trf_s {v : Int} (h : ¬ v = -1) : trf v = tA v.toNat := if_neg h
theorem trf_n {t : Nat} : trf (t : Int) = tA t := by rw [trf_s (by omega), Int.toNat_natCast]
theorem lp_G_find {t x : Nat} (q : CS h p) (hw : WF p) (hx : x < 10) : ∀ (n : Nat) (j : Int), -1 ≤ j → j < n → j < nT p → (∀ r, chs p x n j = r → ¬ r = -1 → Ψ (some (vr (mrf r))) h) → (chs p x n j = -1 → Ev l D Y_G_find (d + 1) kc ks 2 [some (vr 20), some (vr (tA t)), some (vi (x : Int)), some (vr 0)] [] h Ψ) → Ev l D Y_G_find (d + 1) kc ks 2 [some (vr 20), some (vr (tA t)), some (vi (x : Int)), some (vr (trf j))] [] h Ψ := by
  intro n
  induction n with
  | zero =>
    intro j h1 h2 h3 k1 k2
    rw [show j = -1 by omega]
    exact k2 rfl
  | succ n ih =>
    intro j h1 h2 h3 k1 k2
    by_cases e : j = -1
    · rw [e] at k2 ⊢
      exact k2 (chs_neg p x (n + 1))
    · obtain ⟨u, rfl⟩ : ∃ u : Nat, j = (u : Int) := ⟨j.toNat, by omega⟩
      obtain ⟨u1, u2, u3, u4, u5⟩ := hw.2.2.2.1 u h3
      have ob := own_bd hw (u : Int) (x : Int)
      rw [trf_n]
      apply g_G_find_2 q.sh
      rw [q.tm u h3, q.tmk u h3, q.tmn u h3, Int.toNat_natCast, q.tmm u x h3 hx, q.tup u h3]
      refine ⟨fun c => absurd c (by unfold tA; omega), fun _ => ⟨q.tk u h3, by omega, by omega, by omega, fun c => ⟨q.tk u h3, ?_⟩, fun c => ⟨q.tk u h3, by omega, by omega, by omega, ?_⟩⟩⟩
      · rw [mrf_0 (by omega)] at c
        have ec : chs p x (n + 1) u = chs p x n (up p u) := (cI_f (by omega)).trans ((cI_t c).trans (by rw [Int.toNat_natCast]))
        rw [ec] at k1 k2
        exact ih (up p u) (by omega) (by omega) (by omega) k1 k2
      · rw [mrf_0 (by omega)] at c
        exact k1 _ ((cI_f (by omega)).trans (cI_f c)) c
theorem ct_G_find {t x : Nat} (q : CS h p) (hw : WF p) (ht : (t : Int) < nT p) (hx : x < 10) (k : ∀ h', fx A205 B206 h h' → Ψ (some (vr (mrf (fnd p t x)))) h') : Ev l D Y_G_find (d + 4) kc ks 0 [some (vr 20), some (vr (tA t)), some (vi (x : Int)), none] [] h Ψ := by
  have w1 := hw.1
  apply g_G_find_0 q.sh
  have := lp_G_find (l := l) (D := D) (d := d + 3) (kc := kc) (ks := ks) (Ψ := Ψ) (t := t) q hw hx 17 t (by omega) (by omega) ht
  rw [trf_n] at this
  refine this (fun r e c => ?_) (fun c => ?_)
  · have z := k h fx.rf
    unfold fnd at z
    rw [e, cI_f c] at z
    exact z
  · apply g_G_find_2 q.sh
    refine ⟨fun _ => ct_leave q hw ht hx (fun h1 f1 _ e6 => ⟨(CS_lv hw f1 q).sh, ?_⟩), fun c2 => absurd rfl c2⟩
    have z := k h1 f1
    unfold fnd at z
    rw [cI_t c] at z
    rw [e6]
    exact z
noncomputable def chg (p : Pg) (c : Nat) (f : Int) : Int := cI (f = -1) (-2) (cI (so p f.toNat = 2) (-3) (cho p c f.toNat))
theorem lp_G_choose {c f : Nat} (q : CS h p) (hw : WF p) (hf : (f : Int) < nM p) (hx : 0 ≤ nm p f) : ∀ (n : Nat) (j : Int), -1 ≤ j → j < n → j < nT p → (∀ r, cho1 p (nm p f) n j = r → ¬ r = -9 → Ψ (some (vi r)) h) → (cho1 p (nm p f) n j = -9 → Ev l D Y_G_choose (d + 1) kc ks 37 [some (vr 20), some (vr (tA c)), some (vr (mA f)), some (vr 0), none] [] h Ψ) → Ev l D Y_G_choose (d + 1) kc ks 37 [some (vr 20), some (vr (tA c)), some (vr (mA f)), some (vr (trf j)), none] [] h Ψ := by
  have w2 := hw.2.1
  have wf := (hw.2.2.2.2.1 f hf).2.1
  obtain ⟨x, ex⟩ : ∃ x : Nat, nm p f = (x : Int) := ⟨(nm p f).toNat, by omega⟩
  have emm := q.mm f hf
  rw [ex] at wf emm ⊢
  intro n
  induction n with
  | zero =>
    intro j h1 h2 h3 k1 k2
    rw [show j = -1 by omega]
    exact k2 rfl
  | succ n ih =>
    intro j h1 h2 h3 k1 k2
    by_cases e : j = -1
    · rw [e] at k2 ⊢
      exact k2 (cho1_neg p x (n + 1))
    · obtain ⟨u, rfl⟩ : ∃ u : Nat, j = (u : Int) := ⟨j.toNat, by omega⟩
      obtain ⟨u1, u2, u3, u4, u5⟩ := hw.2.2.2.1 u h3
      have ob := own_bd hw (u : Int) (x : Int)
      have nx : ¬ (¬ own p u x = -1 ∧ (so p (own p u x).toNat = 0 ∨ so p (own p u x).toNat = 1)) → Ev l D Y_G_choose (d + 1) kc ks 37 [some (vr 20), some (vr (tA c)), some (vr (mA f)), some (vr (trf (up p u))), none] [] h Ψ := by
        intro hn
        have ec : cho1 p x (n + 1) u = cho1 p x n (up p u) := (cI_f (by omega)).trans ((cI_f hn).trans (by rw [Int.toNat_natCast]))
        rw [ec] at k1 k2
        exact ih (up p u) (by omega) (by omega) (by omega) k1 k2
      rw [trf_n]
      apply g_G_choose_37 q.sh
      rw [q.tm u h3, q.tmk u h3, q.tmn u h3, emm, Int.toNat_natCast, q.tmm u x h3 (by omega), q.tup u h3]
      refine ⟨fun z => absurd z (by unfold tA; omega), fun _ => ⟨q.tk u h3, q.mkk f hf, by omega, by omega, by omega, fun z => ⟨q.tk u h3, nx (fun y => y.1 ((mrf_0 (by omega)).mp z))⟩, fun z => ?_⟩⟩
      rw [mrf_0 (by omega)] at z
      obtain ⟨m, hm⟩ : ∃ m : Nat, own p u x = (m : Int) := ⟨(own p u x).toNat, by omega⟩
      obtain ⟨m1, m2, m3⟩ := own_is hm
      have es := q.ms m m1
      have ws := (hw.2.2.2.2.1 m m1).2.2.1
      have em : mrf (own p u x) = mA m := by rw [mrf_s z, hm, Int.toNat_natCast]
      rw [em]
      rw [hm, Int.toNat_natCast] at nx
      refine ⟨q.mkk m m1, q.sc _ (by omega) (by omega), ct_isOpen ⟨q.sh, fun c4 => ⟨q.tk u h3, ?_⟩, fun c4 => ?_⟩⟩
      · rw [q.tup u h3]
        rw [bI_0] at c4
        exact nx (fun y => c4 (by have := y.2; omega))
      · rw [bI_n] at c4
        have hy : ¬ own p u x = -1 ∧ (so p (own p u x).toNat = 0 ∨ so p (own p u x).toNat = 1) := ⟨z, by rw [hm, Int.toNat_natCast]; omega⟩
        have ec : cho1 p x (n + 1) u = cI (so p m = 0) m (-4) := (cI_f (by omega)).trans ((cI_t hy).trans (by rw [hm, Int.toNat_natCast]))
        refine ⟨q.mkk m m1, fun c5 => k1 _ ?_ (by omega), fun c5 => ⟨q.mkk m m1, ?_⟩⟩
        · rw [ec, cI_f (by omega)]
        · rw [q.mn m m1]
          exact k1 _ (by rw [ec, cI_t (by omega)]) (by omega)
theorem ct_G_choose {c : Nat} {f : Int} (q : CS h p) (hw : WF p) (hc : (c : Int) < nT p) (hf : -1 ≤ f ∧ f < nM p) (hx : ¬ f = -1 → 0 ≤ nm p f.toNat) (k : ∀ h', fx A205 B206 h h' → Ψ (some (vi (chg p c f))) h') : Ev l D Y_G_choose (d + 4) kc ks 0 [some (vr 20), some (vr (tA c)), some (vr (mrf f)), none, none] [] h Ψ := by
  have w1 := hw.1
  have z := k h fx.rf
  unfold chg at z k
  apply g_G_choose_0 q.sh
  refine ⟨fun c0 => ?_, fun c0 => ?_⟩
  · rw [mrf_0 (by omega)] at c0
    obtain ⟨m, rfl⟩ : ∃ m : Nat, f = (m : Int) := ⟨f.toNat, by omega⟩
    have hm := hf.2
    have hx' := hx c0
    rw [Int.toNat_natCast] at hx' z k
    rw [cI_f c0] at z
    have em : mrf (m : Int) = mA m := by rw [mrf_s c0, Int.toNat_natCast]
    rw [em]
    have es := q.ms m hm
    have ws := (hw.2.2.2.2.1 m hm).2
    refine ⟨q.mkk m hm, fun c1 => ⟨q.mkk m hm, fun c2 => ?_, fun c2 => ⟨q.mkk m hm, ?_⟩⟩, fun c1 => ?_⟩
    · have lp := lp_G_choose (l := l) (D := D) (d := d + 3) (kc := kc) (ks := ks) (Ψ := Ψ) (c := c) q hw hm hx' 17 c (by omega) (by omega) hc
      rw [trf_n] at lp
      have n2 : ¬ so p m = 2 := by omega
      have n3 : ¬ so p m = 3 := by omega
      refine lp (fun r e c3 => ?_) (fun c3 => ?_)
      · rw [cI_f n2] at z
        unfold cho at z
        rw [cI_f n3, e, cI_f c3] at z
        exact z
      · apply g_G_choose_37 q.sh
        refine ⟨fun _ => ⟨q.mkk m hm, ?_⟩, fun c4 => absurd rfl c4⟩
        rw [q.mm m hm]
        obtain ⟨x, ex⟩ : ∃ x : Nat, nm p m = (x : Int) := ⟨(nm p m).toNat, by omega⟩
        rw [ex] at ws ⊢
        refine ct_leave q hw hc (by omega) (fun h1 f1 e5 e6 => ⟨(CS_lv hw f1 q).sh, ?_⟩)
        have q1 := CS_lv hw f1 q
        have z1 := k h1 f1
        rw [cI_f c0, cI_f n2] at z1
        unfold cho at z1
        rw [cI_f n3, cI_t c3, ex] at z1
        unfold cho2 at z1
        have cl := cnt_le (lp0 p c x) (nM p).toNat 0
        rw [e5, e6]
        refine ⟨fun c4 => ⟨fun c5 => ?_, fun c5 => ?_⟩, fun c4 => ?_⟩
        · have e1 : cnt (lp0 p c x) (nM p).toNat 0 = 1 := by omega
          rw [cI_f c4, cI_t e1] at z1
          obtain ⟨m1, a1, a2, a3, a4⟩ := (cnt_1 _ _ _).mp e1
          have ef : fst (lp0 p c x) (nM p).toNat 0 = (m1 : Int) := fst_val (by omega) a3 (fun i hi y => by have := a4 i (Nat.zero_le _) (by omega) y; omega)
          have em1 : mrf (lvR p c x) = mA m1 := by unfold lvR; rw [cI_t e1, ef, mrf_s (by omega), Int.toNat_natCast]
          rw [em1, q1.mn m1 (by omega)]
          rw [ef] at z1
          exact ⟨q1.mkk m1 (by omega), z1⟩
        · rw [cI_f c4, cI_f (by omega)] at z1; exact z1
        · rw [cI_t c4] at z1; exact z1
    · rw [q.mn m hm]
      rw [cI_f (by omega)] at z
      unfold cho at z
      rw [cI_t (by omega)] at z
      exact z
    · rw [cI_t (by omega)] at z; exact z
  · rw [mrf_0 (by omega)] at c0
    rw [cI_t c0] at z; exact z
end CFI
