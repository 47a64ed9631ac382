/-! the component: a run's state, draws, make, put -/
def rry (a k : Nat) : Prop := a = 80 ∨ a = 82 ∨ a = 84 ∨ a = 85 ∨ (a = 20 ∧ k = 5)
def rrB (a k : Nat) : Prop := (a = 20 ∧ k = 6) ∨ a = 81 ∨ a = 83 ∨ (a = 80 ∧ k = 0)
theorem rrB_csr {a k : Nat} (z : rrB a k) : ¬ csr a k := by unfold rrB at z; unfold csr; omega
def Rq (h : Hp) (s : Rst) : Prop := xL h 80 1 = s.2 ∧ (xI h 80 3 = s.1 100 47 ∧ xI h 80 8 = s.1 100 40 ∧ xI h 80 9 = s.1 100 39 ∧ xI h 80 10 = s.1 100 41 ∧ xI h 80 11 = s.1 100 42 ∧ xI h 80 12 = s.1 100 43) ∧ (∀ m, m < 48 → xI h 85 m = s.1 145 m) ∧ (∀ t, t < 16 → xI h 82 t = s.1 146 t) ∧ (∀ i : Nat, (i : Int) < s.1 100 47 → xR h 81 i = tA (s.1 147 i).toNat) ∧ (∀ a i : Nat, a < 4 → (i : Int) < s.1 150 a → xR h 83 (48 * a + i) = mA (s.1 149 (48 * a + i)).toNat) ∧ (∀ a, a < 4 → xI h 84 a = s.1 150 a)
/-- as fx, but longs of 80 may change -/
def fy (A B : Nat → Nat → Prop) (h h' : Hp) : Prop := h'.1 = h.1 ∧ (∀ a k, ¬ A a k → xI h' a k = xI h a k) ∧ (∀ a k, ¬ B a k → xR h' a k = xR h a k) ∧ ∀ a k, ¬ a = 80 → xL h' a k = xL h a k
theorem fx.fy {A B : Nat → Nat → Prop} {h h' : Hp} (q : fx A B h h') : fy A B h h' := ⟨q.1, q.2.1, q.2.2.1, fun a k _ => q.2.2.2 a k⟩
theorem fy.tr {A B : Nat → Nat → Prop} {h h1 h2 : Hp} (q : fy A B h h1) (r : fy A B h1 h2) : fy A B h h2 := ⟨r.1.trans q.1, fun a k z => (r.2.1 a k z).trans (q.2.1 a k z), fun a k z => (r.2.2.1 a k z).trans (q.2.2.1 a k z), fun a k z => (r.2.2.2 a k z).trans (q.2.2.2 a k z)⟩
theorem fy.putL {A B : Nat → Nat → Prop} {h h1 : Hp} {k : Nat} {x : Int64} (q : fy A B h h1) : fy A B h (sL h1 80 k x) := ⟨q.1, q.2.1, q.2.2.1, fun a j z => by rw [xL_sL, if_neg (fun y => z y.1)]; exact q.2.2.2 a j z⟩
theorem fy.fx {A B : Nat → Nat → Prop} {h h' : Hp} (q : fy A B h h') : fx A B h (h'.1, h'.2.1, h'.2.2.1, h.2.2.2) := ⟨q.1, q.2.1, q.2.2.1, fun _ _ => rfl⟩
theorem CS_fy {A B : Nat → Nat → Prop} {h h' : Hp} {p : Pg} (hw : WF p) (f : fy A B h h') (hA : ∀ a k, A a k → ¬ cst a k) (hB : ∀ a k, B a k → ¬ csr a k) (q : CS h p) : CS h' p := by
  have z := CS_fx hw f.fx hA hB q
  exact z
theorem Dr_fy {A B : Nat → Nat → Prop} {h h' : Hp} {p : Pg} (hw : WF p) (f : fy A B h h') (hA : ∀ a k, A a k → ¬ drx a k) (c : Dr p h) : Dr p h' := by
  have z := Dr_fx hw f.fx hA c
  exact z
theorem Cs_fy {A B : Nat → Nat → Prop} {h h' : Hp} {p : Pg} (f : fy A B h h') (hA : ∀ a k, A a k → ¬ cst a k ∧ ¬ drx a k ∧ ¬ (a = 20 ∧ k = 7)) (hB : ∀ a k, B a k → ¬ csr a k) (q : Cs p h) : Cs p h' := by
  have z := Cs_fx f.fx hA hB q
  exact z
def Rc (p : Pg) (h0 h : Hp) (s : Rst) : Prop := fy rry rrB h0 h ∧ CS h p ∧ Dr p h ∧ xR h 80 0 = 20 ∧ Rq h s
theorem iandV_01 {a b : Prop} : iandV (bI a) (bI b) = bI (a ∧ b) := by
  rcases Classical.em a with ha | ha <;> rcases Classical.em b with hb | hb
  · rw [bI_t ha, bI_t hb, bI_t ⟨ha, hb⟩]; decide
  · rw [bI_t ha, bI_f hb, bI_f (fun z => hb z.2)]; decide
  · rw [bI_f ha, bI_t hb, bI_f (fun z => ha z.1)]; decide
  · rw [bI_f ha, bI_f hb, bI_f (fun z => ha z.1)]; decide
theorem b01I {x : Int} (h : x = 0 ∨ x = 1) : x = bI (¬ x = 0) := by
  rcases h with e | e
  · rw [e]; exact (bI_f (fun z => z rfl)).symm
  · rw [e]; exact (bI_t (by decide)).symm
theorem rs_comm {s : Rst} {a k b j : Nat} {x y : Int} (h : ¬ (a = b ∧ k = j)) : rs (rs s a k x) b j y = rs (rs s b j y) a k x := by
  unfold rs
  refine Prod.ext (funext fun c => funext fun i => ?_) rfl
  show gs (gs s.1 a k x) b j y c i = gs (gs s.1 b j y) a k x c i
  rw [gs_at, gs_at, gs_at, gs_at]
  by_cases e1 : c = b ∧ i = j
  · rw [if_pos e1, if_neg (fun z => h ⟨z.1.symm.trans e1.1, z.2.symm.trans e1.2⟩), if_pos e1]
  · rw [if_neg e1, if_neg e1]
section CR
variable {l : Launch} {D : DD} {d kc ks : Nat} {h h0 : Hp} {Ψ : Option AV → Hp → Prop} {p g : Pg} {s : Rst}
theorem Rc.cs (q : Rc p h0 h s) : CS h p := q.2.1
theorem Rc.dr (q : Rc p h0 h s) : Dr p h := q.2.2.1
theorem Rc.rh (q : Rc p h0 h s) : RS h := ⟨q.2.1.sh, q.2.2.2.1⟩
theorem Rc.mv {h' : Hp} {s' : Rst} (hw : WF p) (q : Rc p h0 h s) (f : fy rry rrB h h') (e : xR h' 80 0 = 20) (r : Rq h' s') : Rc p h0 h' s' := ⟨q.1.tr f, CS_fy hw f (fun a k z => by unfold rry at z; unfold cst; omega) (fun _ _ => rrB_csr) q.2.1, Dr_fy hw f (fun a k z => by unfold rry at z; unfold drx cdx; omega) q.2.2.1, e, r⟩
theorem Rc.I {c j : Nat} {x : Int} (hw : WF p) (q : Rc p h0 h s) (hc : (c = 8 ∧ j = 40) ∨ (c = 9 ∧ j = 39) ∨ (c = 10 ∧ j = 41) ∨ (c = 11 ∧ j = 42) ∨ (c = 12 ∧ j = 43)) : Rc p h0 (sI h 80 c x) (rs s 100 j x) := by
  obtain ⟨r1, ⟨r2, r3, r4, r5, r6, r7⟩, r8, r9, r10, r11, r12⟩ := q.2.2.2.2
  refine q.mv hw (fx.rf.put (by unfold rry; omega)).fy q.2.2.2.1 ⟨r1, ⟨?_, ?_, ?_, ?_, ?_, ?_⟩, fun m hm => ?_, fun t ht => ?_, fun i hi => ?_, fun a i ha hi => ?_, fun a ha => ?_⟩
  · rw [xI_sI, rs_at, if_neg (by omega), if_neg (by omega)]; exact r2
  · rw [xI_sI, rs_at]
    by_cases z : c = 8
    · rw [if_pos (by omega), if_pos (by omega)]
    · rw [if_neg (by omega), if_neg (by omega)]; exact r3
  · rw [xI_sI, rs_at]
    by_cases z : c = 9
    · rw [if_pos (by omega), if_pos (by omega)]
    · rw [if_neg (by omega), if_neg (by omega)]; exact r4
  · rw [xI_sI, rs_at]
    by_cases z : c = 10
    · rw [if_pos (by omega), if_pos (by omega)]
    · rw [if_neg (by omega), if_neg (by omega)]; exact r5
  · rw [xI_sI, rs_at]
    by_cases z : c = 11
    · rw [if_pos (by omega), if_pos (by omega)]
    · rw [if_neg (by omega), if_neg (by omega)]; exact r6
  · rw [xI_sI, rs_at]
    by_cases z : c = 12
    · rw [if_pos (by omega), if_pos (by omega)]
    · rw [if_neg (by omega), if_neg (by omega)]; exact r7
  · rw [xI_sI, rs_at, if_neg (by omega), if_neg (by omega)]; exact r8 m hm
  · rw [xI_sI, rs_at, if_neg (by omega), if_neg (by omega)]; exact r9 t ht
  · rw [rs_at, if_neg (by omega)] at hi
    rw [xR_sI, rs_at, if_neg (by omega)]; exact r10 i hi
  · rw [rs_at, if_neg (by omega)] at hi
    rw [xR_sI, rs_at, if_neg (by omega)]; exact r11 a i ha hi
  · rw [xI_sI, rs_at, if_neg (by omega), if_neg (by omega)]; exact r12 a ha
theorem Rc.A {b c m : Nat} (hw : WF p) (q : Rc p h0 h s) (hc : (b = 85 ∧ c = 145 ∧ m < 48) ∨ (b = 82 ∧ c = 146 ∧ m < 16)) : Rc p h0 (sI h b m 1) (rs s c m 1) := by
  obtain ⟨r1, ⟨r2, r3, r4, r5, r6, r7⟩, r8, r9, r10, r11, r12⟩ := q.2.2.2.2
  refine q.mv hw (fx.rf.put (by unfold rry; omega)).fy q.2.2.2.1 ⟨r1, ⟨?_, ?_, ?_, ?_, ?_, ?_⟩, fun m' hm => ?_, fun t ht => ?_, fun i hi => ?_, fun a i ha hi => ?_, fun a ha => ?_⟩
  · rw [xI_sI, rs_at, if_neg (by omega), if_neg (by omega)]; exact r2
  · rw [xI_sI, rs_at, if_neg (by omega), if_neg (by omega)]; exact r3
  · rw [xI_sI, rs_at, if_neg (by omega), if_neg (by omega)]; exact r4
  · rw [xI_sI, rs_at, if_neg (by omega), if_neg (by omega)]; exact r5
  · rw [xI_sI, rs_at, if_neg (by omega), if_neg (by omega)]; exact r6
  · rw [xI_sI, rs_at, if_neg (by omega), if_neg (by omega)]; exact r7
  · rw [xI_sI, rs_at]
    by_cases z : b = 85 ∧ m' = m
    · rw [if_pos (by omega), if_pos (by omega)]
    · rw [if_neg (by omega), if_neg (by omega)]; exact r8 m' hm
  · rw [xI_sI, rs_at]
    by_cases z : b = 82 ∧ t = m
    · rw [if_pos (by omega), if_pos (by omega)]
    · rw [if_neg (by omega), if_neg (by omega)]; exact r9 t ht
  · rw [rs_at, if_neg (by omega)] at hi
    rw [xR_sI, rs_at, if_neg (by omega)]; exact r10 i hi
  · rw [rs_at, if_neg (by omega)] at hi
    rw [xR_sI, rs_at, if_neg (by omega)]; exact r11 a i ha hi
  · rw [xI_sI, rs_at, if_neg (by omega), if_neg (by omega)]; exact r12 a ha
theorem Rc.lv {h' : Hp} (hw : WF p) (q : Rc p h0 h s) (f : fx A205 B206 h h') : Rc p h0 h' s := by
  obtain ⟨r1, ⟨r2, r3, r4, r5, r6, r7⟩, r8, r9, r10, r11, r12⟩ := q.2.2.2.2
  have e : ∀ a k, ¬ (a = 20 ∧ k = 5) → xI h' a k = xI h a k := f.2.1
  have eR : ∀ a k, ¬ (a = 20 ∧ k = 6) → xR h' a k = xR h a k := f.2.2.1
  have f2 : fx rry rrB h h' := f.mono (fun a k z => by have z' : a = 20 ∧ k = 5 := z; unfold rry; omega) (fun a k z => by have z' : a = 20 ∧ k = 6 := z; unfold rrB; omega)
  have cs := CS_lv hw f q.2.1
  have dd := Dr_fx hw f (fun a k z => by have z' : a = 20 ∧ k = 5 := z; unfold drx cdx; omega) q.2.2.1
  refine ⟨q.1.tr f2.fy, cs, dd, (eR _ _ (by omega)).trans q.2.2.2.1, (f.2.2.2 80 1).trans r1, ⟨(e _ _ (by omega)).trans r2, (e _ _ (by omega)).trans r3, (e _ _ (by omega)).trans r4, (e _ _ (by omega)).trans r5, (e _ _ (by omega)).trans r6, (e _ _ (by omega)).trans r7⟩, fun m hm => (e _ _ (by omega)).trans (r8 m hm), fun t ht => (e _ _ (by omega)).trans (r9 t ht), fun i hi => (eR _ _ (by omega)).trans (r10 i hi), fun a i ha hi => (eR _ _ (by omega)).trans (r11 a i ha hi), fun a ha => (e _ _ (by omega)).trans (r12 a ha)⟩
theorem ct_Rdraw {n : Int} (hw : WF p) (q : Rc p h0 h s) (hn : 1 ≤ n ∧ n ≤ 1000) (k : ∀ h', Rc p h0 h' (rx s) → Ψ (some (vi (dw (rx s).2 n))) h') : Ev l D Y_Run_draw d kc ks 0 [some (vr 80), some (vi n)] [] h Ψ := by
  apply g_Run_draw_0 q.rh
  intro h1 eh
  have ex : xL h1 80 1 = (rx s).2 := by
    rw [eh, xL_sL, if_pos ⟨rfl, rfl⟩, q.2.2.2.2.1, ← dnx_eq]
    obtain ⟨a, x⟩ := s
    rfl
  have m := k h1
  rw [dw_eq] at m
  rw [ex]
  refine ⟨dw_nz hn.1 hn.2, m ?_⟩
  obtain ⟨r1, ⟨r2, r3, r4, r5, r6, r7⟩, r8, r9, r10, r11, r12⟩ := q.2.2.2.2
  subst eh
  refine q.mv hw (fx.rf.fy.putL) q.2.2.2.1 ⟨ex, ?_⟩
  rw [rx1]
  exact ⟨⟨r2, r3, r4, r5, r6, r7⟩, r8, r9, r10, r11, r12⟩
theorem ct_drawT {a : Nat} (hw : WF p) (q : Rc p h0 h s) (hr : Rv p s) (ha : (a : Int) < nT p) (k0 : cnt (cpl p s a) (s.1 100 47).toNat 0 = 0 → Ψ (some (vr 0)) h) (k1 : ¬ cnt (cpl p s a) (s.1 100 47).toNat 0 = 0 → ∀ h', Rc p h0 h' (rx s) → Ψ (some (vr (tA (s.1 147 (nth (cpl p s a) (dw (rx s).2 (cnt (cpl p s a) (s.1 100 47).toNat 0)) (s.1 100 47).toNat 0 0).toNat).toNat))) h') : Ev l D Y_Run_drawT (d + 1) kc ks 0 [some (vr 80), some (vr (tA a)), none, none, none] [] h Ψ := by
  have w1 := hw.1
  have r47 := hr.2.2.2.1
  have r5 := hr.2.2.2.2.1
  obtain ⟨P, hP⟩ : ∃ P : Nat, s.1 100 47 = (P : Int) := ⟨(s.1 100 47).toNat, by omega⟩
  rw [hP, Int.toNat_natCast] at k0 k1
  have cb := cnt_le (cpl p s a) P 0
  -- a type of the pool
  have pt : ∀ {h' : Hp} {s' : Rst} (i : Nat), i < P → Rc p h0 h' s' → s'.1 = s.1 → xI h' 80 3 = (P : Int) ∧ ∃ t : Nat, (t : Int) < nT p ∧ s.1 147 i = (t : Int) ∧ xR h' 81 i = tA t := by
    intro h' s' i hi q' e
    have t0 := r5 i (by omega)
    refine ⟨q'.2.2.2.2.2.1.1.trans (by rw [e]; exact hP), (s.1 147 i).toNat, by omega, by omega, ?_⟩
    have := q'.2.2.2.2.2.2.2.2.1 i (by rw [e]; omega)
    rw [e] at this
    exact this
  apply g_Run_drawT_0 q.rh
  have p3 : xI h 80 3 = (P : Int) := q.2.2.2.2.2.1.1.trans hP
  have key : ∀ (n j : Nat), j + n = P → Ev l D Y_Run_drawT (d + 1) kc ks 4 [some (vr 80), some (vr (tA a)), some (vi (cnt (cpl p s a) j 0)), some (vi (j : Int)), none] [] h Ψ := by
    intro n
    induction n with
    | zero =>
      intro j hj
      have ej : j = P := by omega
      subst ej
      apply g_Run_drawT_4 q.rh
      rw [p3]
      refine ⟨fun _ => ⟨fun c => ct_Rdraw hw q (by omega) (fun h1 q1 => ⟨q1.rh, ?_⟩), fun c => k0 c⟩, fun c => by omega⟩
      have db := dw_bd (x := (rx s).2) (n := cnt (cpl p s a) j 0) (by omega) (by omega)
      obtain ⟨J, j1, j2, j3, j4⟩ := nth_spec (cpl p s a) (dw (rx s).2 (cnt (cpl p s a) j 0)) j 0 0 db.1 (by omega)
      have kk := k1 c h1 q1
      rw [j4, Int.toNat_natCast] at kk
      obtain ⟨w, hw'⟩ : ∃ w : Nat, dw (rx s).2 (cnt (cpl p s a) j 0) = (w : Int) := ⟨(dw (rx s).2 (cnt (cpl p s a) j 0)).toNat, by omega⟩
      rw [hw'] at j4 db ⊢
      clear k1 k0
      have key2 : ∀ (n i : Nat) (c' x2 : Int), i + n = j → 0 ≤ c' ∧ c' ≤ (w : Int) → (w : Int) < c' + cnt (cpl p s a) n i → nth (cpl p s a) (w : Int) n i c' = (J : Int) → Ev l D Y_Run_drawT (d + 1) kc ks 54 [some (vr 80), some (vr (tA a)), some (vi x2), some (vi ((w : Int) - c')), some (vi ((i : Int) - 1))] [] h1 Ψ := by
        intro n
        induction n with
        | zero => intro i c' x2 hi hc hlt _; have : cnt (cpl p s a) 0 i = 0 := rfl; omega
        | succ n ih =>
          intro i c' x2 hi hc hlt hn
          obtain ⟨p3', t, t1, t2, t3⟩ := pt i (by omega) q1 (rx1 s)
          unfold cnt at hlt
          unfold nth at hn
          apply g_Run_drawT_54 q1.rh
          rw [wr_eq (x := (i : Int) - 1 + 1) (by omega) (by omega), show (i : Int) - 1 + 1 = (i : Int) by omega, Int.toNat_natCast, t3]
          have eu : cpl p s a i ↔ U p t a := by unfold cpl; rw [t2, Int.toNat_natCast]
          refine ⟨fun y => by omega, fun _ => ⟨by omega, by omega, q1.cs.tk t t1, ct_isUnder q1.cs hw t1 ha ⟨q1.rh, fun y => ?_, fun y => ?_⟩⟩⟩
          · rw [bI_0, ← eu] at y
            rw [bI_f y] at hlt
            rw [cI_f y] at hn
            rw [wr_eq (by omega) (by omega), Int.sub_zero]
            have z := ih (i + 1) c' x2 (by omega) hc (by omega) hn
            rw [show ((i + 1 : Nat) : Int) - 1 = (i : Int) by omega] at z
            exact z
          · rw [bI_n, ← eu] at y
            rw [bI_t y] at hlt
            rw [cI_t y] at hn
            rw [wr_eq (by omega) (by omega)]
            rcases Classical.em (c' = (w : Int)) with v | v
            · rw [cI_t v] at hn
              have ei : i = J := by omega
              apply g_Run_drawT_54 q1.rh
              rw [Int.toNat_natCast, t3]
              refine ⟨fun _ => ⟨by omega, by omega, ?_⟩, fun y => by omega⟩
              rw [← ei, t2, Int.toNat_natCast] at kk
              exact kk
            · rw [cI_f v] at hn
              have z := ih (i + 1) (c' + 1) x2 (by omega) (by omega) (by omega) hn
              rw [show ((i + 1 : Nat) : Int) - 1 = (i : Int) by omega, show (w : Int) - (c' + 1) = (w : Int) - c' - 1 by omega] at z
              exact z
      have z := key2 j 0 0 (cnt (cpl p s a) j 0) (by omega) (by omega) (by omega) j4
      rw [Int.sub_zero] at z
      exact z
    | succ n ih =>
      intro j hj
      obtain ⟨p3', t, t1, t2, t3⟩ := pt j (by omega) q rfl
      have nx := ih (j + 1) (by omega)
      rw [cnt_snoc, Nat.zero_add] at nx
      have cb := cnt_le (cpl p s a) j 0
      have eu : cpl p s a j ↔ U p t a := by unfold cpl; rw [t2, Int.toNat_natCast]
      apply g_Run_drawT_4 q.rh
      rw [p3, Int.toNat_natCast, t3]
      refine ⟨fun c => by omega, fun _ => ⟨by omega, by omega, q.cs.tk t t1, ct_isUnder q.cs hw t1 ha ⟨q.rh, fun c => ?_, fun c => ?_⟩⟩⟩
      · rw [bI_0, ← eu] at c
        rw [bI_f c] at nx
        rw [wr_eq (by omega) (by omega), wr_s (show j < 1000000 by omega)]; exact nx
      · rw [bI_n, ← eu] at c
        rw [bI_t c] at nx
        rw [wr_eq (by omega) (by omega), wr_s (show j < 1000000 by omega)]; exact nx
  exact key P 0 (by omega)
theorem ct_Rmake {t i : Nat} {y : Int} (hw : WF p) (q : Rc p h0 h s) (hr : Rv p s) (ht : (t : Int) < nT p) (k : ∀ h', Rc p h0 h' (act p (3, t, i, y) s).2 → Ψ none h') : Ev l D Y_Run_make d kc ks 0 [some (vr 80), some (vr (tA t))] [] h Ψ := by
  have w1 := hw.1
  have r47 := hr.2.2.2.1
  obtain ⟨P, hP⟩ : ∃ P : Nat, s.1 100 47 = (P : Int) := ⟨(s.1 100 47).toNat, by omega⟩
  have ea : act p (3, t, i, y) s = cA (20 ≤ s.1 100 47) ([], rs s 100 43 (bI (¬ s.1 100 43 = 0 ∧ ¬ gF p 120 t = 0))) ([], rs (rs (rs s 100 43 (bI (¬ s.1 100 43 = 0 ∧ ¬ gF p 120 t = 0))) 147 (s.1 100 47).toNat t) 100 47 (s.1 100 47 + 1)) := by
    unfold act
    rw [cA_f (show ¬ (3 : Nat) = 0 by decide), cA_f (show ¬ (3 : Nat) = 1 by decide), cA_f (show ¬ (3 : Nat) = 2 by decide)]
  rw [ea] at k
  have e12 := q.2.2.2.2.2.1.2.2.2.2.2
  have ev : iandV (xI h 80 12) (xI h 23 t) = bI (¬ s.1 100 43 = 0 ∧ ¬ gF p 120 t = 0) := by
    rw [e12, q.dr.1.2.1 t (by omega), b01I hr.2.2.1, b01I (q.dr.2.1 120 t (Or.inl (by omega))), iandV_01]
    exact bI_c (and_congr (by rw [← b01I hr.2.2.1]) (by rw [← b01I (q.dr.2.1 120 t (Or.inl (by omega)))]))
  apply g_Run_make_0 q.rh
  rw [q.cs.tn t ht, Int.toNat_natCast, ev]
  refine ⟨q.cs.tk t ht, by omega, by omega, bI_01 _, fun h1 e1 => ?_⟩
  have q1 : Rc p h0 h1 (rs s 100 43 (bI (¬ s.1 100 43 = 0 ∧ ¬ gF p 120 t = 0))) := by rw [e1]; exact q.I hw (by omega)
  have p1 : xI h1 80 3 = (P : Int) := by
    refine q1.2.2.2.2.2.1.1.trans ?_
    rw [rs_at, if_neg (by omega)]; exact hP
  rw [p1]
  refine ⟨fun c => ?_, fun c h2 e2 => ?_⟩
  · rw [cA_t (by omega)] at k; exact k h1 q1
  · rw [cA_f (by omega), hP, Int.toNat_natCast] at k
    have k81 : xK h1 81 = 22 := by
      have c := q1.cs.sh
      unfold GS at c
      obtain ⟨_, _, _, _, _, _, _, _, _, _, _, _, _, _, _, _, _, _, _, _, _, _, _, _, _, _, _, _, _, a1, _⟩ := c
      exact a1
    refine ⟨?_, by omega, by omega, fun h3 e3 => ?_⟩
    · rw [e2, xK_sI, xK_sI, k81, q1.cs.tk t ht]; rfl
    · obtain ⟨r1, ⟨r2, r3, r4, r5, r6, r7⟩, r8, r9, r10, r11, r12⟩ := q1.2.2.2.2
      have q3 : Rc p h0 h3 (rs (rs (rs s 100 43 (bI (¬ s.1 100 43 = 0 ∧ ¬ gF p 120 t = 0))) 147 P t) 100 47 ((P : Int) + 1)) := by
        rw [Int.toNat_natCast] at e3
        rw [wr_eq (by omega) (by omega)] at e2
        subst e3; subst e2
        refine q1.mv hw ((fx.rf.put (by unfold rry; omega)).putR (by unfold rrB; omega)).fy q1.2.2.2.1 ⟨r1, ⟨?_, ?_, ?_, ?_, ?_, ?_⟩, fun m hm => ?_, fun t' ht' => ?_, fun i hi => ?_, fun a i ha hi => ?_, fun a ha => ?_⟩
        · rw [xI_sR, xI_sI, if_pos ⟨rfl, rfl⟩, rs_at, if_pos ⟨rfl, rfl⟩]
        · rw [xI_sR, xI_sI, if_neg (by omega), rs_at, if_neg (by omega), rs_at, if_neg (by omega)]; exact r3
        · rw [xI_sR, xI_sI, if_neg (by omega), rs_at, if_neg (by omega), rs_at, if_neg (by omega)]; exact r4
        · rw [xI_sR, xI_sI, if_neg (by omega), rs_at, if_neg (by omega), rs_at, if_neg (by omega)]; exact r5
        · rw [xI_sR, xI_sI, if_neg (by omega), rs_at, if_neg (by omega), rs_at, if_neg (by omega)]; exact r6
        · rw [xI_sR, xI_sI, if_neg (by omega), rs_at, if_neg (by omega), rs_at, if_neg (by omega)]; exact r7
        · rw [xI_sR, xI_sI, if_neg (by omega), rs_at, if_neg (by omega), rs_at, if_neg (by omega)]; exact r8 m hm
        · rw [xI_sR, xI_sI, if_neg (by omega), rs_at, if_neg (by omega), rs_at, if_neg (by omega)]; exact r9 t' ht'
        · rw [rs_at, if_pos ⟨rfl, rfl⟩] at hi
          rw [rs_at, if_neg (show ¬ (147 = 100 ∧ i = 47) by omega), rs_at, xR_sR, xR_sI]
          by_cases e : i = P
          · rw [if_pos ⟨rfl, e⟩, if_pos ⟨rfl, e⟩, Int.toNat_natCast]
          · rw [if_neg (fun z => e z.2), if_neg (fun z => e z.2)]
            refine r10 i ?_
            rw [rs_at, if_neg (by omega), hP]; omega
        · rw [rs_at, if_neg (by omega), rs_at, if_neg (by omega)] at hi
          rw [xR_sR, xR_sI, if_neg (by omega), rs_at, if_neg (by omega), rs_at, if_neg (by omega)]; exact r11 a i ha hi
        · rw [xI_sR, xI_sI, if_neg (by omega), rs_at, if_neg (by omega), rs_at, if_neg (by omega)]; exact r12 a ha
      exact ⟨q3.rh, k h3 q3⟩
theorem ct_Rput {a b : Nat} (hw : WF p) (q : Rc p h0 h s) (hr : Rv p s) (ha : a < 4) (hb : (b : Int) < nM p) (k : ∀ h', Rc p h0 h' (oPut s a b) → Ψ none h') : Ev l D Y_Run_put d kc ks 0 [some (vr 80), some (vi (a : Int)), some (vr (mA b)), none, none] [] h Ψ := by
  have w2 := hw.2.1
  have bb := bag_bd hw hr ha
  obtain ⟨S, hS⟩ : ∃ P : Nat, s.1 150 a = (P : Int) := ⟨(s.1 150 a).toNat, by omega⟩
  have r5 := (hr.2.2.2.2.2 a ha).2.2
  obtain ⟨r1, ⟨r2, r3, r4, r5', r6, r7⟩, r8, r9, r10, r11, r12⟩ := q.2.2.2.2
  have e84 := r12 a ha
  have ix : ∀ i : Nat, i < 48 → wr (wr ((a : Int) * 48) + (i : Int)) = ((48 * a + i : Nat) : Int) := fun i hi => by rw [wr_eq (x := (a : Int) * 48) (by omega) (by omega), wr_eq (by omega) (by omega)]; omega
  apply g_Run_put_0 q.rh
  have key : ∀ (n j : Nat), j + n = S → Ev l D Y_Run_put d kc ks 5 [some (vr 80), some (vi (a : Int)), some (vr (mA b)), some (vi (bI (∃ i : Nat, i < j ∧ s.1 149 (48 * a + i) = (b : Int)))), some (vi (j : Int))] [] h Ψ := by
    intro n
    induction n with
    | zero =>
      intro j hj
      have ej : j = S := by omega
      subst ej
      have eh : (∃ i : Nat, i < j ∧ s.1 149 (48 * a + i) = (b : Int)) ↔ hasB s a b := ⟨fun ⟨i, i1, i2⟩ => ⟨i, by omega, i2⟩, fun ⟨i, i1, i2⟩ => ⟨i, by omega, i2⟩⟩
      rw [bI_c eh]
      clear eh
      apply g_Run_put_5 q.rh
      rw [Int.toNat_natCast, e84, hS]
      refine ⟨by omega, by omega, fun _ => ⟨fun c => ?_, fun c => ⟨by omega, by omega, by omega, by omega, fun h1 e1 => ?_⟩⟩, fun c => by omega⟩
      · rw [bI_n] at c
        have := k h
        rw [show oPut s a b = s from cA_t c] at this
        exact this q
      · rw [bI_0] at c
        have lt := bag_lt hw hr ha (b := (b : Int)) (by omega) c
        have k83 : xK h 83 = 23 := by
          have c := q.cs.sh
          unfold GS at c
          obtain ⟨_, _, _, _, _, _, _, _, _, _, _, _, _, _, _, _, _, _, _, _, _, _, _, _, _, _, _, _, _, _, _, _, _, a1, _⟩ := c
          exact a1
        rw [ix j (by omega), Int.toNat_natCast]
        refine ⟨?_, by omega, by omega, fun h2 e2 => ?_⟩
        · rw [e1, xK_sI, xK_sI, k83, q.cs.mkk b hb]; rfl
        · have q2 : Rc p h0 h2 (oPut s a b) := by
            rw [show oPut s a b = _ from cA_f c, hS, Int.toNat_natCast]
            rw [wr_eq (by omega) (by omega)] at e1
            subst e2; subst e1
            refine q.mv hw ((fx.rf.put (by unfold rry; omega)).putR (by unfold rrB; omega)).fy q.2.2.2.1 ⟨r1, ⟨?_, ?_, ?_, ?_, ?_, ?_⟩, fun m hm => ?_, fun t' ht' => ?_, fun i hi => ?_, fun a' i ha' hi => ?_, fun a' ha' => ?_⟩
            · rw [xI_sR, xI_sI, if_neg (by omega), rs_at, if_neg (by omega), rs_at, if_neg (by omega)]; exact r2
            · rw [xI_sR, xI_sI, if_neg (by omega), rs_at, if_neg (by omega), rs_at, if_neg (by omega)]; exact r3
            · rw [xI_sR, xI_sI, if_neg (by omega), rs_at, if_neg (by omega), rs_at, if_neg (by omega)]; exact r4
            · rw [xI_sR, xI_sI, if_neg (by omega), rs_at, if_neg (by omega), rs_at, if_neg (by omega)]; exact r5'
            · rw [xI_sR, xI_sI, if_neg (by omega), rs_at, if_neg (by omega), rs_at, if_neg (by omega)]; exact r6
            · rw [xI_sR, xI_sI, if_neg (by omega), rs_at, if_neg (by omega), rs_at, if_neg (by omega)]; exact r7
            · rw [xI_sR, xI_sI, if_neg (by omega), rs_at, if_neg (by omega), rs_at, if_neg (by omega)]; exact r8 m hm
            · rw [xI_sR, xI_sI, if_neg (by omega), rs_at, if_neg (by omega), rs_at, if_neg (by omega)]; exact r9 t' ht'
            · rw [rs_at, if_neg (by omega), rs_at, if_neg (by omega)] at hi
              rw [xR_sR, xR_sI, if_neg (by omega), rs_at, if_neg (by omega), rs_at, if_neg (by omega)]; exact r10 i hi
            · rw [rs_at] at hi
              rw [rs_at, if_neg (show ¬ (149 = 150 ∧ 48 * a' + i = a) by omega), rs_at, xR_sR, xR_sI]
              by_cases e : a' = a
              · rw [if_pos ⟨rfl, e⟩] at hi
                rw [e]
                by_cases e' : i = j
                · rw [if_pos ⟨rfl, by omega⟩, if_pos ⟨rfl, by omega⟩, Int.toNat_natCast]
                · rw [if_neg (by omega), if_neg (by omega)]; exact r11 a i ha (by omega)
              · rw [if_neg (fun z => e z.2), rs_at, if_neg (by omega)] at hi
                have i48 : i < 48 := by have := bag_bd hw hr ha'; omega
                rw [if_neg (by omega), if_neg (by omega)]; exact r11 a' i ha' hi
            · rw [xI_sR, xI_sI, rs_at]
              by_cases e : a' = a
              · rw [if_pos ⟨rfl, e⟩, if_pos ⟨rfl, e⟩]
              · rw [if_neg (fun z => e z.2), if_neg (fun z => e z.2), rs_at, if_neg (by omega)]; exact r12 a' ha'
          exact ⟨q2.rh, k h2 q2⟩
    | succ n ih =>
      intro j hj
      have nx := ih (j + 1) (by omega)
      have tb := r5 j (by omega)
      have e83 := r11 a j ha (by omega)
      have em : mA (s.1 149 (48 * a + j)).toNat = mA b ↔ s.1 149 (48 * a + j) = (b : Int) := by rw [mA_inj]; omega
      have z0 : (0 : Int) = bI False := (bI_f (fun z => z)).symm
      have z1 : (1 : Int) = bI True := (bI_t trivial).symm
      apply g_Run_put_5 q.rh
      rw [Int.toNat_natCast, e84, hS, ix j (by omega), Int.toNat_natCast, e83, wr_s (show j < 1000000 by omega)]
      refine ⟨by omega, by omega, fun c => by omega, fun _ => ⟨by omega, by omega, fun c => ?_, fun c => ?_⟩⟩
      · rw [em] at c
        clear em
        rw [z0, iorV_01, bI_c (show ((∃ i : Nat, i < j ∧ s.1 149 (48 * a + i) = (b : Int)) ∨ False) ↔ (∃ i : Nat, i < j + 1 ∧ s.1 149 (48 * a + i) = (b : Int)) from ⟨fun v => v.elim (fun ⟨i, i1, i2⟩ => ⟨i, by omega, i2⟩) (fun v => v.elim), fun ⟨i, i1, i2⟩ => by
          rcases Nat.eq_or_lt_of_le (Nat.le_of_lt_succ i1) with e | e
          · rw [e] at i2; exact absurd i2 c
          · exact Or.inl ⟨i, e, i2⟩⟩)]
        exact nx
      · rw [em] at c
        clear em
        rw [z1, iorV_01, bI_c (show ((∃ i : Nat, i < j ∧ s.1 149 (48 * a + i) = (b : Int)) ∨ True) ↔ (∃ i : Nat, i < j + 1 ∧ s.1 149 (48 * a + i) = (b : Int)) from ⟨fun _ => ⟨j, by omega, c⟩, fun _ => Or.inr trivial⟩)]
        exact nx
  have k0 := key S 0 (by omega)
  rw [bI_f (fun ⟨i, i1, _⟩ => by omega)] at k0
  exact k0
end CR
