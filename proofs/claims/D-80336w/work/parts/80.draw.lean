/-! the component: draw -/
theorem mtg_Op (k : Nat) : mt_Op_forget_Y k = Y_Op_forget := by unfold mt_Op_forget_Y; split <;> rfl
theorem en_Op_forget (a : Nat) : enL Y_Op_forget.2.2.1 [vr a] = [some (vr a)] := rfl
def ddy (a k : Nat) : Prop := drx a k ∨ (a = 20 ∧ (k = 5 ∨ k = 7))
section DW
variable {l : Launch} {D : DD} {d kc ks : Nat} {h h0 : Hp} {Ψ : Option AV → Hp → Prop} {p g : Pg}
theorem ddy_cst {a k : Nat} (q : ddy a k) : ¬ cst a k := by unfold ddy drx cdx at q; unfold cst; omega
theorem ddy_fg {o a k : Nat} (z : a = oD o + 1 ∨ a = oD o + 2) : ddy a k := by unfold oD at z; unfold ddy drx cdx; omega
theorem CS_dd {h h' : Hp} (hw : WF p) (f : fx ddy B206 h h') (q : CS h p) : CS h' p := CS_fx hw f (fun _ _ => ddy_cst) (fun a k z => by have z' : a = 20 ∧ k = 6 := z; unfold csr; omega) q
theorem Gc.put8 (hw : WF p) (q : Gc p h0 h g) : Gc p h0 (sI h 20 8 0) (gs g 100 17 0) := by
  obtain ⟨q1, q2, ⟨d1, d2, d3, d4, d5, d6⟩, q4⟩ := q
  have f : fx cdy B206 h (sI h 20 8 0) := fx.rf.put (by unfold cdy; omega)
  have e : ∀ c j, ¬ (c = 20 ∧ j = 8) → xI (sI h 20 8 0) c j = xI h c j := fun c j h2 => by rw [xI_sI, if_neg h2]
  have eg : ∀ c j, ¬ c = 100 → gs g 100 17 0 c j = g c j := fun c j h2 => by rw [gs_at, if_neg (fun z => h2 z.1)]
  refine ⟨q1.tr f, CS_fx hw f (fun _ _ => cdy_cst) (fun a k z => by have z' : a = 20 ∧ k = 6 := z; unfold csr; omega) q2, ⟨fun m' hm' => ?_, fun t ht => ?_, fun t ht => ?_, fun b' m' hb' hm' => ?_, fun o' m' ho' hm' => ?_, ?_⟩, fun a j hj => ?_⟩
  · rw [e _ _ (by unfold mA; omega), eg _ _ (by omega)]; exact d1 m' hm'
  · rw [e _ _ (by omega), eg _ _ (by omega)]; exact d2 t ht
  · rw [e _ _ (by omega), eg _ _ (by omega)]; exact d3 t ht
  · rw [e _ _ (by omega), eg _ _ (by omega)]; exact d4 b' m' hb' hm'
  · rw [e _ _ (by unfold oD; omega), eg _ _ (by omega)]; exact d5 o' m' ho' hm'
  · rw [xI_sI, if_pos ⟨rfl, rfl⟩, gs_at, if_pos ⟨rfl, rfl⟩]
  · rw [gs_at]
    by_cases z : a = 100 ∧ j = 17
    · rw [if_pos z]; exact Or.inl rfl
    · rw [if_neg z]; exact q4 a j hj
/-- the passes -/
theorem lp_G_draw {h1 : Hp} (hw : WF p) (k : ∀ h', Gc p h1 h' (gF p) → Ev l D Y_G_close (d + 7) 0 0 0 [some (vr 20), none, none, none, none] [] h' (kv (fun h1 => GS h1 ∧ Ψ none h1))) : ∀ (n : Nat) (g : Pg) (h' : Hp) (x3 : Int), Itn p n g (gF p) → Gc p h1 h' (gs g 100 17 0) → Ev l D Y_G_draw (d + 8) kc ks 124 [some (vr 20), some (vi (0 : Int)), none, some (vi x3), none] [] h' Ψ := by
  have w2 := hw.2.1
  have w3 := hw.2.2.1
  have ps : ∀ (g : Pg) (h' : Hp) (x3 : Int), Gc p h1 h' (gs g 100 17 0) → (∀ h2, Gc p h1 h2 (gps p g) → Ev l D Y_G_draw (d + 8) kc ks 124 [some (vr 20), some (vi (((nM p).toNat : Nat) : Int)), none, some (vi x3), none] [] h2 Ψ) → Ev l D Y_G_draw (d + 8) kc ks 124 [some (vr 20), some (vi (0 : Int)), none, some (vi x3), none] [] h' Ψ := by
    intro g h' x3 r0 kk
    have lm : ∀ (n m : Nat) (h2 : Hp) (g2 : Pg), m + n = (nM p).toNat → Gc p h1 h2 g2 → gpm p n m g2 = gps p g → Ev l D Y_G_draw (d + 8) kc ks 124 [some (vr 20), some (vi (m : Int)), none, some (vi x3), none] [] h2 Ψ := by
      intro n
      induction n with
      | zero =>
        intro m h2 g2 hm r1 eg
        have em : m = (nM p).toNat := by omega
        rw [em]
        refine kk h2 ?_
        rw [← eg]; exact r1
      | succ n ih =>
        intro m h2 g2 hm r1 eg
        have hm' : (m : Int) < nM p := by omega
        obtain ⟨m1, m2, m3, m4, m5, m6, m7⟩ := hw.2.2.2.2.1 m hm'
        have c1 := r1.2.1
        apply g_G_draw_124 c1.sh
        rw [c1.cm]
        refine ⟨fun c => by omega, fun _ => ?_⟩
        have nx : ∀ h3 g3, Gc p h1 h3 g3 → g3 = gpi p m (om p m).toNat 0 g2 → Ev l D Y_G_draw (d + 8) kc ks 124 [some (vr 20), some (vi ((m + 1 : Nat) : Int)), none, some (vi x3), none] [] h3 Ψ := fun h3 g3 r3 e3 => ih (m + 1) h3 g3 (by omega) r3 (by rw [e3]; exact eg)
        have li : ∀ (n2 i : Nat) (h3 : Hp) (g3 : Pg), i + n2 = (om p m).toNat → Gc p h1 h3 g3 → gpi p m n2 i g3 = gpi p m (om p m).toNat 0 g2 → Ev l D Y_G_draw (d + 8) kc ks 134 [some (vr 20), some (vi (m : Int)), some (vi (i : Int)), some (vi x3), none] [] h3 Ψ := by
          intro n2
          induction n2 with
          | zero =>
            intro i h3 g3 hi r3 e3
            have c3 := r3.2.1
            apply g_G_draw_134 c3.sh
            rw [Int.toNat_natCast, c3.mr m hm', c3.mc m hm', wr_s (show m < 1000000 by omega)]
            exact ⟨by omega, by omega, c3.mkk m hm', fun _ => nx h3 g3 r3 e3, fun c => by omega⟩
          | succ n2 ih2 =>
            intro i h3 g3 hi r3 e3
            have hi' : (i : Int) < om p m := by omega
            obtain ⟨ob, oe⟩ := oa_bd hw hm' hi'
            have c3 := r3.2.1
            have en := c3.mon m hm'
            have ek := c3.mok m hm'
            apply g_G_draw_134 c3.sh
            rw [Int.toNat_natCast, c3.mr m hm', c3.mc m hm', wr_s (show m < 1000000 by omega), r3.2.2.1.1 m hm', c3.mo m hm', Int.toNat_natCast, c3.mop m i hm' hi']
            refine ⟨by omega, by omega, c3.mkk m hm', fun c => by omega, fun _ => ⟨by omega, by omega, c3.mkk m hm', fun c => nx h3 g3 r3 ?_, fun c => ⟨by omega, by omega, c3.mkk m hm', by omega, by omega, by omega, by rw [c3.okk _ ob]; exact opk_ok _, ?_⟩⟩⟩
            · rw [← e3]; exact (cG_t c).symm
            · refine ct_spread r3 hw ob (fun h4 r4 => ⟨r4.2.1.sh, ?_⟩)
              rw [wr_s (show i < 1000000 by omega)]
              refine ih2 (i + 1) h4 _ (by omega) r4 ?_
              rw [← e3]; exact (cG_f c).symm
        exact li (om p m).toNat 0 h2 g2 (by omega) r1 rfl
    exact lm (nM p).toNat 0 _ _ (by omega) r0 rfl
  intro n
  induction n with
  | zero =>
    intro g h' x3 it r1
    refine ps g h' x3 r1 (fun h2 r2 => ?_)
    rw [← it.2] at r2
    have c2 := r2.2.1
    apply g_G_draw_124 c2.sh
    rw [c2.cm, r2.2.2.1.2.2.2.2.2]
    exact ⟨fun _ => ⟨fun c => absurd (by rw [it.2]; exact it.1) c, fun _ => k h2 r2⟩, fun c => by omega⟩
  | succ n ih =>
    intro g h' x3 it r1
    refine ps g h' x3 r1 (fun h2 r2 => ?_)
    have c2 := r2.2.1
    apply g_G_draw_124 c2.sh
    rw [c2.cm, r2.2.2.1.2.2.2.2.2]
    refine ⟨fun _ => ⟨fun c => ?_, fun c => absurd c it.1⟩, fun c => by omega⟩
    apply g_G_draw_117 c2.sh
    intro h3 e3
    subst e3
    exact ih (gps p g) _ x3 it.2 (r2.put8 hw)
set_option maxHeartbeats 2000000 in
theorem ct_G_draw (q : CS h p) (hw : WF p) (ho : WO p) (hf : Fc p h) (k : ∀ h', fx ddy B206 h h' → CS h' p → Dr p h' → xI h' 20 7 = 1 → Ψ none h') : Ev l D Y_G_draw (d + 8) kc ks 0 [some (vr 20), none, none, none, none] [] h Ψ := by
  have w1 := hw.1
  have w2 := hw.2.1
  have w3 := hw.2.2.1
  apply g_G_draw_0 q.sh
  refine ⟨fun c h1 eh => ?_, fun c => k h fx.rf q (hf.2 c) (hf.1.resolve_left c)⟩
  have f1 : fx ddy B206 h h1 := by rw [eh]; exact fx.rf.put (by unfold ddy; omega)
  have e1 : xI h1 20 7 = 1 := by rw [eh, xI_sI, if_pos ⟨rfl, rfl⟩]
  clear eh
  have q1 := CS_dd hw f1 q
  have k23 : ∀ {h' : Hp}, GS h' → xK h' 23 = 21 ∧ xN h' 23 = 16 ∧ xK h' 24 = 21 ∧ xN h' 24 = 16 ∧ xK h' 25 = 25 ∧ xN h' 25 = 4 := fun c => by
    unfold GS at c
    obtain ⟨_, _, _, _, _, _, _, _, _, _, _, _, _, a1, a2, a3, a4, a5, a6, _⟩ := c
    exact ⟨a1, a2, a3, a4, a5, a6⟩
  obtain ⟨a1, a2, a3, a4, a5, a6⟩ := k23 q1.sh
  -- after the members
  have p117 : ∀ (x1 x3 : Int) (h' : Hp), fx ddy B206 h h' → xI h' 20 7 = 1 → (∀ t, t < 16 → xI h' 23 t = 0) → (∀ t, t < 16 → xI h' 24 t = 0) → (∀ b m : Nat, b < 4 → m < 48 → xI h' (26 + b) m = 0) → (∀ m : Nat, (m : Int) < nM p → xI h' (mA m) 7 = rt p m) → (∀ m i : Nat, (m : Int) < nM p → (i : Int) < om p m → (∀ j, j < 48 → xI h' (oD (oa p (24 * m + i)).toNat + 1) j = 0) ∧ ∀ j, j < 4 → xI h' (oD (oa p (24 * m + i)).toNat + 2) j = 0) → Ev l D Y_G_draw (d + 8) kc ks 117 [some (vr 20), some (vi x1), none, some (vi x3), none] [] h' Ψ := by
    intro x1 x3 h' f z0 z1 z2 z3 z4 z5
    have c' := CS_dd hw f q
    apply g_G_draw_117 c'.sh
    intro h2 e2
    obtain ⟨n, it⟩ := gF_it hw
    have e : ∀ c j, ¬ (c = 20 ∧ j = 8) → xI h2 c j = xI h' c j := fun c j y => by rw [e2, xI_sI, if_neg y]
    have f2 : fx ddy B206 h h2 := by rw [e2]; exact f.put (by unfold ddy drx cdx; omega)
    have eg : ∀ c j, ¬ c = 100 → gs (gst p) 100 17 0 c j = gst p c j := fun c j y => by rw [gs_at, if_neg (fun z => y z.1)]
    have r0 : Gc p h2 h2 (gs (gst p) 100 17 0) := by
      refine ⟨fx.rf, CS_dd hw f2 q, ⟨fun m hm => ?_, fun t ht => ?_, fun t ht => ?_, fun b m hb hm => ?_, fun o m ho' hm => ?_, ?_⟩, fun a j hj => ?_⟩
      · rw [e _ _ (by unfold mA; omega), z4 m hm, eg _ _ (by omega), gst119]
        have wr := (hw.2.2.2.2.1 m hm).2.2.2.2.1
        rcases wr with v | v
        · rw [bI_f (fun y => y.2 v)]; exact v
        · rw [bI_t ⟨hm, by omega⟩]; exact v
      · rw [e _ _ (by omega), z1 t ht, eg _ _ (by omega), gst_0 (by omega) (by omega)]
      · rw [e _ _ (by omega), z2 t ht, eg _ _ (by omega), gst_0 (by omega) (by omega)]
      · rw [e _ _ (by omega), z3 b m hb hm, eg _ _ (by omega), gst_0 (by omega) (by omega)]
      · obtain ⟨v, i, hv, hi, hh⟩ := ho.2 o ho'
        have y := (z5 v i hv hi).1 m hm
        rw [hh, Int.toNat_natCast] at y
        rw [e _ _ (by unfold oD; omega), y, eg _ _ (by omega), gst_0 (by omega) (by omega)]
      · rw [e2, xI_sI, if_pos ⟨rfl, rfl⟩, gs_at, if_pos ⟨rfl, rfl⟩]
      · rw [gs_at]
        by_cases v : a = 100 ∧ j = 17
        · rw [if_pos v]; exact Or.inl rfl
        · rw [if_neg v]
          by_cases v2 : a = 119
          · rw [v2, gst119]; exact bI_01 _
          · exact Or.inl (gst_0 v2 (by omega))
    refine lp_G_draw (h1 := h2) hw (fun h3 r3 => ?_) n (gst p) h2 x3 it r0
    have f3 : fx ddy B206 h h3 := f2.tr (r3.1.mono (fun a k z => by unfold cdy at z; unfold ddy drx cdx; omega) (fun _ _ z => z))
    refine ct_G_close r3.2.1 hw ho r3.2.2.1 r3.2.2.2 (fun m i hm hi => ⟨fun y => by omega, fun _ j hj => ?_⟩) (fun h4 f4 d4 => ?_)
    · rw [r3.1.2.1 _ _ (by unfold cdy oD; omega), e _ _ (by unfold oD; omega)]
      exact (z5 m i hm hi).2 j hj
    · have f4' : fx ddy B206 h h4 := f3.tr (f4.mono (fun a k z => by unfold cly at z; unfold ddy drx; omega) (fun _ _ z => z))
      refine ⟨(CS_dd hw f4' q).sh, k h4 f4' (CS_dd hw f4' q) d4 ?_⟩
      rw [f4.2.1 _ _ (by unfold cly; omega), r3.1.2.1 _ _ (by unfold cdy; omega), e _ _ (by omega)]
      exact z0
  -- members
  have p63 : ∀ (m : Nat) (h' : Hp) (x3 : Int), m ≤ (nM p).toNat → (fx ddy B206 h h' ∧ xI h' 20 7 = 1 ∧ (∀ t, t < 16 → xI h' 23 t = 0) ∧ (∀ t, t < 16 → xI h' 24 t = 0) ∧ (∀ b m : Nat, b < 4 → m < 48 → xI h' (26 + b) m = 0) ∧ (∀ m' : Nat, m' < m → xI h' (mA m') 7 = rt p m') ∧ (∀ m' i : Nat, m' < m → (i : Int) < om p m' → (∀ j, j < 48 → xI h' (oD (oa p (24 * m' + i)).toNat + 1) j = 0) ∧ ∀ j, j < 4 → xI h' (oD (oa p (24 * m' + i)).toNat + 2) j = 0)) → Ev l D Y_G_draw (d + 8) kc ks 63 [some (vr 20), some (vi (m : Int)), none, some (vi x3), none] [] h' Ψ := by
    have key : ∀ (n m : Nat) (h' : Hp) (x3 : Int), m + n = (nM p).toNat → (fx ddy B206 h h' ∧ xI h' 20 7 = 1 ∧ (∀ t, t < 16 → xI h' 23 t = 0) ∧ (∀ t, t < 16 → xI h' 24 t = 0) ∧ (∀ b m : Nat, b < 4 → m < 48 → xI h' (26 + b) m = 0) ∧ (∀ m' : Nat, m' < m → xI h' (mA m') 7 = rt p m') ∧ (∀ m' i : Nat, m' < m → (i : Int) < om p m' → (∀ j, j < 48 → xI h' (oD (oa p (24 * m' + i)).toNat + 1) j = 0) ∧ ∀ j, j < 4 → xI h' (oD (oa p (24 * m' + i)).toNat + 2) j = 0)) → Ev l D Y_G_draw (d + 8) kc ks 63 [some (vr 20), some (vi (m : Int)), none, some (vi x3), none] [] h' Ψ := by
      intro n
      induction n with
      | zero =>
        rintro m h' x3 hm ⟨f, z0, z1, z2, z3, z4, z5⟩
        have c' := CS_dd hw f q
        apply g_G_draw_63 c'.sh
        rw [c'.cm]
        exact ⟨fun _ => p117 _ _ h' f z0 z1 z2 z3 (fun m hm => z4 m (by omega)) (fun m i hm hi => z5 m i (by omega) hi), fun c => by omega⟩
      | succ n ih =>
        rintro m h' x3 hm ⟨f, z0, z1, z2, z3, z4, z5⟩
        have hm' : (m : Int) < nM p := by omega
        obtain ⟨m1, m2, m3, m4, m5, m6, m7⟩ := hw.2.2.2.2.1 m hm'
        have c' := CS_dd hw f q
        apply g_G_draw_63 c'.sh
        rw [c'.cm, Int.toNat_natCast, c'.mr m hm', c'.mrt m hm']
        refine ⟨fun c => by omega, fun _ => ⟨by omega, by omega, c'.mkk m hm', c'.mkk m hm', by unfold mA; omega, m5, fun h2 e2 => ?_⟩⟩
        have li : ∀ (n2 i : Nat) (h3 : Hp), i + n2 = (om p m).toNat → (fx ddy B206 h h3 ∧ xI h3 20 7 = 1 ∧ (∀ t, t < 16 → xI h3 23 t = 0) ∧ (∀ t, t < 16 → xI h3 24 t = 0) ∧ (∀ b m : Nat, b < 4 → m < 48 → xI h3 (26 + b) m = 0) ∧ (∀ m' : Nat, m' < m + 1 → xI h3 (mA m') 7 = rt p m') ∧ (∀ m' i' : Nat, (m' < m ∨ (m' = m ∧ i' < i)) → (i' : Int) < om p m' → (∀ j, j < 48 → xI h3 (oD (oa p (24 * m' + i')).toNat + 1) j = 0) ∧ ∀ j, j < 4 → xI h3 (oD (oa p (24 * m' + i')).toNat + 2) j = 0)) → Ev l D Y_G_draw (d + 8) kc ks 88 [some (vr 20), some (vi (m : Int)), some (vr (mA m)), some (vi (i : Int)), none] [] h3 Ψ := by
          intro n2
          induction n2 with
          | zero =>
            rintro i h3 hi ⟨f3, y0, y1, y2, y3, y4, y5⟩
            have c3 := CS_dd hw f3 q
            apply g_G_draw_88 c3.sh
            rw [c3.mc m hm', wr_s (show m < 1000000 by omega)]
            refine ⟨c3.mkk m hm', fun _ => ih (m + 1) h3 _ (by omega) ⟨f3, y0, y1, y2, y3, y4, fun m' i' a b => y5 m' i' ?_ b⟩, fun c => by omega⟩
            rcases Nat.lt_or_ge m' m with e | e
            · exact Or.inl e
            · have : m' = m := by omega
              subst this
              omega
          | succ n2 ih2 =>
            rintro i h3 hi ⟨f3, y0, y1, y2, y3, y4, y5⟩
            have hi' : (i : Int) < om p m := by omega
            obtain ⟨ob, oe⟩ := oa_bd hw hm' hi'
            have c3 := CS_dd hw f3 q
            have en := c3.mon m hm'
            have ek := c3.mok m hm'
            apply g_G_draw_88 c3.sh
            rw [c3.mc m hm', c3.mo m hm', Int.toNat_natCast, c3.mop m i hm' hi', mtg_Op, en_Op_forget]
            refine ⟨c3.mkk m hm', fun c => by omega, fun _ => ⟨c3.mkk m hm', by omega, by omega, by omega, by rw [c3.okk _ ob]; exact opk_ok _, ct_forget c3 hw ob (fun h4 s4 u1 u2 => ?_)⟩⟩
            have f4 : fx ddy B206 h h4 := f3.tr ((s4.fx).mono (fun a k z => ddy_fg z) (fun _ _ z => z))
            refine ⟨(CS_dd hw f4 q).sh, ?_⟩
            rw [wr_s (show i < 1000000 by omega)]
            have e4 : ∀ a j, a < 400 → xI h4 a j = xI h3 a j := fun a j ha => s4.2.2 a j (by unfold oD; omega)
            refine ih2 (i + 1) h4 (by omega) ⟨f4, (e4 _ _ (by omega)).trans y0, fun t ht => (e4 _ _ (by omega)).trans (y1 t ht), fun t ht => (e4 _ _ (by omega)).trans (y2 t ht), fun b m hb hm => (e4 _ _ (by omega)).trans (y3 b m hb hm), fun m' hm'' => (e4 _ _ (by unfold mA; omega)).trans (y4 m' hm''), fun m' i' a b => ?_⟩
            by_cases e : (oa p (24 * m' + i')).toNat = (oa p (24 * m + i)).toNat
            · rw [e]; exact ⟨u1, u2⟩
            · have y5' := y5 m' i' (by
                rcases a with a | ⟨a, a2⟩
                · exact Or.inl a
                · refine Or.inr ⟨a, ?_⟩
                  rcases Nat.eq_or_lt_of_le (Nat.le_of_lt_succ a2) with v | v
                  · rw [a, v] at e; exact absurd rfl e
                  · exact v) b
              refine ⟨fun j hj => ?_, fun j hj => ?_⟩
              · rw [s4.2.2 _ _ (by unfold oD; omega)]; exact y5'.1 j hj
              · rw [s4.2.2 _ _ (by unfold oD; omega)]; exact y5'.2 j hj
        have e : ∀ a j, ¬ (a = mA m ∧ j = 7) → xI h2 a j = xI h' a j := fun a j y => by rw [e2, xI_sI, if_neg y]
        refine li (om p m).toNat 0 h2 (by omega) ⟨by rw [e2]; exact f.put (by unfold ddy drx cdx mA; omega), (e _ _ (by unfold mA; omega)).trans z0, fun t ht => (e _ _ (by unfold mA; omega)).trans (z1 t ht), fun t ht => (e _ _ (by unfold mA; omega)).trans (z2 t ht), fun b m hb hm => (e _ _ (by unfold mA; omega)).trans (z3 b m hb hm), fun m' hm'' => ?_, fun m' i' a b => ?_⟩
        · by_cases y : m' = m
          · rw [e2, xI_sI, if_pos ⟨by rw [y], rfl⟩, y]
          · rw [e _ _ (fun v => y (mA_inj.mp v.1))]; exact z4 m' (by omega)
        · have z5' := z5 m' i' (by omega) b
          refine ⟨fun j hj => ?_, fun j hj => ?_⟩
          · rw [e _ _ (by unfold mA oD; omega)]; exact z5'.1 j hj
          · rw [e _ _ (by unfold mA oD; omega)]; exact z5'.2 j hj
    exact fun m h' x3 hm y => key ((nM p).toNat - m) m h' x3 (by omega) y
  -- bags
  have p39 : ∀ (n b : Nat) (h' : Hp), b + n = 4 → (fx ddy B206 h h' ∧ xI h' 20 7 = 1 ∧ (∀ t, t < 16 → xI h' 23 t = 0) ∧ (∀ t, t < 16 → xI h' 24 t = 0) ∧ (∀ b' m : Nat, b' < b → m < 48 → xI h' (26 + b') m = 0)) → Ev l D Y_G_draw (d + 8) kc ks 39 [some (vr 20), some (vr 25), some (vi ((4 : Nat) : Int)), some (vi (b : Int)), none] [] h' Ψ := by
    intro n
    induction n with
    | zero =>
      rintro b h' hb ⟨f, z0, z1, z2, z3⟩
      apply g_G_draw_39 (CS_dd hw f q).sh
      exact ⟨fun _ => p63 0 h' _ (Nat.zero_le _) ⟨f, z0, z1, z2, fun b' m h1 h2 => z3 b' m (by omega) h2, fun m' y => by omega, fun m' i y => by omega⟩, fun c => by omega⟩
    | succ n ih =>
      rintro b h' hb ⟨f, z0, z1, z2, z3⟩
      have c' := CS_dd hw f q
      obtain ⟨b1, b2, b3⟩ := GS_bg c'.sh (show b < 4 by omega)
      obtain ⟨_, _, _, _, a5', a6'⟩ := k23 c'.sh
      apply g_G_draw_39 c'.sh
      rw [Int.toNat_natCast, b1]
      refine ⟨fun c => by omega, fun _ => ⟨by omega, by omega, by omega, ct_fillZ b2 (by omega) (Or.inl rfl) (by omega) (fun h2 s2 u2 => ?_)⟩⟩
      have f2 : fx ddy B206 h h2 := f.tr ((s2.fx).mono (fun a k z => by have z' : a = 26 + b := z; unfold ddy drx cdx; omega) (fun _ _ z => z))
      refine ⟨(CS_dd hw f2 q).sh, ?_⟩
      rw [wr_s (show b < 1000000 by omega)]
      refine ih (b + 1) h2 (by omega) ⟨f2, (s2.2.2 _ _ (by omega)).trans z0, fun t ht => (s2.2.2 _ _ (by omega)).trans (z1 t ht), fun t ht => (s2.2.2 _ _ (by omega)).trans (z2 t ht), fun b' m h1 h2 => ?_⟩
      by_cases e : b' = b
      · rw [e]; exact u2 m (by omega)
      · exact (s2.2.2 _ _ (by omega)).trans (z3 b' m (by omega) h2)
  refine ct_fillZ a1 (by omega) (Or.inl rfl) (by omega) (fun h2 s2 u2 => ?_)
  have f2 : fx ddy B206 h h2 := f1.tr ((s2.fx).mono (fun a k z => by have z' : a = 23 := z; unfold ddy drx cdx; omega) (fun _ _ z => z))
  obtain ⟨_, _, a3', a4', _⟩ := k23 (CS_dd hw f2 q).sh
  refine ⟨(CS_dd hw f2 q).sh, ct_fillZ a3' (by omega) (Or.inl rfl) (by omega) (fun h3 s3 u3 => ?_)⟩
  have f3 : fx ddy B206 h h3 := f2.tr ((s3.fx).mono (fun a k z => by have z' : a = 24 := z; unfold ddy drx cdx; omega) (fun _ _ z => z))
  refine ⟨(CS_dd hw f3 q).sh, ?_⟩
  obtain ⟨_, _, _, _, _, a6'⟩ := k23 (CS_dd hw f3 q).sh
  rw [a6']
  exact p39 4 0 h3 (by omega) ⟨f3, ((s3.2.2 _ _ (by omega)).trans (s2.2.2 _ _ (by omega))).trans e1, fun t ht => (s3.2.2 _ _ (by omega)).trans (u2 t (by omega)), fun t ht => u3 t (by omega), fun b' m y => by omega⟩
/-- draw, over the whole relation -/
theorem ct_dr (q : Cs p h) (k : ∀ h', fx ddy B206 h h' → Cs p h' → Dr p h' → Ψ none h') : Ev l D Y_G_draw (d + 8) kc ks 0 [some (vr 20), none, none, none, none] [] h Ψ :=
  ct_G_draw q.1 q.2.1 q.2.2.1 q.2.2.2 (fun h' f c dr e => k h' f ⟨c, q.2.1, q.2.2.1, Or.inr e, fun _ => dr⟩ dr)
end DW
