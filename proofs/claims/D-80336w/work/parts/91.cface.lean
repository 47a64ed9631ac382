/-! the component: face -/
section CFA
variable {l : Launch} {D : DD} {d kc ks : Nat} {h h0 : Hp} {Ψ : Option AV → Hp → Prop} {p g : Pg}
theorem ct_isUnderR {v u : Nat} {P : Prop} (t1 : xK h (tA v) = 3) (t2 : xR h (tA v) 5 = tA v + 2) (t3 : xK h (tA v + 2) = 21) (t4 : xN h (tA v + 2) = 16) (u1 : xK h (tA u) = 3) (u2 : xI h (tA u) 0 = (u : Int)) (u3 : u < 16) (e : xI h (tA v + 2) u = bI P) (k : Ψ (some (vi (bI P))) h) : Ev l D Y_Type_isUnder d kc ks 0 [some (vr (tA v)), some (vr (tA u))] [] h Ψ := by
  apply s_Type_isUnder_0
  rw [t2, u2, Int.toNat_natCast, e, t4]
  exact ⟨t1, u1, t3, by omega, by omega, bI_01 _, k⟩
theorem ct_hasFace {t f : Nat} (q : CS h p) (hw : WF p) (ht : (t : Int) < nT p) (k : Ψ (some (vi (bI (∃ i : Nat, (i : Int) < fm p t ∧ fo p (3 * t + i) = (f : Int))))) h) : Ev l D Y_Type_hasFace d kc ks 0 [some (vr (tA t)), some (vr (tA f)), none, none] [] h Ψ := by
  obtain ⟨z1, z2, z3, z4, z5⟩ := hw.2.2.2.1 t ht
  apply s_Type_hasFace_0
  have key : ∀ (n j : Nat), j + n = (fm p t).toNat → Ev l D Y_Type_hasFace d kc ks 4 [some (vr (tA t)), some (vr (tA f)), some (vi (bI (∃ i : Nat, i < j ∧ fo p (3 * t + i) = (f : Int)))), some (vi (j : Int))] [] h Ψ := by
    intro n
    induction n with
    | zero =>
      intro j hj
      have e : (∃ i : Nat, i < j ∧ fo p (3 * t + i) = (f : Int)) ↔ (∃ i : Nat, (i : Int) < fm p t ∧ fo p (3 * t + i) = (f : Int)) := ⟨fun ⟨i, a, b⟩ => ⟨i, by omega, b⟩, fun ⟨i, a, b⟩ => ⟨i, by omega, b⟩⟩
      rw [bI_c e]
      clear e
      apply s_Type_hasFace_4
      rw [q.tfm t ht]
      exact ⟨q.tk t ht, fun _ => ⟨bI_01 _, k⟩, fun c => by omega⟩
    | succ n ih =>
      intro j hj
      have nx := ih (j + 1) (by omega)
      have fb := z5 j (by omega)
      have ek := q.tfk t ht
      have en := q.tfn t ht
      have em : tA (fo p (3 * t + j)).toNat = tA f ↔ fo p (3 * t + j) = (f : Int) := by rw [tA_inj]; omega
      have z0 : (0 : Int) = bI False := (bI_f (fun z => z)).symm
      have z1 : (1 : Int) = bI True := (bI_t trivial).symm
      apply s_Type_hasFace_4
      rw [q.tfm t ht, q.tf t ht, Int.toNat_natCast, q.tfo t j ht (by omega), wr_s (show j < 1000000 by omega)]
      refine ⟨q.tk t ht, fun c => by omega, fun _ => ⟨q.tk t ht, by omega, by omega, by omega, fun c => ?_, fun c => ?_⟩⟩
      · rw [em] at c
        clear em
        rw [z0, iorV_01, bI_c (show ((∃ i : Nat, i < j ∧ fo p (3 * t + i) = (f : Int)) ∨ False) ↔ (∃ i : Nat, i < j + 1 ∧ fo p (3 * t + i) = (f : Int)) from ⟨fun v => v.elim (fun ⟨i, i1, i2⟩ => ⟨i, by omega, i2⟩) (fun v => v.elim), fun ⟨i, i1, i2⟩ => by
          rcases Nat.eq_or_lt_of_le (Nat.le_of_lt_succ i1) with e | e
          · rw [e] at i2; exact absurd i2 c
          · exact Or.inl ⟨i, e, i2⟩⟩)]
        exact nx
      · rw [em] at c
        clear em
        rw [z1, iorV_01, bI_c (show ((∃ i : Nat, i < j ∧ fo p (3 * t + i) = (f : Int)) ∨ True) ↔ (∃ i : Nat, i < j + 1 ∧ fo p (3 * t + i) = (f : Int)) from ⟨fun _ => ⟨j, by omega, c⟩, fun _ => Or.inr trivial⟩)]
        exact nx
  have k0 := key (fm p t).toNat 0 (by omega)
  rw [bI_f (fun ⟨i, a, _⟩ => by omega)] at k0
  exact k0
def und (p : Pg) (a : Nat) : Prop := ∃ v : Nat, (v : Int) < nT p ∧ a = tA v + 2
/-- the heap when a face has been set, all but the mark -/
theorem CA_fa {t f : Nat} {h1 h2 : Hp} (q : CA p h) (ht : (t : Int) < nT p) (hf : f < t) (hk : kd p f = 2) (hn : fm p t < 3) (s2 : sm (fun a _ => und p a) (sR (sI h (tA t) 4 (fm p t + 1)) (tA t + 1) (fm p t).toNat (tA f)) h1) (hv : ∀ v u : Nat, (v : Int) < nT p → u < 16 → xI h1 (tA v + 2) u = bI (U (pFa1 p t f) v u)) (e2 : h2 = sI h1 20 7 0) : CA (pFa1 p t f) h2 ∧ agM h h2 := by
  obtain ⟨⟨c, hw, ho, hf'⟩, ⟨f1, f2, f3, f4, f5⟩, ⟨b1, b2, b3, b4, b5, b6⟩⟩ := q
  have w1 := hw.1
  have w2 := hw.2.1
  have w3 := hw.2.2.1
  have zt := (hw.2.2.2.1 t ht).2.2.2.1
  have hw' : WF (pFa1 p t f) := WF_fa hw (by omega) (by omega) (by rw [Int.toNat_natCast]; exact hk) (by rw [Int.toNat_natCast]; exact hn)
  have k2 : ∀ a, xK h2 a = xK h a := fun a => by rw [e2, xK_sI, s2.K, xK_sR, xK_sI]
  have n2 : ∀ a, xN h2 a = xN h a := fun a => by rw [e2, xN_sI, s2.N, xN_sR, xN_sI]
  have r2 : ∀ a j, xR h2 a j = if a = tA t + 1 ∧ j = (fm p t).toNat then tA f else xR h a j := fun a j => by rw [e2, xR_sI, s2.R, xR_sR, xR_sI]
  have l2 : ∀ a j, xL h2 a j = xL h a j := fun a j => by rw [e2, xL_sI, s2.L, xL_sR, xL_sI]
  have i2 : ∀ a j, ¬ und p a → xI h2 a j = if a = 20 ∧ j = 7 then 0 else if a = tA t ∧ j = 4 then fm p t + 1 else xI h a j := fun a j z => by rw [e2, xI_sI, s2.2.2 a j z, xI_sR, xI_sI]
  have iu : ∀ v u : Nat, (v : Int) < nT p → u < 16 → xI h2 (tA v + 2) u = bI (U (pFa1 p t f) v u) := fun v u h1 h2 => by rw [e2, xI_sI, if_neg (by unfold tA; omega)]; exact hv v u h1 h2
  have nu : ∀ a, (∀ v : Nat, (v : Int) < nT p → ¬ a = tA v + 2) → ¬ und p a := fun a z ⟨v, v1, v2⟩ => z v v1 v2
  have nu0 : ∀ v, ¬ und p (tA v) := fun v => nu _ (fun w _ => by unfold tA; omega)
  have sA : ∀ a, ¬ und p a → ¬ a = 20 → ¬ a = tA t → ¬ a = tA t + 1 → sa h h2 a := fun a z1 z2 z3 z4 => ⟨k2 a, n2 a, fun j => by rw [i2 a j z1, if_neg (fun y => z2 y.1), if_neg (fun y => z3 y.1)], fun j => by rw [r2, if_neg (fun y => z4 y.1)], l2 a⟩
  have efm : ∀ v, fm (pFa1 p t f) v = if v = t then fm p t + 1 else fm p v := fun v => by simp [pFa1, gs]
  have efo : ∀ v, fo (pFa1 p t f) v = if v = 3 * t + (fm p t).toNat then (f : Int) else fo p v := fun v => by simp [pFa1, gs]
  have ekd : ∀ v, kd (pFa1 p t f) v = kd p v := fun v => by simp [pFa1, gs]
  have eup : ∀ v, up (pFa1 p t f) v = up p v := fun v => by simp [pFa1, gs]
  clear e2 s2 hv
  have cs : CS h2 (pFa1 p t f) := by
    refine CS_mk ⟨GS_ag (fun a h1 h2 => ⟨k2 a, n2 a⟩) (fun a j z => ?_) c.sh, ?_, ?_, ?_, fun i g1 g2 => ?_, fun i g1 g2 => ?_⟩ (fun v hv => ?_) (fun m hm => ?_) (fun o ho => ?_)
    · rw [r2, if_neg (by unfold tA; omega)]
    · rw [i2 _ _ (nu _ (fun w _ => by unfold tA; omega)), if_neg (by omega), if_neg (by unfold tA; omega)]; exact c.ct
    · rw [i2 _ _ (nu _ (fun w _ => by unfold tA; omega)), if_neg (by omega), if_neg (by unfold tA; omega)]; exact c.cm
    · rw [i2 _ _ (nu _ (fun w _ => by unfold tA; omega)), if_neg (by omega), if_neg (by unfold tA; omega)]; exact c.co
    · rw [k2]; exact c.kc i g1 g2
    · rw [k2]; exact c.sc i g1 g2
    · have hv' : (v : Int) < nT p := hv
      have zv := (hw.2.2.2.1 v hv').2.2.2
      obtain ⟨q1, q2, q3, q4, q5, q6, q7, q8, q9, q10, q11, q12, q13, q14, q15, q16, q17, q18, q19⟩ := c.T hv'
      have rn : ∀ a j, ¬ a = tA t + 1 → xR h2 a j = xR h a j := fun a j z => by rw [r2, if_neg (fun y => z y.1)]
      refine ⟨?_, ?_, ?_, ?_, ?_, ?_, ?_, ?_, ?_, fun i hi => ?_, ?_, ?_, ?_, fun u hu => iu v u hv' hu, ?_, ?_, ?_, fun x hx => ?_, ?_⟩
      · rw [rn _ _ (by unfold tA; omega)]; exact q1
      · rw [k2]; exact q2
      · rw [i2 _ _ (nu0 v), if_neg (by omega), if_neg (by omega)]; exact q3
      · rw [rn _ _ (by unfold tA; omega), ekd]; exact q4
      · rw [rn _ _ (by unfold tA; omega), eup]; exact q5
      · rw [rn _ _ (by unfold tA; omega)]; exact q6
      · rw [k2]; exact q7
      · rw [n2]; exact q8
      · rw [i2 _ _ (nu0 v), if_neg (by unfold tA; omega), efm]
        by_cases e : v = t
        · rw [if_pos ⟨by rw [e], rfl⟩, if_pos e]
        · rw [if_neg (fun y => e (tA_inj.mp y.1)), if_neg e]; exact q9
      · rw [efm] at hi
        rw [r2, efo]
        by_cases e : v = t
        · rw [if_pos e] at hi
          by_cases e2 : i = (fm p t).toNat
          · rw [if_pos ⟨by rw [e], e2⟩, if_pos (by omega), Int.toNat_natCast]
          · rw [if_neg (fun y => e2 y.2), if_neg (by omega)]; exact q10 i (by rw [e]; omega)
        · rw [if_neg e] at hi
          rw [if_neg (fun y => e (by have := y.1; unfold tA at this; omega)), if_neg (by omega)]; exact q10 i hi
      · rw [rn _ _ (by unfold tA; omega)]; exact q11
      · rw [k2]; exact q12
      · rw [n2]; exact q13
      · rw [rn _ _ (by unfold tA; omega)]; exact q15
      · rw [k2]; exact q16
      · rw [n2]; exact q17
      · rw [rn _ _ (by unfold tA; omega)]; exact q18 x hx
      · rw [rn _ _ (by unfold tA; omega)]; exact q19
    · have hm' : (m : Int) < nM p := hm
      refine CSm_sa (p := p) (fun j hj => sA _ (nu _ (fun w _ => by unfold mA tA; omega)) (by unfold mA; omega) (by unfold mA tA; omega) (by unfold mA tA; omega)) ((sA 22 (nu _ (fun w _ => by unfold tA; omega)) (by omega) (by unfold tA; omega) (by unfold tA; omega)).2.2.2.1 m) (hw.2.2.2.2.1 m hm').2.2.2.2.2.1.2 rfl rfl rfl rfl rfl (fun _ _ => rfl) (c.M hm')
    · have ho' : (o : Int) < nO p := ho
      exact CSo_sa (p := p) (fun j hj => sA _ (nu _ (fun w _ => by unfold oD tA; omega)) (by unfold oD; omega) (by unfold oD tA; omega) (by unfold oD tA; omega)) rfl rfl rfl (c.O ho')
  have z7 : xI h2 20 7 = 0 := by rw [i2 _ _ (nu _ (fun w _ => by unfold tA; omega)), if_pos ⟨rfl, rfl⟩]
  refine ⟨⟨⟨cs, hw', WO_fa ho, Or.inl z7, fun z => absurd z7 z⟩, ⟨fun t j x y z => ?_, fun m j x y z => ?_, fun o j x y z => ?_, fun t x y => ?_, fun m x y => ?_⟩, ⟨?_, ?_, ?_, ?_, fun i hi => ?_, fun i hi => ?_⟩⟩, fun a ha => sA a (nu _ (fun w _ => by unfold tA; omega)) (by omega) (by unfold tA; omega) (by unfold tA; omega)⟩
  · rw [k2]; exact f1 t j x y z
  · rw [k2]; exact f2 m j x y z
  · rw [k2]; exact f3 o j x y z
  · rw [k2]; exact f4 t x y
  · rw [k2]; exact f5 m x y
  · rw [k2]; exact b1
  · rw [n2]; exact b2
  · rw [k2]; exact b3
  · rw [n2]; exact b4
  · rw [r2, if_neg (by unfold tA; omega)]; exact b5 i hi
  · rw [r2, if_neg (by unfold tA; omega)]; exact b6 i hi
theorem ct_G_face {x1 x2 : Int} (q : CA p h) (k : ∀ h', agM h h' → CA (pFa p x1 x2) h' → Ψ (some (vi (rFa p x1 x2))) h') : Ev l D Y_G_face (d + 2) kc ks 0 [some (vr 20), some (vi x1), some (vi x2), none, none, none] [] h Ψ := by
  obtain ⟨c, hw, ho, hf⟩ := q.1
  have w1 := hw.1
  have bad : ∀ r, rFa p x1 x2 = r → r < 0 → Ψ (some (vi r)) h := fun r e hr => by
    have z := k h agM.rf
    rw [e, show pFa p x1 x2 = p from cG_f (by rw [e]; omega)] at z
    exact z q
  apply g_G_face_0 c.sh
  refine ct_G_isType c hw ⟨c.sh, fun c1 => bad _ ?_ (by omega), fun c1 => ct_G_isType c hw ⟨c.sh, fun c2 => ?_, fun c2 => bad _ ?_ (by omega)⟩⟩
  · unfold rFa; rw [cI_t (Or.inl (bI_0.mp c1))]
  · rw [bI_n] at c1 c2
    have n1 : ¬ (¬ (0 ≤ x1 ∧ x1 < nT p) ∨ ¬ (0 ≤ x2 ∧ x2 < nT p)) := by omega
    obtain ⟨t, rfl⟩ : ∃ t : Nat, x1 = (t : Int) := ⟨x1.toNat, by omega⟩
    obtain ⟨f, rfl⟩ : ∃ t : Nat, x2 = (t : Int) := ⟨x2.toNat, by omega⟩
    have ht := c1.2
    have hff := c2.2
    obtain ⟨z1, z2, z3, z4, z5⟩ := hw.2.2.2.1 t ht
    rw [Int.toNat_natCast, Int.toNat_natCast, c.trr t ht, c.trr f hff]
    refine ⟨by omega, by omega, by omega, by omega, c.tk f hff, ct_isClass c hff ⟨c.sh, fun c3 => bad _ ?_ (by omega), fun c3 => ⟨fun c4 => ⟨c.tk t ht, ct_hasFace c hw ht ⟨c.sh, fun c5 => ⟨c.tk t ht, ?_⟩, fun c5 => bad _ ?_ (by omega)⟩⟩, fun c4 => bad _ ?_ (by omega)⟩⟩⟩
    · unfold rFa; rw [cI_f n1, cI_t (Or.inl (by rw [Int.toNat_natCast]; exact bI_n.mp c3))]
    · rw [bI_0] at c3 c5
      have kf : kd p f = 2 := Classical.not_not.mp c3
      have n2 : ¬ (¬ kd p (f : Int).toNat = 2 ∨ (t : Int) ≤ (f : Int)) := by rw [Int.toNat_natCast]; omega
      have n3 : ¬ (∃ i : Nat, (i : Int) < fm p (t : Int).toNat ∧ fo p (3 * (t : Int).toNat + i) = (f : Int)) := by rw [Int.toNat_natCast]; exact c5
      have nf := c5
      clear c5
      rw [c.tfm t ht, c.tf t ht]
      refine ⟨fun c6 => ⟨c.tk t ht, c.tk t ht, c.tk t ht, by unfold tA; omega, fun h5 e5 => ?_⟩, fun c6 => bad _ ?_ (by omega)⟩
      · have er : rFa p t f = fm p t + 1 := by unfold rFa; rw [cI_f n1, cI_f n2, cI_f n3, Int.toNat_natCast, cI_f c6]
        clear n3 nf
        rw [wr_eq (by omega) (by omega)] at e5
        have k5 : ∀ a, xK h5 a = xK h a := fun a => by rw [e5, xK_sI]
        have en := c.tfn t ht
        refine ⟨by rw [k5, k5, c.tfk t ht, c.tk f hff]; rfl, by unfold tA; omega, by omega, by rw [e5, xN_sI]; omega, fun h6 e6 => ?_⟩
        have k6 : ∀ a, xK h6 a = xK h a := fun a => by rw [e6, xK_sR, k5]
        have n6 : ∀ a, xN h6 a = xN h a := fun a => by rw [e6, xN_sR, e5, xN_sI]
        have r6 : ∀ a j, ¬ a = tA t + 1 → xR h6 a j = xR h a j := fun a j z => by rw [e6, xR_sR, if_neg (fun y => z y.1), e5, xR_sI]
        have i6 : ∀ a j, ¬ (a = tA t ∧ j = 4) → xI h6 a j = xI h a j := fun a j z => by rw [e6, xI_sR, e5, xI_sI, if_neg z]
        have g6 : GS h6 := GS_ag (fun a _ _ => ⟨k6 a, n6 a⟩) (fun a j z => r6 a j (by unfold tA; omega)) c.sh
        have gg : ∀ {h' : Hp}, sm (fun a _ => und p a) h6 h' → GS h' := fun s => GS_ag (fun a _ _ => ⟨s.K a, s.N a⟩) (fun a j _ => s.R a j) g6
        have lp : ∀ (n v : Nat) (h' : Hp), v + n = (nT p).toNat → sm (fun a _ => und p a) h6 h' → (∀ w u : Nat, (w : Int) < nT p → u < 16 → (w < v → xI h' (tA w + 2) u = bI (U (pFa1 p t f) w u)) ∧ (¬ w < v → xI h' (tA w + 2) u = bI (U p w u))) → Ev l D Y_G_face (d + 2) kc ks 94 [some (vr 20), some (vi (t : Int)), some (vi (f : Int)), some (vr (tA t)), some (vr (tA f)), some (vi (v : Int))] [] h' Ψ := by
          intro n
          induction n with
          | zero =>
            intro v h' hv s hh
            have e20 : xI h' 20 1 = nT p := by rw [s.2.2 20 1 (fun ⟨w, _, y⟩ => by unfold tA at y; omega), i6 _ _ (by unfold tA; omega)]; exact c.ct
            apply g_G_face_94 (gg s)
            rw [e20]
            refine ⟨fun _ => ct_G_change (gg s) (fun h8 e8 => ?_), fun c => by omega⟩
            have g8 : GS h8 := by rw [e8]; exact GS_ag (h := h') (fun a _ _ => ⟨rfl, rfl⟩) (fun a j _ => rfl) (gg s)
            have e84 : xI h8 (tA t) 4 = fm p t + 1 := by rw [e8, xI_sI, if_neg (by omega), s.2.2 _ _ (fun ⟨w, _, y⟩ => by unfold tA at y; omega), e6, xI_sR, e5, xI_sI, if_pos ⟨rfl, rfl⟩]
            refine ⟨g8, by rw [e8, xK_sI, s.K, k6]; exact c.tk t ht, ?_⟩
            rw [e84]
            obtain ⟨ca, ag⟩ := CA_fa (t := t) (f := f) (h1 := h') (h2 := h8) q ht (by omega) kf (by omega) (by rw [← e5, ← e6]; exact s) (fun w u h1 h2 => (hh w u h1 h2).1 (by omega)) e8
            have z := k h8 ag
            rw [er, show pFa p t f = pFa1 p t f from cG_t (by rw [er]; omega)] at z
            exact z ca
          | succ n ih =>
            intro v h' hv s hh
            have hv' : (v : Int) < nT p := by omega
            have nu : ∀ w, ¬ und p (tA w) := fun w ⟨x, _, y⟩ => by unfold tA at y; omega
            have e20 : xI h' 20 1 = nT p := by rw [s.2.2 20 1 (fun ⟨w, _, y⟩ => by unfold tA at y; omega), i6 _ _ (by unfold tA; omega)]; exact c.ct
            have e21 : xR h' 21 v = tA v := by rw [s.R, r6 _ _ (by unfold tA; omega)]; exact c.trr v hv'
            have kk : ∀ w : Nat, (w : Int) < nT p → xK h' (tA w) = 3 ∧ xR h' (tA w) 5 = tA w + 2 ∧ xK h' (tA w + 2) = 21 ∧ xN h' (tA w + 2) = 16 ∧ xI h' (tA w) 0 = (w : Int) := fun w hw' => by
              refine ⟨?_, ?_, ?_, ?_, ?_⟩
              · rw [s.K, k6]; exact c.tk w hw'
              · rw [s.R, r6 _ _ (by unfold tA; omega)]; exact c.tu w hw'
              · rw [s.K, k6]; exact c.tuk w hw'
              · rw [s.N, n6]; exact c.tun w hw'
              · rw [s.2.2 _ _ (nu w), i6 _ _ (by omega)]; exact c.tn w hw'
            obtain ⟨v1, v2, v3, v4, v5⟩ := kk v hv'
            obtain ⟨a1, a2, a3, a4, a5⟩ := kk t ht
            obtain ⟨d1, d2, d3, d4, d5⟩ := kk f hff
            have uf := fun u => U_fa (v := v) (u := u) hw ht (show f < t by omega) kf (show fm p t < 3 by omega) hv'
            apply g_G_face_94 (gg s)
            rw [e20, Int.toNat_natCast, e21, wr_s (show v < 1000000 by omega)]
            refine ⟨fun c => by omega, fun _ => ⟨by omega, by omega, v1, ct_isUnderR v1 v2 v3 v4 a1 a5 (by omega) ((hh v t hv' (by omega)).2 (by omega)) ⟨gg s, fun c7 => ?_, fun c7 => ⟨by omega, by omega, ?_⟩⟩⟩⟩
            · rw [bI_0] at c7
              refine ih (v + 1) h' (by omega) s (fun w u h1 h2 => ⟨fun y => ?_, fun y => (hh w u h1 h2).2 (by omega)⟩)
              rcases Nat.eq_or_lt_of_le (Nat.le_of_lt_succ y) with e | e
              · rw [e, (hh v u hv' h2).2 (by omega)]
                exact bI_c ((uf u).trans ⟨fun y => y.elim id (fun y => absurd y.1 c7), Or.inl⟩).symm
              · exact (hh w u h1 h2).1 e
            · rw [bI_n] at c7
              have vt : t ≤ v := by have := c7.le hw hv'; omega
              rw [e21]
              refine ⟨v1, ct_join (P := fun u => U p v u) (Q := fun u => U p f u) (by omega) v1 v2 v3 v4 (fun u hu => (hh v u hv' hu).2 (by omega)) d1 d2 d3 d4 (fun u hu => ?_) (fun h9 s9 z9 => ?_)⟩
              · by_cases e : f < v
                · rw [(hh f u hff hu).1 e]
                  refine bI_c ((U_fa hw ht (show f < t by omega) kf (show fm p t < 3 by omega) hff).trans ⟨fun y => y.elim id (fun y => ?_), Or.inl⟩)
                  have := y.1.le hw hff
                  omega
                · omega
              · have s9' : sm (fun a _ => und p a) h6 h9 := s.tr (s9.mono (fun a _ z => ⟨v, hv', z⟩))
                refine ⟨gg s9', ih (v + 1) h9 (by omega) s9' (fun w u h1 h2 => ⟨fun y => ?_, fun y => ?_⟩)⟩
                · rcases Nat.eq_or_lt_of_le (Nat.le_of_lt_succ y) with e | e
                  · rw [e, z9 u h2]
                    exact bI_c ((uf u).trans ⟨fun y => y.elim Or.inl (fun y => Or.inr y.2), fun y => y.elim Or.inl (fun y => Or.inr ⟨c7, y⟩)⟩).symm
                  · rw [s9.2.2 _ _ (by unfold tA; omega)]; exact (hh w u h1 h2).1 e
                · rw [s9.2.2 _ _ (by unfold tA; omega)]; exact (hh w u h1 h2).2 (by omega)
        refine ⟨g6, lp (nT p).toNat 0 h6 (by omega) sm.rf (fun w u h1 h2 => ⟨fun y => by omega, fun _ => ?_⟩)⟩
        rw [i6 _ _ (by unfold tA; omega)]; exact c.tuu w u h1 h2
      · unfold rFa; rw [cI_f n1, cI_f n2, cI_f n3, Int.toNat_natCast, cI_t c6]
    · rw [bI_0] at c3; rw [bI_n] at c5
      have n2 : ¬ (¬ kd p (f : Int).toNat = 2 ∨ (t : Int) ≤ (f : Int)) := by rw [Int.toNat_natCast]; have := Classical.not_not.mp c3; omega
      unfold rFa; rw [cI_f n1, cI_f n2, cI_t (by rw [Int.toNat_natCast]; exact c5)]
    · unfold rFa; rw [cI_f n1, cI_t (Or.inr c4)]
  · unfold rFa; rw [cI_t (Or.inr (bI_0.mp c2))]
end CFA
