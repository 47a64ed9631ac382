/-! the component: member -/
def MeN (h h' : Hp) (n t : Nat) (y : Int) (sr : Nat) : Prop := off (fun a => mA n ≤ a ∧ a < mA n + 2) h h' ∧ xK h' (mA n) = 4 ∧ xI h' (mA n) 0 = (n : Int) ∧ xR h' (mA n) 1 = tA t ∧ xI h' (mA n) 2 = y ∧ xR h' (mA n) 3 = sr ∧ xR h' (mA n) 4 = mA n + 1 ∧ xI h' (mA n) 5 = xI h (mA n) 5 ∧ xI h' (mA n) 6 = xI h (mA n) 6 ∧ xK h' (mA n + 1) = 24 ∧ xN h' (mA n + 1) = 24
section CME
variable {l : Launch} {D : DD} {d kc ks : Nat} {h h0 : Hp} {Ψ : Option AV → Hp → Prop} {p g : Pg}
theorem ct_Member_init {n t sr : Nat} {y : Int} (hk0 : xK h (mA n) = 4) (hf : xK h (mA n + 1) = 0) (k : ∀ h', MeN h h' n t y sr → Ψ none h') : Ev l D Y_Member_init (d + 1) (kc + 1) (ks + 24) 0 [some (vr (mA n)), some (vi (n : Int)), some (vr (tA t)), some (vi y), some (vr sr)] [] h Ψ := by
  have b16 : 16 ≤ mA n := by unfold mA; omega
  apply s_Member_init_0
  refine ⟨by omega, mA n + 1, by omega, hf, fun h1 e1 => ?_⟩
  have a1 : ∀ a, xK h1 a = if a = mA n + 1 then 24 else xK h a := fun a => by rw [e1, xK_nw]
  have a10 : xK h1 (mA n) = 4 := by rw [a1, if_neg (by omega)]; exact hk0
  refine ⟨a10, b16, fun h2 e2 => ⟨by rw [e2, xK_sR]; exact a10, b16, fun h3 e3 => ⟨by rw [e3, xK_sI, e2, xK_sR]; exact a10, b16, fun h4 e4 => ⟨by rw [e4, xK_sR, e3, xK_sI, e2, xK_sR]; exact a10, b16, fun h5 e5 => ⟨by rw [e5, xK_sI, e4, xK_sR, e3, xK_sI, e2, xK_sR]; exact a10, b16, fun h6 e6 => k h6 ?_⟩⟩⟩⟩⟩
  have a6 : ∀ a, xK h6 a = xK h1 a := fun a => by rw [e6, xK_sR, e5, xK_sI, e4, xK_sR, e3, xK_sI, e2, xK_sR]
  have n6 : ∀ a, xN h6 a = if a = mA n + 1 then 24 else xN h a := fun a => by rw [e6, xN_sR, e5, xN_sI, e4, xN_sR, e3, xN_sI, e2, xN_sR, e1, xN_nw]; rfl
  have i6 : ∀ a j, xI h6 a j = if a = mA n ∧ j = 2 then y else if a = mA n ∧ j = 0 then (n : Int) else if a = mA n + 1 then 0 else xI h a j := fun a j => by rw [e6, xI_sR, e5, xI_sI, e4, xI_sR, e3, xI_sI, e2, xI_sR, e1, xI_nw]
  have r6 : ∀ a j, xR h6 a j = if a = mA n ∧ j = 3 then sr else if a = mA n ∧ j = 1 then tA t else if a = mA n ∧ j = 4 then mA n + 1 else if a = mA n + 1 then 0 else xR h a j := fun a j => by rw [e6, xR_sR, e5, xR_sI, e4, xR_sR, e3, xR_sI, e2, xR_sR, e1, xR_nw]
  have o6 : off (fun a => mA n ≤ a ∧ a < mA n + 2) h h6 := by
    rw [e6, e5, e4, e3, e2, e1]
    exact (((((off.rf.nw (by omega)).sR (by omega)).sI (by omega)).sR (by omega)).sI (by omega)).sR (by omega)
  refine ⟨o6, ?_, ?_, ?_, ?_, ?_, ?_, ?_, ?_, ?_, ?_⟩
  · rw [a6]; exact a10
  · rw [i6, if_neg (by omega), if_pos ⟨rfl, rfl⟩]
  · rw [r6, if_neg (by omega), if_pos ⟨rfl, rfl⟩]
  · rw [i6, if_pos ⟨rfl, rfl⟩]
  · rw [r6, if_pos ⟨rfl, rfl⟩]
  · rw [r6, if_neg (by omega), if_neg (by omega), if_pos ⟨rfl, rfl⟩]
  · rw [i6, if_neg (by omega), if_neg (by omega), if_neg (by omega)]
  · rw [i6, if_neg (by omega), if_neg (by omega), if_neg (by omega)]
  · rw [a6, a1, if_pos rfl]
  · rw [n6, if_pos rfl]
theorem CA_me {n t B j0 : Nat} {y s : Int} {h1 h2 h3 : Hp} (q : CA p h) (hnn : nM p = (n : Int)) (hn : n < 48) (ht : (t : Int) < nT p) (hs : 0 ≤ s ∧ s ≤ 4) (hy : -1 ≤ y ∧ y ≤ 9) (hsy : s = 4 ↔ y = -1) (hown : own p t y = -1) (hB : (s = 4 ∧ B = tA t ∧ j0 = 7) ∨ (¬ s = 4 ∧ B = tA t + 3 ∧ (j0 : Int) = y)) (o1 : off (fun a => a = mA n ∨ a = 1100 + n) h h1) (z5 : xI h1 (mA n) 5 = 0) (z6 : xI h1 (mA n) 6 = 0) (me : MeN h1 h2 n t y (4 + s.toNat)) (e3 : h3 = sI (sI (sR (sR h2 B j0 (mA n)) 22 n (mA n)) 20 7 0) 20 3 ((n : Int) + 1)) : CA (pMe1 p t y s) h3 ∧ agM h h3 := by
  obtain ⟨⟨c, hw, ho, hf⟩, ⟨f1, f2, f3, f4, f5⟩, ⟨b1, b2, b3, b4, b5, b6⟩⟩ := q
  have w1 := hw.1
  have w2 := hw.2.1
  have w3 := hw.2.2.1
  obtain ⟨o2, t1, t2, t3, t4, t5, t6, t7, t8, t9, t10⟩ := me
  have oo : off (fun a => (mA n ≤ a ∧ a < mA n + 2) ∨ a = 1100 + n) h h2 := (o1.mono (fun a z => by have z' : a = mA n ∨ a = 1100 + n := z; show (mA n ≤ a ∧ a < mA n + 2) ∨ a = 1100 + n; omega)).tr (o2.mono (fun a z => Or.inl z))
  have tb : tA t = 200 + 4 * t := rfl
  have mb : mA n = 300 + 2 * n := rfl
  have t16 : t < 16 := by omega
  have i3 : ∀ a j, xI h3 a j = if a = 20 ∧ j = 3 then (n : Int) + 1 else if a = 20 ∧ j = 7 then 0 else xI h2 a j := fun a j => by rw [e3, xI_sI, xI_sI, xI_sR, xI_sR]
  have r3 : ∀ a j, xR h3 a j = if a = 22 ∧ j = n then mA n else if a = B ∧ j = j0 then mA n else xR h2 a j := fun a j => by rw [e3, xR_sI, xR_sI, xR_sR, xR_sR]
  have k3 : ∀ a, xK h3 a = xK h2 a := fun a => by rw [e3, xK_sI, xK_sI, xK_sR, xK_sR]
  have n3 : ∀ a, xN h3 a = xN h2 a := fun a => by rw [e3, xN_sI, xN_sI, xN_sR, xN_sR]
  have o3 : off (fun a => (mA n ≤ a ∧ a < mA n + 2) ∨ a = 1100 + n ∨ a = 20 ∨ a = 22 ∨ a = B) h h3 := by
    rw [e3]
    exact ((((oo.mono (fun a z => by have z' : (mA n ≤ a ∧ a < mA n + 2) ∨ a = 1100 + n := z; show (mA n ≤ a ∧ a < mA n + 2) ∨ a = 1100 + n ∨ a = 20 ∨ a = 22 ∨ a = B; omega)).sR (by omega)).sR (by omega)).sI (by omega)).sI (by omega)
  clear e3
  have Bb : 200 ≤ B ∧ B < 264 := by omega
  have e2 : ∀ a, ¬ ((mA n ≤ a ∧ a < mA n + 2) ∨ a = 1100 + n) → sa h h2 a := oo
  have e3 : ∀ a, ¬ ((mA n ≤ a ∧ a < mA n + 2) ∨ a = 1100 + n ∨ a = 20 ∨ a = 22 ∨ a = B) → sa h h3 a := o3
  have ety : ∀ v, ty (pMe1 p t y s) v = if v = n then (t : Int) else ty p v := fun v => by simp [pMe1, gs, hnn]
  have enm : ∀ v, nm (pMe1 p t y s) v = if v = n then y else nm p v := fun v => by simp [pMe1, gs, hnn]
  have eso : ∀ v, so (pMe1 p t y s) v = if v = n then s else so p v := fun v => by simp [pMe1, gs, hnn]
  have ert : ∀ v, rt (pMe1 p t y s) v = if v = n then 0 else rt p v := fun v => by simp [pMe1, gs, hnn]
  have eom : ∀ v, om (pMe1 p t y s) v = if v = n then 0 else om p v := fun v => by simp [pMe1, gs, hnn]
  have enM : nM (pMe1 p t y s) = (n : Int) + 1 := by show nM p + 1 = _; omega
  have hw' : WF (pMe1 p t y s) := WF_me hw (by omega) hs hy hsy (by omega) hown
  have eow := own_me (s := s) hw hown
  have cs : CS h3 (pMe1 p t y s) := by
    refine CS_mk ⟨GS_ag (fun a h1 h2 => ?_) (fun a j z => ?_) c.sh, ?_, ?_, ?_, fun i g1 g2 => ?_, fun i g1 g2 => ?_⟩ (fun v hv => ?_) (fun m hm => ?_) (fun o ho => ?_)
    · rw [k3, n3]; exact ⟨(e2 a (by omega)).1, (e2 a (by omega)).2.1⟩
    · rw [r3, if_neg (by omega), if_neg (by omega)]; exact (e2 a (by omega)).2.2.2.1 j
    · rw [i3, if_neg (by omega), if_neg (by omega), (e2 20 (by omega)).2.2.1]; exact c.ct
    · rw [i3, if_pos ⟨rfl, rfl⟩, enM]
    · rw [i3, if_neg (by omega), if_neg (by omega), (e2 20 (by omega)).2.2.1]; exact c.co
    · rw [(e3 i (by omega)).1]; exact c.kc i g1 g2
    · rw [(e3 i (by omega)).1]; exact c.sc i g1 g2
    · have hv' : (v : Int) < nT p := hv
      by_cases ev : v = t
      · subst ev
        have i2 : ∀ a j, ¬ (a = 20) → ¬ ((mA n ≤ a ∧ a < mA n + 2) ∨ a = 1100 + n) → xI h3 a j = xI h a j := fun a j z1 z2 => by rw [i3, if_neg (fun y => z1 y.1), if_neg (fun y => z1 y.1)]; exact (e2 a z2).2.2.1 j
        have r2 : ∀ a j, ¬ (a = 22 ∧ j = n) → ¬ (a = B ∧ j = j0) → ¬ ((mA n ≤ a ∧ a < mA n + 2) ∨ a = 1100 + n) → xR h3 a j = xR h a j := fun a j z1 z2 z3 => by rw [r3, if_neg z1, if_neg z2]; exact (e2 a z3).2.2.2.1 j
        have kk : ∀ a, ¬ ((mA n ≤ a ∧ a < mA n + 2) ∨ a = 1100 + n) → xK h3 a = xK h a ∧ xN h3 a = xN h a := fun a z => ⟨(k3 a).trans (e2 a z).1, (n3 a).trans (e2 a z).2.1⟩
        obtain ⟨q1, q2, q3, q4, q5, q6, q7, q8, q9, q10, q11, q12, q13, q14, q15, q16, q17, q18, q19⟩ := c.T hv'
        refine ⟨?_, ?_, ?_, ?_, ?_, ?_, ?_, ?_, ?_, fun i hi => ?_, ?_, ?_, ?_, fun u hu => ?_, ?_, ?_, ?_, fun x hx => ?_, ?_⟩
        · rw [r2 _ _ (by omega) (by omega) (by omega)]; exact q1
        · rw [(kk _ (by omega)).1]; exact q2
        · rw [i2 _ _ (by omega) (by omega)]; exact q3
        · rw [r2 _ _ (by omega) (by omega) (by omega)]; exact q4
        · rw [r2 _ _ (by omega) (by omega) (by omega)]; exact q5
        · rw [r2 _ _ (by omega) (by omega) (by omega)]; exact q6
        · rw [(kk _ (by omega)).1]; exact q7
        · rw [(kk _ (by omega)).2]; exact q8
        · rw [i2 _ _ (by omega) (by omega)]; exact q9
        · rw [r2 _ _ (by omega) (by omega) (by omega)]; exact q10 i hi
        · rw [r2 _ _ (by omega) (by omega) (by omega)]; exact q11
        · rw [(kk _ (by omega)).1]; exact q12
        · rw [(kk _ (by omega)).2]; exact q13
        · rw [i2 _ _ (by omega) (by omega), bI_c (U_congr (p := p) (p' := pMe1 p v y s) (fun _ => rfl) (fun _ => rfl) (fun _ => rfl) v u)]; exact q14 u hu
        · rw [r2 _ _ (by omega) (by omega) (by omega)]; exact q15
        · rw [(kk _ (by omega)).1]; exact q16
        · rw [(kk _ (by omega)).2]; exact q17
        · rw [eow]
          by_cases ex : (x : Int) = y
          · rw [cI_t ⟨rfl, ex⟩, r3, if_neg (by omega), if_pos (by omega), hnn]
            unfold mrf; rw [if_neg (by omega), Int.toNat_natCast]
          · rw [cI_f (fun z => ex z.2), r2 _ _ (by omega) (by omega) (by omega)]; exact q18 x hx
        · rw [eow]
          by_cases ex : (-1 : Int) = y
          · rw [cI_t ⟨rfl, ex⟩, r3, if_neg (by omega), if_pos (by omega), hnn]
            unfold mrf; rw [if_neg (by omega), Int.toNat_natCast]
          · rw [cI_f (fun z => ex z.2), r2 _ _ (by omega) (by omega) (by omega)]; exact q19
      · refine CSt_sa (p := p) (fun j hj => e3 _ (by unfold tA at *; omega)) ?_ (hw.2.2.2.1 v hv').2.2.2.1.2 rfl rfl rfl (fun _ _ => rfl) (fun u _ => U_congr (p := p) (p' := pMe1 p t y s) (fun _ => rfl) (fun _ => rfl) (fun _ => rfl) v u) (fun x => ?_) (c.T hv')
        · rw [r3, if_neg (by omega), if_neg (by omega)]; exact (e2 21 (by omega)).2.2.2.1 v
        · rw [eow, cI_f (fun z => ev (by have := z.1; omega))]
    · rw [enM] at hm
      by_cases em : m = n
      · subst em
        refine ⟨?_, ?_, ?_, ?_, ?_, ?_, ?_, ?_, ?_, ?_, ?_, fun i hi => ?_⟩
        · rw [r3, if_pos ⟨rfl, rfl⟩]
        · rw [k3]; exact t1
        · rw [i3, if_neg (by omega), if_neg (by omega)]; exact t2
        · rw [r3, if_neg (by omega), if_neg (by omega), t3, ety, if_pos rfl, Int.toNat_natCast]
        · rw [i3, if_neg (by omega), if_neg (by omega), t4, enm, if_pos rfl]
        · rw [r3, if_neg (by omega), if_neg (by omega), t5, eso, if_pos rfl]; omega
        · rw [r3, if_neg (by omega), if_neg (by omega)]; exact t6
        · rw [k3]; exact t9
        · rw [n3]; exact t10
        · rw [i3, if_neg (by omega), if_neg (by omega), t7, z5, eom, if_pos rfl]
        · rw [i3, if_neg (by omega), if_neg (by omega), t8, z6, ert, if_pos rfl]
        · rw [eom, if_pos rfl] at hi; omega
      · have hm' : (m : Int) < nM p := by omega
        refine CSm_sa (p := p) (fun j hj => e3 _ (by unfold mA at *; omega)) ?_ (hw.2.2.2.2.1 m hm').2.2.2.2.2.1.2 ?_ ?_ ?_ ?_ ?_ (fun _ _ => rfl) (c.M hm')
        · rw [r3, if_neg (by omega), if_neg (by omega)]; exact (e2 22 (by omega)).2.2.2.1 m
        · rw [ety, if_neg em]
        · rw [enm, if_neg em]
        · rw [eso, if_neg em]
        · rw [eom, if_neg em]
        · rw [ert, if_neg em]
    · have ho' : (o : Int) < nO p := ho
      exact CSo_sa (p := p) (fun j hj => e3 _ (by unfold oD; omega)) rfl rfl rfl (c.O ho')
  have z7 : xI h3 20 7 = 0 := by rw [i3, if_neg (by omega), if_pos ⟨rfl, rfl⟩]
  refine ⟨⟨⟨cs, hw', WO_me hw ho, Or.inl z7, fun z => absurd z7 z⟩, ⟨fun v j x y z => ?_, fun m j x y z => ?_, fun o j x y z => ?_, fun v x y => ?_, fun m x y => ?_⟩, ⟨?_, ?_, ?_, ?_, fun i hi => ?_, fun i hi => ?_⟩⟩, fun a ha => e3 a (by omega)⟩
  · have x' : nT p ≤ (v : Int) := x
    rw [(e3 _ (by unfold tA at *; omega)).1]; exact f1 v j x' y z
  · rw [enM] at x
    rw [(e3 _ (by unfold mA at *; omega)).1]; exact f2 m j (by omega) y z
  · have x' : nO p ≤ (o : Int) := x
    rw [(e3 _ (by unfold oD; omega)).1]; exact f3 o j x' y z
  · have x' : nT p ≤ (v : Int) := x
    rw [(e3 _ (by omega)).1]; exact f4 v x' y
  · rw [enM] at x
    rw [(e3 _ (by omega)).1]; exact f5 m (by omega) y
  · rw [(e3 9 (by omega)).1]; exact b1
  · rw [(e3 9 (by omega)).2.1]; exact b2
  · rw [(e3 10 (by omega)).1]; exact b3
  · rw [(e3 10 (by omega)).2.1]; exact b4
  · rw [(e3 9 (by omega)).2.2.2.1]; exact b5 i hi
  · rw [(e3 10 (by omega)).2.2.2.1]; exact b6 i hi
theorem ct_G_member {x1 x2 x3 : Int} (q : CA p h) (k : ∀ h', agM h h' → CA (pMe p x1 x2 x3) h' → Ψ (some (vi (rMe p x1 x2 x3))) h') : Ev l D Y_G_member (d + 3) (kc + 3) (ks + 37) 0 [some (vr 20), some (vi x1), some (vi x2), some (vi x3), none, none] [] h Ψ := by
  obtain ⟨c, hw, ho, hf⟩ := q.1
  have w1 := hw.1
  have w2 := hw.2.1
  have w3 := hw.2.2.1
  have bad : ∀ r, rMe p x1 x2 x3 = r → r < 0 → Ψ (some (vi r)) h := fun r e hr => by
    have z := k h agM.rf
    rw [e, show pMe p x1 x2 x3 = p from cG_f (by rw [e]; omega)] at z
    exact z q
  have g62 : ∀ t : Nat, x1 = (t : Int) → (t : Int) < nT p → ¬ (¬ (0 ≤ x3 ∧ x3 ≤ 4) ∨ (¬ x3 = 4 ∧ ¬ (0 ≤ x2 ∧ x2 ≤ 9)) ∨ (x3 = 1 ∧ kd p x1.toNat = 0)) → Ev l D Y_G_member (d + 3) (kc + 3) (ks + 37) 62 [some (vr 20), some (vi x1), some (vi x2), some (vi x3), some (vr (tA t)), none] [] h Ψ := by
    intro t et ht c2
    have c1 : ¬ ¬ (0 ≤ x1 ∧ x1 < nT p) := by omega
    have tb : tA t = 200 + 4 * t := rfl
    have ob := own_bd hw x1 (cI (x3 = 4) (-1) x2)
    have g91 : own p x1 (cI (x3 = 4) (-1) x2) = -1 → Ev l D Y_G_member (d + 3) (kc + 3) (ks + 37) 91 [some (vr 20), some (vi x1), some (vi x2), some (vi x3), some (vr (tA t)), none] [] h Ψ := by
      intro c3
      apply g_G_member_91 c.sh
      rw [c.cm]
      refine ⟨fun c4 => ?_, fun c4 => bad _ (by unfold rMe; rw [cI_f c1, cI_f c2, cI_f (fun z => z c3), cI_t c4]) (by omega)⟩
      obtain ⟨n, hn⟩ : ∃ n : Nat, nM p = (n : Int) := ⟨(nM p).toNat, by omega⟩
      have er : rMe p x1 x2 x3 = (n : Int) := by unfold rMe; rw [cI_f c1, cI_f c2, cI_f (fun z => z c3), cI_f c4]; exact hn
      have hn48 : n < 48 := by omega
      have mb : mA n = 300 + 2 * n := rfl
      obtain ⟨-, ⟨f1, f2, f3, f4, f5⟩, ⟨b1, b2, b3, b4, b5, b6⟩⟩ := id q
      refine ⟨mA n, by omega, f2 n 0 (by omega) hn48 (by omega), fun h1 e1 => ?_⟩
      have o1 : off (fun a => a = mA n ∨ a = 1100 + n) h h1 := by rw [e1]; exact off.rf.nw (Or.inl rfl)
      have sf : ∀ a, (a = mA n ∨ a = 1100 + n) → frg p a := fun a z => by unfold frg; omega
      have c1' := CS_off hw o1 sf c
      have i20 : xI h1 20 3 = (n : Int) := by rw [c1'.cm]; exact hn
      obtain ⟨s, hs⟩ : ∃ s : Nat, x3 = (s : Int) := ⟨x3.toNat, by omega⟩
      have g123 : ∀ y : Int, y = cI (x3 = 4) (-1) x2 → Ev l D Y_G_member (d + 3) (kc + 2) (ks + 29) 123 [some (vr 20), some (vi x1), some (vi x2), some (vi x3), some (vr (tA t)), none] [vi y, vr (tA t), vi (n : Int), vr (mA n), vr (mA n)] h1 Ψ := by
        intro y ey
        have yb : (x3 = 4 → y = -1) ∧ (¬ x3 = 4 → y = x2) := ⟨fun z => by rw [ey, cI_t z], fun z => by rw [ey, cI_f z]⟩
        apply g_G_member_123 c1'.sh
        apply s_Sort_values_0
        have s10 := o1 10 (by show ¬ (10 = mA n ∨ 10 = 1100 + n); omega)
        refine ⟨s10.1.trans b3, s10.2.1.trans b4, 1100 + n, by omega, by rw [e1, xK_nw, if_neg (by omega)]; exact f5 n (by omega) hn48, fun h2 e2 => ?_⟩
        have o2 : off (fun a => a = mA n ∨ a = 1100 + n) h h2 := by rw [e2]; exact o1.cp (Or.inr rfl)
        have c2' := CS_off hw o2 sf c
        have k2 : xK h2 (1100 + n) = 27 := by rw [e2, xK_cp, if_pos rfl]; exact s10.1.trans b3
        have n2 : xN h2 (1100 + n) = 5 := by rw [e2, xN_cp, if_pos rfl]; exact s10.2.1.trans b4
        have r2 : xR h2 (1100 + n) s = 4 + s := by rw [e2, xR_cp, if_pos rfl, s10.2.2.2.1]; exact b6 s (by omega)
        have k2n : xK h2 (mA n) = 4 := by rw [e2, xK_cp, if_neg (by omega), e1, xK_nw, if_pos rfl]
        have i25 : xI h2 (mA n) 5 = 0 := by rw [e2, xI_cp, if_neg (by omega), e1, xI_nw, if_pos rfl]
        have i26 : xI h2 (mA n) 6 = 0 := by rw [e2, xI_cp, if_neg (by omega), e1, xI_nw, if_pos rfl]
        have f2n : xK h2 (mA n + 1) = 0 := by rw [e2, xK_cp, if_neg (by omega), e1, xK_nw, if_neg (by omega)]; exact f2 n 1 (by omega) hn48 (by omega)
        refine ⟨k2, c2'.sh, by omega, by omega, by omega, by omega, ?_⟩
        rw [show x3.toNat = s by omega, r2]
        refine ct_Member_init k2n f2n (fun h3 me => ?_)
        have sg : ∀ a, (mA n ≤ a ∧ a < mA n + 2) → ¬ (20 ≤ a ∧ a < 86) := fun a z => by omega
        have g3 : GS h3 := GS_off me.1 sg c2'.sh
        have c3s := me.1
        have eT : ∀ a, ¬ (mA n ≤ a ∧ a < mA n + 2) → sa h2 h3 a := me.1
        have g157 : ∀ (B j0 : Nat) (h4 : Hp), ((x3 = 4 ∧ B = tA t ∧ j0 = 7) ∨ (¬ x3 = 4 ∧ B = tA t + 3 ∧ (j0 : Int) = y)) → h4 = sR h3 B j0 (mA n) → GS h4 ∧ Ev l D Y_G_member (d + 3) kc ks 157 [some (vr 20), some (vi x1), some (vi x2), some (vi x3), some (vr (tA t)), some (vr (mA n))] [] h4 Ψ := by
          intro B j0 h4 hB e4
          have g4 : GS h4 := by
            rw [e4]
            exact GS_ag (fun a _ _ => ⟨xK_sR _ _ _ _ _, xN_sR _ _ _ _ _⟩) (fun a j z => by rw [xR_sR, if_neg (by omega)]) g3
          have k22 : xK h4 22 = 23 := by
            have c := g4
            unfold GS at c
            exact c.2.2.2.2.2.2.2.2.2.2.2.1
          have i4 : xI h4 20 3 = (n : Int) := by rw [e4, xI_sR, (eT 20 (by omega)).2.2.1, c2'.cm]; exact hn
          refine ⟨g4, ?_⟩
          apply g_G_member_157 g4
          rw [i4, Int.toNat_natCast]
          refine ⟨by rw [k22, e4, xK_sR, me.2.1]; rfl, by omega, by omega, fun h5 e5 => ?_⟩
          have g5 : GS h5 := by
            rw [e5]
            exact GS_ag (fun a _ _ => ⟨xK_sR _ _ _ _ _, xN_sR _ _ _ _ _⟩) (fun a j z => by rw [xR_sR, if_neg (by omega)]) g4
          refine ⟨g5, ct_G_change g5 (fun h6 e6 => ?_)⟩
          have g6 : GS h6 := by rw [e6]; exact GS_ag (h := h5) (fun a _ _ => ⟨rfl, rfl⟩) (fun a j _ => rfl) g5
          have i6 : xI h6 20 3 = (n : Int) := by rw [e6, xI_sI, if_neg (by omega), e5, xI_sR]; exact i4
          refine ⟨g6, fun h7 e7 => ?_⟩
          rw [i6, wr_eq (by omega) (by omega)] at e7
          rw [i6]
          have me2 : MeN h2 h3 n t y (4 + x3.toNat) := by rw [show x3.toNat = s by omega]; exact me
          obtain ⟨ca, ag⟩ := CA_me (s := x3) (h3 := h7) q hn hn48 ht (by omega) (by omega) (by omega) (by rw [← et, ey]; exact c3) hB o2 i25 i26 me2 (by rw [e7, e6, e5, e4])
          have z := k h7 ag
          rw [er, show pMe p x1 x2 x3 = pMe1 p x1 (cI (x3 = 4) (-1) x2) x3 from cG_t (by rw [er]; omega), ← ey, et] at z
          exact z ca
        have st := eT (tA t) (by omega)
        have st3 := eT (tA t + 3) (by omega)
        refine ⟨g3, fun c5 => ?_, fun c5 => ⟨st.1.trans (c2'.tk t ht), by omega, fun h4 e4 => g157 (tA t) 7 h4 (Or.inl ⟨c5, rfl, rfl⟩) e4⟩⟩
        rw [st.2.2.2.1 6, c2'.tm t ht, st3.1, st3.2.1, c2'.tmk t ht, me.2.1, c2'.tmn t ht]
        refine ⟨st.1.trans (c2'.tk t ht), rfl, by omega, by omega, by omega, fun h4 e4 => g157 (tA t + 3) x2.toNat h4 (Or.inr ⟨c5, rfl, by omega⟩) e4⟩
      rw [i20]
      exact ⟨c1'.sh, fun c5 => g123 x2 (cI_f c5).symm, fun c5 => g123 (-1) (cI_t c5).symm⟩
    apply g_G_member_62 c.sh
    have en := c.tmn t ht
    have ek := c.tmk t ht
    refine ⟨fun c3 => ⟨c.tk t ht, ?_⟩, fun c3 => ⟨c.tk t ht, ?_⟩⟩
    · obtain ⟨x, rfl⟩ : ∃ x : Nat, x2 = (x : Int) := ⟨x2.toNat, by omega⟩
      rw [cI_f c3, et] at ob
      rw [c.tm t ht, Int.toNat_natCast, c.tmm t x ht (by omega), mrf_0 (by omega)]
      refine ⟨by omega, by omega, by omega, fun c4 => g91 (by rw [cI_f c3, et]; exact c4), fun c4 => bad _ ?_ (by omega)⟩
      unfold rMe; rw [cI_f c1, cI_f c2, cI_t (by rw [cI_f c3, et]; exact c4)]
    · rw [cI_t c3, et] at ob
      rw [c.ts t ht, mrf_0 (by omega)]
      refine ⟨fun c4 => g91 (by rw [cI_t c3, et]; exact c4), fun c4 => bad _ ?_ (by omega)⟩
      unfold rMe; rw [cI_f c1, cI_f c2, cI_t (by rw [cI_t c3, et]; exact c4)]
  apply g_G_member_0 c.sh
  refine ct_G_isType c hw ⟨c.sh, fun c1 => ?_, fun c1 => bad _ ?_ (by omega)⟩
  · rw [bI_n] at c1
    have n1 : ¬ ¬ (0 ≤ x1 ∧ x1 < nT p) := by omega
    obtain ⟨t, et⟩ : ∃ t : Nat, x1 = (t : Int) := ⟨x1.toNat, by omega⟩
    have ht : (t : Int) < nT p := by omega
    have wk := (hw.2.2.2.1 t ht).1
    have ek := c.tkd t ht
    rw [show x1.toNat = t by omega, c.trr t ht]
    have bk : (x3 = 1 ∧ kd p t = 0) → rMe p x1 x2 x3 = -102 := fun z => by unfold rMe; rw [cI_f n1, cI_t (Or.inr (Or.inr (by rw [show x1.toNat = t by omega]; exact z)))]
    refine ⟨by omega, by omega, ct_within c.sh ⟨c.sh, fun c2 => bad _ ?_ (by omega), fun c2 => ⟨fun c3 => ⟨fun c4 => ?_, fun c4 => by omega⟩, fun c3 => ct_within c.sh ⟨c.sh, fun c4 => bad _ ?_ (by omega), fun c4 => ⟨fun c5 => ?_, fun c5 => ⟨c.tk t ht, fun c6 => ?_, fun c6 => bad _ (bk ?_) (by omega)⟩⟩⟩⟩⟩⟩
    · unfold rMe; rw [cI_f n1, cI_t (Or.inl (bI_0.mp c2))]
    · rw [bI_n] at c2
      exact g62 t et ht (by rw [show x1.toNat = t by omega]; omega)
    · unfold rMe; rw [cI_f n1, cI_t (Or.inr (Or.inl ⟨c3, bI_0.mp c4⟩))]
    · rw [bI_n] at c2 c4
      exact g62 t et ht (by rw [show x1.toNat = t by omega]; omega)
    · rw [bI_n] at c2 c4
      exact g62 t et ht (by rw [show x1.toNat = t by omega]; omega)
    · omega
  · unfold rMe; rw [cI_t (bI_0.mp c1)]
end CME
