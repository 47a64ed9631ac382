/-! the component: play, run, holds -/
def Zb (p : Pg) (s : Rst) : Prop := (∀ k : Nat, nM p ≤ (k : Int) → s.1 145 k = 0) ∧ ∀ k : Nat, nT p ≤ (k : Int) → s.1 146 k = 0
theorem Zb_eq {p : Pg} {s s' : Rst} (h : ∀ a k, a = 145 ∨ a = 146 → s'.1 a k = s.1 a k) (q : Zb p s) : Zb p s' := ⟨fun k hk => (h 145 k (Or.inl rfl)).trans (q.1 k hk), fun k hk => (h 146 k (Or.inr rfl)).trans (q.2 k hk)⟩
theorem Zb_rs {p : Pg} {s : Rst} {a k : Nat} {x : Int} (h : ¬ (a = 145 ∧ nM p ≤ (k : Int)) ∧ ¬ (a = 146 ∧ nT p ≤ (k : Int))) (q : Zb p s) : Zb p (rs s a k x) := by
  refine ⟨fun j hj => ?_, fun j hj => ?_⟩
  · rw [rs_at, if_neg (fun z => h.1 ⟨z.1.symm, by rw [← z.2]; exact hj⟩)]; exact q.1 j hj
  · rw [rs_at, if_neg (fun z => h.2 ⟨z.1.symm, by rw [← z.2]; exact hj⟩)]; exact q.2 j hj
theorem act_zb {p : Pg} (hw : WF p) {T : Tk} {s : Rst} (hr : Rv p s) (ht : tv p T) (q : Zb p s) : Zb p (act p T s).2 := by
  unfold act
  rcases ht with ⟨t1, t2, t3⟩ | ⟨t1, t2, t3⟩ | ⟨t1, t2, t3⟩ | ⟨t1, t2⟩
  · rw [cA_t t1]
    rcases Classical.em ((T.2.2.1 : Int) = om p T.2.1) with c | c
    · rw [cA_t c]; exact Zb_rs (by omega) q
    · rw [cA_f c]
      show Zb p (fr1 p T.2.1 T.2.2.1 s).2
      unfold fr1
      have qx : Zb p (rx s) := Zb_eq (fun a k _ => by rw [rx1]) q
      rcases Classical.em (dw (rx s).2 4 = 0) with c2 | c2
      · rw [cA_t c2]; exact qx
      · rw [cA_f c2]
        obtain ⟨_, _, _, _, z⟩ := opr_ok hw (Rv_rx hr) (oa_bd hw t2 (show (T.2.2.1 : Int) < om p T.2.1 by omega)).1
        exact Zb_eq (fun a k ha => z a k (by omega) (by omega)) qx
  · rw [cA_f (by omega), cA_t t1]
    rcases Classical.em (s.1 100 40 = 12 ∨ s.1 100 39 = 300) with c | c
    · rw [cA_t c]; exact Zb_rs (by omega) (Zb_rs (by omega) q)
    · rw [cA_f c]; exact Zb_rs (by omega) (Zb_rs (by omega) (Zb_rs (by omega) (Zb_rs (by omega) (Zb_rs (by omega) q))))
  · rw [cA_f (by omega), cA_f (by omega), cA_t t1]
    rcases Classical.em (¬ s.1 146 T.2.1 = 0) with c | c
    · rw [cA_t c]; exact q
    · rw [cA_f c]; exact Zb_rs (by omega) (Zb_rs (by omega) q)
  · rw [cA_f (by omega), cA_f (by omega), cA_f (by omega)]
    rcases Classical.em (20 ≤ s.1 100 47) with c | c
    · rw [cA_t c]; exact Zb_rs (by omega) q
    · rw [cA_f c]; exact Zb_rs (by omega) (Zb_rs (by omega) (Zb_rs (by omega) q))
theorem Mc_zb {p : Pg} (hw : WF p) : ∀ (n : Nat) (K : List Tk) (s r : Rst), Mc p n K s r → Kv p K s → Zb p s → Zb p r
  | 0, _, _, _, h, _, q => by rw [h.2]; exact q
  | n + 1, K, s, r, h, kv', q => by
    obtain ⟨T, K', e, mc⟩ := h
    rw [e] at kv'
    exact Mc_zb hw n _ _ r mc (act_ok hw kv').1 (act_zb hw kv'.1 (kv'.2.1 T (List.mem_cons_self)) q)
theorem rts_zb {p : Pg} (hw : WF p) : ∀ (n m : Nat) (s r : Rst), m + n ≤ (nM p).toNat → rts p n m s r → Kv p [] s → Zb p s → Zb p r ∧ Kv p [] r
  | 0, _, s, r, _, h, kv', q => by rw [show r = s from h]; exact ⟨q, kv'⟩
  | n + 1, m, s, r, hm, h, kv', q => by
    rcases Classical.em (rt p m = 0) with e | e
    · exact rts_zb hw n (m + 1) s r (by omega) (h.1 e) kv' q
    · obtain ⟨k, s', mc, z⟩ := h.2 e
      have kr := Kv_root hw kv' (m := m) (by omega)
      exact rts_zb hw n (m + 1) s' r (by omega) z (Mc_kv hw k _ s s' mc kr) (Mc_zb hw k _ s s' mc kr q)
theorem RunF_zb {p : Pg} (hw : WF p) (x : Int64) : Zb p (RunF p x) ∧ Kv p [] (RunF p x) := rts_zb hw _ 0 _ _ (by omega) (RunF_ok hw x) (Kv_0 hw x) ⟨fun _ _ => rfl, fun _ _ => rfl⟩
theorem cnt_ext (Q : Nat → Prop) {n N : Nat} (hn : n ≤ N) (h : ∀ j, n ≤ j → j < N → ¬ Q j) : cnt Q N 0 = cnt Q n 0 := by
  rw [Sm_cnt, Sm_cnt]
  exact Sm_tail hn (fun j h1 h2 => bI_f (h j h1 h2))
section CR2
variable {l : Launch} {D : DD} {d kc ks : Nat} {h h0 : Hp} {Ψ : Option AV → Hp → Prop} {p g : Pg} {s : Rst}
theorem CA_fy {h' : Hp} (q : CA p h) (f : fy rry rrB h h') : CA p h' ∧ agM h h' := by
  have eB : ∀ a k, csr a k → xR h' a k = xR h a k := fun a k z => f.2.2.1 a k (fun y => rrB_csr y z)
  have c : Cs p h' := Cs_fy f (fun a k z => by unfold rry at z; unfold cst drx cdx; omega) (fun _ _ => rrB_csr) q.1
  have fK : ∀ a, xK h' a = xK h a := fun a => by unfold xK; rw [f.1]
  have fN : ∀ a, xN h' a = xN h a := fun a => by unfold xN; rw [f.1]
  obtain ⟨_, ⟨a1, a2, a3, a4, a5⟩, ⟨b1, b2, b3, b4, b5, b6⟩⟩ := q
  refine ⟨⟨c, ⟨fun t j x y z => by rw [fK]; exact a1 t j x y z, fun t j x y z => by rw [fK]; exact a2 t j x y z, fun t j x y z => by rw [fK]; exact a3 t j x y z, fun t x y => by rw [fK]; exact a4 t x y, fun t x y => by rw [fK]; exact a5 t x y⟩, ⟨by rw [fK]; exact b1, by rw [fN]; exact b2, by rw [fK]; exact b3, by rw [fN]; exact b4, fun i hi => by rw [eB _ _ (by unfold csr; omega)]; exact b5 i hi, fun i hi => by rw [eB _ _ (by unfold csr; omega)]; exact b6 i hi⟩⟩, fun a ha => ⟨fK a, fN a, fun k => f.2.1 a k (fun y => by unfold rry at y; omega), fun k => eB a k (by unfold csr; omega), fun k => f.2.2.2 a k (by omega)⟩⟩
theorem ct_play {x : Int64} (q : CS h p) (hw : WF p) (e : Dr p h) (k : ∀ h', Rc p h h' (RunF p x) → Ψ none h') : Ev l D Y_Run_play (d + 67) kc ks 0 [some (vr 80), some (vr 20), some (vl x), none, none] [] h Ψ := by
  have w2 := hw.2.1
  have k80 : ∀ {h' : Hp}, GS h' → xK h' 20 = 1 ∧ xR h' 20 2 = 22 ∧ xK h' 22 = 23 ∧ xN h' 22 = 48 ∧ xK h' 82 = 21 ∧ xN h' 82 = 16 ∧ xK h' 84 = 20 ∧ xN h' 84 = 4 ∧ xK h' 85 = 21 ∧ xN h' 85 = 48 := fun c => by
    unfold GS at c
    obtain ⟨a1, _, a3, _, _, _, _, _, _, _, _, b1, b2, _, _, _, _, _, _, _, _, _, _, _, _, _, _, _, _, _, _, a4, a5, _, _, a6, a7, a8, a9, _⟩ := c
    exact ⟨a1, a3, b1, b2, a4, a5, a6, a7, a8, a9⟩
  have csf : ∀ {h' : Hp}, fy rry rrB h h' → CS h' p := fun f => CS_fy hw f (fun a k z => by unfold rry at z; unfold cst; omega) (fun _ _ => rrB_csr) q
  have drf : ∀ {h' : Hp}, fy rry rrB h h' → Dr p h' := fun f => Dr_fy hw f (fun a k z => by unfold rry at z; unfold drx cdx; omega) e
  have put : ∀ {h1 : Hp} {a j : Nat} {x : Int}, fy rry rrB h h1 → rry a j → fy rry rrB h (sI h1 a j x) := fun f z => f.tr (fx.rf.put z).fy
  have l67 : ∀ (n m : Nat) (s : Rst) (h' : Hp), m + n = (nM p).toNat → rts p n m s (RunF p x) → Kv p [] s → Rc p h h' s → Ev l D Y_Run_play (d + 67) kc ks 67 [some (vr 80), some (vr 20), some (vl x), none, some (vi (m : Int))] [] h' Ψ := by
    intro n
    induction n with
    | zero =>
      intro m s h' hm rt' kv' q'
      apply g_Run_play_67 q'.cs.sh
      rw [q'.2.2.2.1, q'.cs.cm]
      refine ⟨(k80 q'.cs.sh).1, fun _ => k h' ?_, fun c => by omega⟩
      rw [show RunF p x = s from rt']; exact q'
    | succ n ih =>
      intro m s h' hm rt' kv' q'
      have hm' : (m : Int) < nM p := by omega
      obtain ⟨g1, g2, g3, g4, _⟩ := k80 q'.cs.sh
      apply g_Run_play_67 q'.cs.sh
      rw [q'.2.2.2.1, q'.cs.cm, g2, Int.toNat_natCast, q'.cs.mr m hm', q'.cs.mrt m hm', wr_s (show m < 1000000 by omega)]
      refine ⟨g1, fun c => by omega, fun _ => ⟨g1, by omega, by omega, by omega, q'.cs.mkk m hm', fun c => ih (m + 1) s h' (by omega) (rt'.1 c) kv' q', fun c => ⟨g1, by omega, by omega, by omega, ?_⟩⟩⟩
      obtain ⟨k0, s', mc, rt2⟩ := rt'.2 c
      have kr := Kv_root hw kv' (m := m) hm'
      have nb := nbg_bd s
      have z := (Pn_all (l := l) (D := D) (p := p) (h0 := h) hw k0 (1, m, 0, -1) [] s s' h' (d + 66) 0 0 (kv (fun h1 => GS h1 ∧ Ev l D Y_Run_play (d + 67) kc ks 67 [some (vr 80), some (vr 20), some (vl x), none, some (vi ((m + 1 : Nat) : Int))] [] h1 Ψ)) mc kr q' (by unfold dpt; show 3 * (13 - ((0 : Nat) : Int)) + (17 - nbg s) + 10 ≤ _; omega) (fun n' h2 s2 a b c2 e2 f2 => ?_)).1 rfl
      · exact z
      · have es : s2 = s' := by
          cases n' with
          | zero => exact b.2.symm
          | succ n' => obtain ⟨T, K', e3, _⟩ := b; cases e3
        rw [es] at f2 c2
        exact ⟨f2.cs.sh, ih (m + 1) s' h2 (by omega) rt2 c2 f2⟩
  apply g_Run_play_0 q.sh
  intro h1 e1
  have f1 : fy rry rrB h h1 := by rw [e1]; exact (fx.rf.putR (by unfold rrB; omega)).fy
  have r1 : xR h1 80 0 = 20 := by rw [e1, xR_sR, if_pos ⟨rfl, rfl⟩]
  refine ⟨(csf f1).sh, fun h2 e2 h3 e3 => ?_⟩
  have f3 : fy rry rrB h h3 := by rw [e3, e2]; exact put f1.putL (by unfold rry; omega)
  have r3 : xR h3 80 0 = 20 := by rw [e3, xR_sI, e2, xR_sL]; exact r1
  have l3 : xL h3 80 1 = x := by rw [e3, xL_sI, e2, xL_sL, if_pos ⟨rfl, rfl⟩]
  have i3 : xI h3 80 3 = 0 := by rw [e3, xI_sI, if_pos ⟨rfl, rfl⟩]
  clear e3 e2 e1
  obtain ⟨_, _, _, _, a1, a2, _⟩ := k80 (csf f3).sh
  refine ct_fillZ a1 (by omega) (Or.inl rfl) (by omega) (fun h4 s4 z4 => ?_)
  have f4 : fy rry rrB h h4 := f3.tr ((s4.fx (B := rrB)).mono (fun a k z => by have z' : a = 82 := z; unfold rry; omega) (fun _ _ z => z)).fy
  obtain ⟨_, _, _, _, _, _, a3, a4, _⟩ := k80 (csf f4).sh
  refine ⟨(csf f4).sh, ct_fillI a3 (by omega) (by omega) (fun h5 s5 z5 => ?_)⟩
  have f5 : fy rry rrB h h5 := f4.tr ((s5.fx (B := rrB)).mono (fun a k z => by have z' : a = 84 := z; unfold rry; omega) (fun _ _ z => z)).fy
  obtain ⟨_, _, _, _, _, _, _, _, a5, a6⟩ := k80 (csf f5).sh
  refine ⟨(csf f5).sh, ct_fillZ a5 (by omega) (Or.inl rfl) (by omega) (fun h6 s6 z6 => ?_)⟩
  have f6 : fy rry rrB h h6 := f5.tr ((s6.fx (B := rrB)).mono (fun a k z => by have z' : a = 85 := z; unfold rry; omega) (fun _ _ z => z)).fy
  refine ⟨(csf f6).sh, fun h7 e7 h8 e8 h9 e9 h10 e10 h11 e11 => ?_⟩
  rw [a2] at z4
  rw [a4] at z5
  rw [a6] at z6
  have f11 : fy rry rrB h h11 := by rw [e11, e10, e9, e8, e7]; exact put (put (put (put (put f6 (by unfold rry; omega)) (by unfold rry; omega)) (by unfold rry; omega)) (by unfold rry; omega)) (by unfold rry; omega)
  have ne : ∀ a j, ¬ a = 80 → xI h11 a j = xI h6 a j := fun a j z => by rw [e11, xI_sI, if_neg (fun y => z y.1), e10, xI_sI, if_neg (fun y => z y.1), e9, xI_sI, if_neg (fun y => z y.1), e8, xI_sI, if_neg (fun y => z y.1), e7, xI_sI, if_neg (fun y => z y.1)]
  have eR : ∀ a j, xR h11 a j = xR h3 a j := fun a j => by rw [e11, xR_sI, e10, xR_sI, e9, xR_sI, e8, xR_sI, e7, xR_sI, s6.R, s5.R, s4.R]
  have eL : xL h11 80 1 = x := by rw [e11, xL_sI, e10, xL_sI, e9, xL_sI, e8, xL_sI, e7, xL_sI, s6.L, s5.L, s4.L]; exact l3
  have q11 : Rc p h h11 (rst0 x) := by
    refine ⟨f11, csf f11, drf f11, (eR 80 0).trans r3, eL, ⟨?_, ?_, ?_, ?_, ?_, ?_⟩, fun m hm => ?_, fun t ht => ?_, fun i hi => ?_, fun a i ha hi => ?_, fun a ha => ?_⟩
    · rw [e11, xI_sI, if_neg (by omega), e10, xI_sI, if_neg (by omega), e9, xI_sI, if_neg (by omega), e8, xI_sI, if_neg (by omega), e7, xI_sI, if_neg (by omega), s6.2.2 80 3 (by omega), s5.2.2 80 3 (by omega), s4.2.2 80 3 (by omega)]
      exact i3
    · rw [e11, xI_sI, if_neg (by omega), e10, xI_sI, if_neg (by omega), e9, xI_sI, if_neg (by omega), e8, xI_sI, if_neg (by omega), e7, xI_sI, if_pos ⟨rfl, rfl⟩]; rfl
    · rw [e11, xI_sI, if_neg (by omega), e10, xI_sI, if_neg (by omega), e9, xI_sI, if_neg (by omega), e8, xI_sI, if_pos ⟨rfl, rfl⟩]; rfl
    · rw [e11, xI_sI, if_neg (by omega), e10, xI_sI, if_neg (by omega), e9, xI_sI, if_pos ⟨rfl, rfl⟩]; rfl
    · rw [e11, xI_sI, if_neg (by omega), e10, xI_sI, if_pos ⟨rfl, rfl⟩]; rfl
    · rw [e11, xI_sI, if_pos ⟨rfl, rfl⟩]; rfl
    · rw [ne _ _ (by omega), z6 m hm]; rfl
    · rw [ne _ _ (by omega), s6.2.2 82 t (by omega), s5.2.2 82 t (by omega), z4 t ht]; rfl
    · have : (i : Int) < 0 := hi
      omega
    · have : (i : Int) < 0 := hi
      omega
    · rw [ne _ _ (by omega), s6.2.2 84 a (by omega), z5 a ha]; rfl
  exact l67 (nM p).toNat 0 (rst0 x) h11 (by omega) (RunF_ok hw x) (Kv_0 hw x) q11
theorem ct_G_run {x : Int64} {w : Int} (q : CA p h) (k : ∀ h', agM h h' → CA p h' → Ψ (some (vi (rRu p x w))) h') : Ev l D Y_G_run (d + 68) kc ks 0 [some (vr 20), some (vl x), none, some (vi w), none, none, none, none, none] [] h Ψ := by
  obtain ⟨c, hw, ho, hf⟩ := q.1
  have w1 := hw.1
  have w2 := hw.2.1
  apply g_G_run_0 c.sh
  refine ct_within c.sh ⟨c.sh, fun c1 => ct_d (d := d + 59) q (fun h1 ag ca e => ⟨ca.1.1.sh, ct_play ca.1.1 hw e (fun h3 r3 => ⟨r3.cs.sh, ?_⟩)⟩), fun c1 => ?_⟩
  · rw [bI_n] at c1
    obtain ⟨ca3, ag3⟩ := CA_fy ca r3.1
    have z := k h3 (ag.tr ag3) ca3
    rw [show rRu p x w = _ from cI_f (fun y => y c1)] at z
    obtain ⟨zb, kz⟩ := RunF_zb hw x
    obtain ⟨r1, ⟨r2, r3', r4, r5, r6, r7⟩, r8, r9, r10, r11, r12⟩ := r3.2.2.2.2
    obtain ⟨a1, a2, a3, a4⟩ : xK h3 82 = 21 ∧ xN h3 82 = 16 ∧ xK h3 85 = 21 ∧ xN h3 85 = 48 := by
      have c := r3.cs.sh
      unfold GS at c
      obtain ⟨_, _, _, _, _, _, _, _, _, _, _, _, _, _, _, _, _, _, _, _, _, _, _, _, _, _, _, _, _, _, _, a4, a5, _, _, _, _, a8, a9, _⟩ := c
      exact ⟨a4, a5, a8, a9⟩
    have c145 : cnt (fun m => ¬ xI h3 85 m = 0) 48 0 = cnt (fun m => ¬ (RunF p x).1 145 m = 0) (nM p).toNat 0 := by
      rw [cnt_congr (Q' := fun m => ¬ (RunF p x).1 145 m = 0) 48 0 (fun j _ hj => by rw [r8 j (by omega)])]
      exact cnt_ext _ (by omega) (fun j h1 h2 y => y (zb.1 j (by omega)))
    have c146 : cnt (fun m => ¬ xI h3 82 m = 0) 16 0 = cnt (fun m => ¬ (RunF p x).1 146 m = 0) (nT p).toNat 0 := by
      rw [cnt_congr (Q' := fun m => ¬ (RunF p x).1 146 m = 0) 16 0 (fun j _ hj => by rw [r9 j (by omega)])]
      exact cnt_ext _ (by omega) (fun j h1 h2 y => y (zb.2 j (by omega)))
    have l89 : ∀ (n j : Nat), j + n = 48 → w = 1 → Ev l D Y_G_run (d + 68) kc ks 89 [some (vr 20), some (vl x), none, some (vi w), some (vi (cnt (fun m => ¬ xI h3 85 m = 0) j 0)), some (vr 85), some (vi ((48 : Nat) : Int)), some (vi (j : Int)), none] [] h3 Ψ := by
      intro n
      induction n with
      | zero =>
        intro j hj e1
        apply g_G_run_89 r3.cs.sh
        refine ⟨fun _ => ?_, fun c => by omega⟩
        rw [show j = 48 by omega, c145]
        rw [cI_f (by omega), cI_t e1] at z
        exact z
      | succ n ih =>
        intro j hj e1
        have nx := ih (j + 1) (by omega) e1
        rw [cnt_snoc, Nat.zero_add] at nx
        have cb := cnt_le (fun m => ¬ xI h3 85 m = 0) j 0
        apply g_G_run_89 r3.cs.sh
        rw [Int.toNat_natCast, wr_s (show j < 1000000 by omega)]
        refine ⟨fun c => by omega, fun _ => ⟨a3, by omega, by omega, fun c => ?_, fun c => ?_⟩⟩
        · rw [bI_f (fun y => y c)] at nx; rw [wr_eq (by omega) (by omega)]; exact nx
        · rw [bI_t c] at nx; rw [wr_eq (by omega) (by omega)]; exact nx
    have l152 : ∀ (n j : Nat), j + n = 16 → w = 3 → Ev l D Y_G_run (d + 68) kc ks 152 [some (vr 20), some (vl x), none, some (vi w), some (vi (cnt (fun m => ¬ xI h3 82 m = 0) j 0)), some (vr 82), some (vi ((16 : Nat) : Int)), some (vi (j : Int)), none] [] h3 Ψ := by
      intro n
      induction n with
      | zero =>
        intro j hj e1
        apply g_G_run_152 r3.cs.sh
        refine ⟨fun _ => ?_, fun c => by omega⟩
        rw [show j = 16 by omega, c146]
        rw [cI_f (by omega), cI_f (by omega), cI_f (by omega), cI_t e1] at z
        exact z
      | succ n ih =>
        intro j hj e1
        have nx := ih (j + 1) (by omega) e1
        rw [cnt_snoc, Nat.zero_add] at nx
        have cb := cnt_le (fun m => ¬ xI h3 82 m = 0) j 0
        apply g_G_run_152 r3.cs.sh
        rw [Int.toNat_natCast, wr_s (show j < 1000000 by omega)]
        refine ⟨fun c => by omega, fun _ => ⟨a1, by omega, by omega, fun c => ?_, fun c => ?_⟩⟩
        · rw [bI_f (fun y => y c)] at nx; rw [wr_eq (by omega) (by omega)]; exact nx
        · rw [bI_t c] at nx; rw [wr_eq (by omega) (by omega)]; exact nx
    rw [r4, r2, r5, r6, a2, a4]
    refine ⟨fun v => ?_, fun v => l89 48 0 (by omega) v, fun v => ?_, fun v => l152 16 0 (by omega) v, fun v => ?_, fun v => ?_⟩
    · rw [cI_t v] at z; exact z
    · rw [cI_f (by omega), cI_f (by omega), cI_t v] at z; exact z
    · rw [cI_f (by omega), cI_f (by omega), cI_f (by omega), cI_f (by omega), cI_t v] at z; exact z
    · rw [cI_f (by omega), cI_f (by omega), cI_f (by omega), cI_f (by omega), cI_f (by omega)] at z; exact z
  · have z := k h agM.rf q
    rw [show rRu p x w = -102 from cI_t (bI_0.mp c1)] at z
    exact z
theorem ct_G_holds {x : Int64} (q : CA p h) (k : ∀ h', agM h h' → CA p h' → Ψ (some (vi ((RunF p x).1 100 43))) h') : Ev l D Y_G_holds (d + 68) kc ks 0 [some (vr 20), some (vl x), none] [] h Ψ := by
  obtain ⟨c, hw, ho, hf⟩ := q.1
  apply g_G_holds_0 c.sh
  refine ct_d (d := d + 59) q (fun h1 ag ca e => ⟨ca.1.1.sh, ct_play ca.1.1 hw e (fun h3 r3 => ⟨r3.cs.sh, ?_⟩)⟩)
  obtain ⟨ca3, ag3⟩ := CA_fy ca r3.1
  have z := k h3 (ag.tr ag3) ca3
  obtain ⟨zb, kz⟩ := RunF_zb hw x
  rw [r3.2.2.2.2.2.1.2.2.2.2.2]
  exact ⟨kz.1.2.2.1, z⟩
end CR2
