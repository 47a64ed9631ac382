/-! the component: an op is done in a run -/
def orf (y : Int) : Nat := if y = -1 then 0 else oD y.toNat
noncomputable def dpt (K : List Tk) (s : Rst) : Int := 3 * (13 - (nfr K : Int)) + (17 - nbg s) + 10
theorem orf_n (o : Nat) : orf (o : Int) = oD o := by unfold orf; rw [if_neg (by omega), Int.toNat_natCast]
theorem nbg_eq {s s' : Rst} (h : ∀ k, s'.1 146 k = s.1 146 k) : nbg s' = nbg s := by unfold nbg; exact cnt_congr _ _ (fun j _ _ => by rw [h])
theorem nfr_s {T : Tk} {K : List Tk} (h : ¬ T.1 = 0) : nfr (T :: K) = nfr K := by show (if T.1 = 0 then 1 else 0) + nfr K = nfr K; rw [if_neg h, Nat.zero_add]
theorem dpt_s {T : Tk} {K : List Tk} {s : Rst} (h : ¬ T.1 = 0) : dpt (T :: K) s = dpt K s := by unfold dpt; rw [nfr_s h]
/-- what is known of the rest, by steps -/
def Pn (l : Launch) (D : DD) (p : Pg) (h0 : Hp) (n : Nat) : Prop := ∀ (T : Tk) (K : List Tk) (s r : Rst) (h : Hp) (d kc ks : Nat) (Ψ : Option AV → Hp → Prop), Mc p n (T :: K) s r → Kv p (T :: K) s → Rc p h0 h s → dpt K s ≤ (d : Int) → (∀ n' h' s', n' < n → Mc p n' K s' r → Kv p K s' → nbg s ≤ nbg s' → Rc p h0 h' s' → Ψ none h') →
  (T.1 = 1 → Ev l D Y_Run_run d kc ks 0 [some (vr 80), some (vr (orf T.2.2.2)), some (vr (mA T.2.1)), none] [] h Ψ) ∧
  (T.1 = 2 → Ev l D Y_Run_begin d kc ks 0 [some (vr 80), some (vr (orf T.2.2.2)), some (vr (tA T.2.1)), none, none] [] h Ψ) ∧
  (T.1 = 3 → Ev l D Y_Run_make d kc ks 0 [some (vr 80), some (vr (tA T.2.1))] [] h Ψ) ∧
  (T.1 = 0 → ∀ x1 : Nat, Ev l D Y_Run_run d kc ks 107 [some (vr 80), some (vr x1), some (vr (mA T.2.1)), some (vi (T.2.2.1 : Int))] [] h Ψ)
section CACT
variable {l : Launch} {D : DD} {d kc ks : Nat} {h h0 : Hp} {Ψ : Option AV → Hp → Prop} {p g : Pg} {s r : Rst} {K : List Tk}
/-- one member is run -/
theorem one_run {o n : Nat} {t : Int} {s0 : Rst} (IH : Pn l D p h0 n) (q : Rc p h0 h s) (ht : 0 ≤ t) (mc : Mc p n (one t o ++ K) s r) (kv' : Kv p (one t o ++ K) s) (hd : dpt K s ≤ (d : Int)) (hs : nbg s = nbg s0) (k : ∀ n' h' s', n' ≤ n → Mc p n' K s' r → Kv p K s' → nbg s0 ≤ nbg s' → Rc p h0 h' s' → Ψ none h') : Ev l D Y_Run_run d kc ks 0 [some (vr 80), some (vr (oD o)), some (vr (mA t.toNat)), none] [] h (kv (fun h3 => RS h3 ∧ Ψ none h3)) := by
  rw [show one t o = [(1, t.toNat, 0, (o : Int))] from cA_t ht] at mc kv'
  have z := (IH (1, t.toNat, 0, (o : Int)) K s r h d kc ks (kv (fun h3 => RS h3 ∧ Ψ none h3)) mc kv' q hd (fun n' h' s' a b c e f => ⟨f.rh, k n' h' s' (by omega) b c (by omega) f⟩)).1 rfl
  rw [orf_n] at z
  exact z
theorem ct_New_act {o n : Nat} (IH : ∀ n', n' ≤ n → Pn l D p h0 n') (ho : (o : Int) < nO p) (hk : ok p o = 0) (q : Rc p h0 h s) (mc : Mc p n ((opr p o s).1 ++ K) (opr p o s).2 r) (kv' : Kv p ((opr p o s).1 ++ K) (opr p o s).2) (hd : dpt K s ≤ (d : Int)) (k : ∀ n' h' s', n' ≤ n → Mc p n' K s' r → Kv p K s' → nbg s ≤ nbg s' → Rc p h0 h' s' → Ψ none h') : Ev l D Y_New_act (d + 1) kc ks 0 [some (vr (oD o)), some (vr 20), some (vr 80)] [] h Ψ := by
  have eo : opr p o s = ([(2, (oA p o).toNat, 0, (o : Int)), (3, (oA p o).toNat, 0, (o : Int))], s) := cA_t hk
  rw [eo] at mc kv'
  have ek : okd (ok p o) = 5 := by unfold okd; rw [if_pos hk]
  apply g_New_act_0 q.rh
  rw [q.cs.oar o ho (by omega), q.cs.okk o ho]
  refine ⟨ek, ?_⟩
  have z := (IH n (Nat.le_refl _) (2, (oA p o).toNat, 0, (o : Int)) ((3, (oA p o).toNat, 0, (o : Int)) :: K) s r h d 0 0 (kv (fun h1 => RS h1 ∧ (xK h1 (oD o) = 5 ∧ Ev l D Y_Run_make d 0 0 0 [some (vr 80), some (vr (xR h1 (oD o) 4))] [] h1 (kv (fun h2 => RS h2 ∧ Ψ none h2))))) mc kv' q (by rw [dpt_s (by show ¬ (3 : Nat) = 0; decide)]; exact hd) (fun n' h' s' a b c e f => ⟨f.rh, (f.cs.okk o ho).trans ek, ?_⟩)).2.1 rfl
  · rw [orf_n] at z; exact z
  · rw [f.cs.oar o ho (by omega)]
    exact (IH n' (by omega) (3, (oA p o).toNat, 0, (o : Int)) K s' r h' d 0 0 (kv (fun h2 => RS h2 ∧ Ψ none h2)) b c f (by unfold dpt at hd ⊢; omega) (fun n2 h2 s2 a2 b2 c2 e2 f2 => ⟨f2.rh, k n2 h2 s2 (by omega) b2 c2 (by omega) f2⟩)).2.2.1 rfl
theorem ct_Up_act {o n : Nat} (hw : WF p) (IH : ∀ n', n' ≤ n → Pn l D p h0 n') (ho : (o : Int) < nO p) (hk : ok p o = 2) (q : Rc p h0 h s) (mc : Mc p n ((opr p o s).1 ++ K) (opr p o s).2 r) (kv' : Kv p ((opr p o s).1 ++ K) (opr p o s).2) (hd : dpt K s ≤ (d + 4 : Nat)) (k : ∀ n' h' s', n' ≤ n → Mc p n' K s' r → Kv p K s' → nbg s ≤ nbg s' → Rc p h0 h' s' → Ψ none h') : Ev l D Y_Up_act (d + 5) kc ks 0 [some (vr (oD o)), some (vr 20), some (vr 80), none] [] h Ψ := by
  have w2 := hw.2.1
  obtain ⟨o1, o2, o3, o4, o5⟩ := hw.2.2.2.2.2.2 o ho
  have ab := o2 (by omega)
  have bb := o5 (by omega)
  obtain ⟨a, ha⟩ : ∃ a : Nat, oA p o = (a : Int) := ⟨(oA p o).toNat, by omega⟩
  obtain ⟨x, hx⟩ : ∃ a : Nat, oB p o = (a : Int) := ⟨(oB p o).toNat, by omega⟩
  have eo : opr p o s = (one (chf p a a x) o, s) := by
    unfold opr
    rw [cA_f (by omega), cA_f (by omega), cA_t hk, ha, hx, Int.toNat_natCast]
  rw [eo] at mc kv'
  have ek : okd (ok p o) = 7 := by unfold okd; rw [if_neg (by omega), if_neg (by omega), if_pos hk]
  have fb := fnd_bd hw a (x : Int)
  have cb := chf_bd hw a a (x : Int)
  apply g_Up_act_0 q.rh
  rw [q.cs.oar o ho (by omega), q.cs.okk o ho, q.cs.obr o ho (by omega) (by omega), ha, hx, Int.toNat_natCast]
  refine ⟨ek, ek, ek, ct_G_find q.cs hw (by omega) (by omega) (fun h1 f1 => ?_)⟩
  have q1 := q.lv hw f1
  refine ⟨q1.rh, ct_G_choose q1.cs hw (by omega) (by omega) (fun z => by rw [fnd_nm hw z]; omega) (fun h2 f2 => ?_)⟩
  have q2 := q1.lv hw f2
  have ec : chg p a (fnd p a x) = chf p a a x := rfl
  rw [ec]
  refine ⟨q2.rh, fun c => ?_, fun c => ⟨by omega, by omega, ?_⟩⟩
  · rw [show one (chf p a a x) o = [] from cA_f (by omega)] at mc kv'
    exact k n h2 s (Nat.le_refl _) mc kv' (Int.le_refl _) q2
  · rw [q2.cs.mr _ (by omega)]
    exact one_run (IH n (Nat.le_refl _)) q2 c mc kv' hd rfl k
theorem ct_Static_act {o n : Nat} (hw : WF p) (IH : ∀ n', n' ≤ n → Pn l D p h0 n') (ho : (o : Int) < nO p) (hk : ok p o = 3) (q : Rc p h0 h s) (mc : Mc p n ((opr p o s).1 ++ K) (opr p o s).2 r) (kv' : Kv p ((opr p o s).1 ++ K) (opr p o s).2) (hd : dpt K s ≤ (d + 5 : Nat)) (k : ∀ n' h' s', n' ≤ n → Mc p n' K s' r → Kv p K s' → nbg s ≤ nbg s' → Rc p h0 h' s' → Ψ none h') : Ev l D Y_Static_act (d + 6) kc ks 0 [some (vr (oD o)), some (vr 20), some (vr 80), none] [] h Ψ := by
  have w2 := hw.2.1
  have fb := fnd_bd hw (oA p o).toNat (oB p o)
  have ek : okd (ok p o) = 8 := by unfold okd; rw [if_neg (by omega), if_neg (by omega), if_neg (by omega), if_pos hk]
  have eo : opr p o s = cA (¬ fnd p (oA p o).toNat (oB p o) = -1 ∧ so p (fnd p (oA p o).toNat (oB p o)).toNat = 2) ([(2, (ty p (fnd p (oA p o).toNat (oB p o)).toNat).toNat, 0, (o : Int)), (1, (fnd p (oA p o).toNat (oB p o)).toNat, 0, (o : Int))], s) ([], s) := by
    unfold opr
    rw [cA_f (by omega), cA_f (by omega), cA_f (by omega), cA_t hk]
  rw [eo] at mc kv'
  apply g_Static_act_0 q.rh
  rw [q.cs.okk o ho]
  refine ⟨ek, ct_Static_told q.cs hw ho hk (fun h1 f1 => ?_)⟩
  have q1 := q.lv hw f1
  refine ⟨q1.rh, ?_⟩
  rcases Classical.em (¬ fnd p (oA p o).toNat (oB p o) = -1 ∧ so p (fnd p (oA p o).toNat (oB p o)).toNat = 2) with c | c
  · rw [cA_t c] at mc kv'
    rw [show tld p o = fnd p (oA p o).toNat (oB p o) from cI_t c, mrf_s c.1]
    have hm : (((fnd p (oA p o).toNat (oB p o)).toNat : Nat) : Int) < nM p := by have := c.1; omega
    refine ⟨fun z => by unfold mA at z; omega, fun _ => ⟨q1.cs.mkk _ hm, ?_⟩⟩
    rw [q1.cs.mt _ hm]
    have z := (IH n (Nat.le_refl _) (2, (ty p (fnd p (oA p o).toNat (oB p o)).toNat).toNat, 0, (o : Int)) ((1, (fnd p (oA p o).toNat (oB p o)).toNat, 0, (o : Int)) :: K) s r h1 (d + 5) 0 0 (kv (fun h2 => RS h2 ∧ Ev l D Y_Run_run (d + 5) 0 0 0 [some (vr 80), some (vr (oD o)), some (vr (mA (fnd p (oA p o).toNat (oB p o)).toNat)), none] [] h2 (kv (fun h3 => RS h3 ∧ Ψ none h3)))) mc kv' q1 (by rw [dpt_s (by show ¬ (1 : Nat) = 0; decide)]; exact hd) (fun n' h' s' a b c e f => ⟨f.rh, ?_⟩)).2.1 rfl
    · rw [orf_n] at z; exact z
    · have y := (IH n' (by omega) (1, (fnd p (oA p o).toNat (oB p o)).toNat, 0, (o : Int)) K s' r h' (d + 5) 0 0 (kv (fun h3 => RS h3 ∧ Ψ none h3)) b c f (by unfold dpt at hd ⊢; omega) (fun n2 h2 s2 a2 b2 c2 e2 f2 => ⟨f2.rh, k n2 h2 s2 (by omega) b2 c2 (by omega) f2⟩)).1 rfl
      rw [orf_n] at y
      exact y
  · rw [cA_f c] at mc kv'
    rw [show tld p o = -1 from cI_f c]
    exact ⟨fun _ => k n h1 s (Nat.le_refl _) mc kv' (Int.le_refl _) q1, fun z => absurd rfl z⟩
theorem ct_Put_act {o n : Nat} (hw : WF p) (ho : (o : Int) < nO p) (hk : ok p o = 5) (q : Rc p h0 h s) (hr : Rv p s) (mc : Mc p n ((opr p o s).1 ++ K) (opr p o s).2 r) (kv' : Kv p ((opr p o s).1 ++ K) (opr p o s).2) (k : ∀ n' h' s', n' ≤ n → Mc p n' K s' r → Kv p K s' → nbg s ≤ nbg s' → Rc p h0 h' s' → Ψ none h') : Ev l D Y_Put_act (d + 1) kc ks 0 [some (vr (oD o)), some (vr 20), some (vr 80)] [] h Ψ := by
  have okO := opr_ok hw hr ho
  obtain ⟨o1, o2, o3, o4, o5⟩ := hw.2.2.2.2.2.2 o ho
  have ab := o3 (by omega) (by omega)
  have bb := o4 hk
  obtain ⟨a, ha⟩ : ∃ a : Nat, oA p o = (a : Int) := ⟨(oA p o).toNat, by omega⟩
  obtain ⟨b, hb⟩ : ∃ a : Nat, oB p o = (a : Int) := ⟨(oB p o).toNat, by omega⟩
  have eo : opr p o s = ([], oPut s a b) := by
    unfold opr
    rw [cA_f (by omega), cA_f (by omega), cA_f (by omega), cA_f (by omega), cA_t hk, ha, hb, Int.toNat_natCast]
  rw [eo] at mc kv' okO
  have ek : okd (ok p o) = 9 := by unfold okd; rw [if_neg (by omega), if_neg (by omega), if_neg (by omega), if_neg (by omega), if_pos hk]
  apply g_Put_act_0 q.rh
  rw [q.cs.okk o ho, q.cs.og o ho (Or.inl hk), q.cs.omr o ho hk, ha, hb, Int.toNat_natCast]
  refine ⟨ek, ek, ct_Rput hw q hr (by omega) (by omega) (fun h1 q1 => ⟨q1.rh, k n h1 _ (Nat.le_refl _) mc kv' ?_ q1⟩)⟩
  rw [nbg_eq (fun k => okO.2.2.2.2 146 k (by decide) (by decide))]
  exact Int.le_refl _
theorem ct_Out_act {o n : Nat} (hw : WF p) (IH : ∀ n', n' ≤ n → Pn l D p h0 n') (ho : (o : Int) < nO p) (hk : ok p o = 6) (q : Rc p h0 h s) (hr : Rv p s) (mc : Mc p n ((opr p o s).1 ++ K) (opr p o s).2 r) (kv' : Kv p ((opr p o s).1 ++ K) (opr p o s).2) (hd : dpt K s ≤ (d : Int)) (k : ∀ n' h' s', n' ≤ n → Mc p n' K s' r → Kv p K s' → nbg s ≤ nbg s' → Rc p h0 h' s' → Ψ none h') : Ev l D Y_Out_act (d + 1) kc ks 0 [some (vr (oD o)), some (vr 20), some (vr 80), none] [] h Ψ := by
  have w2 := hw.2.1
  obtain ⟨o1, o2, o3, o4, o5⟩ := hw.2.2.2.2.2.2 o ho
  have ab := o3 (by omega) (by omega)
  obtain ⟨a, ha⟩ : ∃ a : Nat, oA p o = (a : Int) := ⟨(oA p o).toNat, by omega⟩
  have bb := bag_bd hw hr (show a < 4 by omega)
  have eo : opr p o s = oOut o a s := by
    unfold opr
    rw [cA_f (by omega), cA_f (by omega), cA_f (by omega), cA_f (by omega), cA_f (by omega), cA_t hk, ha, Int.toNat_natCast]
  rw [eo] at mc kv'
  have ek : okd (ok p o) = 10 := by unfold okd; rw [if_neg (by omega), if_neg (by omega), if_neg (by omega), if_neg (by omega), if_neg (by omega), if_pos hk]
  have e84 := q.2.2.2.2.2.2.2.2.2.2 a (by omega)
  apply g_Out_act_0 q.rh
  rw [q.cs.okk o ho, q.cs.og o ho (Or.inr hk), ha, Int.toNat_natCast, e84]
  refine ⟨ek, by omega, by omega, fun c => ?_, fun c => ⟨ek, ct_Rdraw hw q (by omega) (fun h1 q1 => ⟨q1.rh, ?_⟩)⟩⟩
  · rw [show oOut o a s = ([], s) from cA_t c] at mc kv'
    exact k n h s (Nat.le_refl _) mc kv' (Int.le_refl _) q
  · rw [show oOut o a s = _ from cA_f (show ¬ s.1 150 a ≤ 0 by omega)] at mc kv'
    have db := dw_bd (x := (rx s).2) (n := s.1 150 a) (by omega) (by omega)
    obtain ⟨w, hw'⟩ : ∃ w : Nat, dw (rx s).2 (s.1 150 a) = (w : Int) := ⟨(dw (rx s).2 (s.1 150 a)).toNat, by omega⟩
    rw [hw', Int.toNat_natCast] at mc kv'
    rw [hw'] at db ⊢
    have tb := (hr.2.2.2.2.2 a (by omega)).2.2 w (by omega)
    have e83 := q1.2.2.2.2.2.2.2.2.2.1 a w (by omega) (by rw [rx1]; omega)
    rw [rx1] at e83
    rw [wr_eq (x := (a : Int) * 48) (by omega) (by omega), wr_eq (by omega) (by omega), show ((a : Int) * 48 + (w : Int)).toNat = 48 * a + w by omega, e83]
    refine ⟨by omega, by omega, ?_⟩
    have nb : nbg (rx s) = nbg s := nbg_eq (fun k => by rw [rx1])
    exact one_run (IH n (Nat.le_refl _)) q1 tb.1 mc kv' (by unfold dpt at hd ⊢; rw [nb]; exact hd) nb k
theorem ct_Any_act {o n : Nat} (hw : WF p) (IH : ∀ n', n' ≤ n → Pn l D p h0 n') (ho : (o : Int) < nO p) (hk : ok p o = 7) (q : Rc p h0 h s) (mc : Mc p n ((opr p o s).1 ++ K) (opr p o s).2 r) (kv' : Kv p ((opr p o s).1 ++ K) (opr p o s).2) (hd : dpt K s ≤ (d + 1 : Nat)) (k : ∀ n' h' s', n' ≤ n → Mc p n' K s' r → Kv p K s' → nbg s ≤ nbg s' → Rc p h0 h' s' → Ψ none h') : Ev l D Y_Any_act (d + 2) kc ks 0 [some (vr (oD o)), some (vr 20), some (vr 80), none, none, none] [] h Ψ := by
  have w2 := hw.2.1
  have eo : opr p o s = oAny p o s := by
    unfold opr
    rw [cA_f (by omega), cA_f (by omega), cA_f (by omega), cA_f (by omega), cA_f (by omega), cA_f (by omega)]
  rw [eo] at mc kv'
  have ek : okd (ok p o) = 11 := by unfold okd; rw [if_neg (by omega), if_neg (by omega), if_neg (by omega), if_neg (by omega), if_neg (by omega), if_neg (by omega)]
  have nb : nbg (rx s) = nbg s := nbg_eq (fun k => by rw [rx1])
  apply g_Any_act_0 q.rh
  have key : ∀ (n2 j : Nat), j + n2 = (nM p).toNat → Ev l D Y_Any_act (d + 2) kc ks 5 [some (vr (oD o)), some (vr 20), some (vr 80), some (vi (cnt (tel p (oB p o)) j 0)), some (vi (j : Int)), none] [] h Ψ := by
    intro n2
    induction n2 with
    | zero =>
      intro j hj
      have ej : j = (nM p).toNat := by omega
      rw [ej]
      have cb := cnt_le (tel p (oB p o)) (nM p).toNat 0
      apply g_Any_act_5 q.rh
      rw [q.cs.cm]
      refine ⟨fun _ => ⟨fun c => ct_Rdraw hw q (by omega) (fun h1 q1 => ⟨q1.rh, ?_⟩), fun c => ?_⟩, fun c => by omega⟩
      · have db := dw_bd (x := (rx s).2) (n := cnt (tel p (oB p o)) (nM p).toNat 0) (by omega) (by omega)
        obtain ⟨J, j1, j2, j3, j4⟩ := nth_spec (tel p (oB p o)) (dw (rx s).2 (cnt (tel p (oB p o)) (nM p).toNat 0)) (nM p).toNat 0 0 db.1 (by omega)
        rw [show oAny p o s = _ from cA_f c, j4] at mc kv'
        obtain ⟨w, hw'⟩ : ∃ w : Nat, dw (rx s).2 (cnt (tel p (oB p o)) (nM p).toNat 0) = (w : Int) := ⟨(dw (rx s).2 (cnt (tel p (oB p o)) (nM p).toNat 0)).toNat, by omega⟩
        rw [hw'] at j4 db ⊢
        have key2 : ∀ (n i : Nat) (c' x2 : Int), i + n = (nM p).toNat → 0 ≤ c' ∧ c' ≤ (w : Int) → (w : Int) < c' + cnt (tel p (oB p o)) n i → nth (tel p (oB p o)) (w : Int) n i c' = (J : Int) → Ev l D Y_Any_act (d + 2) kc ks 57 [some (vr (oD o)), some (vr 20), some (vr 80), some (vi x2), some (vi ((w : Int) - c')), some (vi ((i : Int) - 1))] [] h1 Ψ := by
          intro n3
          induction n3 with
          | zero => intro i c' x2 hi hc hlt _; have : cnt (tel p (oB p o)) 0 i = 0 := rfl; omega
          | succ n3 ih =>
            intro i c' x2 hi hc hlt hn
            unfold cnt at hlt
            unfold nth at hn
            apply g_Any_act_57 q1.rh
            rw [wr_eq (x := (i : Int) - 1 + 1) (by omega) (by omega), show (i : Int) - 1 + 1 = (i : Int) by omega, Int.toNat_natCast, q1.cs.mr i (by omega), q1.cs.okk o ho]
            refine ⟨fun y => by omega, fun _ => ⟨by omega, by omega, ek, ct_Any_tells q1.cs hw ho (by omega) hk ⟨q1.rh, fun y => ?_, fun y => ?_⟩⟩⟩
            · rw [bI_0] at y
              rw [bI_f y] at hlt
              rw [cI_f y] at hn
              rw [wr_eq (by omega) (by omega), Int.sub_zero]
              have z := ih (i + 1) c' x2 (by omega) hc (by omega) hn
              rw [show ((i + 1 : Nat) : Int) - 1 = (i : Int) by omega] at z
              exact z
            · rw [bI_n] at y
              rw [bI_t y] at hlt
              rw [cI_t y] at hn
              rw [wr_eq (by omega) (by omega)]
              rcases Classical.em (c' = (w : Int)) with v | v
              · rw [cI_t v] at hn
                have ei : i = J := by omega
                apply g_Any_act_57 q1.rh
                rw [Int.toNat_natCast, q1.cs.mr i (by omega)]
                refine ⟨fun _ => ⟨by omega, by omega, ?_⟩, fun y => by omega⟩
                have z := one_run (d := d + 1) (kc := 0) (ks := 0) (Ψ := Ψ) (IH n (Nat.le_refl _)) q1 (show (0 : Int) ≤ (J : Int) by omega) mc kv' (by unfold dpt at hd ⊢; rw [nb]; exact hd) nb k
                rw [Int.toNat_natCast, ← ei] at z
                exact z
              · rw [cI_f v] at hn
                have z := ih (i + 1) (c' + 1) x2 (by omega) (by omega) (by omega) hn
                rw [show ((i + 1 : Nat) : Int) - 1 = (i : Int) by omega, show (w : Int) - (c' + 1) = (w : Int) - c' - 1 by omega] at z
                exact z
        have z := key2 (nM p).toNat 0 0 (cnt (tel p (oB p o)) (nM p).toNat 0) (by omega) (by omega) (by omega) j4
        rw [Int.sub_zero] at z
        exact z
      · rw [show oAny p o s = ([], s) from cA_t c] at mc kv'
        exact k n h s (Nat.le_refl _) mc kv' (Int.le_refl _) q
    | succ n2 ih =>
      intro j hj
      have nx := ih (j + 1) (by omega)
      rw [cnt_snoc, Nat.zero_add] at nx
      have cb := cnt_le (tel p (oB p o)) j 0
      apply g_Any_act_5 q.rh
      rw [q.cs.cm, Int.toNat_natCast, q.cs.mr j (by omega), q.cs.okk o ho]
      refine ⟨fun c => by omega, fun _ => ⟨by omega, by omega, ek, ct_Any_tells q.cs hw ho (by omega) hk ⟨q.rh, fun c => ?_, fun c => ?_⟩⟩⟩
      · rw [bI_f (bI_0.mp c)] at nx
        rw [wr_eq (by omega) (by omega), wr_s (show j < 1000000 by omega)]; exact nx
      · rw [bI_t (bI_n.mp c)] at nx
        rw [wr_eq (by omega) (by omega), wr_s (show j < 1000000 by omega)]; exact nx
  exact key (nM p).toNat 0 (by omega)
theorem ct_Call_act {o n : Nat} (hw : WF p) (IH : ∀ n', n' ≤ n → Pn l D p h0 n') (ho : (o : Int) < nO p) (hk : ok p o = 1 ∨ ok p o = 4) (q : Rc p h0 h s) (hr : Rv p s) (mc : Mc p n ((opr p o s).1 ++ K) (opr p o s).2 r) (kv' : Kv p ((opr p o s).1 ++ K) (opr p o s).2) (hd : dpt K s ≤ (d + 4 : Nat)) (k : ∀ n' h' s', n' ≤ n → Mc p n' K s' r → Kv p K s' → nbg s ≤ nbg s' → Rc p h0 h' s' → Ψ none h') : Ev l D Y_Call_act (d + 5) kc ks 0 [some (vr (oD o)), some (vr 20), some (vr 80), none, none] [] h Ψ := by
  have w1 := hw.1
  have w2 := hw.2.1
  obtain ⟨o1, o2, o3, o4, o5⟩ := hw.2.2.2.2.2.2 o ho
  have ab := o2 (by omega)
  have bb := o5 (by omega)
  obtain ⟨a, ha⟩ : ∃ a : Nat, oA p o = (a : Int) := ⟨(oA p o).toNat, by omega⟩
  obtain ⟨x, hx⟩ : ∃ a : Nat, oB p o = (a : Int) := ⟨(oB p o).toNat, by omega⟩
  have eo : opr p o s = oCall p o s := by
    unfold opr
    rw [cA_f (by omega), cA_t hk]
  rw [eo] at mc kv'
  unfold oCall at mc kv'
  rw [ha, hx, Int.toNat_natCast] at mc kv'
  have ek : okd (ok p o) = 6 := by unfold okd; rw [if_neg (by omega), if_pos hk]
  have nb : nbg (rx s) = nbg s := nbg_eq (fun k => by rw [rx1])
  have r5 := hr.2.2.2.2.1
  have r47 := hr.2.2.2.1
  apply g_Call_act_0 q.rh
  rw [q.cs.oar o ho (by omega), q.cs.okk o ho, ha, Int.toNat_natCast]
  refine ⟨ek, ct_drawT hw q hr (by omega) (fun c => ?_) (fun c h1 q1 => ?_)⟩
  · rw [cA_t c] at mc kv'
    exact ⟨q.rh, fun z => absurd rfl z, fun _ => ⟨fun _ => k n h s (Nat.le_refl _) mc kv' (Int.le_refl _) q, fun z => absurd z (by decide)⟩⟩
  · rw [cA_f c] at mc kv'
    have cb := cnt_le (cpl p s a) (s.1 100 47).toNat 0
    have db := dw_bd (x := (rx s).2) (n := cnt (cpl p s a) (s.1 100 47).toNat 0) (by omega) (by omega)
    obtain ⟨J, j1, j2, j3, j4⟩ := nth_spec (cpl p s a) (dw (rx s).2 (cnt (cpl p s a) (s.1 100 47).toNat 0)) (s.1 100 47).toNat 0 0 db.1 (by omega)
    rw [j4, Int.toNat_natCast] at mc kv' ⊢
    have tb := r5 J (by omega)
    obtain ⟨t, ht⟩ : ∃ t : Nat, s.1 147 J = (t : Int) := ⟨(s.1 147 J).toNat, by omega⟩
    rw [ht, Int.toNat_natCast] at mc kv' ⊢
    have fb := fnd_bd hw a (x : Int)
    have cb2 := chf_bd hw t a (x : Int)
    refine ⟨q1.rh, fun _ => ?_, fun z => absurd z (by unfold tA; omega)⟩
    rw [q1.cs.oar o ho (by omega), q1.cs.okk o ho, q1.cs.obr o ho (by omega) (by omega), ha, hx, Int.toNat_natCast]
    refine ⟨ek, ek, ct_G_find q1.cs hw (by omega) (by omega) (fun h2 f2 => ?_)⟩
    have q2 := q1.lv hw f2
    refine ⟨q2.rh, ct_G_choose q2.cs hw (by omega) (by omega) (fun z => by rw [fnd_nm hw z]; omega) (fun h3 f3 => ?_)⟩
    have q3 := q2.lv hw f3
    have ec : chg p t (fnd p a x) = chf p t a x := rfl
    rw [ec]
    refine ⟨q3.rh, fun c4 => ?_, fun c4 => ⟨by omega, by omega, ?_⟩⟩
    · rw [show one (chf p t a x) o = [] from cA_f (by omega)] at mc kv'
      exact k n h3 (rx s) (Nat.le_refl _) mc kv' (by rw [nb]; exact Int.le_refl _) q3
    · rw [q3.cs.mr _ (by omega)]
      exact one_run (IH n (Nat.le_refl _)) q3 c4 mc kv' (by unfold dpt at hd ⊢; rw [nb]; exact hd) nb k
theorem ct_act {o n : Nat} (hw : WF p) (IH : ∀ n', n' ≤ n → Pn l D p h0 n') (ho : (o : Int) < nO p) (q : Rc p h0 h s) (hr : Rv p s) (mc : Mc p n ((opr p o s).1 ++ K) (opr p o s).2 r) (kv' : Kv p ((opr p o s).1 ++ K) (opr p o s).2) (hd : dpt K s ≤ (d + 5 : Nat)) (k : ∀ n' h' s', n' ≤ n → Mc p n' K s' r → Kv p K s' → nbg s ≤ nbg s' → Rc p h0 h' s' → Ψ none h') : Ev l D (mt_Op_act_Y (xK h (oD o))) (d + 6) kc ks 0 (enL (mt_Op_act_Y (xK h (oD o))).2.2.1 [vr (oD o), vr 20, vr 80]) [] h Ψ := by
  have o1 := (hw.2.2.2.2.2.2 o ho).1
  rw [q.cs.okk o ho]
  unfold okd
  by_cases e0 : ok p o = 0
  · rw [if_pos e0]; exact ct_New_act IH ho e0 q mc kv' hd k
  rw [if_neg e0]
  by_cases e1 : ok p o = 1 ∨ ok p o = 4
  · rw [if_pos e1]; exact ct_Call_act (d := d + 1) hw IH ho e1 q hr mc kv' hd k
  rw [if_neg e1]
  by_cases e2 : ok p o = 2
  · rw [if_pos e2]; exact ct_Up_act (d := d + 1) hw IH ho e2 q mc kv' hd k
  rw [if_neg e2]
  by_cases e3 : ok p o = 3
  · rw [if_pos e3]; exact ct_Static_act hw IH ho e3 q mc kv' hd k
  rw [if_neg e3]
  by_cases e5 : ok p o = 5
  · rw [if_pos e5]; exact ct_Put_act hw ho e5 q hr mc kv' k
  rw [if_neg e5]
  by_cases e6 : ok p o = 6
  · rw [if_pos e6]; exact ct_Out_act hw IH ho e6 q hr mc kv' hd k
  rw [if_neg e6]
  exact ct_Any_act (d := d + 4) hw IH ho (by omega) q mc kv' hd k
end CACT
