/-! the component: spread -/
theorem chs_nm {p : Pg} (hw : WF p) {x : Int} : ∀ (n : Nat) (k : Int), ¬ chs p x n k = -1 → nm p (chs p x n k).toNat = x
  | 0, _, h => absurd rfl h
  | n + 1, k, h => by
    rcases Classical.em (k < 0) with e | e
    · exact absurd (cI_t e) h
    · rcases Classical.em (own p k x = -1) with e2 | e2
      · have ec : chs p x (n + 1) k = chs p x n (up p k.toNat) := (cI_f e).trans (cI_t e2)
        rw [ec] at h ⊢
        exact chs_nm hw n _ h
      · have ec : chs p x (n + 1) k = own p k x := (cI_f e).trans (cI_f e2)
        have ob := own_bd hw k x
        obtain ⟨m, hm⟩ : ∃ m : Nat, own p k x = (m : Int) := ⟨(own p k x).toNat, by omega⟩
        rw [ec, hm, Int.toNat_natCast]
        exact (own_is hm).2.2
theorem fnd_nm {p : Pg} (hw : WF p) {t : Nat} {x : Int} (h : ¬ fnd p t x = -1) : nm p (fnd p t x).toNat = x := by
  unfold fnd at h ⊢
  rcases Classical.em (chs p x 17 t = -1) with e | e
  · rw [cI_t e] at h ⊢
    rcases Classical.em (cnt (lp0 p t x) (nM p).toNat 0 = 1) with e2 | e2
    · rw [cI_t e2] at h ⊢
      rcases fst_spec (lp0 p t x) (nM p).toNat 0 with ⟨h1, _⟩ | ⟨j, _, _, h3, _, h5⟩
      · exact absurd h1 h
      · rw [h5, Int.toNat_natCast]; exact h3.1.1.2.1
    · rw [cI_f e2] at h ⊢
      rcases fst_spec (lf p t x) (nM p).toNat 0 with ⟨h1, _⟩ | ⟨j, _, _, h3, _, h5⟩
      · exact absurd h1 h
      · rw [h5, Int.toNat_natCast]; exact h3.1.2.1
  · rw [cI_f e] at h ⊢
    exact chs_nm hw 17 t h
theorem mtc_Out (k : Nat) : mt_Out_call_Y k = Y_Op_call := by unfold mt_Out_call_Y; split <;> rfl
theorem mtc_Any (k : Nat) : mt_Any_call_Y k = Y_Op_call := by unfold mt_Any_call_Y; split <;> rfl
theorem mtc_Up (k : Nat) : mt_Up_call_Y k = Y_Op_call := by unfold mt_Up_call_Y; split <;> rfl
section CSP
variable {l : Launch} {D : DD} {d kc ks : Nat} {h h0 : Hp} {Ψ : Option AV → Hp → Prop} {p g : Pg}
theorem Gc.eqv {g' : Pg} (q : Gc p h0 h g) (e : ∀ a k, (119 ≤ a ∧ a ≤ 123) ∨ (a = 100 ∧ k = 17) → g' a k = g a k) : Gc p h0 h g' := by
  obtain ⟨q1, q2, ⟨d1, d2, d3, d4, d5, d6⟩, q4⟩ := q
  refine ⟨q1, q2, ⟨fun m' hm' => ?_, fun t ht => ?_, fun t ht => ?_, fun b m' hb hm' => ?_, fun o' m' ho' hm' => ?_, ?_⟩, fun a k z => by rw [e a k z]; exact q4 a k z⟩
  · rw [e _ _ (by omega)]; exact d1 m' hm'
  · rw [e _ _ (by omega)]; exact d2 t ht
  · rw [e _ _ (by omega)]; exact d3 t ht
  · rw [e _ _ (by omega)]; exact d4 b m' hb hm'
  · rw [e _ _ (by omega)]; exact d5 o' m' ho' hm'
  · rw [e _ _ (by omega)]; exact d6
theorem ct_New_spread {o : Nat} (q : Gc p h0 h g) (hw : WF p) (ho : (o : Int) < nO p) (hk : ok p o = 0) (k : ∀ h', Gc p h0 h' (gfk p o g) → Ψ none h') : Ev l D Y_New_spread (d + 2) kc ks 0 [some (vr (oD o)), some (vr 20)] [] h Ψ := by
  have w1 := hw.1
  have ab := (hw.2.2.2.2.2.2 o ho).2.1 (by omega)
  obtain ⟨a, ha⟩ : ∃ a : Nat, oA p o = (a : Int) := ⟨(oA p o).toNat, by omega⟩
  have eg : gfk p o g = gbeg p o a (nT p).toNat 0 (gs (gw g (g 120 a = 0)) 120 a 1) := by unfold gfk; rw [cG_t hk, ha, Int.toNat_natCast]
  have q2 := q.2.1
  have ek : ∀ {h' : Hp}, CS h' p → xK h' (oD o) = 5 := fun z => (z.okk o ho).trans (by unfold okd; rw [if_pos hk])
  have ea : ∀ {h' : Hp}, CS h' p → xR h' (oD o) 4 = tA a := fun z => (z.oar o ho (by omega)).trans (by rw [ha, Int.toNat_natCast])
  rw [ha] at ab
  rw [eg] at k
  apply g_New_spread_0 q2.sh
  rw [ea q2, q2.tn a ab.2, Int.toNat_natCast, q.2.2.1.2.1 a (by omega)]
  refine ⟨ek q2, q2.tk a ab.2, by omega, by omega, fun c => ⟨ek q2, ct_G_begin (q.same (by omega) c) hw ho ab.2 (fun h1 r1 => ⟨r1.2.1.sh, k h1 r1⟩)⟩, fun c => ⟨ek q2, q2.tk a ab.2, by omega, by omega, fun h2 e2 h3 e3 => ?_⟩⟩
  have r3 : Gc p h0 h3 (gs (gw g (g 120 a = 0)) 120 a 1) := by rw [e3, e2]; exact q.set2 hw (Or.inl ⟨rfl, rfl, by omega⟩) c
  rw [ea r3.2.1]
  exact ⟨ek r3.2.1, ct_G_begin r3 hw ho ab.2 (fun h1 r1 => ⟨r1.2.1.sh, k h1 r1⟩)⟩
theorem ct_Up_spread {o : Nat} (q : Gc p h0 h g) (hw : WF p) (ho : (o : Int) < nO p) (hk : ok p o = 2) (k : ∀ h', Gc p h0 h' (gfk p o g) → Ψ none h') : Ev l D Y_Up_spread (d + 5) kc ks 0 [some (vr (oD o)), some (vr 20), none] [] h Ψ := by
  have w2 := hw.2.1
  have wo := hw.2.2.2.2.2.2 o ho
  have ab := wo.2.1 (by omega)
  have bb := wo.2.2.2.2 (Or.inl (by omega))
  obtain ⟨a, ha⟩ : ∃ a : Nat, oA p o = (a : Int) := ⟨(oA p o).toNat, by omega⟩
  obtain ⟨x, hx⟩ : ∃ x : Nat, oB p o = (x : Int) := ⟨(oB p o).toNat, by omega⟩
  have ek : ∀ {h' : Hp}, CS h' p → xK h' (oD o) = 7 := fun z => (z.okk o ho).trans (by unfold okd; rw [if_neg (by omega), if_neg (by omega), if_pos hk])
  have ea : ∀ {h' : Hp}, CS h' p → xR h' (oD o) 4 = tA a := fun z => (z.oar o ho (by omega)).trans (by rw [ha, Int.toNat_natCast])
  have ex : xI h (oD o) 5 = (x : Int) := (q.2.1.obr o ho (by omega) (by omega)).trans hx
  have eg : gfk p o g = cG (0 ≤ chf p a a x) (gcall g o (chf p a a x).toNat) (gflt g o (chf p a a x)) := by unfold gfk; rw [cG_f (by omega), cG_f (by omega), cG_t hk, ha, hx, Int.toNat_natCast]
  rw [ha] at ab
  rw [hx] at bb
  rw [eg] at k
  have q2 := q.2.1
  have cb := chf_bd hw a a x
  have fb := fnd_bd hw a x
  apply g_Up_spread_0 q2.sh
  rw [ea q2, ex]
  refine ⟨ek q2, ek q2, ek q2, ct_G_find q2 hw ab.2 (by omega) (fun h1 f1 => ⟨(CS_lv hw f1 q2).sh, ct_G_choose (CS_lv hw f1 q2) hw ab.2 fb (fun z => by rw [fnd_nm hw z]; omega) (fun h2 f2 => ?_)⟩)⟩
  have r2 := (q.lv hw f1).lv hw f2
  have ec : chg p a (fnd p a x) = chf p a a x := rfl
  rw [ec]
  refine ⟨r2.2.1.sh, fun c => k h2 ?_, fun c => ⟨by omega, by omega, ek r2.2.1, ?_⟩⟩
  · rw [cG_f (by omega)]
    exact r2.eqv (fun b j z => by unfold gflt; rw [gs_at, if_neg (by omega)])
  · obtain ⟨m, hm⟩ : ∃ m : Nat, chf p a a x = (m : Int) := ⟨(chf p a a x).toNat, by omega⟩
    rw [hm, Int.toNat_natCast] at k
    rw [cG_t (by omega)] at k
    rw [hm] at cb ⊢
    rw [mtc_Up, Int.toNat_natCast, r2.2.1.mr m (by omega), en_Op_call]
    exact ct_Op_call r2 hw ho (by omega) (fun h3 r3 => ⟨r3.2.1.sh, k h3 r3⟩)
end CSP
