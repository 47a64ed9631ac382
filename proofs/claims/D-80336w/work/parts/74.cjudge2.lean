/-! the component: judge of any op -/
theorem mtf_Up (k : Nat) : mt_Up_fault_Y k = Y_Op_fault := by unfold mt_Up_fault_Y; split <;> rfl
theorem mtf_Static (k : Nat) : mt_Static_fault_Y k = Y_Op_fault := by unfold mt_Static_fault_Y; split <;> rfl
theorem mtf_Call (k : Nat) : mt_Call_fault_Y k = Y_Op_fault := by unfold mt_Call_fault_Y; split <;> rfl
theorem en_Op_fault (a : Nat) (b : Int) : enL Y_Op_fault.2.2.1 [vr a, vi b] = [some (vr a), some (vi b)] := rfl
section CJ2
variable {l : Launch} {D : DD} {d kc ks : Nat} {h h0 : Hp} {Ψ : Option AV → Hp → Prop} {p g G : Pg}
theorem lv_jd {o : Nat} {h h' : Hp} (f : fx A205 B206 h h') : fx (jdy o) B206 h h' := f.mono (fun a k z => Or.inr z) (fun _ _ z => z)
theorem ct_Up_judge {o : Nat} (q : CS h p) (hw : WF p) (ho : (o : Int) < nO p) (hk : ok p o = 2) (row : ∀ j, j < 4 → xI h (oD o + 2) j = G 124 (4 * o + j)) (k : ∀ h', fx (jdy o) B206 h h' → (∀ j, j < 4 → xI h' (oD o + 2) j = gfk p o G 124 (4 * o + j)) → Ψ none h') : Ev l D Y_Up_judge (d + 5) kc ks 0 [some (vr (oD o)), some (vr 20), none] [] h Ψ := by
  have w2 := hw.2.1
  have wo := hw.2.2.2.2.2.2 o ho
  have ab := wo.2.1 (by omega)
  have bb := wo.2.2.2.2 (Or.inl (by omega))
  obtain ⟨a, ha⟩ : ∃ a : Nat, oA p o = (a : Int) := ⟨(oA p o).toNat, by omega⟩
  obtain ⟨x, hx⟩ : ∃ x : Nat, oB p o = (x : Int) := ⟨(oB p o).toNat, by omega⟩
  have ek : ∀ {h' : Hp}, CS h' p → xK h' (oD o) = 7 := fun z => (z.okk o ho).trans (by unfold okd; rw [if_neg (by omega), if_neg (by omega), if_pos hk])
  have ea : ∀ {h' : Hp}, CS h' p → xR h' (oD o) 4 = tA a := fun z => (z.oar o ho (by omega)).trans (by rw [ha, Int.toNat_natCast])
  have ex : xI h (oD o) 5 = (x : Int) := (q.obr o ho (by omega) (by omega)).trans hx
  have eg : gfk p o G = cG (0 ≤ chf p a a x) (gcall G o (chf p a a x).toNat) (gflt G o (chf p a a x)) := by unfold gfk; rw [cG_f (by omega), cG_f (by omega), cG_t hk, ha, hx, Int.toNat_natCast]
  rw [ha] at ab
  rw [hx] at bb
  rw [eg] at k
  have cb := chf_bd hw a a x
  have fb := fnd_bd hw a x
  apply g_Up_judge_0 q.sh
  rw [ea q, ex]
  refine ⟨ek q, ek q, ek q, ct_G_find q hw ab.2 (by omega) (fun h1 f1 => ⟨(CS_lv hw f1 q).sh, ct_G_choose (CS_lv hw f1 q) hw ab.2 fb (fun z => by rw [fnd_nm hw z]; omega) (fun h2 f2 => ?_)⟩)⟩
  have q2 := CS_lv hw f2 (CS_lv hw f1 q)
  have f12 := f1.tr f2
  have row2 : ∀ j, j < 4 → xI h2 (oD o + 2) j = G 124 (4 * o + j) := fun j hj => (f12.2.1 _ _ (by unfold oD; omega)).trans (row j hj)
  have ec : chg p a (fnd p a x) = chf p a a x := rfl
  rw [ec]
  refine ⟨q2.sh, fun c => k h2 (lv_jd f12) ?_, fun c => ⟨ek q2, ?_⟩⟩
  · rw [cG_t c]
    intro j hj
    rw [call_124]; exact row2 j hj
  · rw [mtf_Up, en_Op_fault]
    rw [cG_f (by omega)] at k
    exact ct_Op_fault q2 ho (by omega) row2 (fun h3 f3 r3 => ⟨(CS_jd hw f3 q2).sh, k h3 ((lv_jd f12).tr f3) r3⟩)
theorem ct_Static_judge {o : Nat} (q : CS h p) (hw : WF p) (ho : (o : Int) < nO p) (hk : ok p o = 3) (row : ∀ j, j < 4 → xI h (oD o + 2) j = G 124 (4 * o + j)) (k : ∀ h', fx (jdy o) B206 h h' → (∀ j, j < 4 → xI h' (oD o + 2) j = gfk p o G 124 (4 * o + j)) → Ψ none h') : Ev l D Y_Static_judge (d + 6) kc ks 0 [some (vr (oD o)), some (vr 20)] [] h Ψ := by
  have wo := hw.2.2.2.2.2.2 o ho
  have ab := wo.2.1 (by omega)
  have bb := wo.2.2.2.2 (Or.inl (by omega))
  obtain ⟨a, ha⟩ : ∃ a : Nat, oA p o = (a : Int) := ⟨(oA p o).toNat, by omega⟩
  obtain ⟨x, hx⟩ : ∃ x : Nat, oB p o = (x : Int) := ⟨(oB p o).toNat, by omega⟩
  have ek : ∀ {h' : Hp}, CS h' p → xK h' (oD o) = 8 := fun z => (z.okk o ho).trans (by unfold okd; rw [if_neg (by omega), if_neg (by omega), if_neg (by omega), if_pos hk])
  have ea : ∀ {h' : Hp}, CS h' p → xR h' (oD o) 4 = tA a := fun z => (z.oar o ho (by omega)).trans (by rw [ha, Int.toNat_natCast])
  have ex : ∀ {h' : Hp}, CS h' p → xI h' (oD o) 5 = (x : Int) := fun z => (z.obr o ho (by omega) (by omega)).trans hx
  have et : tld p o = cI (¬ fnd p a x = -1 ∧ so p (fnd p a x).toNat = 2) (fnd p a x) (-1) := by unfold tld; rw [ha, hx, Int.toNat_natCast]
  unfold gfk at k
  rw [cG_f (show ¬ ok p o = 0 by omega), cG_f (show ¬ (ok p o = 1 ∨ ok p o = 4) by omega), cG_f (show ¬ ok p o = 2 by omega), cG_t hk, ha, hx, Int.toNat_natCast] at k
  rw [ha] at ab
  rw [hx] at bb
  have fb := fnd_bd hw a x
  apply g_Static_judge_0 q.sh
  refine ⟨ek q, ct_Static_told q hw ho hk (fun h1 f1 => ?_)⟩
  have q1 := CS_lv hw f1 q
  have row1 : ∀ j, j < 4 → xI h1 (oD o + 2) j = G 124 (4 * o + j) := fun j hj => (f1.2.1 _ _ (by unfold oD; omega)).trans (row j hj)
  rw [et]
  rcases Classical.em (¬ fnd p a x = -1 ∧ so p (fnd p a x).toNat = 2) with c | c
  · have c1 := c.1
    rw [cI_t c]
    refine ⟨q1.sh, fun _ => k h1 (lv_jd f1) ?_, fun z => absurd ((mrf_0 (by omega)).mp z) c1⟩
    rw [cG_t c]
    intro j hj
    rw [beg_124, call_124]; exact row1 j hj
  · rw [cI_f c]
    rw [cG_f c] at k
    refine ⟨q1.sh, fun z => absurd rfl z, fun _ => ⟨ek q1, ek q1, ?_⟩⟩
    rw [ea q1, ex q1]
    refine ct_G_find q1 hw ab.2 (by omega) (fun h2 f2 => ?_)
    have q2 := CS_lv hw f2 q1
    have f12 := f1.tr f2
    have row2 : ∀ j, j < 4 → xI h2 (oD o + 2) j = G 124 (4 * o + j) := fun j hj => (f2.2.1 _ _ (by unfold oD; omega)).trans (row1 j hj)
    refine ⟨q2.sh, fun z => ⟨ek q2, ?_⟩, fun z => ⟨ek q2, ?_⟩⟩
    · rw [mtf_Static, en_Op_fault]
      rw [mrf_0 (by omega)] at z
      rw [cI_f z] at k
      exact ct_Op_fault q2 ho (by omega) row2 (fun h3 f3 r3 => ⟨(CS_jd hw f3 q2).sh, k h3 ((lv_jd f12).tr f3) r3⟩)
    · rw [mtf_Static, en_Op_fault]
      rw [mrf_0 (by omega)] at z
      rw [cI_t z] at k
      exact ct_Op_fault q2 ho (by omega) row2 (fun h3 f3 r3 => ⟨(CS_jd hw f3 q2).sh, k h3 ((lv_jd f12).tr f3) r3⟩)
end CJ2
