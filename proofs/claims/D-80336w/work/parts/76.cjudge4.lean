/-! the component: judge of any op; forget -/
section CJ4
variable {l : Launch} {D : DD} {d kc ks : Nat} {h h0 : Hp} {Ψ : Option AV → Hp → Prop} {p g G : Pg}
theorem ct_judge {o : Nat} (q : CS h p) (hw : WF p) (ho : (o : Int) < nO p) (made : ∀ t : Nat, t < 16 → (xI h 23 t = 0 ↔ G 120 t = 0)) (row : ∀ j, j < 4 → xI h (oD o + 2) j = G 124 (4 * o + j)) (k : ∀ h', fx (jdy o) B206 h h' → (∀ j, j < 4 → xI h' (oD o + 2) j = gfk p o G 124 (4 * o + j)) → Ψ none h') : Ev l D (mt_Op_judge_Y (xK h (oD o))) (d + 6) kc ks 0 (enL (mt_Op_judge_Y (xK h (oD o))).2.2.1 [vr (oD o), vr 20]) [] h Ψ := by
  have o1 := (hw.2.2.2.2.2.2 o ho).1
  rw [q.okk o ho]
  unfold okd
  have nop : (∀ j, gfk p o G 124 j = G 124 j) → Ev l D Y_Op_judge (d + 6) kc ks 0 [some (vr (oD o)), some (vr 20)] [] h Ψ := by
    intro e
    apply g_Op_judge_0 q.sh
    exact k h fx.rf (fun j hj => by rw [e]; exact row j hj)
  by_cases e0 : ok p o = 0
  · rw [if_pos e0]
    refine nop (fun j => ?_)
    unfold gfk; rw [cG_t e0, beg_124, gset_at, if_neg (by omega), if_neg (by omega)]
  rw [if_neg e0]
  by_cases e1 : ok p o = 1 ∨ ok p o = 4
  · rw [if_pos e1]; exact ct_Call_judge q hw ho e1 made row k
  rw [if_neg e1]
  by_cases e2 : ok p o = 2
  · rw [if_pos e2]; exact ct_Up_judge q hw ho e2 row k
  rw [if_neg e2]
  by_cases e3 : ok p o = 3
  · rw [if_pos e3]; exact ct_Static_judge q hw ho e3 row k
  rw [if_neg e3]
  by_cases e5 : ok p o = 5
  · rw [if_pos e5]
    refine nop (fun j => ?_)
    unfold gfk; rw [cG_f e0, cG_f e1, cG_f e2, cG_f e3, cG_t e5, gset_at, if_neg (by omega), if_neg (by omega)]
  rw [if_neg e5]
  by_cases e6 : ok p o = 6
  · rw [if_pos e6]
    refine nop (fun j => ?_)
    unfold gfk; rw [cG_f e0, cG_f e1, cG_f e2, cG_f e3, cG_f e5, cG_t e6, ou_124]
  rw [if_neg e6]
  refine nop (fun j => ?_)
  unfold gfk; rw [cG_f e0, cG_f e1, cG_f e2, cG_f e3, cG_f e5, cG_f e6, an_124]
theorem ct_forget {o : Nat} (q : CS h p) (hw : WF p) (ho : (o : Int) < nO p) (k : ∀ h', sm (fun b _ => b = oD o + 1 ∨ b = oD o + 2) h h' → (∀ i, i < 48 → xI h' (oD o + 1) i = 0) → (∀ i, i < 4 → xI h' (oD o + 2) i = 0) → Ψ none h') : Ev l D Y_Op_forget (d + 1) kc ks 0 [some (vr (oD o))] [] h Ψ := by
  apply s_Op_forget_0
  rw [q.okk o ho, q.oc o ho]
  have n1 := q.ocn o ho
  have n2 := q.ofn o ho
  refine ⟨opk_ok _, ct_fillZ (q.ock o ho) (by unfold oD; omega) (Or.inl rfl) (by omega) (fun h1 s1 z1 => ⟨by rw [s1.K, q.okk o ho]; exact opk_ok _, ?_⟩)⟩
  rw [s1.R, q.of o ho]
  refine ct_fillI (by rw [s1.K]; exact q.ofk o ho) (by unfold oD; omega) (by rw [s1.N]; omega) (fun h2 s2 z2 => k h2 ((s1.mono (fun b _ e => Or.inl e)).tr (s2.mono (fun b _ e => Or.inr e))) (fun i hi => ?_) (fun i hi => z2 i (by rw [s1.N]; omega)))
  rw [s2.2.2 (oD o + 1) i (by omega)]
  exact z1 i (by omega)
end CJ4
