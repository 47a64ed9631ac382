/-! the component: judge of Call, of any op -/
section CJ3
variable {l : Launch} {D : DD} {d kc ks : Nat} {h h0 : Hp} {Ψ : Option AV → Hp → Prop} {p g G : Pg}
theorem ct_Call_judge {o : Nat} (q : CS h p) (hw : WF p) (ho : (o : Int) < nO p) (hk : ok p o = 1 ∨ ok p o = 4) (made : ∀ t : Nat, t < 16 → (xI h 23 t = 0 ↔ G 120 t = 0)) (row : ∀ j, j < 4 → xI h (oD o + 2) j = G 124 (4 * o + j)) (k : ∀ h', fx (jdy o) B206 h h' → (∀ j, j < 4 → xI h' (oD o + 2) j = gfk p o G 124 (4 * o + j)) → Ψ none h') : Ev l D Y_Call_judge (d + 5) kc ks 0 [some (vr (oD o)), some (vr 20), none, none, none, none] [] h Ψ := by
  have w1 := hw.1
  have w2 := hw.2.1
  have wo := hw.2.2.2.2.2.2 o ho
  have ab := wo.2.1 (by omega)
  have bb := wo.2.2.2.2 (Or.inl (by omega))
  obtain ⟨a, ha⟩ : ∃ a : Nat, oA p o = (a : Int) := ⟨(oA p o).toNat, by omega⟩
  obtain ⟨x, hx⟩ : ∃ x : Nat, oB p o = (x : Int) := ⟨(oB p o).toNat, by omega⟩
  have ek : ∀ {h' : Hp}, CS h' p → xK h' (oD o) = 6 := fun z => (z.okk o ho).trans (by unfold okd; rw [if_neg (by omega), if_pos hk])
  have ea : ∀ {h' : Hp}, CS h' p → xR h' (oD o) 4 = tA a := fun z => (z.oar o ho (by omega)).trans (by rw [ha, Int.toNat_natCast])
  have ex : xI h (oD o) 5 = (x : Int) := (q.obr o ho (by omega) (by omega)).trans hx
  have eg : gfk p o G = gca p o a x (nT p).toNat 0 0 G := by unfold gfk; rw [cG_f (by omega), cG_t hk, ha, hx, Int.toNat_natCast]
  rw [ha] at ab
  rw [hx] at bb
  rw [eg] at k
  have fb := fnd_bd hw a x
  apply g_Call_judge_0 q.sh
  rw [ea q, ex]
  refine ⟨ek q, ek q, ct_G_find q hw ab.2 (by omega) (fun h1 f1 => ⟨(CS_lv hw f1 q).sh, ?_⟩)⟩
  have key : ∀ (n i : Nat) (s : Int) (h' : Hp) (G' : Pg), i + n = (nT p).toNat → fx (jdy o) B206 h h' → (∀ t : Nat, t < 16 → (xI h' 23 t = 0 ↔ G' 120 t = 0)) → (∀ j, j < 4 → xI h' (oD o + 2) j = G' 124 (4 * o + j)) → gca p o a x n i s G' = gca p o a x (nT p).toNat 0 0 G → Ev l D Y_Call_judge (d + 5) kc ks 18 [some (vr (oD o)), some (vr 20), some (vr (mrf (fnd p a x))), some (vi s), some (vi (i : Int)), none] [] h' Ψ := by
    intro n
    induction n with
    | zero =>
      intro i s h' G' hi f m' r' eg2
      have q2 := CS_jd hw f q
      apply g_Call_judge_18 q2.sh
      rw [q2.ct]
      refine ⟨fun _ => k h' f ?_, fun c => by omega⟩
      rw [← eg2]; exact r'
    | succ n ih =>
      intro i s h' G' hi f m' r' eg2
      have q2 := CS_jd hw f q
      have hit : (i : Int) < nT p := by omega
      have skip : ¬ (¬ G' 120 i = 0 ∧ U p i a) → Ev l D Y_Call_judge (d + 5) kc ks 18 [some (vr (oD o)), some (vr 20), some (vr (mrf (fnd p a x))), some (vi s), some (vi ((i + 1 : Nat) : Int)), none] [] h' Ψ := by
        intro hc
        refine ih (i + 1) s h' G' (by omega) f m' r' ?_
        rw [← eg2]
        show _ = gca p o a x n (i + 1) _ _
        rw [cI_f hc, cG_f hc]
      have mi := m' i (by omega)
      apply g_Call_judge_18 q2.sh
      rw [q2.ct, Int.toNat_natCast, wr_s (show i < 1000000 by omega), q2.trr i hit, ea q2]
      refine ⟨fun c => by omega, fun _ => ⟨by omega, by omega, fun c2 => skip (fun z => z.1 (mi.mp c2)), fun c2 => ⟨by omega, by omega, ek q2, q2.tk i hit, ct_isUnder q2 hw hit ab.2 ⟨q2.sh, fun c3 => skip (fun z => bI_0.mp c3 z.2), fun c3 => ⟨by omega, by omega, ?_⟩⟩⟩⟩⟩
      have hc : ¬ G' 120 i = 0 ∧ U p i a := ⟨fun z => c2 (mi.mpr z), bI_n.mp c3⟩
      have eg1 : gca p o a x (n + 1) i s G' = gca p o a x n (i + 1) 1 (gca1 o (chf p i a x) s G') := by
        show gca p o a x n (i + 1) _ _ = _
        rw [cI_t hc, cG_t hc]
      rw [eg1] at eg2
      clear mi
      have cb := chf_bd hw i a x
      rw [q2.trr i hit]
      refine ct_G_choose q2 hw hit fb (fun z => by rw [fnd_nm hw z]; omega) (fun h2 f2 => ?_)
      have f3 := f.tr (lv_jd f2)
      have q3 := CS_jd hw f3 q
      have m3 : ∀ t : Nat, t < 16 → (xI h2 23 t = 0 ↔ G' 120 t = 0) := fun t ht => by rw [f2.2.1 23 t (by omega)]; exact m' t ht
      have r3 : ∀ j, j < 4 → xI h2 (oD o + 2) j = G' 124 (4 * o + j) := fun j hj => (f2.2.1 _ _ (by unfold oD; omega)).trans (r' j hj)
      have ec : chg p i (fnd p a x) = chf p i a x := rfl
      rw [ec]
      have flt : chf p i a x ≤ -2 → gca1 o (chf p i a x) s G' = gflt G' o (chf p i a x) → Ev l D (mt_Call_fault_Y (xK h2 (oD o))) (d + 4) 0 0 0 (enL (mt_Call_fault_Y (xK h2 (oD o))).2.2.1 [vr (oD o), vi (chf p i a x)]) [] h2 (kv (fun h3 => GS h3 ∧ Ev l D Y_Call_judge (d + 5) kc ks 18 [some (vr (oD o)), some (vr 20), some (vr (mrf (fnd p a x))), some (vi 1), some (vi ((i + 1 : Nat) : Int)), none] [] h3 Ψ)) := by
        intro c4 e4
        rw [e4] at eg2
        rw [mtf_Call, en_Op_fault]
        refine ct_Op_fault q3 ho (by omega) r3 (fun h4 f4 r4 => ⟨(CS_jd hw f4 q3).sh, ih (i + 1) 1 h4 _ (by omega) (f3.tr f4) (fun t ht => ?_) r4 eg2⟩)
        rw [f4.2.1 23 t (by unfold jdy oD; omega), flt_eq 120 t (by omega)]
        exact m3 t ht
      have non : (∀ b j, b ≠ 119 → b ≠ 123 → ¬ (b = 100 ∧ j = 17) → gca1 o (chf p i a x) s G' b j = G' b j) → Ev l D Y_Call_judge (d + 5) kc ks 18 [some (vr (oD o)), some (vr 20), some (vr (mrf (fnd p a x))), some (vi 1), some (vi ((i + 1 : Nat) : Int)), none] [] h2 Ψ := by
        intro e4
        refine ih (i + 1) 1 h2 _ (by omega) f3 (fun t ht => ?_) (fun j hj => ?_) eg2
        · rw [e4 120 t (by omega) (by omega) (by omega)]; exact m3 t ht
        · rw [e4 124 _ (by omega) (by omega) (by omega)]; exact r3 j hj
      refine ⟨q3.sh, fun c4 => ⟨ek q3, flt (by omega) ?_⟩, fun c4 => ⟨fun c5 => ⟨ek q3, flt (by omega) ?_⟩, fun c5 => ⟨fun c6 => non ?_, fun c6 => ⟨fun c7 => non ?_, fun c7 => ⟨ek q3, flt (by omega) ?_⟩⟩⟩⟩⟩
      · unfold gca1; rw [cG_f (by omega), cG_t (by omega)]
      · unfold gca1; rw [cG_f (by omega), cG_t (by omega)]
      · intro b j h1 h2 h3
        unfold gca1; rw [cG_t (by omega), gcall_at, if_neg (by omega), if_neg (by omega), if_neg (by omega)]
      · intro b j h1 h2 h3
        unfold gca1; rw [cG_f (by omega), cG_f (by omega)]
      · unfold gca1; rw [cG_f (by omega), cG_t (by omega)]
  exact key (nT p).toNat 0 0 h1 G (by omega) (lv_jd f1) (fun t ht => by rw [f1.2.1 23 t (by omega)]; exact made t ht) (fun j hj => (f1.2.1 _ _ (by unfold oD; omega)).trans (row j hj)) rfl
end CJ3
