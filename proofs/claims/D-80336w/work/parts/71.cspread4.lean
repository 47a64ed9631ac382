/-! the component: spread of Call -/
theorem flt_eq {g : Pg} {o : Nat} {c : Int} (a k : Nat) (h : (119 ≤ a ∧ a ≤ 123) ∨ (a = 100 ∧ k = 17)) : gflt g o c a k = g a k := by unfold gflt; rw [gs_at, if_neg (by omega)]
theorem gca_none {p : Pg} {o t : Nat} {x : Int} (hf : fnd p t x = -1) : ∀ (n i : Nat) (s : Int) (g : Pg) (a k : Nat), (119 ≤ a ∧ a ≤ 123) ∨ (a = 100 ∧ k = 17) → gca p o t x n i s g a k = g a k
  | 0, _, _, _, _, _, _ => rfl
  | n + 1, i, s, g, a, k, h => by
    unfold gca
    rw [gca_none hf n (i + 1) _ _ a k h]
    have ec : chf p i t x = -2 := cI_t hf
    rcases Classical.em (¬ g 120 i = 0 ∧ U p i t) with c | c
    · rw [cG_t c, ec]
      unfold gca1
      rw [cG_f (by omega)]
      rcases Classical.em ((-2 : Int) ≤ -4 ∨ s = 0) with c2 | c2
      · rw [cG_t c2]; exact flt_eq a k h
      · rw [cG_f c2]
    · rw [cG_f c]
section CSS
variable {l : Launch} {D : DD} {d kc ks : Nat} {h h0 : Hp} {Ψ : Option AV → Hp → Prop} {p g : Pg}
theorem ct_Call_spread {o : Nat} (q : Gc p h0 h g) (hw : WF p) (ho : (o : Int) < nO p) (hk : ok p o = 1 ∨ ok p o = 4) (k : ∀ h', Gc p h0 h' (gfk p o g) → Ψ none h') : Ev l D Y_Call_spread (d + 5) kc ks 0 [some (vr (oD o)), some (vr 20), none, none, none] [] h Ψ := by
  have w1 := hw.1
  have w2 := hw.2.1
  have wo := hw.2.2.2.2.2.2 o ho
  have ab := wo.2.1 (by omega)
  have bb := wo.2.2.2.2 (Or.inl (by omega))
  obtain ⟨a, ha⟩ : ∃ a : Nat, oA p o = (a : Int) := ⟨(oA p o).toNat, by omega⟩
  obtain ⟨x, hx⟩ : ∃ x : Nat, oB p o = (x : Int) := ⟨(oB p o).toNat, by omega⟩
  have ek : ∀ {h' : Hp}, CS h' p → xK h' (oD o) = 6 := fun z => (z.okk o ho).trans (by unfold okd; rw [if_neg (by omega), if_pos hk])
  have ea : ∀ {h' : Hp}, CS h' p → xR h' (oD o) 4 = tA a := fun z => (z.oar o ho (by omega)).trans (by rw [ha, Int.toNat_natCast])
  have ex : xI h (oD o) 5 = (x : Int) := (q.2.1.obr o ho (by omega) (by omega)).trans hx
  have eg : gfk p o g = gca p o a x (nT p).toNat 0 0 g := by unfold gfk; rw [cG_f (by omega), cG_t hk, ha, hx, Int.toNat_natCast]
  rw [ha] at ab
  rw [hx] at bb
  rw [eg] at k
  have fb := fnd_bd hw a x
  apply g_Call_spread_0 q.2.1.sh
  rw [ea q.2.1, ex]
  refine ⟨ek q.2.1, ek q.2.1, ct_G_find q.2.1 hw ab.2 (by omega) (fun h1 f1 => ⟨(CS_lv hw f1 q.2.1).sh, ?_⟩)⟩
  have key : ∀ (n i : Nat) (s : Int) (h' : Hp) (g' : Pg), i + n = (nT p).toNat → Gc p h0 h' g' → gca p o a x n i s g' = gca p o a x (nT p).toNat 0 0 g → Ev l D Y_Call_spread (d + 5) kc ks 15 [some (vr (oD o)), some (vr 20), some (vr (mrf (fnd p a x))), some (vi (i : Int)), none] [] h' Ψ := by
    intro n
    induction n with
    | zero =>
      intro i s h' g' hi r1 eg2
      apply g_Call_spread_15 r1.2.1.sh
      rw [r1.2.1.ct]
      refine ⟨fun _ => k h' ?_, fun c => by omega⟩
      rw [← eg2]; exact r1
    | succ n ih =>
      intro i s h' g' hi r1 eg2
      have q2 := r1.2.1
      have hit : (i : Int) < nT p := by omega
      have skip : ¬ (¬ g' 120 i = 0 ∧ U p i a) → Ev l D Y_Call_spread (d + 5) kc ks 15 [some (vr (oD o)), some (vr 20), some (vr (mrf (fnd p a x))), some (vi ((i + 1 : Nat) : Int)), none] [] h' Ψ := by
        intro hc
        refine ih (i + 1) s h' g' (by omega) r1 ?_
        rw [← eg2]
        show _ = gca p o a x n (i + 1) _ _
        rw [cI_f hc, cG_f hc]
      apply g_Call_spread_15 q2.sh
      rw [q2.ct, Int.toNat_natCast, r1.2.2.1.2.1 i (by omega), wr_s (show i < 1000000 by omega), q2.trr i hit, ea q2]
      refine ⟨fun c => by omega, fun _ => ⟨fun c => k h' ?_, fun c => ⟨by omega, by omega, fun c2 => ⟨fun _ => skip (fun z => z.1 c2), fun z => by omega⟩, fun c2 => ⟨by omega, by omega, ek q2, q2.tk i hit, ct_isUnder q2 hw hit ab.2 ⟨q2.sh, fun c3 => ⟨fun _ => skip (fun z => bI_0.mp c3 z.2), fun z => by omega⟩, fun c3 => ⟨by omega, by omega, ?_⟩⟩⟩⟩⟩⟩
      · rw [mrf_0 (by omega)] at c
        rw [← eg2]
        exact r1.eqv (fun b j z => gca_none c _ _ _ _ b j z)
      · rw [mrf_0 (by omega)] at c
        have hc : ¬ g' 120 i = 0 ∧ U p i a := ⟨c2, bI_n.mp c3⟩
        have eg1 : gca p o a x (n + 1) i s g' = gca p o a x n (i + 1) 1 (gca1 o (chf p i a x) s g') := by
          show gca p o a x n (i + 1) _ _ = _
          rw [cI_t hc, cG_t hc]
        rw [eg1] at eg2
        have cb := chf_bd hw i a x
        rw [q2.trr i hit]
        refine ct_G_choose q2 hw hit fb (fun z => by rw [fnd_nm hw z]; omega) (fun h2 f2 => ?_)
        have r2 := r1.lv hw f2
        have ec : chg p i (fnd p a x) = chf p i a x := rfl
        rw [ec]
        refine ⟨r2.2.1.sh, fun c4 => ih (i + 1) 1 h2 _ (by omega) (r2.eqv ?_) eg2, fun c4 => ⟨by omega, by omega, ek r2.2.1, ?_⟩⟩
        · intro b j z
          unfold gca1
          rw [cG_f (by omega)]
          rcases Classical.em (chf p i a x ≤ -4 ∨ s = 0) with c5 | c5
          · rw [cG_t c5]; exact flt_eq b j z
          · rw [cG_f c5]
        · obtain ⟨m, hm⟩ : ∃ m : Nat, chf p i a x = (m : Int) := ⟨(chf p i a x).toNat, by omega⟩
          have e1 : gca1 o (chf p i a x) s g' = gcall g' o m := by unfold gca1; rw [cG_t c4, hm, Int.toNat_natCast]
          rw [e1] at eg2
          rw [hm] at cb ⊢
          rw [mtc_Call, Int.toNat_natCast, r2.2.1.mr m (by omega), en_Op_call]
          exact ct_Op_call r2 hw ho (by omega) (fun h3 r3 => ⟨r3.2.1.sh, ih (i + 1) 1 h3 _ (by omega) r3 eg2⟩)
  exact key (nT p).toNat 0 0 h1 g (by omega) (q.lv hw f1) rfl
end CSS
