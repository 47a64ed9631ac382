/-! the component: begin -/
theorem mtc_Op (k : Nat) : mt_Op_call_Y k = Y_Op_call := by unfold mt_Op_call_Y; split <;> rfl
theorem en_Op_call (a b c : Nat) : enL Y_Op_call.2.2.1 [vr a, vr b, vr c] = [some (vr a), some (vr b), some (vr c)] := rfl
section CBG2
variable {l : Launch} {D : DD} {d kc ks : Nat} {h h0 : Hp} {Ψ : Option AV → Hp → Prop} {p g : Pg}
/-- a cell is set, when it was not -/
theorem Gc.same {a k : Nat} (q : Gc p h0 h g) (ha : 119 ≤ a ∧ a ≤ 123) (hn : ¬ g a k = 0) : Gc p h0 h (gs (gw g (g a k = 0)) a k 1) := by
  obtain ⟨q1, q2, ⟨d1, d2, d3, d4, d5, d6⟩, q4⟩ := q
  have v := (q4 a k (Or.inl ha)).resolve_left hn
  have v17 := q4 100 17 (Or.inr ⟨rfl, rfl⟩)
  have same : ∀ c j, (119 ≤ c ∧ c ≤ 123) ∨ (c = 100 ∧ j = 17) → gs (gw g (g a k = 0)) a k 1 c j = g c j := by
    intro c j hj
    rw [gset_at]
    by_cases e : c = a ∧ j = k
    · rw [if_pos e, e.1, e.2, v]
    rw [if_neg e]
    by_cases e3 : c = 100 ∧ j = 17
    · rw [if_pos e3, e3.1, e3.2]
      rcases v17 with w | w
      · rw [w, bI_f (fun z => z.elim (fun y => y rfl) hn)]
      · rw [w, bI_t (Or.inl (by decide))]
    rw [if_neg e3]
  refine ⟨q1, q2, ⟨fun m' hm' => ?_, fun t ht => ?_, fun t ht => ?_, fun b m' hb hm' => ?_, fun o' m' ho' hm' => ?_, ?_⟩, b01_set q4⟩
  · rw [same _ _ (by omega)]; exact d1 m' hm'
  · rw [same _ _ (by omega)]; exact d2 t ht
  · rw [same _ _ (by omega)]; exact d3 t ht
  · rw [same _ _ (by omega)]; exact d4 b m' hb hm'
  · rw [same _ _ (by omega)]; exact d5 o' m' ho' hm'
  · rw [same _ _ (by omega)]; exact d6
theorem Gc.set2 {a k b : Nat} (hw : WF p) (q : Gc p h0 h g) (hb : (a = 120 ∧ b = 23 ∧ k < 16) ∨ (a = 121 ∧ b = 24 ∧ k < 16)) (hz : g a k = 0) : Gc p h0 (sI (sI h b k 1) 20 8 1) (gs (gw g (g a k = 0)) a k 1) := by
  have w2 := hw.2.1
  obtain ⟨q1, q2, ⟨d1, d2, d3, d4, d5, d6⟩, q4⟩ := q
  have f : fx cdy B206 h (sI (sI h b k 1) 20 8 1) := (fx.rf.put (by unfold cdy; omega)).put (by unfold cdy; omega)
  have e : ∀ c j, ¬ (c = b ∧ j = k) → ¬ (c = 20 ∧ j = 8) → xI (sI (sI h b k 1) 20 8 1) c j = xI h c j := fun c j h1 h2 => by rw [xI_sI, if_neg h2, xI_sI, if_neg h1]
  have eb : xI (sI (sI h b k 1) 20 8 1) b k = 1 := by rw [xI_sI, if_neg (by omega), xI_sI, if_pos ⟨rfl, rfl⟩]
  refine ⟨q1.tr f, CS_fx hw f (fun _ _ => cdy_cst) (fun a k z => by have z' : a = 20 ∧ k = 6 := z; unfold csr; omega) q2, ⟨fun m' hm' => ?_, fun t ht => ?_, fun t ht => ?_, fun b' m' hb' hm' => ?_, fun o' m' ho' hm' => ?_, ?_⟩, b01_set q4⟩
  · rw [gset_at, if_neg (by omega), if_neg (by omega), e _ _ (by unfold mA; omega) (by unfold mA; omega)]; exact d1 m' hm'
  · rw [gset_at]
    by_cases z : 120 = a ∧ t = k
    · rw [if_pos z, show (23 : Nat) = b by omega, z.2]; exact eb
    · rw [if_neg z, if_neg (by omega), e _ _ (by omega) (by omega)]; exact d2 t ht
  · rw [gset_at]
    by_cases z : 121 = a ∧ t = k
    · rw [if_pos z, show (24 : Nat) = b by omega, z.2]; exact eb
    · rw [if_neg z, if_neg (by omega), e _ _ (by omega) (by omega)]; exact d3 t ht
  · rw [gset_at, if_neg (by omega), if_neg (by omega), e _ _ (by omega) (by omega)]; exact d4 b' m' hb' hm'
  · rw [gset_at, if_neg (by omega), if_neg (by omega), e _ _ (by unfold oD; omega) (by unfold oD; omega)]; exact d5 o' m' ho' hm'
  · rw [gset_at, if_neg (by omega), if_pos ⟨rfl, rfl⟩, xI_sI, if_pos ⟨rfl, rfl⟩]
    exact (bI_t (Or.inr hz)).symm
theorem ct_G_begin {o t : Nat} (q : Gc p h0 h g) (hw : WF p) (ho : (o : Int) < nO p) (ht : (t : Int) < nT p) (k : ∀ h', Gc p h0 h' (gbeg p o t (nT p).toNat 0 g) → Ψ none h') : Ev l D Y_G_begin (d + 1) kc ks 0 [some (vr 20), some (vr (oD o)), some (vr (tA t)), none, none] [] h Ψ := by
  have w1 := hw.1
  have w2 := hw.2.1
  apply g_G_begin_0 q.2.1.sh
  have key : ∀ (n j : Nat) (h' : Hp) (g' : Pg), j + n = (nT p).toNat → Gc p h0 h' g' → gbeg p o t n j g' = gbeg p o t (nT p).toNat 0 g → Ev l D Y_G_begin (d + 1) kc ks 2 [some (vr 20), some (vr (oD o)), some (vr (tA t)), some (vi (j : Int)), none] [] h' Ψ := by
    intro n
    induction n with
    | zero =>
      intro j h' g' hj r1 eg
      apply g_G_begin_2 r1.2.1.sh
      rw [r1.2.1.ct]
      refine ⟨fun _ => k h' ?_, fun c => by omega⟩
      rw [← eg]; exact r1
    | succ n ih =>
      intro j h' g' hj r1 eg
      have hjt : (j : Int) < nT p := by omega
      have q' := r1.2.1
      have ob := own_bd hw (j : Int) (-1)
      have skip : ¬ wth p t j → Ev l D Y_G_begin (d + 1) kc ks 2 [some (vr 20), some (vr (oD o)), some (vr (tA t)), some (vi ((j + 1 : Nat) : Int)), none] [] h' Ψ := by
        intro hn
        refine ih (j + 1) h' g' (by omega) r1 ?_
        rw [← eg]
        show _ = gbeg p o t n (j + 1) _
        rw [cG_f hn]
      have g77 : wth p t j → ∀ h2, Gc p h0 h2 (gs (gw g' (g' 121 j = 0)) 121 j 1) → Ev l D Y_G_begin (d + 1) kc ks 77 [some (vr 20), some (vr (oD o)), some (vr (tA t)), some (vi (j : Int)), some (vr (tA j))] [] h2 Ψ := by
        intro hy h2 r2
        have q2 := r2.2.1
        have eg1 : gbeg p o t (n + 1) j g' = gbeg p o t n (j + 1) (gbeg1 p o j g') := by
          show gbeg p o t n (j + 1) _ = _
          rw [cG_t hy]
        rw [eg1] at eg
        apply g_G_begin_77 q2.sh
        rw [q2.ts j hjt, wr_s (show j < 1000000 by omega)]
        refine ⟨q2.tk j hjt, fun c => ?_, fun c => ⟨q2.tk j hjt, by rw [q2.okk o ho]; exact opk_ok _, ?_⟩⟩
        · rw [mrf_0 (by omega)] at c
          refine ih (j + 1) h2 _ (by omega) r2 ?_
          rw [← eg]; unfold gbeg1; rw [cG_t c]
        · rw [mrf_0 (by omega)] at c
          obtain ⟨m, hm⟩ : ∃ m : Nat, own p j (-1) = (m : Int) := ⟨(own p j (-1)).toNat, by omega⟩
          rw [mtc_Op, hm, mrf_s (by omega), Int.toNat_natCast, en_Op_call]
          refine ct_Op_call r2 hw ho (by omega) (fun h3 r3 => ⟨r3.2.1.sh, ih (j + 1) h3 _ (by omega) r3 ?_⟩)
          rw [← eg]; unfold gbeg1; rw [cG_f c, hm, Int.toNat_natCast]
      have g56 : wth p t j → Ev l D Y_G_begin (d + 1) kc ks 56 [some (vr 20), some (vr (oD o)), some (vr (tA t)), some (vi (j : Int)), some (vr (tA j))] [] h' Ψ := by
        intro hy
        apply g_G_begin_56 q'.sh
        rw [Int.toNat_natCast, r1.2.2.1.2.2.1 j (by omega)]
        refine ⟨by omega, by omega, fun c => g77 hy h' (r1.same (by omega) c), fun c => ⟨by omega, by omega, fun h1 e1 h2 e2 => g77 hy h2 ?_⟩⟩
        rw [e2, e1]
        exact r1.set2 hw (Or.inr ⟨rfl, rfl, by omega⟩) c
      apply g_G_begin_2 q'.sh
      rw [q'.ct, Int.toNat_natCast, q'.trr j hjt, wr_s (show j < 1000000 by omega)]
      refine ⟨fun c => by omega, fun _ => ⟨by omega, by omega, fun c => g56 (Or.inl (tA_inj.mp c)), fun c => ⟨q'.tk t ht, ct_isClass q' ht ⟨q'.sh, fun c2 => skip ?_, fun c2 => ⟨q'.tk t ht, ct_isUnder q' hw ht hjt ⟨q'.sh, fun c3 => skip ?_, fun c3 => ⟨q'.tk j hjt, ct_isClass q' hjt ⟨q'.sh, fun c4 => g56 ?_, fun c4 => ⟨q'.tk j hjt, ct_hasPlain q' hw hjt ⟨q'.sh, fun c5 => skip ?_, fun c5 => g56 ?_⟩⟩⟩⟩⟩⟩⟩⟩⟩⟩
      · rw [bI_0] at c2
        exact fun z => z.elim (fun y => c (by rw [y])) (fun y => c2 y.1)
      · rw [bI_0] at c3
        exact fun z => z.elim (fun y => c (by rw [y])) (fun y => c3 y.2.2.1)
      · exact Or.inr ⟨bI_n.mp c2, hjt, bI_n.mp c3, Or.inl (bI_n.mp c4)⟩
      · rw [bI_0] at c4 c5
        exact fun z => z.elim (fun y => c (by rw [y])) (fun y => y.2.2.2.elim c4 c5)
      · exact Or.inr ⟨bI_n.mp c2, hjt, bI_n.mp c3, Or.inr (bI_n.mp c5)⟩
  exact key (nT p).toNat 0 h g (by omega) q rfl
end CBG2
