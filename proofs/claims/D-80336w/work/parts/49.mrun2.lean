/-! the model's runs: ops, the row, the whole -/
section MR2
variable {l : Launch} {D : DD} {d kc ks : Nat} {h h0 : Hp} {Ψ : Option AV → Hp → Prop} {p g : Pg} {K : List Tk} {s : Rst}
theorem one_len (t : Int) (o : Nat) : (one t o).length ≤ 1 := by
  unfold one
  rcases Classical.em (0 ≤ t) with e | e
  · rw [cA_t e]; exact Nat.le_refl _
  · rw [cA_f e]; exact Nat.zero_le _
theorem ct_M_runCall {o : Nat} (q : Mv p h0 h K s) (hr : Rv p s) (ho : (o : Int) < nO p) (hk : ok p o = 1 ∨ ok p o = 4) (hl : K.length + 1 < 1000) (k : ∀ h', Mv p h0 h' ((oCall p o s).1 ++ K) (oCall p o s).2 → Ψ none h') : Ev l D Y_M_runCall (d + 5) kc ks 0 [some (vr 100), some (vi (o : Int)), none, none, none, none, none] [] h Ψ := by
  have hw := q.2.1.1.2.2.1
  have w1 := hw.1
  have w3 := hw.2.2.1
  obtain ⟨o1, o2, o3, o4, o5⟩ := hw.2.2.2.2.2.2 o ho
  have ab := o2 (by omega)
  obtain ⟨a, ha⟩ : ∃ a : Nat, oA p o = (a : Int) := ⟨(oA p o).toNat, by omega⟩
  have r47 := hr.2.2.2.1
  obtain ⟨P, hP⟩ : ∃ P : Nat, s.1 100 47 = (P : Int) := ⟨(s.1 100 47).toNat, by omega⟩
  have r5 := hr.2.2.2.2.1
  rw [ha] at ab
  have cb := cnt_le (cpl p s a) P 0
  apply m_M_runCall_0 q.2.1.1.1
  rw [Int.toNat_natCast, (q.2.1.1.2.1).oA o, ha]
  refine ⟨by omega, by omega, ?_⟩
  have pl : ∀ {h' : Hp} {K' : List Tk} {s' : Rst}, Mv p h0 h' K' s' → s'.1 = s.1 → ∀ j, j < P → xI h' 147 j = s.1 147 j := fun m e j hj => (m.2.2.2.1 147 j (by rw [e]; unfold rcl; omega)).trans (by rw [e])
  have pn : ∀ {h' : Hp} {K' : List Tk} {s' : Rst}, Mv p h0 h' K' s' → s'.1 = s.1 → xI h' 100 47 = (P : Int) := fun m e => (m.2.2.2.1 100 47 (by unfold rcl; omega)).trans (by rw [e]; exact hP)
  have after : ∀ (h' : Hp), Mv p h0 h' K s → ¬ cnt (cpl p s a) P 0 = 0 → Ev l D Y_M_draw (d + 4) 0 0 0 [some (vr 100), some (vi (cnt (cpl p s a) P 0))] [] h' (ki (fun r1 h1 => MS h1 ∧ Ev l D Y_M_runCall (d + 5) kc ks 65 [some (vr 100), some (vi (o : Int)), some (vi (a : Int)), some (vi (cnt (cpl p s a) P 0)), some (vi r1), some (vi (0 : Int)), none] [] h1 Ψ)) := by
    intro h' q' hn
    refine ct_M_draw q' (by omega) (fun h1 q1 => ⟨q1.2.1.1.1, ?_⟩)
    have db := dw_bd (x := (rx s).2) (n := cnt (cpl p s a) P 0) (by omega) (by omega)
    obtain ⟨J, j1, j2, j3, j4⟩ := nth_spec (cpl p s a) (dw (rx s).2 (cnt (cpl p s a) P 0)) P 0 0 db.1 (by omega)
    have eo : oCall p o s = (one (chf p (s.1 147 J).toNat a (oB p o)) o, rx s) := by
      unfold oCall
      rw [ha, hP, Int.toNat_natCast, Int.toNat_natCast, cA_f hn, j4, Int.toNat_natCast]
    rw [eo] at k
    have ol := one_len (chf p (s.1 147 J).toNat a (oB p o)) o
    have phB : ∀ (n j : Nat) (x4 : Int) (h2 : Hp), j + n = P → -(j : Int) - 1 ≤ x4 → x4 < 0 → Mv p h0 h2 (one (chf p (s.1 147 J).toNat a (oB p o)) o ++ K) (rx s) → Ev l D Y_M_runCall (d + 5) kc ks 65 [some (vr 100), some (vi (o : Int)), some (vi (a : Int)), some (vi (cnt (cpl p s a) P 0)), some (vi x4), some (vi (j : Int)), none] [] h2 Ψ := by
      intro n
      induction n with
      | zero =>
        intro j x4 h2 hj hx1 hx2 m2
        apply m_M_runCall_65 m2.2.1.1.1
        rw [pn m2 (rx1 s)]
        exact ⟨fun _ => k h2 m2, fun c => by omega⟩
      | succ n ih =>
        intro j x4 h2 hj hx1 hx2 m2
        have r5j := r5 j (by omega)
        apply m_M_runCall_65 m2.2.1.1.1
        rw [pn m2 (rx1 s), Int.toNat_natCast, pl m2 (rx1 s) j (by omega), wr_s (show j < 1000000 by omega), wr_eq (x := x4 + -1) (by omega) (by omega)]
        refine ⟨fun c => by omega, fun _ => ⟨by omega, by omega, ct_M_isUnderI m2.2.1.1 r5j ⟨by omega, by omega⟩ (fun h3 s3 => ⟨s3.2.1, fun c => ih (j + 1) x4 h3 (by omega) (by omega) hx2 (m2.sc s3), fun c => ⟨fun c2 => ih (j + 1) (x4 + -1) h3 (by omega) (by omega) (by omega) (m2.sc s3), fun c2 => by omega⟩⟩)⟩⟩
    have phA : ∀ (n j : Nat) (c : Int) (h2 : Hp), j + n = P → 0 ≤ c → c ≤ j → c ≤ dw (rx s).2 (cnt (cpl p s a) P 0) → nth (cpl p s a) (dw (rx s).2 (cnt (cpl p s a) P 0)) n j c = (J : Int) → Mv p h0 h2 K (rx s) → Ev l D Y_M_runCall (d + 5) kc ks 65 [some (vr 100), some (vi (o : Int)), some (vi (a : Int)), some (vi (cnt (cpl p s a) P 0)), some (vi (dw (rx s).2 (cnt (cpl p s a) P 0) - c)), some (vi (j : Int)), none] [] h2 Ψ := by
      intro n
      induction n with
      | zero =>
        intro j c h2 hj hc0 hcj hcw en m2
        have : (-1 : Int) = (J : Int) := en
        omega
      | succ n ih =>
        intro j c h2 hj hc0 hcj hcw en m2
        have r5j := r5 j (by omega)
        apply m_M_runCall_65 m2.2.1.1.1
        rw [pn m2 (rx1 s), Int.toNat_natCast, pl m2 (rx1 s) j (by omega), wr_s (show j < 1000000 by omega), wr_eq (x := dw (rx s).2 (cnt (cpl p s a) P 0) - c + -1) (by omega) (by omega)]
        refine ⟨fun c => by omega, fun _ => ⟨by omega, by omega, ct_M_isUnderI m2.2.1.1 r5j ⟨by omega, by omega⟩ (fun h3 s3 => ⟨s3.2.1, fun c1 => ih (j + 1) c h3 (by omega) hc0 (by omega) hcw ?_ (m2.sc s3), fun c1 => ⟨fun c2 => ?_, fun c2 => ⟨by omega, by omega, by omega, by omega, ?_⟩⟩⟩)⟩⟩
        · rw [Int.toNat_natCast, bI_0] at c1
          rw [← en]; exact (cI_f c1).symm
        · rw [Int.toNat_natCast, bI_n] at c1
          have := ih (j + 1) (c + 1) h3 (by omega) (by omega) (by omega) (by omega) (by rw [← en]; exact ((cI_t c1).trans (cI_f (by omega))).symm) (m2.sc s3)
          rw [show dw (rx s).2 (cnt (cpl p s a) P 0) - c + -1 = dw (rx s).2 (cnt (cpl p s a) P 0) - (c + 1) by omega]
          exact this
        · rw [Int.toNat_natCast, bI_n] at c1
          have m3 := m2.sc s3
          have eJ : j = J := by
            have : nth (cpl p s a) (dw (rx s).2 (cnt (cpl p s a) P 0)) (n + 1) j c = (j : Int) := (cI_t c1).trans (cI_t (by omega))
            omega
          rw [pl m3 (rx1 s) j (by omega), Int.toNat_natCast, (m3.2.1.1.2.1).oB o]
          obtain ⟨b, hb⟩ : ∃ b : Nat, s.1 147 j = (b : Int) := ⟨(s.1 147 j).toNat, by omega⟩
          rw [← eJ, hb, Int.toNat_natCast] at phB
          rw [hb] at r5j ⊢
          have cf := chf_bd hw b a (oB p o)
          refine ct_M_chosenOf m3.2.1.1 r5j.2 ab.2 (fun h4 s4 => ⟨s4.2.1, fun c3 => ?_, fun c3 => ?_⟩)
          · refine phB n (j + 1) _ h4 (by omega) (by omega) (by omega) ?_
            unfold one; rw [cA_f (by omega)]; exact m3.sc s4
          · obtain ⟨t, ht⟩ : ∃ t : Nat, chf p b a (oB p o) = (t : Int) := ⟨(chf p b a (oB p o)).toNat, by omega⟩
            rw [ht] at phB ⊢
            refine ct_M_push (kd := 1) (m3.sc s4) (by omega) (fun h5 m5 => ⟨m5.2.1.1.1, phB n (j + 1) _ h5 (by omega) (by omega) (by omega) ?_⟩)
            unfold one; rw [cA_t (by omega), Int.toNat_natCast]; exact m5
    have k0 := phA P 0 0 h1 (by omega) (by omega) (by omega) db.1 j4 q1
    rw [Int.sub_zero] at k0
    exact k0
  have key : ∀ (n j : Nat) (h' : Hp), j + n = P → Mv p h0 h' K s → Ev l D Y_M_runCall (d + 5) kc ks 12 [some (vr 100), some (vi (o : Int)), some (vi (a : Int)), some (vi (cnt (cpl p s a) j 0)), some (vi (j : Int)), none, none] [] h' Ψ := by
    intro n
    induction n with
    | zero =>
      intro j h' hj m
      apply m_M_runCall_12 m.2.1.1.1
      rw [pn m rfl]
      refine ⟨fun _ => ?_, fun c => by omega⟩
      rw [show j = P by omega]
      refine ⟨fun c => after h' m c, fun c => k h' ?_⟩
      have eo : oCall p o s = ([], s) := by
        unfold oCall
        rw [ha, hP, Int.toNat_natCast, Int.toNat_natCast, cA_t c]
      rw [eo]; exact m
    | succ n ih =>
      intro j h' hj m
      have r5j := r5 j (by omega)
      have cbj := cnt_le (cpl p s a) j 0
      apply m_M_runCall_12 m.2.1.1.1
      rw [pn m rfl, Int.toNat_natCast, pl m rfl j (by omega), wr_s (show j < 1000000 by omega)]
      refine ⟨fun c => by omega, fun _ => ⟨by omega, by omega, ct_M_isUnderI m.2.1.1 r5j ⟨by omega, by omega⟩ (fun h3 s3 => ⟨s3.2.1, fun c1 => ?_, fun c1 => ?_⟩)⟩⟩
      · rw [Int.toNat_natCast, bI_0] at c1
        have nx := ih (j + 1) h3 (by omega) (m.sc s3)
        rw [cnt_snoc, Nat.zero_add, bI_f (show ¬ cpl p s a j from c1)] at nx
        rw [wr_eq (by omega) (by omega)]; exact nx
      · rw [Int.toNat_natCast, bI_n] at c1
        have nx := ih (j + 1) h3 (by omega) (m.sc s3)
        rw [cnt_snoc, Nat.zero_add, bI_t (show cpl p s a j from c1)] at nx
        rw [wr_eq (by omega) (by omega)]; exact nx
  exact key P 0 h (by omega) q
theorem ct_M_runAny {o : Nat} (q : Mv p h0 h K s) (ho : (o : Int) < nO p) (hl : K.length + 1 < 1000) (k : ∀ h', Mv p h0 h' ((oAny p o s).1 ++ K) (oAny p o s).2 → Ψ none h') : Ev l D Y_M_runAny (d + 1) kc ks 0 [some (vr 100), some (vi (o : Int)), none, none, none] [] h Ψ := by
  have hw := q.2.1.1.2.2.1
  have w2 := hw.2.1
  have w3 := hw.2.2.1
  have cb := cnt_le (tel p (oB p o)) (nM p).toNat 0
  apply m_M_runAny_0 q.2.1.1.1
  have after : ∀ (h' : Hp), Mv p h0 h' K s → ¬ cnt (tel p (oB p o)) (nM p).toNat 0 = 0 → Ev l D Y_M_draw d 0 0 0 [some (vr 100), some (vi (cnt (tel p (oB p o)) (nM p).toNat 0))] [] h' (ki (fun r1 h1 => MS h1 ∧ Ev l D Y_M_runAny (d + 1) kc ks 70 [some (vr 100), some (vi (o : Int)), some (vi (cnt (tel p (oB p o)) (nM p).toNat 0)), some (vi r1), some (vi (0 : Int))] [] h1 Ψ)) := by
    intro h' q' hn
    refine ct_M_draw q' (by omega) (fun h1 q1 => ⟨q1.2.1.1.1, ?_⟩)
    have db := dw_bd (x := (rx s).2) (n := cnt (tel p (oB p o)) (nM p).toNat 0) (by omega) (by omega)
    obtain ⟨J, j1, j2, j3, j4⟩ := nth_spec (tel p (oB p o)) (dw (rx s).2 (cnt (tel p (oB p o)) (nM p).toNat 0)) (nM p).toNat 0 0 db.1 (by omega)
    have eo : oAny p o s = ([(1, J, 0, (o : Int))], rx s) := by
      unfold oAny one
      rw [cA_f hn, j4, cA_t (by omega), Int.toNat_natCast]
    rw [eo] at k
    have phB : ∀ (n j : Nat) (x3 : Int) (h2 : Hp), j + n = (nM p).toNat → -(j : Int) - 1 ≤ x3 → x3 < 0 → Mv p h0 h2 ((1, J, 0, (o : Int)) :: K) (rx s) → Ev l D Y_M_runAny (d + 1) kc ks 70 [some (vr 100), some (vi (o : Int)), some (vi (cnt (tel p (oB p o)) (nM p).toNat 0)), some (vi x3), some (vi (j : Int))] [] h2 Ψ := by
      intro n
      induction n with
      | zero =>
        intro j x3 h2 hj hx1 hx2 m2
        apply m_M_runAny_70 m2.2.1.1.1
        rw [(m2.2.1.1.2.1).nM]
        exact ⟨fun _ => k h2 m2, fun c => by omega⟩
      | succ n ih =>
        intro j x3 h2 hj hx1 hx2 m2
        apply m_M_runAny_70 m2.2.1.1.1
        rw [(m2.2.1.1.2.1).nM, Int.toNat_natCast, Int.toNat_natCast, (m2.2.1.1.2.1).nm j, (m2.2.1.1.2.1).oB o, (m2.2.1.1.2.1).so j, wr_s (show j < 1000000 by omega), wr_eq (x := x3 + -1) (by omega) (by omega)]
        exact ⟨fun c => by omega, fun _ => ⟨fun c => by omega, fun _ => ⟨by omega, by omega, by omega, by omega, fun c => ih (j + 1) x3 h2 (by omega) (by omega) hx2 m2, fun c => ⟨by omega, by omega, ct_M_canBeCalled m2.2.1.1.1 ⟨m2.2.1.1.1, fun c2 => ih (j + 1) x3 h2 (by omega) (by omega) hx2 m2, fun c2 => ⟨fun c3 => ih (j + 1) (x3 + -1) h2 (by omega) (by omega) (by omega) m2, fun c3 => by omega⟩⟩⟩⟩⟩⟩
    have phA : ∀ (n j : Nat) (c : Int) (h2 : Hp), j + n = (nM p).toNat → 0 ≤ c → c ≤ j → c ≤ dw (rx s).2 (cnt (tel p (oB p o)) (nM p).toNat 0) → nth (tel p (oB p o)) (dw (rx s).2 (cnt (tel p (oB p o)) (nM p).toNat 0)) n j c = (J : Int) → Mv p h0 h2 K (rx s) → Ev l D Y_M_runAny (d + 1) kc ks 70 [some (vr 100), some (vi (o : Int)), some (vi (cnt (tel p (oB p o)) (nM p).toNat 0)), some (vi (dw (rx s).2 (cnt (tel p (oB p o)) (nM p).toNat 0) - c)), some (vi (j : Int))] [] h2 Ψ := by
      intro n
      induction n with
      | zero =>
        intro j c h2 hj hc0 hcj hcw en m2
        have : (-1 : Int) = (J : Int) := en
        omega
      | succ n ih =>
        intro j c h2 hj hc0 hcj hcw en m2
        have sk : ¬ tel p (oB p o) j → Ev l D Y_M_runAny (d + 1) kc ks 70 [some (vr 100), some (vi (o : Int)), some (vi (cnt (tel p (oB p o)) (nM p).toNat 0)), some (vi (dw (rx s).2 (cnt (tel p (oB p o)) (nM p).toNat 0) - c)), some (vi ((j + 1 : Nat) : Int))] [] h2 Ψ := fun hn => ih (j + 1) c h2 (by omega) hc0 (by omega) hcw (by rw [← en]; exact (cI_f hn).symm) m2
        apply m_M_runAny_70 m2.2.1.1.1
        rw [(m2.2.1.1.2.1).nM, Int.toNat_natCast, Int.toNat_natCast, (m2.2.1.1.2.1).nm j, (m2.2.1.1.2.1).oB o, (m2.2.1.1.2.1).so j, wr_s (show j < 1000000 by omega), wr_eq (x := dw (rx s).2 (cnt (tel p (oB p o)) (nM p).toNat 0) - c + -1) (by omega) (by omega)]
        refine ⟨fun c => by omega, fun _ => ⟨fun c => by omega, fun _ => ⟨by omega, by omega, by omega, by omega, fun c1 => sk (fun z => c1 z.1), fun c1 => ⟨by omega, by omega, ct_M_canBeCalled m2.2.1.1.1 ⟨m2.2.1.1.1, fun c2 => sk (fun z => bI_0.mp c2 z.2), fun c2 => ⟨fun c3 => ?_, fun c3 => ?_⟩⟩⟩⟩⟩⟩
        · have hT : tel p (oB p o) j := ⟨c1, bI_n.mp c2⟩
          have := ih (j + 1) (c + 1) h2 (by omega) (by omega) (by omega) (by omega) (by rw [← en]; exact ((cI_t hT).trans (cI_f (by omega))).symm) m2
          rw [show dw (rx s).2 (cnt (tel p (oB p o)) (nM p).toNat 0) - c + -1 = dw (rx s).2 (cnt (tel p (oB p o)) (nM p).toNat 0) - (c + 1) by omega]
          exact this
        · have hT : tel p (oB p o) j := ⟨c1, bI_n.mp c2⟩
          have eJ : j = J := by
            have : nth (tel p (oB p o)) (dw (rx s).2 (cnt (tel p (oB p o)) (nM p).toNat 0)) (n + 1) j c = (j : Int) := (cI_t hT).trans (cI_t (by omega))
            omega
          refine ct_M_push (kd := 1) m2 (by omega) (fun h5 m5 => ⟨m5.2.1.1.1, phB n (j + 1) _ h5 (by omega) (by omega) (by omega) ?_⟩)
          rw [← eJ]; exact m5
    have k0 := phA (nM p).toNat 0 0 h1 (by omega) (by omega) (by omega) db.1 j4 q1
    rw [Int.sub_zero] at k0
    exact k0
  have key : ∀ (n j : Nat) (h' : Hp), j + n = (nM p).toNat → Mv p h0 h' K s → Ev l D Y_M_runAny (d + 1) kc ks 4 [some (vr 100), some (vi (o : Int)), some (vi (cnt (tel p (oB p o)) j 0)), some (vi (j : Int)), none] [] h' Ψ := by
    intro n
    induction n with
    | zero =>
      intro j h' hj m
      apply m_M_runAny_4 m.2.1.1.1
      rw [(m.2.1.1.2.1).nM]
      refine ⟨fun _ => ?_, fun c => by omega⟩
      rw [show j = (nM p).toNat by omega]
      refine ⟨fun c => after h' m c, fun c => ?_⟩
      have eo : oAny p o s = ([], s) := by unfold oAny; rw [cA_t c]
      rw [eo] at k
      apply m_M_runAny_70 m.2.1.1.1
      exact ⟨fun _ => k h' m, fun _ => ⟨fun _ => k h' m, fun c3 => by omega⟩⟩
    | succ n ih =>
      intro j h' hj m
      have cbj := cnt_le (tel p (oB p o)) j 0
      have nx := ih (j + 1) h' (by omega) m
      rw [cnt_snoc, Nat.zero_add] at nx
      have g45 : ∀ y0 x2 : Int, y0 = bI (tel p (oB p o) j) → Ev l D Y_M_runAny (d + 1) kc ks 45 [some (vr 100), some (vi (o : Int)), some (vi x2), some (vi (j : Int)), none] [vi y0, vi (cnt (tel p (oB p o)) j 0)] h' Ψ := by
        intro y0 x2 ey
        have b01 := bI_01 (tel p (oB p o) j)
        apply m_M_runAny_45 m.2.1.1.1
        rw [ey, wr_s (show j < 1000000 by omega), wr_eq (by omega) (by omega)]
        exact nx
      apply m_M_runAny_4 m.2.1.1.1
      rw [(m.2.1.1.2.1).nM, Int.toNat_natCast, Int.toNat_natCast, (m.2.1.1.2.1).nm j, (m.2.1.1.2.1).oB o, (m.2.1.1.2.1).so j]
      exact ⟨fun c => by omega, fun _ => ⟨by omega, by omega, by omega, by omega, fun c => g45 0 _ (bI_f (fun z => c z.1)).symm, fun c => ⟨by omega, by omega, ct_M_canBeCalled m.2.1.1.1 ⟨m.2.1.1.1, fun c2 => g45 0 _ (bI_f (fun z => bI_0.mp c2 z.2)).symm, fun c2 => g45 1 _ (bI_t ⟨c, bI_n.mp c2⟩).symm⟩⟩⟩⟩
  exact key (nM p).toNat 0 h (by omega) q
end MR2
