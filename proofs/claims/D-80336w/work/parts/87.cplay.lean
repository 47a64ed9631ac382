/-! the component: runs -/
theorem orf_0 {y : Int} (_h : -1 ≤ y) : orf y = 0 ↔ y = -1 := by
  unfold orf oD
  by_cases e : y = -1
  · rw [if_pos e]; exact ⟨fun _ => e, fun _ => rfl⟩
  · rw [if_neg e]; omega
theorem nfr_bg0 {p : Pg} {t : Nat} {y : Int} {K : List Tk} : nfr (bg0 p t y ++ K) = nfr K := by
  unfold bg0
  rcases Classical.em (own p t (-1) = -1) with e | e
  · rw [cA_t e]; rfl
  · rw [cA_f e]; exact nfr_s (show ¬ (1 : Nat) = 0 by decide)
theorem nfr_bgf {p : Pg} {t : Nat} {y : Int} {K : List Tk} : ∀ (n k : Nat), nfr (bgf p t y n k ++ K) = nfr K
  | 0, _ => rfl
  | n + 1, k => by
    unfold bgf
    rcases Classical.em (U p t k ∧ kd p k = 2 ∧ hpl p k) with e | e
    · rw [cA_t e]
      show nfr ((2, k, 0, y) :: (bgf p t y n (k + 1) ++ K)) = nfr K
      rw [nfr_s (show ¬ (2 : Nat) = 0 by decide)]; exact nfr_bgf n (k + 1)
    · rw [cA_f e]; exact nfr_bgf n (k + 1)
section CPL
variable {l : Launch} {D : DD} {d kc ks : Nat} {h h0 : Hp} {Ψ : Option AV → Hp → Prop} {p g : Pg} {s r : Rst} {K : List Tk}
/-- a type's start, at the end of begin -/
theorem st_run {n t : Nat} {y : Int} {s0 : Rst} (hw : WF p) (ht : (t : Int) < nT p) (IH : Pn l D p h0 n) (q : Rc p h0 h s) (mc : Mc p n (bg0 p t y ++ K) s r) (kv' : Kv p (bg0 p t y ++ K) s) (hd : dpt K s ≤ (d : Int)) (hs : nbg s0 ≤ nbg s) (k : ∀ n' h' s', n' ≤ n → Mc p n' K s' r → Kv p K s' → nbg s0 ≤ nbg s' → Rc p h0 h' s' → Ψ none h') : xK h (tA t) = 3 ∧ ((xR h (tA t) 7 = 0 → Ψ none h) ∧ (¬ xR h (tA t) 7 = 0 → (xK h (tA t) = 3 ∧ Ev l D Y_Run_run d kc ks 0 [some (vr 80), some (vr (orf y)), some (vr (xR h (tA t) 7)), none] [] h (kv (fun h1 => RS h1 ∧ Ψ none h1))))) := by
  have ob := own_bd hw (t : Int) (-1)
  rw [q.cs.ts t ht]
  refine ⟨q.cs.tk t ht, fun c => ?_, fun c => ⟨q.cs.tk t ht, ?_⟩⟩
  · rw [mrf_0 (by omega)] at c
    rw [show bg0 p t y = [] from cA_t c] at mc kv'
    exact k n h s (Nat.le_refl _) mc kv' hs q
  · rw [mrf_0 (by omega)] at c
    rw [show bg0 p t y = _ from cA_f c] at mc kv'
    rw [mrf_s c]
    exact (IH (1, (own p t (-1)).toNat, 0, y) K s r h d kc ks (kv (fun h1 => RS h1 ∧ Ψ none h1)) mc kv' q hd (fun n' h' s' a b c e f => ⟨f.rh, k n' h' s' (by omega) b c (by omega) f⟩)).1 rfl
theorem ct_begin {n t i : Nat} {y : Int} (hw : WF p) (IH : ∀ n', n' ≤ n → Pn l D p h0 n') (kv0 : Kv p ((2, t, i, y) :: K) s) (mc : Mc p n ((act p (2, t, i, y) s).1 ++ K) (act p (2, t, i, y) s).2 r) (kv' : Kv p ((act p (2, t, i, y) s).1 ++ K) (act p (2, t, i, y) s).2) (q : Rc p h0 h s) (hd : dpt K s ≤ (d + 1 : Nat)) (k : ∀ n' h' s', n' ≤ n → Mc p n' K s' r → Kv p K s' → nbg s ≤ nbg s' → Rc p h0 h' s' → Ψ none h') : Ev l D Y_Run_begin (d + 1) kc ks 0 [some (vr 80), some (vr (orf y)), some (vr (tA t)), none, none] [] h Ψ := by
  have w1 := hw.1
  have w2 := hw.2.1
  have hr := kv0.1
  obtain ⟨ht, hy1, hy2⟩ : (t : Int) < nT p ∧ 0 ≤ y ∧ y < nO p := by
    rcases kv0.2.1 _ (List.mem_cons_self) with z | z | z | z
    · exact absurd z.1 (show ¬ (2 : Nat) = 0 by decide)
    · exact absurd z.1 (show ¬ (2 : Nat) = 1 by decide)
    · exact z.2
    · exact absurd z.1 (show ¬ (2 : Nat) = 3 by decide)
  have ea : act p (2, t, i, y) s = cA (¬ s.1 146 t = 0) ([], s) (bgs p t y, rs (rs s 146 t 1) 100 43 (bI (¬ s.1 100 43 = 0 ∧ ¬ gF p 121 t = 0))) := by
    unfold act
    rw [cA_f (show ¬ (2 : Nat) = 0 by decide), cA_f (show ¬ (2 : Nat) = 1 by decide), cA_t (show (2 : Nat) = 2 from rfl)]
  rw [ea] at mc kv'
  have e82 := q.2.2.2.2.2.2.2.1 t (by omega)
  apply g_Run_begin_0 q.rh
  rw [q.cs.tn t ht, Int.toNat_natCast, e82]
  refine ⟨q.cs.tk t ht, by omega, by omega, fun c => ⟨q.cs.tk t ht, by omega, by omega, fun h1 e1 => ?_⟩, fun c => ?_⟩
  · rw [cA_f (fun z => z c)] at mc kv'
    have q1 : Rc p h0 h1 (rs s 146 t 1) := by rw [e1]; exact q.A hw (Or.inr ⟨rfl, rfl, by omega⟩)
    have e12 : xI h1 80 12 = s.1 100 43 := q1.2.2.2.2.2.1.2.2.2.2.2.trans (by rw [rs_at, if_neg (by omega)])
    have ev : iandV (xI h1 80 12) (xI h1 24 t) = bI (¬ s.1 100 43 = 0 ∧ ¬ gF p 121 t = 0) := by
      rw [e12, q1.dr.1.2.2.1 t (by omega), b01I hr.2.2.1, b01I (q.dr.2.1 121 t (Or.inl (by omega))), iandV_01]
      exact bI_c (and_congr (by rw [← b01I hr.2.2.1]) (by rw [← b01I (q.dr.2.1 121 t (Or.inl (by omega)))]))
    rw [q1.cs.tn t ht, Int.toNat_natCast, ev]
    refine ⟨q1.cs.tk t ht, by omega, by omega, bI_01 _, fun h2 e2 => ?_⟩
    have q2 : Rc p h0 h2 (rs (rs s 146 t 1) 100 43 (bI (¬ s.1 100 43 = 0 ∧ ¬ gF p 121 t = 0))) := by rw [e2]; exact q1.I hw (by omega)
    have nb : nbg (rs (rs s 146 t 1) 100 43 (bI (¬ s.1 100 43 = 0 ∧ ¬ gF p 121 t = 0))) = nbg s + 1 := by
      unfold nbg
      refine cnt_add1 (m0 := t) (fun j => ?_) (fun z => z c) 16 0 (Nat.zero_le _) (by omega)
      rw [rs_at, if_neg (by omega), rs_at]
      by_cases z : j = t
      · rw [if_pos ⟨rfl, z⟩]; exact ⟨fun _ => Or.inr z, fun _ => by decide⟩
      · rw [if_neg (fun y => z y.2)]; exact ⟨Or.inl, fun y => y.elim id (fun v => absurd v z)⟩
    have nb0 := nbg_bd s
    generalize rs (rs s 146 t 1) 100 43 (bI (¬ s.1 100 43 = 0 ∧ ¬ gF p 121 t = 0)) = s2 at mc kv' q2 nb
    have k2 : ∀ n' h' s', n' ≤ n → Mc p n' K s' r → Kv p K s' → nbg s2 ≤ nbg s' → Rc p h0 h' s' → Ψ none h' := fun n' h' s' a b c e f => k n' h' s' a b c (by omega) f
    have hd2 : ∀ s' : Rst, nbg s2 ≤ nbg s' → dpt K s' ≤ (d : Int) := fun s' z => by unfold dpt at hd ⊢; omega
    refine ⟨q2.cs.tk t ht, ct_isClass q2.cs ht ⟨q2.rh, fun c2 => ?_, fun c2 => ?_⟩⟩
    · rw [bI_0] at c2
      rw [show bgs p t y = bg0 p t y from cA_t (Classical.not_not.mp c2)] at mc kv'
      exact st_run hw ht (IH n (Nat.le_refl _)) q2 mc kv' (hd2 s2 (Int.le_refl _)) (Int.le_refl _) k2
    · rw [bI_n] at c2
      rw [show bgs p t y = _ from cA_f c2] at mc kv'
      -- faces
      have l69 : ∀ (n2 j n3 : Nat) (s3 : Rst) (h3 : Hp), j + n2 = (nT p).toNat → n3 ≤ n → Mc p n3 ((bgf p t y n2 j ++ bg0 p t y) ++ K) s3 r → Kv p ((bgf p t y n2 j ++ bg0 p t y) ++ K) s3 → nbg s2 ≤ nbg s3 → Rc p h0 h3 s3 → Ev l D Y_Run_begin (d + 1) kc ks 69 [some (vr 80), some (vr (orf y)), some (vr (tA t)), some (vi (j : Int)), none] [] h3 Ψ := by
        intro n2
        induction n2 with
        | zero =>
          intro j n3 s3 h3 hj h3n mc3 kv3 nb3 q3
          apply g_Run_begin_69 q3.rh
          rw [q3.cs.ct]
          exact ⟨fun _ => st_run hw ht (IH n3 h3n) q3 mc3 kv3 (hd2 s3 nb3) nb3 (fun n' h' s' a b c e f => k2 n' h' s' (by omega) b c e f), fun c => by omega⟩
        | succ n2 ih =>
          intro j n3 s3 h3 hj h3n mc3 kv3 nb3 q3
          have hj' : (j : Int) < nT p := by omega
          have skip : ¬ (U p t j ∧ kd p j = 2 ∧ hpl p j) → Ev l D Y_Run_begin (d + 1) kc ks 69 [some (vr 80), some (vr (orf y)), some (vr (tA t)), some (vi ((j + 1 : Nat) : Int)), none] [] h3 Ψ := fun z => by
            rw [show bgf p t y (n2 + 1) j = cA (U p t j ∧ kd p j = 2 ∧ hpl p j) [(2, j, 0, y)] [] ++ bgf p t y n2 (j + 1) from rfl, cA_f z] at mc3 kv3
            exact ih (j + 1) n3 s3 h3 (by omega) h3n mc3 kv3 nb3 q3
          apply g_Run_begin_69 q3.rh
          rw [q3.cs.ct, Int.toNat_natCast, q3.cs.trr j hj', wr_s (show j < 1000000 by omega)]
          refine ⟨fun c => by omega, fun _ => ⟨by omega, by omega, q3.cs.tk j hj', ct_isClass q3.cs hj' ⟨q3.rh, fun c3 => skip (fun z => bI_n.mp c3 z.2.1), fun c3 => ⟨q3.cs.tk t ht, ct_isUnder q3.cs hw ht hj' ⟨q3.rh, fun c4 => skip (fun z => bI_0.mp c4 z.1), fun c4 => ⟨q3.cs.tk j hj', ct_hasPlain q3.cs hw hj' ⟨q3.rh, fun c5 => skip (fun z => bI_0.mp c5 z.2.2), fun c5 => ?_⟩⟩⟩⟩⟩⟩⟩
          rw [show bgf p t y (n2 + 1) j = cA (U p t j ∧ kd p j = 2 ∧ hpl p j) [(2, j, 0, y)] [] ++ bgf p t y n2 (j + 1) from rfl, cA_t ⟨bI_n.mp c4, Classical.not_not.mp (bI_0.mp c3), bI_n.mp c5⟩] at mc3 kv3
          refine (IH n3 h3n (2, j, 0, y) ((bgf p t y n2 (j + 1) ++ bg0 p t y) ++ K) s3 r h3 d 0 0 _ mc3 kv3 q3 ?_ (fun n' h' s' a b c e f => ⟨f.rh, ih (j + 1) n' s' h' (by omega) (by omega) b c (by omega) f⟩)).2.1 rfl
          have := hd2 s3 nb3
          unfold dpt at this ⊢
          rw [List.append_assoc, nfr_bgf, nfr_bg0]
          exact this
      have ub := (hw.2.2.2.1 t ht).2.1
      rw [q2.cs.tup t ht]
      have e0 : trf (up p t) = 0 ↔ up p t = -1 := by
        unfold trf tA
        by_cases e : up p t = -1
        · rw [if_pos e]; exact ⟨fun _ => e, fun _ => rfl⟩
        · rw [if_neg e]; omega
      refine ⟨q2.cs.tk t ht, fun c3 => ?_, fun c3 => ⟨q2.cs.tk t ht, ?_⟩⟩
      · rw [e0] at c3
        rw [cA_t c3] at mc kv'
        exact l69 (nT p).toNat 0 n s2 h2 (by omega) (Nat.le_refl _) mc kv' (Int.le_refl _) q2
      · rw [e0] at c3
        rw [cA_f c3] at mc kv'
        rw [show trf (up p t) = tA (up p t).toNat from if_neg c3]
        refine (IH n (Nat.le_refl _) (2, (up p t).toNat, 0, y) ((bgf p t y (nT p).toNat 0 ++ bg0 p t y) ++ K) s2 r h2 d 0 0 _ mc kv' q2 ?_ (fun n' h' s' a b c e f => ⟨f.rh, l69 (nT p).toNat 0 n' s' h' (by omega) (by omega) b c e f⟩)).2.1 rfl
        have := hd2 s2 (Int.le_refl _)
        unfold dpt at this ⊢
        rw [List.append_assoc, nfr_bgf, nfr_bg0]
        exact this
  · rw [cA_t c] at mc kv'
    exact k n h s (Nat.le_refl _) mc kv' (Int.le_refl _) q
theorem ct_Rrun {n m i : Nat} {y : Int} (hw : WF p) (IH : Pn l D p h0 n) (kv0 : Kv p ((1, m, i, y) :: K) s) (mc : Mc p n ((act p (1, m, i, y) s).1 ++ K) (act p (1, m, i, y) s).2 r) (kv' : Kv p ((act p (1, m, i, y) s).1 ++ K) (act p (1, m, i, y) s).2) (q : Rc p h0 h s) (hd : dpt K s ≤ (d + 1 : Nat)) (k : ∀ n' h' s', n' ≤ n → Mc p n' K s' r → Kv p K s' → nbg s ≤ nbg s' → Rc p h0 h' s' → Ψ none h') : Ev l D Y_Run_run (d + 1) kc ks 0 [some (vr 80), some (vr (orf y)), some (vr (mA m)), none] [] h Ψ := by
  have w2 := hw.2.1
  have w3 := hw.2.2.1
  have hr := kv0.1
  obtain ⟨hm, hy1, hy2⟩ : (m : Int) < nM p ∧ -1 ≤ y ∧ y < nO p := by
    rcases kv0.2.1 _ (List.mem_cons_self) with z | z | z | z
    · exact absurd z.1 (show ¬ (1 : Nat) = 0 by decide)
    · exact z.2
    · exact absurd z.1 (show ¬ (1 : Nat) = 2 by decide)
    · exact absurd z.1 (show ¬ (1 : Nat) = 3 by decide)
  let v : Int := bI (¬ s.1 100 43 = 0 ∧ ¬ gF p 119 m = 0 ∧ (y = -1 ∨ ¬ gF p 123 (48 * y.toNat + m) = 0))
  have ea : act p (1, m, i, y) s = cA (s.1 100 40 = 12 ∨ s.1 100 39 = 300) ([], rs (rs s 100 43 v) 100 41 (wr (s.1 100 41 + 1))) ([(0, m, 0, -1)], rs (rs (rs (rs (rs s 100 43 v) 100 39 (s.1 100 39 + 1)) 100 40 (s.1 100 40 + 1)) 145 m 1) 100 42 m) := by
    unfold act
    rw [cA_f (show ¬ (1 : Nat) = 0 by decide), cA_t (show (1 : Nat) = 1 from rfl)]
  rw [ea] at mc kv'
  have r39 := hr.1
  have r40 := hr.2.1
  have g33 : ∀ y0 : Int, y0 = bI (¬ gF p 119 m = 0 ∧ (y = -1 ∨ ¬ gF p 123 (48 * y.toNat + m) = 0)) → Ev l D Y_Run_run (d + 1) kc ks 33 [some (vr 80), some (vr (orf y)), some (vr (mA m)), none] [vi y0, vi (xI h 80 12), vr 80] h Ψ := by
    intro y0 ey
    have e12 : xI h 80 12 = s.1 100 43 := q.2.2.2.2.2.1.2.2.2.2.2
    have ev : iandV (xI h 80 12) y0 = v := by
      rw [ey, e12]
      have z := iandV_01 (a := ¬ s.1 100 43 = 0) (b := ¬ gF p 119 m = 0 ∧ (y = -1 ∨ ¬ gF p 123 (48 * y.toNat + m) = 0))
      rw [← b01I hr.2.2.1] at z
      exact z
    apply g_Run_run_33 q.rh
    rw [ev]
    refine ⟨bI_01 _, fun h1 e1 => ?_⟩
    have q1 : Rc p h0 h1 (rs s 100 43 v) := by rw [e1]; exact q.I hw (by omega)
    have e8 : xI h1 80 8 = s.1 100 40 := q1.2.2.2.2.2.1.2.1.trans (by rw [rs_at, if_neg (by omega)])
    have e9 : xI h1 80 9 = s.1 100 39 := q1.2.2.2.2.2.1.2.2.1.trans (by rw [rs_at, if_neg (by omega)])
    have e10 : xI h1 80 10 = s.1 100 41 := q1.2.2.2.2.2.1.2.2.2.1.trans (by rw [rs_at, if_neg (by omega)])
    have lft : (s.1 100 40 = 12 ∨ s.1 100 39 = 300) → Ev l D Y_Run_run (d + 1) kc ks 56 [some (vr 80), some (vr (orf y)), some (vr (mA m)), none] [] h1 Ψ := by
      intro c
      rw [cA_t c] at mc kv'
      apply g_Run_run_56 q1.rh
      intro h2 e2
      rw [e10] at e2
      have q2 : Rc p h0 h2 (rs (rs s 100 43 v) 100 41 (wr (s.1 100 41 + 1))) := by rw [e2]; exact q1.I hw (by omega)
      refine k n h2 _ (Nat.le_refl _) mc kv' (Int.le_of_eq (nbg_eq (fun j => ?_)).symm) q2
      rw [rs_at, if_neg (by omega), rs_at, if_neg (by omega)]
    rw [e8, e9]
    refine ⟨fun c => lft (Or.inl c), fun c => ⟨fun c2 h2 e2 h3 e3 => ?_, fun c2 => lft (Or.inr c2)⟩⟩
    rw [wr_eq (by omega) (by omega)] at e2
    have q2 : Rc p h0 h2 (rs (rs s 100 43 v) 100 40 (s.1 100 40 + 1)) := by rw [e2]; exact q1.I hw (by omega)
    have e92 : xI h2 80 9 = s.1 100 39 := q2.2.2.2.2.2.1.2.2.1.trans (by rw [rs_at, if_neg (by omega), rs_at, if_neg (by omega)])
    rw [e92, wr_eq (by omega) (by omega)] at e3
    have q3 : Rc p h0 h3 (rs (rs (rs s 100 43 v) 100 40 (s.1 100 40 + 1)) 100 39 (s.1 100 39 + 1)) := by rw [e3]; exact q2.I hw (by omega)
    rw [rs_comm (by omega)] at q3
    rw [q3.cs.mn m hm, Int.toNat_natCast]
    refine ⟨q3.cs.mkk m hm, by omega, by omega, fun h4 e4 => ?_⟩
    have q4 : Rc p h0 h4 (rs (rs (rs (rs s 100 43 v) 100 39 (s.1 100 39 + 1)) 100 40 (s.1 100 40 + 1)) 145 m 1) := by rw [e4]; exact q3.A hw (Or.inl ⟨rfl, rfl, by omega⟩)
    rw [q4.cs.mn m hm]
    refine ⟨q4.cs.mkk m hm, fun h5 e5 => ?_⟩
    have q5 : Rc p h0 h5 (rs (rs (rs (rs (rs s 100 43 v) 100 39 (s.1 100 39 + 1)) 100 40 (s.1 100 40 + 1)) 145 m 1) 100 42 m) := by rw [e5]; exact q4.I hw (by omega)
    rw [cA_f (fun z => z.elim c c2)] at mc kv'
    have nb : nbg (rs (rs (rs (rs (rs s 100 43 v) 100 39 (s.1 100 39 + 1)) 100 40 (s.1 100 40 + 1)) 145 m 1) 100 42 m) = nbg s := nbg_eq (fun j => by rw [rs_at, if_neg (by omega), rs_at, if_neg (by omega), rs_at, if_neg (by omega), rs_at, if_neg (by omega), rs_at, if_neg (by omega)])
    exact (IH (0, m, 0, -1) K _ r h5 (d + 1) kc ks Ψ mc kv' q5 (by unfold dpt at hd ⊢; rw [nb]; exact hd) (fun n' h' s' a b c e f => k n' h' s' (by omega) b c (Int.le_trans (Int.le_of_eq nb.symm) e) f)).2.2.2 rfl _
  apply g_Run_run_0 q.rh
  rw [q.dr.1.1 m hm]
  refine ⟨q.cs.mkk m hm, fun c => g33 0 (bI_f (fun z => z.1 c)).symm, fun c => ⟨fun c2 => g33 1 (bI_t ⟨c, Or.inl ((orf_0 hy1).mp c2)⟩).symm, fun c2 => ?_⟩⟩
  rw [orf_0 hy1] at c2
  obtain ⟨o, rfl⟩ : ∃ o : Nat, y = (o : Int) := ⟨y.toNat, by omega⟩
  have on := q.cs.ocn o hy2
  rw [orf_n, q.cs.okk o hy2, q.cs.oc o hy2, q.cs.mn m hm, Int.toNat_natCast, q.dr.1.2.2.2.2.1 o m hy2 (by omega)]
  rw [orf_n] at g33
  refine ⟨opk_ok _, q.cs.mkk m hm, q.cs.ock o hy2, by omega, by omega, fun c3 => g33 0 (bI_f (fun z => z.2.elim c2 (fun u => u (by rw [Int.toNat_natCast]; exact c3)))).symm, fun c3 => g33 1 (bI_t ⟨c, Or.inr (by rw [Int.toNat_natCast]; exact c3)⟩).symm⟩
theorem ct_Rops {n m i x1 : Nat} {y : Int} (hw : WF p) (IH : ∀ n', n' ≤ n → Pn l D p h0 n') (kv0 : Kv p ((0, m, i, y) :: K) s) (mc : Mc p n ((act p (0, m, i, y) s).1 ++ K) (act p (0, m, i, y) s).2 r) (kv' : Kv p ((act p (0, m, i, y) s).1 ++ K) (act p (0, m, i, y) s).2) (q : Rc p h0 h s) (hd : dpt K s ≤ (d + 7 : Nat)) (k : ∀ n' h' s', n' ≤ n → Mc p n' K s' r → Kv p K s' → nbg s ≤ nbg s' → Rc p h0 h' s' → Ψ none h') : Ev l D Y_Run_run (d + 7) kc ks 107 [some (vr 80), some (vr x1), some (vr (mA m)), some (vi (i : Int))] [] h Ψ := by
  have w2 := hw.2.1
  have hr := kv0.1
  obtain ⟨hm, hi⟩ : (m : Int) < nM p ∧ (i : Int) ≤ om p m := by
    rcases kv0.2.1 _ (List.mem_cons_self) with z | z | z | z
    · exact z.2
    · exact absurd z.1 (show ¬ (0 : Nat) = 1 by decide)
    · exact absurd z.1 (show ¬ (0 : Nat) = 2 by decide)
    · exact absurd z.1 (show ¬ (0 : Nat) = 3 by decide)
  have wm := (hw.2.2.2.2.1 m hm).2.2.2.2.2.1
  have r40 := hr.2.1
  have ea : act p (0, m, i, y) s = cA ((i : Int) = om p m) ([], rs s 100 40 (s.1 100 40 - 1)) ((fr1 p m i s).1 ++ [(0, m, i + 1, -1)], (fr1 p m i s).2) := by
    unfold act
    rw [cA_t (show (0 : Nat) = 0 from rfl)]
  rw [ea] at mc kv'
  have e8 : xI h 80 8 = s.1 100 40 := q.2.2.2.2.2.1.2.1
  have nb : nbg (rx s) = nbg s := nbg_eq (fun k => by rw [rx1])
  have e40 : s.1 100 40 = ((nfr ((0, m, i, y) :: K) : Nat) : Int) := kv0.2.2.1
  have n40 : nfr ((0, m, i, y) :: K) = 1 + nfr K := rfl
  apply g_Run_run_107 q.rh
  rw [q.cs.mc m hm, e8]
  refine ⟨q.cs.mkk m hm, fun c h1 e1 => ?_, fun c => ct_Rdraw hw q (by omega) (fun h2 q2 => ⟨q2.rh, ?_⟩)⟩
  · rw [cA_t (by omega)] at mc kv'
    rw [wr_eq (by omega) (by omega)] at e1
    have q1 : Rc p h0 h1 (rs s 100 40 (s.1 100 40 - 1)) := by rw [e1]; exact q.I hw (by omega)
    refine k n h1 _ (Nat.le_refl _) mc kv' (Int.le_of_eq (nbg_eq (fun j => ?_)).symm) q1
    rw [rs_at, if_neg (by omega)]
  · rw [cA_f (by omega)] at mc kv'
    obtain ⟨ob, oe⟩ := oa_bd hw hm c
    have c2 := q2.cs
    have en := c2.mon m hm
    have ek := c2.mok m hm
    rw [wr_s (show i < 1000000 by omega)]
    refine ⟨fun z => ?_, fun z => ?_⟩
    · rw [show fr1 p m i s = ([], rx s) from cA_t z] at mc kv'
      exact (IH n (Nat.le_refl _) (0, m, i + 1, -1) K (rx s) r h2 (d + 7) kc ks Ψ mc kv' q2 (by unfold dpt at hd ⊢; rw [nb]; exact hd) (fun n' h' s' a b c e f => k n' h' s' (by omega) b c (by omega) f)).2.2.2 rfl x1
    · rw [show fr1 p m i s = opr p (oa p (24 * m + i)).toNat (rx s) from cA_f z] at mc kv'
      rw [c2.mo m hm, Int.toNat_natCast, c2.mop m i hm c]
      refine ⟨c2.mkk m hm, by omega, by omega, by omega, by rw [c2.okk _ ob]; exact opk_ok _, ?_⟩
      rw [List.append_assoc] at mc kv'
      refine ct_act hw IH ob q2 (Rv_rx hr) mc kv' ?_ (fun n' h' s' a b c' e f => ⟨f.rh, ?_⟩)
      · have nk : nfr ([(0, m, i + 1, -1)] ++ K) = 1 + nfr K := rfl
        unfold dpt at hd ⊢
        rw [nb, nk]
        omega
      · exact (IH n' a (0, m, i + 1, -1) K s' r h' (d + 7) kc ks Ψ b c' f (by unfold dpt at hd ⊢; omega) (fun n2 h2 s2 a2 b2 c2 e2 f2 => k n2 h2 s2 (by omega) b2 c2 (by omega) f2)).2.2.2 rfl x1
theorem Pn_all (hw : WF p) : ∀ n, Pn l D p h0 n := by
  intro n
  induction n using Nat.strongRecOn with
  | ind n IH =>
    intro T K s r h d kc ks Ψ mc kv0 q hd k
    cases n with
    | zero => exact absurd mc.1 (by simp)
    | succ n =>
      obtain ⟨T', K', e, mc⟩ := mc
      have e' := List.cons.inj e
      obtain ⟨e1, e2⟩ := e'
      subst e1; subst e2
      have kv' := (act_ok hw kv0).1
      have IH' : ∀ n', n' ≤ n → Pn l D p h0 n' := fun n' z => IH n' (by omega)
      have k' : ∀ n' h' s', n' ≤ n → Mc p n' K s' r → Kv p K s' → nbg s ≤ nbg s' → Rc p h0 h' s' → Ψ none h' := fun n' h' s' a b c e f => k n' h' s' (by omega) b c e f
      have nb := nbg_bd s
      have e40 := kv0.2.2.1
      have r40 := kv0.1.2.1
      have nk : nfr K ≤ nfr (T :: K) := by show nfr K ≤ (if T.1 = 0 then 1 else 0) + nfr K; omega
      obtain ⟨d', rfl⟩ : ∃ d', d = d' + 7 := ⟨d - 7, by unfold dpt at hd; omega⟩
      obtain ⟨a, t, i, y⟩ := T
      refine ⟨fun z => ?_, fun z => ?_, fun z => ?_, fun z x1 => ?_⟩
      · have z' : a = 1 := z
        subst z'
        exact ct_Rrun (d := d' + 6) hw (IH' n (Nat.le_refl _)) kv0 mc kv' q hd k'
      · have z' : a = 2 := z
        subst z'
        exact ct_begin (d := d' + 6) hw IH' kv0 mc kv' q hd k'
      · have z' : a = 3 := z
        subst z'
        have ht : (t : Int) < nT p := by
          rcases kv0.2.1 _ (List.mem_cons_self) with y | y | y | y
          · exact absurd y.1 (show ¬ (3 : Nat) = 0 by decide)
          · exact absurd y.1 (show ¬ (3 : Nat) = 1 by decide)
          · exact absurd y.1 (show ¬ (3 : Nat) = 2 by decide)
          · exact y.2
        have ea : act p (3, t, i, y) s = cA (20 ≤ s.1 100 47) ([], rs s 100 43 (bI (¬ s.1 100 43 = 0 ∧ ¬ gF p 120 t = 0))) ([], rs (rs (rs s 100 43 (bI (¬ s.1 100 43 = 0 ∧ ¬ gF p 120 t = 0))) 147 (s.1 100 47).toNat t) 100 47 (s.1 100 47 + 1)) := by
          unfold act
          rw [cA_f (show ¬ (3 : Nat) = 0 by decide), cA_f (show ¬ (3 : Nat) = 1 by decide), cA_f (show ¬ (3 : Nat) = 2 by decide)]
        refine ct_Rmake (i := i) (y := y) hw q kv0.1 ht (fun h' q' => ?_)
        rw [ea] at mc kv' q'
        rcases Classical.em (20 ≤ s.1 100 47) with c | c
        · rw [cA_t c] at mc kv' q'
          exact k' n h' _ (Nat.le_refl _) mc kv' (Int.le_of_eq (nbg_eq (fun j => by rw [rs_at, if_neg (by omega)])).symm) q'
        · rw [cA_f c] at mc kv' q'
          exact k' n h' _ (Nat.le_refl _) mc kv' (Int.le_of_eq (nbg_eq (fun j => by rw [rs_at, if_neg (by omega), rs_at, if_neg (by omega), rs_at, if_neg (by omega)])).symm) q'
      · have z' : a = 0 := z
        subst z'
        exact ct_Rops hw IH' kv0 mc kv' q hd k'
end CPL
