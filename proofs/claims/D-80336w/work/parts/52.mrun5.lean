/-! the model's runs: the whole -/
theorem rts_kv {p : Pg} (hw : WF p) : ∀ (n m : Nat) (s r : Rst), m + n ≤ (nM p).toNat → Kv p [] s → rts p n m s r → Kv p [] r
  | 0, _, s, r, _, q, h => by rw [show r = s from h]; exact q
  | n + 1, m, s, r, hb, q, h => by
    rcases Classical.em (rt p m = 0) with e | e
    · exact rts_kv hw n (m + 1) s r (by omega) q (h.1 e)
    · obtain ⟨k, s', z, y⟩ := h.2 e
      exact rts_kv hw n (m + 1) s' r (by omega) (Mc_kv hw k _ s s' z (Kv_root hw q (by omega))) y
theorem rst0_0 {x : Int64} {a k : Nat} (h : a ≠ 100) : (rst0 x).1 a k = 0 := by
  show gs (gs (fun _ _ => 0) 100 42 (-1)) 100 43 1 a k = 0
  rw [gs_at, if_neg (fun z => h z.1), gs_at, if_neg (fun z => h z.1)]
section MR5
variable {l : Launch} {D : DD} {d kc ks : Nat} {h h0 : Hp} {Ψ : Option AV → Hp → Prop} {p g : Pg} {K : List Tk} {s : Rst}
def Jr (p : Pg) (x : Int64) (h h' : Hp) : Prop := mfr h h' ∧ Ms p h' ∧ Gr p h' ∧ xL h' 100 38 = x ∧ xI h' 100 39 = 0 ∧ xI h' 100 40 = 0 ∧ xI h' 100 41 = 0 ∧ xI h' 100 42 = -1 ∧ xI h' 100 43 = 1 ∧ xI h' 100 47 = 0 ∧ xI h' 100 37 = 0
theorem Jr.put {x : Int64} {h h' : Hp} {a k : Nat} {v : Int} (q : Jr p x h h') (ha : a = 145 ∨ a = 146 ∨ a = 150) : Jr p x h (sI h' a k v) := by
  obtain ⟨q1, q2, q3, q4, q5, q6, q7, q8, q9, q10, q11⟩ := q
  have r : rnc a k := by unfold rnc; omega
  have e : ∀ j, xI (sI h' a k v) 100 j = xI h' 100 j := fun j => by rw [xI_sI, if_neg (by omega)]
  exact ⟨q1.put (rnc_mdl r), Ms_run q2 r, Gr_run q3 r, q4, by rw [e]; exact q5, by rw [e]; exact q6, by rw [e]; exact q7, by rw [e]; exact q8, by rw [e]; exact q9, by rw [e]; exact q10, by rw [e]; exact q11⟩
theorem ct_M_runAll {x1 : Int64} (hm : Ms p h) (k : ∀ h', Mv p h h' [] (RunF p x1) → Ψ none h') : Ev l D Y_M_runAll (d + 8) kc ks 0 [some (vr 100), some (vl x1), none, none] [] h Ψ := by
  have hw := hm.1.2.2.1
  have w1 := hw.1
  have w2 := hw.2.1
  have l108 : ∀ (n m : Nat) (s : Rst) (h' : Hp), m + n = (nM p).toNat → rts p n m s (RunF p x1) → Kv p [] s → Mv p h h' [] s → Ev l D Y_M_runAll (d + 8) kc ks 108 [some (vr 100), some (vl x1), none, some (vi (m : Int))] [] h' Ψ := by
    intro n
    induction n with
    | zero =>
      intro m s h' hn rr kvv mv
      apply m_M_runAll_108 mv.2.1.1.1
      rw [(mv.2.1.1.2.1).nM]
      refine ⟨fun _ => k h' ?_, fun c => by omega⟩
      rw [show RunF p x1 = s from rr]; exact mv
    | succ n ih =>
      intro m s h' hn rr kvv mv
      apply m_M_runAll_108 mv.2.1.1.1
      rw [(mv.2.1.1.2.1).nM, Int.toNat_natCast, (mv.2.1.1.2.1).rt m]
      refine ⟨fun c => by omega, fun _ => ⟨by omega, by omega, fun c => ?_, fun c => ?_⟩⟩
      · rw [wr_s (show m < 1000000 by omega)]
        exact ih (m + 1) s h' (by omega) (rr.1 c) kvv mv
      · obtain ⟨n2, s2, mc, rr2⟩ := rr.2 c
        have kr := Kv_root hw kvv (m := m) (by omega)
        refine ct_M_push (kd := 1) mv (by show (0 : Nat) < 1000; decide) (fun h2 m2 => ⟨m2.2.1.1.1, lp_M_runAll_132 hw (fun h3 m3 => ?_) n2 _ s h2 mc kr m2⟩)
        rw [wr_s (show m < 1000000 by omega)]
        exact ih (m + 1) s2 h3 (by omega) rr2 (Mc_kv hw n2 _ s s2 mc kr) m3
  have l88 : ∀ (j : Nat) (h' : Hp), j ≤ 4 → (Jr p x1 h h' ∧ (∀ i, i < 48 → xI h' 145 i = 0) ∧ (∀ i, i < 16 → xI h' 146 i = 0) ∧ ∀ i, i < j → xI h' 150 i = (fun _ => 0) i) → Ev l D Y_M_runAll (d + 8) kc ks 88 [some (vr 100), some (vl x1), none, some (vi (j : Int))] [] h' Ψ := by
    refine lup _ _ ?_ ?_
    · rintro h' ⟨⟨q1, q2, q3, q4, q5, q6, q7, q8, q9, q10, q11⟩, a1, a2, a3⟩
      apply m_M_runAll_88 q2.1.1
      refine ⟨fun _ => l108 (nM p).toNat 0 (rst0 x1) h' (by omega) (RunF_ok hw x1) (Kv_0 hw x1) ⟨q1, q2, q3, fun a j z => ?_, q4, q11, trivial⟩, fun c => by omega⟩
      unfold rcl at z
      rcases z with ⟨rfl, z⟩ | ⟨rfl, z⟩ | ⟨rfl, z⟩ | ⟨rfl, z, z2⟩ | ⟨rfl, z, z2⟩ | ⟨rfl, z⟩
      · rcases z with rfl | rfl | rfl | rfl | rfl | rfl
        · exact q5
        · exact q6
        · exact q7
        · exact q8
        · exact q9
        · exact q10
      · exact (a1 j z).trans (rst0_0 (by omega)).symm
      · exact (a2 j z).trans (rst0_0 (by omega)).symm
      · have z3 : (j : Int) < 0 := z2
        omega
      · have z3 : ((j % 48 : Nat) : Int) < 0 := by
          have e : (rst0 x1).1 150 (j / 48) = 0 := rst0_0 (by omega)
          rw [e] at z2; exact z2
        omega
      · exact (a3 j z).trans (rst0_0 (by omega)).symm
    · rintro j h' hj ⟨q, a1, a2, a3⟩ ih
      apply m_M_runAll_88 q.2.1.1.1
      rw [Int.toNat_natCast, wr_s (show j < 1000000 by omega)]
      refine ⟨fun c => by omega, fun _ => ⟨by omega, by omega, fun h2 eh => ?_⟩⟩
      subst eh
      exact ih _ ⟨q.put (by omega), fun i hi => by rw [xI_sI, if_neg (by omega)]; exact a1 i hi, fun i hi => by rw [xI_sI, if_neg (by omega)]; exact a2 i hi, pre_sI a3 rfl⟩
  have l67 : ∀ (j : Nat) (h' : Hp), j ≤ 16 → (Jr p x1 h h' ∧ (∀ i, i < 48 → xI h' 145 i = 0) ∧ ∀ i, i < j → xI h' 146 i = (fun _ => 0) i) → Ev l D Y_M_runAll (d + 8) kc ks 67 [some (vr 100), some (vl x1), none, some (vi (j : Int))] [] h' Ψ := by
    refine lup _ _ ?_ ?_
    · rintro h' ⟨q, a1, a2⟩
      apply m_M_runAll_67 q.2.1.1.1
      exact ⟨fun _ => l88 0 h' (by omega) ⟨q, a1, a2, fun i hi => by omega⟩, fun c => by omega⟩
    · rintro j h' hj ⟨q, a1, a2⟩ ih
      apply m_M_runAll_67 q.2.1.1.1
      rw [Int.toNat_natCast, wr_s (show j < 1000000 by omega)]
      refine ⟨fun c => by omega, fun _ => ⟨by omega, by omega, fun h2 eh => ?_⟩⟩
      subst eh
      exact ih _ ⟨q.put (by omega), fun i hi => by rw [xI_sI, if_neg (by omega)]; exact a1 i hi, pre_sI a2 rfl⟩
  have l46 : ∀ (j : Nat) (h' : Hp), j ≤ 48 → (Jr p x1 h h' ∧ ∀ i, i < j → xI h' 145 i = (fun _ => 0) i) → Ev l D Y_M_runAll (d + 8) kc ks 46 [some (vr 100), some (vl x1), none, some (vi (j : Int))] [] h' Ψ := by
    refine lup _ _ ?_ ?_
    · rintro h' ⟨q, a1⟩
      apply m_M_runAll_46 q.2.1.1.1
      exact ⟨fun _ => l67 0 h' (by omega) ⟨q, a1, fun i hi => by omega⟩, fun c => by omega⟩
    · rintro j h' hj ⟨q, a1⟩ ih
      apply m_M_runAll_46 q.2.1.1.1
      rw [Int.toNat_natCast, wr_s (show j < 1000000 by omega)]
      refine ⟨fun c => by omega, fun _ => ⟨by omega, by omega, fun h2 eh => ?_⟩⟩
      subst eh
      exact ih _ ⟨q.put (by omega), pre_sI a1 rfl⟩
  apply m_M_runAll_0 hm.1.1
  refine ct_fr hm (fun h1 s1 m1 g1 => ⟨m1.1.1, fun h2 e2 h3 e3 h4 e4 h5 e5 h6 e6 h7 e7 h8 e8 h9 e9 => l46 0 h9 (by omega) ⟨?_, fun i hi => by omega⟩⟩)
  subst e9; subst e8; subst e7; subst e6; subst e5; subst e4; subst e3; subst e2
  have r : ∀ j, 37 ≤ j → rnc 100 j := fun j hj => by unfold rnc; omega
  have mL : Ms p (sL h1 100 38 x1) := ⟨⟨m1.1.1, m1.1.2.1, m1.1.2.2.1, m1.1.2.2.2⟩, m1.2⟩
  have gL : Gr p (sL h1 100 38 x1) := g1
  refine ⟨((((((((mfr_sm s1).putL.put (rnc_mdl (r 39 (by omega)))).put (rnc_mdl (r 40 (by omega)))).put (rnc_mdl (r 41 (by omega)))).put (rnc_mdl (r 42 (by omega)))).put (rnc_mdl (r 43 (by omega)))).put (rnc_mdl (r 47 (by omega)))).put (rnc_mdl (r 37 (by omega)))),
    Ms_run (Ms_run (Ms_run (Ms_run (Ms_run (Ms_run (Ms_run mL (r 39 (by omega))) (r 40 (by omega))) (r 41 (by omega))) (r 42 (by omega))) (r 43 (by omega))) (r 47 (by omega))) (r 37 (by omega)),
    Gr_run (Gr_run (Gr_run (Gr_run (Gr_run (Gr_run (Gr_run gL (r 39 (by omega))) (r 40 (by omega))) (r 41 (by omega))) (r 42 (by omega))) (r 43 (by omega))) (r 47 (by omega))) (r 37 (by omega)), ?_, ?_, ?_, ?_, ?_, ?_, ?_, ?_⟩
  · simp only [xL_sI, xL_sL, and_self, if_true]
  all_goals simp [xI_sI, xI_sL]
theorem ct_M_run {x1 : Int64} {w : Int} (hm : Ms p h) (k : ∀ h', mfr h h' → Ms p h' → Ψ (some (vi (rRu p x1 w))) h') : Ev l D Y_M_run (d + 9) kc ks 0 [some (vr 100), some (vl x1), none, some (vi w), none, none, none] [] h Ψ := by
  have hw := hm.1.2.2.1
  have w1 := hw.1
  have w2 := hw.2.1
  apply m_M_run_0 hm.1.1
  refine ct_M_in hm.1.1 ⟨hm.1.1, fun c => ct_M_runAll hm (fun h1 m1 => ⟨m1.2.1.1.1, ?_⟩), fun c => ?_⟩
  · rw [bI_n] at c
    have z := k h1 m1.1 m1.2.1
    rw [show rRu p x1 w = _ from cI_f (fun q => q c)] at z
    have l64 : ∀ (n j : Nat), j + n = (nT p).toNat → Ev l D Y_M_run (d + 9) kc ks 64 [some (vr 100), some (vl x1), none, some (vi w), some (vi (cnt (fun m => ¬ (RunF p x1).1 145 m = 0) (nM p).toNat 0)), some (vi (cnt (fun m => ¬ (RunF p x1).1 146 m = 0) j 0)), some (vi (j : Int))] [] h1 Ψ := by
      intro n
      induction n with
      | zero =>
        intro j hj
        apply m_M_run_64 m1.2.1.1.1
        rw [(m1.2.1.1.2.1).nT, m1.2.2.2.1 100 42 (by unfold rcl; omega), m1.2.2.2.1 100 41 (by unfold rcl; omega), m1.2.2.2.1 100 47 (by unfold rcl; omega), m1.2.2.2.1 100 39 (by unfold rcl; omega)]
        rw [show j = (nT p).toNat by omega]
        refine ⟨fun _ => ⟨fun c0 => ⟨fun c1 => ⟨fun c2 => ⟨fun c3 => ⟨fun c4 => ?_, fun c4 => ?_⟩, fun c3 => ?_⟩, fun c2 => ?_⟩, fun c1 => ?_⟩, fun c0 => ?_⟩, fun c => by omega⟩
        · rw [cI_f c0, cI_f c1, cI_f c2, cI_f c3, cI_f c4] at z; exact z
        · rw [cI_f c0, cI_f c1, cI_f c2, cI_f c3, cI_t c4] at z; exact z
        · rw [cI_f c0, cI_f c1, cI_f c2, cI_t c3] at z; exact z
        · rw [cI_f c0, cI_f c1, cI_t c2] at z; exact z
        · rw [cI_f c0, cI_t c1] at z; exact z
        · rw [cI_t c0] at z; exact z
      | succ n ih =>
        intro j hj
        have nx := ih (j + 1) (by omega)
        rw [cnt_snoc, Nat.zero_add] at nx
        have cb := cnt_le (fun m => ¬ (RunF p x1).1 146 m = 0) j 0
        apply m_M_run_64 m1.2.1.1.1
        rw [(m1.2.1.1.2.1).nT, Int.toNat_natCast, m1.2.2.2.1 146 j (by unfold rcl; omega), wr_s (show j < 1000000 by omega)]
        refine ⟨fun c => by omega, fun _ => ⟨by omega, by omega, fun c2 => ?_, fun c2 => ?_⟩⟩
        · rw [bI_f (fun q => q c2)] at nx; rw [wr_eq (by omega) (by omega)]; exact nx
        · rw [bI_t c2] at nx; rw [wr_eq (by omega) (by omega)]; exact nx
    have l23 : ∀ (n j : Nat), j + n = (nM p).toNat → Ev l D Y_M_run (d + 9) kc ks 23 [some (vr 100), some (vl x1), none, some (vi w), some (vi (cnt (fun m => ¬ (RunF p x1).1 145 m = 0) j 0)), some (vi (j : Int)), none] [] h1 Ψ := by
      intro n
      induction n with
      | zero =>
        intro j hj
        apply m_M_run_23 m1.2.1.1.1
        rw [(m1.2.1.1.2.1).nM]
        refine ⟨fun _ => ?_, fun c => by omega⟩
        rw [show j = (nM p).toNat by omega]
        exact l64 (nT p).toNat 0 (by omega)
      | succ n ih =>
        intro j hj
        have nx := ih (j + 1) (by omega)
        rw [cnt_snoc, Nat.zero_add] at nx
        have cb := cnt_le (fun m => ¬ (RunF p x1).1 145 m = 0) j 0
        apply m_M_run_23 m1.2.1.1.1
        rw [(m1.2.1.1.2.1).nM, Int.toNat_natCast, m1.2.2.2.1 145 j (by unfold rcl; omega), wr_s (show j < 1000000 by omega)]
        refine ⟨fun c => by omega, fun _ => ⟨by omega, by omega, fun c2 => ?_, fun c2 => ?_⟩⟩
        · rw [bI_f (fun q => q c2)] at nx; rw [wr_eq (by omega) (by omega)]; exact nx
        · rw [bI_t c2] at nx; rw [wr_eq (by omega) (by omega)]; exact nx
    exact l23 (nM p).toNat 0 (by omega)
  · have z := k h mfr.rf hm
    rw [show rRu p x1 w = -102 from cI_t (bI_0.mp c)] at z
    exact z
theorem ct_M_holds {x1 : Int64} (hm : Ms p h) (k : ∀ h', mfr h h' → Ms p h' → Ψ (some (vi ((RunF p x1).1 100 43))) h') : Ev l D Y_M_holds (d + 9) kc ks 0 [some (vr 100), some (vl x1), none] [] h Ψ := by
  have hw := hm.1.2.2.1
  apply m_M_holds_0 hm.1.1
  refine ct_M_runAll hm (fun h1 m1 => ⟨m1.2.1.1.1, ?_⟩)
  rw [m1.2.2.2.1 100 43 (by unfold rcl; omega)]
  exact ⟨(rts_kv hw _ 0 _ _ (by omega) (Kv_0 hw x1) (RunF_ok hw x1)).1.2.2.1, k h1 m1.1 m1.2.1⟩
end MR5
