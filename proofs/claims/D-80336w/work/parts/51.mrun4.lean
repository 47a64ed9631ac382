/-! the model's runs: the next thing is done, all is done, what is told of it -/
def rst0 (x : Int64) : Rst := (gs (gs (fun _ _ => 0) 100 42 (-1)) 100 43 1, x)
def rts (p : Pg) : Nat → Nat → Rst → Rst → Prop
  | 0, _, s, r => r = s
  | n + 1, m, s, r => (rt p m = 0 → rts p n (m + 1) s r) ∧ (¬ rt p m = 0 → ∃ k s', Mc p k [(1, m, 0, -1)] s s' ∧ rts p n (m + 1) s' r)
theorem Kv_root {p : Pg} {s : Rst} {m : Nat} (hw : WF p) (q : Kv p [] s) (hm : (m : Int) < nM p) : Kv p [(1, m, 0, -1)] s := by
  have w3 := hw.2.2.1
  have b0 := nbg_bd s
  refine ⟨q.1, fun T h => ?_, q.2.2.1, ?_, trivial⟩
  · rw [List.mem_singleton.mp h]
    exact Or.inr (Or.inl ⟨rfl, hm, by show -1 ≤ (-1 : Int); omega, by show (-1 : Int) < nO p; omega⟩)
  · show ((1 : Nat) : Int) ≤ 3 * ((0 : Nat) : Int) + 1 + 18 * nbg s
    omega
theorem rts_ex {p : Pg} (hw : WF p) : ∀ (n m : Nat) (s : Rst), m + n ≤ (nM p).toNat → Kv p [] s → ∃ r, rts p n m s r
  | 0, _, s, _, _ => ⟨s, rfl⟩
  | n + 1, m, s, h, q => by
    rcases Classical.em (rt p m = 0) with e | e
    · obtain ⟨r, z⟩ := rts_ex hw n (m + 1) s (by omega) q
      exact ⟨r, fun _ => z, fun c => absurd e c⟩
    · have kr := Kv_root hw q (m := m) (by omega)
      obtain ⟨k, s', z⟩ := Mc_ex hw (phi p [(1, m, 0, -1)] s + 1).toNat _ s kr (by
        have a := wts_nn p [(1, m, 0, -1)] kr.2.1
        have b := nbg_bd s
        have c := q.1.1
        unfold phi; omega)
      obtain ⟨r, y⟩ := rts_ex hw n (m + 1) s' (by omega) (Mc_kv hw k _ s s' z kr)
      exact ⟨r, fun c => absurd c e, fun _ => ⟨k, s', z, y⟩⟩
theorem Kv_0 {p : Pg} (hw : WF p) (x : Int64) : Kv p [] (rst0 x) := by
  have w2 := hw.2.1
  refine ⟨⟨by show (0 : Int) ≤ 0 ∧ (0 : Int) ≤ 300; omega, by show (0 : Int) ≤ 0 ∧ (0 : Int) ≤ 12; omega, Or.inr rfl, by show (0 : Int) ≤ 0 ∧ (0 : Int) ≤ 20; omega, fun i hi => ?_, fun a ha => ⟨by show (0 : Int) ≤ 0; omega, ?_, fun i hi => ?_⟩⟩, fun T h => (by cases h), rfl, trivial⟩
  · have hi' : (i : Int) < 0 := hi
    omega
  · show _ = (0 : Int)
    refine (cnt_0 _ _ _).mpr (fun j _ _ z => ?_)
    obtain ⟨i, i1, _⟩ := z
    have hi' : (i : Int) < 0 := i1
    omega
  · have hi' : (i : Int) < 0 := hi
    omega
noncomputable def RunF (p : Pg) (x : Int64) : Rst := @Classical.epsilon Rst ⟨rst0 x⟩ (fun r => rts p (nM p).toNat 0 (rst0 x) r)
theorem RunF_ok {p : Pg} (hw : WF p) (x : Int64) : rts p (nM p).toNat 0 (rst0 x) (RunF p x) := @Classical.epsilon_spec Rst (fun r => rts p (nM p).toNat 0 (rst0 x) r) (rts_ex hw _ 0 _ (by omega) (Kv_0 hw x))
theorem len_bd {p : Pg} {K : List Tk} {s : Rst} (q : Kv p K s) : K.length ≤ 325 := by
  have a := SI_len K q.2.2.2 (nbg_bd s).1
  have b := nbg_bd s
  have c := q.1.2.1
  have e := q.2.2.1
  omega
noncomputable def rRu (p : Pg) (x : Int64) (w : Int) : Int := cI (¬ (0 ≤ w ∧ w ≤ 5)) (-102) (cI (w = 0) ((RunF p x).1 100 39) (cI (w = 1) (cnt (fun m => ¬ (RunF p x).1 145 m = 0) (nM p).toNat 0) (cI (w = 2) ((RunF p x).1 100 47) (cI (w = 3) (cnt (fun m => ¬ (RunF p x).1 146 m = 0) (nT p).toNat 0) (cI (w = 4) ((RunF p x).1 100 41) ((RunF p x).1 100 42))))))
section MR4
variable {l : Launch} {D : DD} {d kc ks : Nat} {h h0 : Hp} {Ψ : Option AV → Hp → Prop} {p g : Pg} {K : List Tk} {s : Rst}
theorem Mv.pop {T : Tk} (q : Mv p h0 h (T :: K) s) : Mv p h0 (sI h 100 37 (K.length : Int)) K s := by
  obtain ⟨q1, q2, q3, q4, q5, q6, q7⟩ := q
  have r0 : rnc 100 37 := by unfold rnc; omega
  refine ⟨q1.put (rnc_mdl r0), Ms_run q2 r0, Gr_run q3 r0, fun b j z => ?_, q5, by rw [xI_sI, if_pos ⟨rfl, rfl⟩], stk_eq K (fun b j h1 h2 _ => by rw [xI_sI, if_neg (by omega)]) q7.2.2.2.2⟩
  rw [xI_sI, if_neg (by unfold rcl at z; omega)]; exact q4 b j z
theorem Mv.inc {m i : Nat} {y : Int} (q : Mv p h0 h ((0, m, i, y) :: K) s) : Mv p h0 (sI h 136 K.length ((i + 1 : Nat) : Int)) ((0, m, i + 1, -1) :: K) s := by
  obtain ⟨q1, q2, q3, q4, q5, q6, q7⟩ := q
  have r0 : rnc 136 K.length := by unfold rnc; omega
  refine ⟨q1.put (rnc_mdl r0), Ms_run q2 r0, Gr_run q3 r0, fun b j z => ?_, q5, ?_, ?_, ?_, ?_, fun z => absurd rfl z, stk_eq K (fun b j h1 h2 h3 => by rw [xI_sI, if_neg (by omega)]) q7.2.2.2.2⟩
  · rw [xI_sI, if_neg (by unfold rcl at z; omega)]; exact q4 b j z
  · rw [xI_sI, if_neg (by omega)]; exact q6
  · rw [xI_sI, if_neg (by omega)]; exact q7.1
  · rw [xI_sI, if_neg (by omega)]; exact q7.2.1
  · rw [xI_sI, if_pos ⟨rfl, rfl⟩]
theorem ct_M_doNext {T : Tk} (q : Mv p h0 h (T :: K) s) (kvv : Kv p (T :: K) s) (k : ∀ h', Mv p h0 h' ((act p T s).1 ++ K) (act p T s).2 → Ψ none h') : Ev l D Y_M_doNext (d + 7) kc ks 0 [some (vr 100), none, none, none] [] h Ψ := by
  have hw := q.2.1.1.2.2.1
  have w1 := hw.1
  have w2 := hw.2.1
  have w3 := hw.2.2.1
  have hM := q.2.1.1.1
  have lb := len_bd kvv
  rw [List.length_cons] at lb
  have vT := kvv.2.1 T (List.mem_cons_self ..)
  have rv := kvv.1
  obtain ⟨kd, m, i, y⟩ := T
  have e37 : wr (xI h 100 37 - 1) = (K.length : Int) := by
    rw [show xI h 100 37 = ((K.length + 1 : Nat) : Int) from q.2.2.2.2.2.1, wr_eq (by omega) (by omega)]; omega
  obtain ⟨s1, s2, s3, s4, s5⟩ := q.2.2.2.2.2.2
  have s1' : xI h 134 K.length = (kd : Int) := s1
  have s2' : xI h 135 K.length = (m : Int) := s2
  have s3' : xI h 136 K.length = (i : Int) := s3
  apply m_M_doNext_0 hM
  rw [e37, Int.toNat_natCast, s1', s2', s3', Int.toNat_natCast]
  refine ⟨by omega, by omega, by omega, by omega, fun c h1 eh1 => ?_, fun c => ?_⟩
  · have q1 : Mv p h0 h1 K s := by rw [eh1]; exact q.pop
    have n1 : xI h1 134 K.length = (kd : Int) := by rw [eh1, xI_sI, if_neg (by omega)]; exact s1'
    have n7 : xI h1 137 K.length = y := by rw [eh1, xI_sI, if_neg (by omega)]; exact s4 (by show ¬ kd = 0; omega)
    rw [n1, n7]
    refine ⟨by omega, by omega, by omega, by omega, fun c1 => ⟨by omega, by omega, fun c2 => ?_, fun c2 => ?_⟩, fun c1 => ?_⟩
    · have vm : kd = 3 ∧ (m : Int) < nT p := by
        rcases vT with z | z | z | z
        · exact absurd z.1 (by show ¬ kd = 0; omega)
        · exact absurd z.1 (by show ¬ kd = 1; omega)
        · exact absurd z.1 (by show ¬ kd = 2; omega)
        · exact z
      have e43 := q1.2.2.2.1 100 43 (by unfold rcl; omega)
      have e120 := q1.2.2.1.1 120 m (by unfold dyn; omega)
      have g179 : ∀ y0 : Int, y0 = bI (¬ s.1 100 43 = 0 ∧ ¬ gF p 120 m = 0) → Ev l D Y_M_doNext (d + 7) kc ks 179 [some (vr 100), some (vi (K.length : Int)), some (vi (m : Int)), some (vi y)] [vi y0, vr 100] h1 Ψ := by
        intro y0 ey
        apply m_M_doNext_179 q1.2.1.1.1
        refine ⟨by rw [ey]; exact bI_01 _, fun h2 eh2 => ?_⟩
        have q2 : Mv p h0 h2 K (rs s 100 43 y0) := by rw [eh2]; exact q1.put (by unfold rwc; omega)
        have e47 : xI h2 100 47 = s.1 100 47 := (q2.2.2.2.1 100 47 (by unfold rcl; omega)).trans (by rw [rs_at, if_neg (by omega)])
        have r47 := rv.2.2.2.1
        rw [e47]
        refine ⟨fun c3 => k h2 ?_, fun c3 => ⟨by omega, by omega, fun h3 eh3 h4 eh4 => k h4 ?_⟩⟩
        · have ea : act p (kd, m, i, y) s = ([], rs s 100 43 y0) := by
            unfold act; rw [cA_f (show ¬ kd = 0 by omega), cA_f (show ¬ kd = 1 by omega), cA_f (show ¬ kd = 2 by omega), cA_t c3, ey]
          rw [ea]; exact q2
        · have e47' : xI h3 100 47 = s.1 100 47 := by rw [eh3, xI_sI, if_neg (by omega)]; exact e47
          rw [e47', wr_eq (by omega) (by omega)] at eh4
          have ea : act p (kd, m, i, y) s = ([], rs (rs (rs s 100 43 y0) 147 (s.1 100 47).toNat m) 100 47 (s.1 100 47 + 1)) := by
            unfold act; rw [cA_f (show ¬ kd = 0 by omega), cA_f (show ¬ kd = 1 by omega), cA_f (show ¬ kd = 2 by omega), cA_f (by omega), ey]
          rw [ea, eh4, eh3]
          obtain ⟨P, hP⟩ : ∃ P : Nat, s.1 100 47 = (P : Int) := ⟨(s.1 100 47).toNat, by omega⟩
          rw [hP, Int.toNat_natCast]
          exact q2.mk (by rw [rs_at, if_neg (by omega)]; exact hP) (by omega)
      rw [e43, e120]
      exact ⟨fun c3 => g179 0 (bI_f (fun z => z.1 c3)).symm, fun c3 => ⟨by omega, by omega, fun c4 => g179 0 (bI_f (fun z => z.2 c4)).symm, fun c4 => g179 1 (bI_t ⟨c3, c4⟩).symm⟩⟩
    · have k2 : kd = 2 := by omega
      have vm : (m : Int) < nT p ∧ 0 ≤ y ∧ y < nO p := by
        rcases vT with z | z | z | z
        · exact absurd z.1 (by show ¬ kd = 0; omega)
        · exact absurd z.1 (by show ¬ kd = 1; omega)
        · exact z.2
        · exact absurd z.1 (by show ¬ kd = 3; omega)
      subst k2
      refine ct_M_beginNow q1 vm.1 vm.2 (by omega) (fun h2 m2 => ⟨m2.2.1.1.1, k h2 ?_⟩)
      have ea : act p (2, m, i, y) s = act p (2, m, 0, y) s := by unfold act; rw [cA_f (show ¬ (2 : Nat) = 0 by decide), cA_f (show ¬ (2 : Nat) = 1 by decide), cA_f (show ¬ (2 : Nat) = 0 by decide)]
      rw [ea]; exact m2
    · have k1 : kd = 1 := by omega
      have vm : (m : Int) < nM p ∧ -1 ≤ y ∧ y < nO p := by
        rcases vT with z | z | z | z
        · exact absurd z.1 (by show ¬ kd = 0; omega)
        · exact z.2
        · exact absurd z.1 (by show ¬ kd = 2; omega)
        · exact absurd z.1 (by show ¬ kd = 3; omega)
      subst k1
      refine ct_M_runNow q1 rv vm.1 vm.2 (by omega) (fun h2 m2 => ⟨m2.2.1.1.1, k h2 ?_⟩)
      have ea : act p (1, m, i, y) s = act p (1, m, 0, y) s := by unfold act; rw [cA_f (show ¬ (1 : Nat) = 0 by decide), cA_f (show ¬ (1 : Nat) = 0 by decide)]
      rw [ea]; exact m2
  · have k0 : kd = 0 := by omega
    have vm : (m : Int) < nM p ∧ (i : Int) ≤ om p m := by
      rcases vT with z | z | z | z
      · exact z.2
      · exact absurd z.1 (by show ¬ kd = 1; omega)
      · exact absurd z.1 (by show ¬ kd = 2; omega)
      · exact absurd z.1 (by show ¬ kd = 3; omega)
    subst k0
    have wm := (hw.2.2.2.2.1 m vm.1).2.2.2.2.2.1
    rw [(q.2.1.1.2.1).om m]
    refine ⟨by omega, by omega, by omega, by omega, fun c2 => ⟨by omega, by omega, ?_⟩, fun c2 h7 e7 h8 e8 => ?_⟩
    · obtain ⟨ob, oe⟩ := oa_bd hw vm.1 (show (i : Int) < om p m by omega)
      rw [ix24 (a := m) (b := i) (by omega) (by omega), Int.toNat_natCast, (q.2.1.1.2.1).oa (24 * m + i), wr_s (show i < 1000000 by omega)]
      refine ⟨by omega, by omega, by omega, by omega, by omega, by omega, fun h4 e4 => ?_⟩
      have q4 : Mv p h0 h4 ((0, m, i + 1, -1) :: K) s := by rw [e4]; exact q.inc
      have ea : act p (0, m, i, y) s = ((fr1 p m i s).1 ++ [(0, m, i + 1, -1)], (fr1 p m i s).2) := by unfold act; rw [cA_t rfl, cA_f c2]
      refine ct_M_draw q4 (by omega) (fun h5 q5 => ⟨q5.2.1.1.1, fun c3 => ?_, fun c3 => ?_⟩)
      · apply m_M_doNext_101 q5.2.1.1.1
        refine k h5 ?_
        rw [ea]
        show Mv p h0 h5 (((fr1 p m i s).1 ++ [(0, m, i + 1, -1)]) ++ K) (fr1 p m i s).2
        unfold fr1; rw [cA_t c3]; exact q5
      · rw [oe]
        refine ct_M_runOp q5 (Rv_rx rv) ob (by rw [List.length_cons]; omega) (fun h6 q6 => ⟨q6.2.1.1.1, ?_⟩)
        apply m_M_doNext_101 q6.2.1.1.1
        refine k h6 ?_
        rw [ea]
        show Mv p h0 h6 (((fr1 p m i s).1 ++ [(0, m, i + 1, -1)]) ++ K) (fr1 p m i s).2
        unfold fr1; rw [cA_f c3, List.append_assoc]; exact q6
    · have q7 : Mv p h0 h7 K s := by rw [e7]; exact q.pop
      rw [show xI h7 100 40 = s.1 100 40 from q7.2.2.2.1 100 40 (by unfold rcl; omega), wr_eq (by have := rv.2.1; omega) (by have := rv.2.1; omega)] at e8
      have q8 : Mv p h0 h8 K (rs s 100 40 (s.1 100 40 - 1)) := by rw [e8]; exact q7.put (by unfold rwc; omega)
      apply m_M_doNext_101 q8.2.1.1.1
      refine k h8 ?_
      have ea : act p (0, m, i, y) s = ([], rs s 100 40 (s.1 100 40 - 1)) := by unfold act; rw [cA_t rfl, cA_t c2]
      rw [ea]; exact q8
theorem lp_M_runAll_132 {x1 : Int64} {m : Nat} (hw : WF p) {r : Rst} (k : ∀ h', Mv p h0 h' [] r → Ev l D Y_M_runAll (d + 8) kc ks 108 [some (vr 100), some (vl x1), none, some (vi (wr ((m : Int) + 1)))] [] h' Ψ) : ∀ (n : Nat) (K : List Tk) (s : Rst) (h' : Hp), Mc p n K s r → Kv p K s → Mv p h0 h' K s → Ev l D Y_M_runAll (d + 8) kc ks 132 [some (vr 100), some (vl x1), none, some (vi (m : Int))] [] h' Ψ := by
  intro n
  induction n with
  | zero =>
    intro K s h' mc kvv mv
    obtain ⟨e1, e2⟩ := mc
    subst e1
    apply m_M_runAll_132 mv.2.1.1.1
    rw [mv.2.2.2.2.2.1]
    refine ⟨fun _ => k h' ?_, fun c => by have c' : ((0 : Nat) : Int) > 0 := c; omega⟩
    rw [e2]; exact mv
  | succ n ih =>
    intro K s h' mc kvv mv
    obtain ⟨T, K', e1, mc'⟩ := mc
    subst e1
    apply m_M_runAll_132 mv.2.1.1.1
    rw [mv.2.2.2.2.2.1, List.length_cons]
    exact ⟨fun c => by omega, fun _ => ct_M_doNext mv kvv (fun h2 m2 => ⟨m2.2.1.1.1, ih _ _ h2 mc' (act_ok hw kvv).1 m2⟩)⟩
end MR4
