/-! the model's runs -/
def rcl (g : Pg) (a k : Nat) : Prop := (a = 100 ∧ (k = 39 ∨ k = 40 ∨ k = 41 ∨ k = 42 ∨ k = 43 ∨ k = 47)) ∨ (a = 145 ∧ k < 48) ∨ (a = 146 ∧ k < 16) ∨ (a = 147 ∧ k < 20 ∧ (k : Int) < g 100 47) ∨ (a = 149 ∧ k < 192 ∧ ((k % 48 : Nat) : Int) < g 150 (k / 48)) ∨ (a = 150 ∧ k < 4)
theorem rcl_149 {g : Pg} {a i : Nat} (ha : a < 4) (hi : i < 48) (h : (i : Int) < g 150 a) : rcl g 149 (48 * a + i) := by
  have e1 : (48 * a + i) % 48 = i := by omega
  have e2 : (48 * a + i) / 48 = a := by omega
  refine Or.inr (Or.inr (Or.inr (Or.inr (Or.inl ⟨rfl, by omega, ?_⟩))))
  rw [e1, e2]; exact h
/-- a cell of a run that may be written -/
def rwc (a k : Nat) : Prop := (a = 100 ∧ (k = 39 ∨ k = 40 ∨ k = 41 ∨ k = 42 ∨ k = 43)) ∨ (a = 145 ∧ k < 48) ∨ (a = 146 ∧ k < 16)
theorem rcl_gs {g : Pg} {a k b j : Nat} {x : Int} (r : rwc a k) (q : rcl (gs g a k x) b j) : rcl g b j := by
  unfold rcl at q ⊢
  rw [gs_at, gs_at, if_neg (show ¬ (100 = a ∧ 47 = k) by unfold rwc at r; omega), if_neg (show ¬ (150 = a ∧ j / 48 = k) by unfold rwc at r; omega)] at q
  exact q
def rnc (a k : Nat) : Prop := (a = 100 ∧ 37 ≤ k) ∨ (134 ≤ a ∧ a ≤ 150)
def mfr (h h' : Hp) : Prop := h'.1 = h.1 ∧ h'.2.2.1 = h.2.2.1 ∧ (∀ a k, ¬ mdl a k → xI h' a k = xI h a k) ∧ ∀ a k, ¬ a = 100 → xL h' a k = xL h a k
theorem mfr.rf {h : Hp} : mfr h h := ⟨rfl, rfl, fun _ _ _ => rfl, fun _ _ _ => rfl⟩
theorem mfr.tr {h h1 h2 : Hp} (q : mfr h h1) (r : mfr h1 h2) : mfr h h2 := ⟨r.1.trans q.1, r.2.1.trans q.2.1, fun a k z => (r.2.2.1 a k z).trans (q.2.2.1 a k z), fun a k z => (r.2.2.2 a k z).trans (q.2.2.2 a k z)⟩
theorem mfr_sm {h h' : Hp} (q : sm mdl h h') : mfr h h' := ⟨q.1, by rw [q.2.1], q.2.2, fun a k _ => q.L a k⟩
theorem mfr.put {h h1 : Hp} {a k : Nat} {x : Int} (q : mfr h h1) (ha : mdl a k) : mfr h (sI h1 a k x) := ⟨q.1, q.2.1, fun b j z => by rw [xI_sI, if_neg (fun y => z (by rw [y.1, y.2]; exact ha))]; exact q.2.2.1 b j z, q.2.2.2⟩
theorem mfr.putL {h h1 : Hp} {k : Nat} {x : Int64} (q : mfr h h1) : mfr h (sL h1 100 k x) := ⟨q.1, q.2.1, q.2.2.1, fun b j z => by rw [xL_sL, if_neg (fun y => z y.1)]; exact q.2.2.2 b j z⟩
def stk (h : Hp) : List Tk → Prop
  | [] => True
  | T :: K => xI h 134 K.length = T.1 ∧ xI h 135 K.length = T.2.1 ∧ xI h 136 K.length = T.2.2.1 ∧ (¬ T.1 = 0 → xI h 137 K.length = T.2.2.2) ∧ stk h K
theorem stk_eq {h h' : Hp} : ∀ (K : List Tk), (∀ a j, 134 ≤ a → a ≤ 137 → j < K.length → xI h' a j = xI h a j) → stk h K → stk h' K
  | [], _, _ => trivial
  | T :: K, e, q => by
    have l : K.length < (T :: K).length := by rw [List.length_cons]; omega
    refine ⟨?_, ?_, ?_, fun z => ?_, stk_eq K (fun a j h1 h2 h3 => e a j h1 h2 (by omega)) q.2.2.2.2⟩
    · rw [e _ _ (by omega) (by omega) l]; exact q.1
    · rw [e _ _ (by omega) (by omega) l]; exact q.2.1
    · rw [e _ _ (by omega) (by omega) l]; exact q.2.2.1
    · rw [e _ _ (by omega) (by omega) l]; exact q.2.2.2.1 z
def Mv (p : Pg) (h0 h : Hp) (K : List Tk) (s : Rst) : Prop := mfr h0 h ∧ Ms p h ∧ Gr p h ∧ (∀ a k, rcl s.1 a k → xI h a k = s.1 a k) ∧ xL h 100 38 = s.2 ∧ xI h 100 37 = K.length ∧ stk h K
theorem Ms_run {p : Pg} {h : Hp} {a k : Nat} {x : Int} (q : Ms p h) (r : rnc a k) : Ms p (sI h a k x) := by
  unfold rnc at r
  refine ⟨Mok_sI q.1 (fun z => by have := sta_iff.mp z; omega) (by omega) (by omega), ?_, fun c => ?_⟩
  · rw [xI_sI, if_neg (by omega)]; exact q.2.1
  · rw [xI_sI, if_neg (by omega)] at c
    have g := q.2.2 c
    exact ⟨fun b j hd => by rw [xI_sI, if_neg (by unfold dyn at hd; omega)]; exact g.1 b j hd, fun b c hb hc => by rw [xI_sI, if_neg (by omega), xI_sI, if_neg (by omega)]; exact g.2 b c hb hc⟩
theorem Gr_run {p : Pg} {h : Hp} {a k : Nat} {x : Int} (g : Gr p h) (r : rnc a k) : Gr p (sI h a k x) := by
  unfold rnc at r
  exact ⟨fun b j hd => by rw [xI_sI, if_neg (by unfold dyn at hd; omega)]; exact g.1 b j hd, fun b c hb hc => by rw [xI_sI, if_neg (by omega), xI_sI, if_neg (by omega)]; exact g.2 b c hb hc⟩
theorem rwc_rnc {a k : Nat} (q : rwc a k) : rnc a k := by unfold rwc at q; unfold rnc; omega
theorem rnc_mdl {a k : Nat} (q : rnc a k) : mdl a k := by unfold rnc at q; show 100 ≤ a ∧ a < 151; omega
theorem Mv.put {p : Pg} {h0 h : Hp} {K : List Tk} {s : Rst} {a k : Nat} {x : Int} (q : Mv p h0 h K s) (r : rwc a k) : Mv p h0 (sI h a k x) K (rs s a k x) := by
  obtain ⟨q1, q2, q3, q4, q5, q6, q7⟩ := q
  have r' := rwc_rnc r
  refine ⟨q1.put (rnc_mdl r'), Ms_run q2 r', Gr_run q3 r', fun b j hb => ?_, q5, ?_, stk_eq K (fun b j h1 h2 _ => by rw [xI_sI, if_neg (by unfold rwc at r; omega)]) q7⟩
  · rw [xI_sI, rs_at]
    by_cases e : b = a ∧ j = k
    · rw [if_pos e, if_pos e]
    · rw [if_neg e, if_neg e]; exact q4 b j (rcl_gs r hb)
  · rw [xI_sI, if_neg (by unfold rwc at r; omega)]; exact q6
theorem Mv.mk {p : Pg} {h0 h : Hp} {K : List Tk} {s : Rst} {P : Nat} {x : Int} (q : Mv p h0 h K s) (hP : s.1 100 47 = (P : Int)) (hl : P < 20) : Mv p h0 (sI (sI h 147 P x) 100 47 ((P : Int) + 1)) K (rs (rs s 147 P x) 100 47 ((P : Int) + 1)) := by
  obtain ⟨q1, q2, q3, q4, q5, q6, q7⟩ := q
  have ra : rnc 147 P := by unfold rnc; omega
  have rb : rnc 100 47 := by unfold rnc; omega
  refine ⟨(q1.put (rnc_mdl ra)).put (rnc_mdl rb), Ms_run (Ms_run q2 ra) rb, Gr_run (Gr_run q3 ra) rb, fun b j hb => ?_, q5, ?_, stk_eq K (fun b j h1 h2 _ => by rw [xI_sI, if_neg (by omega), xI_sI, if_neg (by omega)]) q7⟩
  · rw [xI_sI, rs_at]
    by_cases e : b = 100 ∧ j = 47
    · rw [if_pos e, if_pos e]
    · rw [if_neg e, if_neg e, xI_sI, rs_at]
      by_cases e2 : b = 147 ∧ j = P
      · rw [if_pos e2, if_pos e2]
      · rw [if_neg e2, if_neg e2]
        refine q4 b j ?_
        unfold rcl at hb ⊢
        rw [rs_at, if_pos ⟨rfl, rfl⟩, rs_at, if_neg (by omega), rs_at, if_neg (by omega)] at hb
        rw [hP]
        rcases hb with z | z | z | z | z | z
        · exact Or.inl z
        · exact Or.inr (Or.inl z)
        · exact Or.inr (Or.inr (Or.inl z))
        · exact Or.inr (Or.inr (Or.inr (Or.inl (by omega))))
        · exact Or.inr (Or.inr (Or.inr (Or.inr (Or.inl z))))
        · exact Or.inr (Or.inr (Or.inr (Or.inr (Or.inr z))))
  · rw [xI_sI, if_neg (by omega), xI_sI, if_neg (by omega)]; exact q6
theorem Mv.bag {p : Pg} {h0 h : Hp} {K : List Tk} {s : Rst} {a n : Nat} {x : Int} (q : Mv p h0 h K s) (ha : a < 4) (hn : s.1 150 a = (n : Int)) (hl : n < 48) : Mv p h0 (sI (sI h 149 (48 * a + n) x) 150 a ((n : Int) + 1)) K (rs (rs s 149 (48 * a + n) x) 150 a ((n : Int) + 1)) := by
  obtain ⟨q1, q2, q3, q4, q5, q6, q7⟩ := q
  have ra : rnc 149 (48 * a + n) := by unfold rnc; omega
  have rb : rnc 150 a := by unfold rnc; omega
  refine ⟨(q1.put (rnc_mdl ra)).put (rnc_mdl rb), Ms_run (Ms_run q2 ra) rb, Gr_run (Gr_run q3 ra) rb, fun b j hb => ?_, q5, ?_, stk_eq K (fun b j h1 h2 _ => by rw [xI_sI, if_neg (by omega), xI_sI, if_neg (by omega)]) q7⟩
  · rw [xI_sI, rs_at]
    by_cases e : b = 150 ∧ j = a
    · rw [if_pos e, if_pos e]
    · rw [if_neg e, if_neg e, xI_sI, rs_at]
      by_cases e2 : b = 149 ∧ j = 48 * a + n
      · rw [if_pos e2, if_pos e2]
      · rw [if_neg e2, if_neg e2]
        refine q4 b j ?_
        unfold rcl at hb ⊢
        rw [rs_at, if_neg (by omega), rs_at, if_neg (by omega)] at hb
        rcases hb with z | z | z | z | z | z
        · exact Or.inl z
        · exact Or.inr (Or.inl z)
        · exact Or.inr (Or.inr (Or.inl z))
        · exact Or.inr (Or.inr (Or.inr (Or.inl z)))
        · refine Or.inr (Or.inr (Or.inr (Or.inr (Or.inl ⟨z.1, z.2.1, ?_⟩))))
          have z3 := z.2.2
          rw [rs_at] at z3
          by_cases e3 : j / 48 = a
          · rw [if_pos ⟨rfl, e3⟩] at z3
            rw [e3, hn]
            omega
          · rw [if_neg (fun y => e3 y.2), rs_at, if_neg (by omega)] at z3
            exact z3
        · exact Or.inr (Or.inr (Or.inr (Or.inr (Or.inr z))))
  · rw [xI_sI, if_neg (by omega), xI_sI, if_neg (by omega)]; exact q6
theorem rcl_scr {g : Pg} {a k : Nat} (z : rcl g a k) : ¬ scr a k := by unfold rcl at z; unfold scr; omega
theorem Mv.sc {p : Pg} {h0 h h' : Hp} {K : List Tk} {s : Rst} (q : Mv p h0 h K s) (r : Sc p h h') : Mv p h0 h' K s := by
  obtain ⟨q1, q2, q3, q4, q5, q6, q7⟩ := q
  have e : ∀ a k, ¬ scr a k → xI h' a k = xI h a k := r.1.2.2
  refine ⟨q1.tr (mfr_sm (r.1.mono (fun _ _ => scr_mdl))), q2.sc r, q3.sm r.1 (fun a k z y => by unfold dyn at z; unfold scr at y; omega) (fun k => by unfold scr; omega), fun a k z => (e a k (rcl_scr z)).trans (q4 a k z), (r.1.L 100 38).trans q5, (e 100 37 (by unfold scr; omega)).trans q6, stk_eq K (fun a j h1 h2 _ => e a j (by unfold scr; omega)) q7⟩
section MR
variable {l : Launch} {D : DD} {d kc ks : Nat} {h h0 : Hp} {Ψ : Option AV → Hp → Prop} {p g : Pg} {K : List Tk} {s : Rst}
theorem ct_M_draw {n : Int} (q : Mv p h0 h K s) (hn : 1 ≤ n ∧ n ≤ 1000) (k : ∀ h', Mv p h0 h' K (rx s) → Ψ (some (vi (dw (rx s).2 n))) h') : Ev l D Y_M_draw d kc ks 0 [some (vr 100), some (vi n)] [] h Ψ := by
  obtain ⟨q1, q2, q3, q4, q5, q6, q7⟩ := q
  apply m_M_draw_0 q2.1.1
  intro h1 eh
  have ex : xL h1 100 38 = (rx s).2 := by
    rw [eh, xL_sL, if_pos ⟨rfl, rfl⟩, q5, ← dnx_eq]
    obtain ⟨a, x⟩ := s
    rfl
  have m := k h1
  rw [dw_eq] at m
  rw [ex]
  refine ⟨dw_nz hn.1 hn.2, m ?_⟩
  subst eh
  refine ⟨q1.putL, ⟨⟨q2.1.1, q2.1.2.1, q2.1.2.2.1, q2.1.2.2.2⟩, q2.2⟩, q3, fun a j z => ?_, ex, q6, stk_eq (h := h) K (fun a j _ _ _ => by rw [xI_sL]) q7⟩
  rw [rx1] at z ⊢; exact q4 a j z
theorem ct_M_push {kd a : Nat} {y : Int} (q : Mv p h0 h K s) (hl : K.length < 1000) (k : ∀ h', Mv p h0 h' ((kd, a, 0, y) :: K) s → Ψ none h') : Ev l D Y_M_push d kc ks 0 [some (vr 100), some (vi (kd : Int)), some (vi (a : Int)), some (vi y)] [] h Ψ := by
  obtain ⟨q1, q2, q3, q4, q5, q6, q7⟩ := q
  apply m_M_push_0 q2.1.1
  rw [q6, Int.toNat_natCast]
  refine ⟨by omega, by omega, fun h1 e1 => ?_⟩
  rw [show xI h1 100 37 = (K.length : Int) by rw [e1, xI_sI, if_neg (by omega)]; exact q6, Int.toNat_natCast]
  refine ⟨by omega, by omega, fun h2 e2 => ?_⟩
  rw [show xI h2 100 37 = (K.length : Int) by rw [e2, xI_sI, if_neg (by omega), e1, xI_sI, if_neg (by omega)]; exact q6, Int.toNat_natCast]
  refine ⟨by omega, by omega, fun h3 e3 => ?_⟩
  rw [show xI h3 100 37 = (K.length : Int) by rw [e3, xI_sI, if_neg (by omega), e2, xI_sI, if_neg (by omega), e1, xI_sI, if_neg (by omega)]; exact q6, Int.toNat_natCast]
  refine ⟨by omega, by omega, fun h4 e4 h5 e5 => ?_⟩
  rw [show xI h4 100 37 = (K.length : Int) by rw [e4, xI_sI, if_neg (by omega), e3, xI_sI, if_neg (by omega), e2, xI_sI, if_neg (by omega), e1, xI_sI, if_neg (by omega)]; exact q6, wr_s (show K.length < 1000000 by omega)] at e5
  refine k h5 ?_
  subst e5; subst e4; subst e3; subst e2; subst e1
  have r4 : rnc 134 K.length := by unfold rnc; omega
  have r5 : rnc 135 K.length := by unfold rnc; omega
  have r6 : rnc 136 K.length := by unfold rnc; omega
  have r7 : rnc 137 K.length := by unfold rnc; omega
  have r0 : rnc 100 37 := by unfold rnc; omega
  refine ⟨((((q1.put (rnc_mdl r4)).put (rnc_mdl r5)).put (rnc_mdl r6)).put (rnc_mdl r7)).put (rnc_mdl r0), Ms_run (Ms_run (Ms_run (Ms_run (Ms_run q2 r4) r5) r6) r7) r0, Gr_run (Gr_run (Gr_run (Gr_run (Gr_run q3 r4) r5) r6) r7) r0, fun b j z => ?_, q5, ?_, ?_, ?_, ?_, fun _ => ?_, stk_eq K (fun b j h1 h2 h3 => ?_) q7⟩
  · have z' : (b = 100 ∧ 39 ≤ j) ∨ 140 ≤ b := by unfold rcl at z; omega
    rw [xI_sI, if_neg (by omega), xI_sI, if_neg (by omega), xI_sI, if_neg (by omega), xI_sI, if_neg (by omega), xI_sI, if_neg (by omega)]; exact q4 b j z
  · rw [xI_sI, if_pos ⟨rfl, rfl⟩, List.length_cons]
  · rw [xI_sI, if_neg (by omega), xI_sI, if_neg (by omega), xI_sI, if_neg (by omega), xI_sI, if_neg (by omega), xI_sI, if_pos ⟨rfl, rfl⟩]
  · rw [xI_sI, if_neg (by omega), xI_sI, if_neg (by omega), xI_sI, if_neg (by omega), xI_sI, if_pos ⟨rfl, rfl⟩]
  · rw [xI_sI, if_neg (by omega), xI_sI, if_neg (by omega), xI_sI, if_pos ⟨rfl, rfl⟩]; rfl
  · rw [xI_sI, if_neg (by omega), xI_sI, if_pos ⟨rfl, rfl⟩]
  · rw [xI_sI, if_neg (by omega), xI_sI, if_neg (by omega), xI_sI, if_neg (by omega), xI_sI, if_neg (by omega), xI_sI, if_neg (by omega)]
theorem ct_M_runNow {m : Nat} {y : Int} (q : Mv p h0 h K s) (hr : Rv p s) (hm : (m : Int) < nM p) (hy : -1 ≤ y ∧ y < nO p) (hl : K.length < 1000) (k : ∀ h', Mv p h0 h' ((act p (1, m, 0, y) s).1 ++ K) (act p (1, m, 0, y) s).2 → Ψ none h') : Ev l D Y_M_runNow (d + 1) kc ks 0 [some (vr 100), some (vi (m : Int)), some (vi y)] [] h Ψ := by
  have hw := q.2.1.1.2.2.1
  have w2 := hw.2.1
  have w3 := hw.2.2.1
  have hM := q.2.1.1.1
  have q4 := q.2.2.2.1
  have e43 := q4 100 43 (by unfold rcl; omega)
  have e119 := q.2.2.1.1 119 m (by unfold dyn; omega)
  have rn := hr.1
  have rn2 := hr.2.1
  have g41 : ∀ y0 : Int, y0 = bI (¬ s.1 100 43 = 0 ∧ ¬ gF p 119 m = 0 ∧ (y = -1 ∨ ¬ gF p 123 (48 * y.toNat + m) = 0)) → Ev l D Y_M_runNow (d + 1) kc ks 41 [some (vr 100), some (vi (m : Int)), some (vi y)] [vi y0, vr 100] h Ψ := by
    intro y0 ey
    apply m_M_runNow_41 hM
    refine ⟨by rw [ey]; exact bI_01 _, fun h1 eh1 => ?_⟩
    have q1 : Mv p h0 h1 K (rs s 100 43 y0) := by rw [eh1]; exact q.put (by unfold rwc; omega)
    have a40 : xI h1 100 40 = s.1 100 40 := (q1.2.2.2.1 100 40 (by unfold rcl; omega)).trans (by rw [rs_at, if_neg (by omega)])
    have a39 : xI h1 100 39 = s.1 100 39 := (q1.2.2.2.1 100 39 (by unfold rcl; omega)).trans (by rw [rs_at, if_neg (by omega)])
    have a41 : xI h1 100 41 = s.1 100 41 := (q1.2.2.2.1 100 41 (by unfold rcl; omega)).trans (by rw [rs_at, if_neg (by omega)])
    have g63 : (s.1 100 40 = 12 ∨ s.1 100 39 = 300) → Ev l D Y_M_runNow (d + 1) kc ks 63 [some (vr 100), some (vi (m : Int)), some (vi y)] [] h1 Ψ := by
      intro c
      apply m_M_runNow_63 q1.2.1.1.1
      intro h2 eh2
      refine k h2 ?_
      have ea : act p (1, m, 0, y) s = ([], rs (rs s 100 43 y0) 100 41 (wr (s.1 100 41 + 1))) := by unfold act; rw [cA_f (show ¬ (1 : Nat) = 0 by decide), cA_t rfl, cA_t c, ey]
      rw [ea, eh2, a41]
      exact q1.put (by unfold rwc; omega)
    rw [a40, a39]
    refine ⟨fun c => g63 (Or.inl c), fun c => ⟨fun c2 h2 eh2 h3 eh3 => ?_, fun c2 => g63 (Or.inr c2)⟩⟩
    rw [wr_eq (by omega) (by omega)] at eh2
    have a402 : xI h2 100 40 = s.1 100 40 := by rw [eh2, xI_sI, if_neg (by omega)]; exact a40
    rw [a402, wr_eq (by omega) (by omega)] at eh3
    refine ⟨by omega, by omega, fun h4 eh4 h5 eh5 => ?_⟩
    rw [Int.toNat_natCast] at eh4
    have q5 : Mv p h0 h5 K (rs (rs (rs (rs (rs s 100 43 y0) 100 39 (s.1 100 39 + 1)) 100 40 (s.1 100 40 + 1)) 145 m 1) 100 42 m) := by
      rw [eh5, eh4, eh3, eh2]
      exact (((q1.put (by unfold rwc; omega)).put (by unfold rwc; omega)).put (by unfold rwc; omega)).put (by unfold rwc; omega)
    refine ct_M_push (kd := 0) q5 hl (fun h6 q6 => ⟨q6.2.1.1.1, k h6 ?_⟩)
    have ea : act p (1, m, 0, y) s = ([(0, m, 0, -1)], rs (rs (rs (rs (rs s 100 43 y0) 100 39 (s.1 100 39 + 1)) 100 40 (s.1 100 40 + 1)) 145 m 1) 100 42 m) := by unfold act; rw [cA_f (show ¬ (1 : Nat) = 0 by decide), cA_t rfl, cA_f (by omega), ey]
    rw [ea]
    exact q6
  apply m_M_runNow_0 hM
  rw [e43, Int.toNat_natCast, e119]
  refine ⟨fun c => g41 0 (bI_f (fun z => z.1 c)).symm, fun c => ⟨by omega, by omega, fun c2 => g41 0 (bI_f (fun z => z.2.1 c2)).symm, fun c2 => ⟨fun c3 => g41 1 (bI_t ⟨c, c2, Or.inl c3⟩).symm, fun c3 => ?_⟩⟩⟩
  obtain ⟨b, rfl⟩ : ∃ b : Nat, y = (b : Int) := ⟨y.toNat, by omega⟩
  rw [ix48 (by omega) (by omega), Int.toNat_natCast, q.2.2.1.1 123 (48 * b + m) (by unfold dyn; omega)]
  rw [Int.toNat_natCast] at g41
  exact ⟨by omega, by omega, fun c4 => g41 0 (bI_f (fun z => z.2.2.elim c3 (fun x => x c4))).symm, fun c4 => g41 1 (bI_t ⟨c, c2, Or.inr c4⟩).symm⟩
theorem ct_M_beginNow {t : Nat} {y : Int} (q : Mv p h0 h K s) (ht : (t : Int) < nT p) (hy : 0 ≤ y ∧ y < nO p) (hl : K.length + 18 < 1000) (k : ∀ h', Mv p h0 h' ((act p (2, t, 0, y) s).1 ++ K) (act p (2, t, 0, y) s).2 → Ψ none h') : Ev l D Y_M_beginNow (d + 2) kc ks 0 [some (vr 100), some (vi (t : Int)), some (vi y), none, none] [] h Ψ := by
  have hw := q.2.1.1.2.2.1
  have w1 := hw.1
  have hM := q.2.1.1.1
  have q4 := q.2.2.2.1
  obtain ⟨t1, t2, t3, t4, t5⟩ := hw.2.2.2.1 t ht
  have e146 := q4 146 t (by unfold rcl; omega)
  apply m_M_beginNow_0 hM
  rw [Int.toNat_natCast, e146]
  refine ⟨by omega, by omega, fun c => ⟨by omega, by omega, fun h1 eh1 => ?_⟩, fun c => ?_⟩
  · have q1 : Mv p h0 h1 K (rs s 146 t 1) := by rw [eh1]; exact q.put (by unfold rwc; omega)
    have e43 : xI h1 100 43 = s.1 100 43 := (q1.2.2.2.1 100 43 (by unfold rcl; omega)).trans (by rw [rs_at, if_neg (by omega)])
    have e121 := q1.2.2.1.1 121 t (by unfold dyn; omega)
    have g39 : ∀ y0 : Int, y0 = bI (¬ s.1 100 43 = 0 ∧ ¬ gF p 121 t = 0) → Ev l D Y_M_beginNow (d + 2) kc ks 39 [some (vr 100), some (vi (t : Int)), some (vi y), none, none] [vi y0, vr 100] h1 Ψ := by
      intro y0 ey
      have ea : act p (2, t, 0, y) s = (bgs p t y, rs (rs s 146 t 1) 100 43 y0) := by unfold act; rw [cA_f (show ¬ (2 : Nat) = 0 by decide), cA_f (show ¬ (2 : Nat) = 1 by decide), cA_t rfl, cA_f (fun z => z c), ey]
      rw [ea] at k
      apply m_M_beginNow_39 q1.2.1.1.1
      refine ⟨by rw [ey]; exact bI_01 _, fun h2 eh2 => ?_⟩
      have q2 : Mv p h0 h2 K (rs (rs s 146 t 1) 100 43 y0) := by rw [eh2]; exact q1.put (by unfold rwc; omega)
      have g61 : ∀ (h3 : Hp) (x3 : Int), Mv p h0 h3 (bg0 p t y ++ K) (rs (rs s 146 t 1) 100 43 y0) → Ev l D Y_M_beginNow (d + 2) kc ks 61 [some (vr 100), some (vi (t : Int)), some (vi y), some (vi x3), none] [] h3 Ψ := by
        intro h3 x3 q3
        apply m_M_beginNow_61 q3.2.1.1.1
        rw [Int.toNat_natCast, (q3.2.1.1.2.1).kd t, (q3.2.1.1.2.1).nT, wr_eq (x := nT p - 1) (by omega) (by omega)]
        refine ⟨by omega, by omega, fun c2 => k h3 ?_, fun c2 => ?_⟩
        · show Mv p h0 h3 (bgs p t y ++ K) _
          unfold bgs; rw [cA_t c2]; exact q3
        · have b0 := (bg0_ok hw (t := t) hy).1
          have key : ∀ (j n : Nat) (h4 : Hp), j + n = (nT p).toNat → Mv p h0 h4 (bgf p t y n j ++ (bg0 p t y ++ K)) (rs (rs s 146 t 1) 100 43 y0) → Ev l D Y_M_beginNow (d + 2) kc ks 79 [some (vr 100), some (vi (t : Int)), some (vi y), some (vi x3), some (vi ((j : Int) - 1))] [] h4 Ψ := by
            intro j
            induction j with
            | zero =>
              intro n h4 hn q4'
              have fl := (bgf_ok (p := p) (t := t) hy n 0 (by omega)).1
              have en : n = (nT p).toNat := by omega
              apply m_M_beginNow_79 q4'.2.1.1.1
              rw [Int.toNat_natCast, (q4'.2.1.1.2.1).up t]
              refine ⟨fun _ => ⟨by omega, by omega, fun c3 => k h4 ?_, fun c3 => ⟨by omega, by omega, ?_⟩⟩, fun c3 => by omega⟩
              · show Mv p h0 h4 (bgs p t y ++ K) _
                unfold bgs; rw [cA_f c2, cA_t c3, List.nil_append, List.append_assoc, ← en]; exact q4'
              · rw [show up p t = (((up p t).toNat : Nat) : Int) by omega]
                refine ct_M_push (kd := 2) q4' (by simp only [List.length_append]; omega) (fun h5 q5 => ⟨q5.2.1.1.1, k h5 ?_⟩)
                show Mv p h0 h5 (bgs p t y ++ K) _
                unfold bgs; rw [cA_f c2, cA_f c3, List.append_assoc, List.append_assoc, ← en]; exact q5
            | succ j ih =>
              intro n h4 hn q4'
              have e1 : (((j + 1 : Nat) : Int) - 1) = (j : Int) := by omega
              have e2 : wr ((j : Int) + -1) = (j : Int) - 1 := by rw [wr_eq (by omega) (by omega)]; omega
              have fl := (bgf_ok (p := p) (t := t) hy n (j + 1) (by omega)).1
              have nx : ¬ (U p t j ∧ kd p j = 2 ∧ hpl p j) → ∀ h5, Mv p h0 h5 (bgf p t y n (j + 1) ++ (bg0 p t y ++ K)) (rs (rs s 146 t 1) 100 43 y0) → Ev l D Y_M_beginNow (d + 2) kc ks 79 [some (vr 100), some (vi (t : Int)), some (vi y), some (vi x3), some (vi ((j : Int) - 1))] [] h5 Ψ := by
                intro hn2 h5 q5
                refine ih (n + 1) h5 (by omega) ?_
                unfold bgf; rw [cA_f hn2, List.nil_append]; exact q5
              rw [e1]
              apply m_M_beginNow_79 q4'.2.1.1.1
              rw [e2]
              refine ⟨fun c3 => by omega, fun _ => ct_M_isUnderI q4'.2.1.1 ⟨by omega, ht⟩ ⟨by omega, by omega⟩ (fun h5 s5 => ⟨s5.2.1, fun c3 => ?_, fun c3 => ⟨by omega, by omega, ?_⟩⟩)⟩
              · rw [Int.toNat_natCast, Int.toNat_natCast, bI_0] at c3
                exact nx (fun z => c3 z.1) h5 (q4'.sc s5)
              · rw [Int.toNat_natCast, Int.toNat_natCast, bI_n] at c3
                rw [Int.toNat_natCast, (s5.2.2.1).kd j]
                refine ⟨fun c5 => nx (fun z => c5 z.2.1) h5 (q4'.sc s5), fun c5 => ct_M_hasPlain s5.2 ⟨s5.2.1, fun c6 => nx (fun z => bI_0.mp c6 z.2.2) h5 (q4'.sc s5), fun c6 => ?_⟩⟩
                refine ct_M_push (kd := 2) (q4'.sc s5) (by simp only [List.length_append]; omega) (fun h6 q6 => ⟨q6.2.1.1.1, ih (n + 1) h6 (by omega) ?_⟩)
                unfold bgf; rw [cA_t ⟨c3, c5, bI_n.mp c6⟩]; exact q6
          have k0 := key (nT p).toNat 0 h3 (by omega) q3
          rw [show (((nT p).toNat : Nat) : Int) = nT p by omega] at k0
          exact k0
      have ob := own_bd hw (t : Int) (-1)
      refine ct_M_ownOf q2.2.1.1.1 q2.2.1.1.2.1 hw ⟨q2.2.1.1.1, fun c2 => g61 h2 _ ?_, fun c2 => ?_⟩
      · unfold bg0; rw [cA_t c2]; exact q2
      · obtain ⟨st, hst⟩ : ∃ st : Nat, own p t (-1) = (st : Int) := ⟨(own p t (-1)).toNat, by omega⟩
        rw [hst]
        refine ct_M_push (kd := 1) q2 (by omega) (fun h3 q3 => ⟨q3.2.1.1.1, g61 h3 _ ?_⟩)
        unfold bg0; rw [cA_f c2, hst, Int.toNat_natCast]; exact q3
    rw [e43, e121]
    exact ⟨fun c2 => g39 0 (bI_f (fun z => z.1 c2)).symm, fun c2 => ⟨by omega, by omega, fun c3 => g39 0 (bI_f (fun z => z.2 c3)).symm, fun c3 => g39 1 (bI_t ⟨c2, c3⟩).symm⟩⟩
  · have ea : act p (2, t, 0, y) s = ([], s) := by unfold act; rw [cA_f (show ¬ (2 : Nat) = 0 by decide), cA_f (show ¬ (2 : Nat) = 1 by decide), cA_t rfl, cA_t c]
    rw [ea] at k
    exact k h q
end MR
