/-! the component: spread of any op; fill -/
section CST
variable {l : Launch} {D : DD} {d kc ks : Nat} {h h0 : Hp} {Ψ : Option AV → Hp → Prop} {p g : Pg}
theorem rst_eq {o : Nat} (a k : Nat) (h : (119 ≤ a ∧ a ≤ 123) ∨ (a = 100 ∧ k = 17)) : grst o g a k = g a k := by unfold grst; rw [gs_at, if_neg (by omega), gs_at, if_neg (by omega), gs_at, if_neg (by omega), gs_at, if_neg (by omega)]
theorem ct_spread {o : Nat} (q : Gc p h0 h g) (hw : WF p) (ho : (o : Int) < nO p) (k : ∀ h', Gc p h0 h' (gfol p o g) → Ψ none h') : Ev l D (mt_Op_spread_Y (xK h (oD o))) (d + 6) kc ks 0 (enL (mt_Op_spread_Y (xK h (oD o))).2.2.1 [vr (oD o), vr 20]) [] h Ψ := by
  have o1 := (hw.2.2.2.2.2.2 o ho).1
  have q' : Gc p h0 h (grst o g) := q.eqv (fun a k z => rst_eq a k z)
  rw [q.2.1.okk o ho]
  unfold okd
  by_cases e0 : ok p o = 0
  · rw [if_pos e0]; exact ct_New_spread q' hw ho e0 k
  rw [if_neg e0]
  by_cases e1 : ok p o = 1 ∨ ok p o = 4
  · rw [if_pos e1]; exact ct_Call_spread q' hw ho e1 k
  rw [if_neg e1]
  by_cases e2 : ok p o = 2
  · rw [if_pos e2]; exact ct_Up_spread q' hw ho e2 k
  rw [if_neg e2]
  by_cases e3 : ok p o = 3
  · rw [if_pos e3]; exact ct_Static_spread q' hw ho e3 k
  rw [if_neg e3]
  by_cases e5 : ok p o = 5
  · rw [if_pos e5]; exact ct_Put_spread q' hw ho e5 k
  rw [if_neg e5]
  by_cases e6 : ok p o = 6
  · rw [if_pos e6]; exact ct_Out_spread q' hw ho e6 k
  rw [if_neg e6]
  exact ct_Any_spread q' hw ho (by omega) k
theorem ct_fillZ {a : Nat} {x : Int} (hk : xK h a = 21) (ha : 16 ≤ a) (hx : x = 0 ∨ x = 1) (hn : xN h a ≤ 1000) (k : ∀ h', sm (fun b _ => b = a) h h' → (∀ i, i < xN h a → xI h' a i = x) → Ψ none h') : Ev l D Y_Arr_fillZ d kc ks 0 [some (vr a), some (vi x), none, none] [] h Ψ := by
  apply s_Arr_fillZ_0
  refine ⟨by omega, ?_⟩
  have key : ∀ (j : Nat) (h' : Hp), j ≤ xN h a → (sm (fun b _ => b = a) h h' ∧ ∀ i, i < j → xI h' a i = (fun _ => x) i) → Ev l D Y_Arr_fillZ d kc ks 5 [some (vr a), some (vi x), some (vi (j : Int)), some (vi (xN h a : Int))] [] h' Ψ := by
    refine lup _ _ ?_ ?_
    · rintro h' ⟨q1, q2⟩
      apply s_Arr_fillZ_5
      exact ⟨fun _ => k h' q1 q2, fun c => by omega⟩
    · rintro j h' hj ⟨q1, q2⟩ ih
      apply s_Arr_fillZ_5
      rw [q1.K, q1.N, Int.toNat_natCast, wr_s (show j < 1000000 by omega)]
      refine ⟨fun c => by omega, fun _ => ⟨hk, ha, by omega, by omega, hx, fun h1 e1 => ?_⟩⟩
      subst e1
      exact ih _ ⟨q1.put rfl, pre_sI q2 rfl⟩
  exact key 0 h (Nat.zero_le _) ⟨sm.rf, fun i hi => by omega⟩
theorem ct_fillI {a : Nat} {x : Int} (hk : xK h a = 20) (ha : 16 ≤ a) (hn : xN h a ≤ 1000) (k : ∀ h', sm (fun b _ => b = a) h h' → (∀ i, i < xN h a → xI h' a i = x) → Ψ none h') : Ev l D Y_Arr_fillI d kc ks 0 [some (vr a), some (vi x), none, none] [] h Ψ := by
  apply s_Arr_fillI_0
  refine ⟨by omega, ?_⟩
  have key : ∀ (j : Nat) (h' : Hp), j ≤ xN h a → (sm (fun b _ => b = a) h h' ∧ ∀ i, i < j → xI h' a i = (fun _ => x) i) → Ev l D Y_Arr_fillI d kc ks 5 [some (vr a), some (vi x), some (vi (j : Int)), some (vi (xN h a : Int))] [] h' Ψ := by
    refine lup _ _ ?_ ?_
    · rintro h' ⟨q1, q2⟩
      apply s_Arr_fillI_5
      exact ⟨fun _ => k h' q1 q2, fun c => by omega⟩
    · rintro j h' hj ⟨q1, q2⟩ ih
      apply s_Arr_fillI_5
      rw [q1.K, q1.N, Int.toNat_natCast, wr_s (show j < 1000000 by omega)]
      refine ⟨fun c => by omega, fun _ => ⟨hk, ha, by omega, by omega, fun h1 e1 => ?_⟩⟩
      subst e1
      exact ih _ ⟨q1.put rfl, pre_sI q2 rfl⟩
  exact key 0 h (Nat.zero_le _) ⟨sm.rf, fun i hi => by omega⟩
end CST
