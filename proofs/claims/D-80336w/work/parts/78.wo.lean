/-! each op stands at one place; the drawn state -/
def WO (p : Pg) : Prop := (∀ m m' i i' : Nat, (m : Int) < nM p → (m' : Int) < nM p → (i : Int) < om p m → (i' : Int) < om p m' → oa p (24 * m + i) = oa p (24 * m' + i') → m = m' ∧ i = i') ∧ ∀ o : Nat, (o : Int) < nO p → ∃ m i : Nat, (m : Int) < nM p ∧ (i : Int) < om p m ∧ oa p (24 * m + i) = (o : Int)
theorem WO_ty {p : Pg} {k u : Int} (h : WO p) : WO (pTy1 p k u) := h
theorem WO_fa {p : Pg} {t f : Int} (h : WO p) : WO (pFa1 p t f) := h
theorem WO_ro {p : Pg} {m : Nat} {x : Int} (h : WO p) : WO (gs p 110 m x) := h
theorem WO_me {p : Pg} {t y s : Int} (hw : WF p) (h : WO p) : WO (pMe1 p t y s) := by
  have w2 := hw.2.1
  have e0 : nM (pMe1 p t y s) = nM p + 1 := rfl
  have e5 : ∀ v, om (pMe1 p t y s) v = if v = (nM p).toNat then 0 else om p v := fun v => by simp [pMe1, gs]
  have e6 : ∀ v, oa (pMe1 p t y s) v = oa p v := fun v => by simp [pMe1, gs]
  have e7 : nO (pMe1 p t y s) = nO p := by simp [pMe1, gs]
  have cl : ∀ v i : Nat, (v : Int) < nM (pMe1 p t y s) → (i : Int) < om (pMe1 p t y s) v → (v : Int) < nM p ∧ (i : Int) < om p v := by
    intro v i hv hi
    rw [e0] at hv
    rw [e5] at hi
    by_cases e : v = (nM p).toNat
    · rw [if_pos e] at hi; omega
    · rw [if_neg e] at hi; exact ⟨by omega, hi⟩
  refine ⟨fun v v' i i' hv hv' hi hi' e => ?_, fun o ho => ?_⟩
  · rw [e6, e6] at e
    obtain ⟨a, b⟩ := cl v i hv hi
    obtain ⟨a', b'⟩ := cl v' i' hv' hi'
    exact h.1 v v' i i' a a' b b' e
  · rw [e7] at ho
    obtain ⟨v, i, hv, hi, hh⟩ := h.2 o ho
    refine ⟨v, i, by rw [e0]; omega, ?_, by rw [e6]; exact hh⟩
    rw [e5, if_neg (by omega)]; exact hi
theorem WO_op {p : Pg} {m : Nat} {k a y : Int} (hw : WF p) (hm : (m : Int) < nM p) (hn2 : om p m < 24) (h : WO p) : WO (pOp1 p m k a y) := by
  have w3 := hw.2.2.1
  have wm := (hw.2.2.2.2.1 m hm).2.2.2.2.2.1
  have e0 : nO (pOp1 p m k a y) = nO p + 1 := by simp [pOp1, gs]
  have e4 : ∀ v, om (pOp1 p m k a y) v = if v = m then om p m + 1 else om p v := fun v => by simp [pOp1, gs]
  have e5 : ∀ v, oa (pOp1 p m k a y) v = if v = 24 * m + (om p m).toNat then nO p else oa p v := fun v => by simp [pOp1, gs]
  have e6 : nM (pOp1 p m k a y) = nM p := by simp [pOp1, gs]
  have cl : ∀ v i : Nat, (v : Int) < nM p → (i : Int) < om (pOp1 p m k a y) v → (v = m ∧ (i : Int) = om p m ∧ oa (pOp1 p m k a y) (24 * v + i) = nO p) ∨ ((i : Int) < om p v ∧ oa (pOp1 p m k a y) (24 * v + i) = oa p (24 * v + i) ∧ 0 ≤ oa p (24 * v + i) ∧ oa p (24 * v + i) < nO p) := by
    intro v i hv hi
    have wv := (hw.2.2.2.2.1 v hv).2.2.2.2.2
    have wv1 := wv.1
    rw [e4] at hi
    rw [e5]
    by_cases e : v = m
    · rw [if_pos e] at hi
      by_cases e2 : (i : Int) = om p m
      · exact Or.inl ⟨e, e2, by rw [if_pos (by omega)]⟩
      · have hi' : (i : Int) < om p v := by rw [e]; omega
        exact Or.inr ⟨hi', by rw [if_neg (by omega)], wv.2 i hi'⟩
    · rw [if_neg e] at hi
      exact Or.inr ⟨hi, by rw [if_neg (by omega)], wv.2 i hi⟩
  refine ⟨fun v v' i i' hv hv' hi hi' e => ?_, fun o ho => ?_⟩
  · rw [e6] at hv hv'
    rcases cl v i hv hi with ⟨a1, a2, a3⟩ | ⟨a1, a2, a3, a4⟩ <;> rcases cl v' i' hv' hi' with ⟨b1, b2, b3⟩ | ⟨b1, b2, b3, b4⟩
    · exact ⟨by omega, by omega⟩
    · rw [a3, b2] at e; omega
    · rw [a2, b3] at e; omega
    · rw [a2, b2] at e; exact h.1 v v' i i' hv hv' a1 b1 e
  · rw [e0] at ho
    by_cases e : (o : Int) = nO p
    · refine ⟨m, (om p m).toNat, by rw [e6]; exact hm, ?_, ?_⟩
      · rw [e4, if_pos rfl]; omega
      · rw [e5, if_pos rfl]; exact e.symm
    · obtain ⟨v, i, hv, hi, hh⟩ := h.2 o (by omega)
      have wv := (hw.2.2.2.2.1 v hv).2.2.2.2.2.1
      refine ⟨v, i, by rw [e6]; exact hv, ?_, ?_⟩
      · rw [e4]
        by_cases z : v = m
        · rw [if_pos z]; rw [z] at hi; omega
        · rw [if_neg z]; exact hi
      · rw [e5, if_neg ?_]
        · exact hh
        · intro z
          have : v = m := by omega
          subst this
          omega
def cdx (a k : Nat) : Prop := (300 ≤ a ∧ a < 396 ∧ k = 7) ∨ a = 23 ∨ a = 24 ∨ (26 ≤ a ∧ a ≤ 29) ∨ (400 ≤ a ∧ (a - 400) % 3 = 1) ∨ (a = 20 ∧ k = 8)
theorem Cd_fx {A B : Nat → Nat → Prop} {h h' : Hp} {p g : Pg} (hw : WF p) (f : fx A B h h') (hA : ∀ a k, A a k → ¬ cdx a k) (c : Cd p h g) : Cd p h' g := by
  have w2 := hw.2.1
  obtain ⟨d1, d2, d3, d4, d5, d6⟩ := c
  have e : ∀ a k, cdx a k → xI h' a k = xI h a k := fun a k z => f.2.1 a k (fun y => hA a k y z)
  refine ⟨fun m hm => ?_, fun t ht => ?_, fun t ht => ?_, fun b m hb hm => ?_, fun o m ho hm => ?_, ?_⟩
  · rw [e _ _ (by unfold cdx mA; omega)]; exact d1 m hm
  · rw [e _ _ (by unfold cdx; omega)]; exact d2 t ht
  · rw [e _ _ (by unfold cdx; omega)]; exact d3 t ht
  · rw [e _ _ (by unfold cdx; omega)]; exact d4 b m hb hm
  · rw [e _ _ (by unfold cdx oD; omega)]; exact d5 o m ho hm
  · rw [e _ _ (by unfold cdx; omega)]; exact d6
theorem sm.fx {A B : Nat → Nat → Prop} {h h' : Hp} (q : sm A h h') : fx A B h h' := ⟨q.1, q.2.2, fun a k _ => q.R a k, fun a k => q.L a k⟩
theorem GS_ld {h : Hp} (c : GS h) {b : Nat} (hb : b < 48) : xR h 30 b = 31 + b ∧ xK h (31 + b) = 21 ∧ xN h (31 + b) = 48 := by
  unfold GS at c
  exact c.2.2.2.2.2.2.2.2.2.2.2.2.2.2.2.2.2.2.2.2.2.2.2.2.2.2.2.2.2.2.2.2.2.2.2.2.2.2.2.2 b hb
/-- faults' rows of reached members' ops; leads -/
def Rw (p : Pg) (h : Hp) : Prop := ∀ m i : Nat, (m : Int) < nM p → (i : Int) < om p m → ¬ gF p 119 m = 0 → ∀ j, j < 4 → xI h (oD (oa p (24 * m + i)).toNat + 2) j = gF p 124 (4 * (oa p (24 * m + i)).toNat + j)
def Dr (p : Pg) (h : Hp) : Prop := Cd p h (gF p) ∧ b01 (gF p) ∧ Rw p h ∧ ∀ a c : Nat, (a : Int) < nM p → (c : Int) < nM p → xI h (31 + a) c = bI (cmF p a c)
def Fc (p : Pg) (h : Hp) : Prop := (xI h 20 7 = 0 ∨ xI h 20 7 = 1) ∧ (¬ xI h 20 7 = 0 → Dr p h)
def Cs (p : Pg) (h : Hp) : Prop := CS h p ∧ WF p ∧ WO p ∧ Fc p h
def drx (a k : Nat) : Prop := cdx a k ∨ (400 ≤ a ∧ (a - 400) % 3 = 2) ∨ (31 ≤ a ∧ a ≤ 78)
theorem Dr_fx {A B : Nat → Nat → Prop} {h h' : Hp} {p : Pg} (hw : WF p) (f : fx A B h h') (hA : ∀ a k, A a k → ¬ drx a k) (c : Dr p h) : Dr p h' := by
  have w2 := hw.2.1
  have e : ∀ a k, drx a k → xI h' a k = xI h a k := fun a k z => f.2.1 a k (fun y => hA a k y z)
  refine ⟨Cd_fx hw f (fun a k z y => hA a k z (Or.inl y)) c.1, c.2.1, fun m i hm hi hr j hj => ?_, fun a c2 ha hc => ?_⟩
  · rw [e _ _ (by unfold drx oD; omega)]; exact c.2.2.1 m i hm hi hr j hj
  · rw [e _ _ (by unfold drx; omega)]; exact c.2.2.2 a c2 ha hc
theorem Cs_fx {A B : Nat → Nat → Prop} {h h' : Hp} {p : Pg} (f : fx A B h h') (hA : ∀ a k, A a k → ¬ cst a k ∧ ¬ drx a k ∧ ¬ (a = 20 ∧ k = 7)) (hB : ∀ a k, B a k → ¬ csr a k) (q : Cs p h) : Cs p h' := by
  obtain ⟨q1, q2, q3, q4, q5⟩ := q
  have e : xI h' 20 7 = xI h 20 7 := f.2.1 20 7 (fun y => (hA _ _ y).2.2 ⟨rfl, rfl⟩)
  refine ⟨CS_fx q2 f (fun a k z => (hA a k z).1) hB q1, q2, q3, by rw [e]; exact q4, fun c => ?_⟩
  rw [e] at c
  exact Dr_fx q2 f (fun a k z => (hA a k z).2.1) (q5 c)
