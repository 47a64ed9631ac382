/-! the component's relation, type by type, member by member, op by op -/
def sa (h h' : Hp) (a : Nat) : Prop := xK h' a = xK h a ∧ xN h' a = xN h a ∧ (∀ k, xI h' a k = xI h a k) ∧ (∀ k, xR h' a k = xR h a k) ∧ ∀ k, xL h' a k = xL h a k
def CSt (h : Hp) (p : Pg) (t : Nat) : Prop :=
  (xR h 21 t = tA t) ∧
  (xK h (tA t) = 3) ∧
  (xI h (tA t) 0 = (t : Int)) ∧
  (((xR h (tA t) 1 : Nat) : Int) = 1 + kd p t) ∧
  (xR h (tA t) 2 = trf (up p t)) ∧
  (xR h (tA t) 3 = tA t + 1) ∧
  (xK h (tA t + 1) = 22) ∧
  (xN h (tA t + 1) = 3) ∧
  (xI h (tA t) 4 = fm p t) ∧
  (∀ i : Nat, (i : Int) < fm p t → xR h (tA t + 1) i = tA (fo p (3 * t + i)).toNat) ∧
  (xR h (tA t) 5 = tA t + 2) ∧
  (xK h (tA t + 2) = 21) ∧
  (xN h (tA t + 2) = 16) ∧
  (∀ u : Nat, u < 16 → xI h (tA t + 2) u = bI (U p t u)) ∧
  (xR h (tA t) 6 = tA t + 3) ∧
  (xK h (tA t + 3) = 23) ∧
  (xN h (tA t + 3) = 10) ∧
  (∀ x : Nat, x < 10 → xR h (tA t + 3) x = mrf (own p t x)) ∧
  (xR h (tA t) 7 = mrf (own p t (-1)))
theorem CS.T {h : Hp} {p : Pg} (q : CS h p) {t : Nat} (hh : (t : Int) < nT p) : CSt h p t := ⟨q.trr t hh, q.tk t hh, q.tn t hh, q.tkd t hh, q.tup t hh, q.tf t hh, q.tfk t hh, q.tfn t hh, q.tfm t hh, fun i h0 => q.tfo t i hh h0, q.tu t hh, q.tuk t hh, q.tun t hh, fun u h0 => q.tuu t u hh h0, q.tm t hh, q.tmk t hh, q.tmn t hh, fun x h0 => q.tmm t x hh h0, q.ts t hh⟩
def CSm (h : Hp) (p : Pg) (m : Nat) : Prop :=
  (xR h 22 m = mA m) ∧
  (xK h (mA m) = 4) ∧
  (xI h (mA m) 0 = (m : Int)) ∧
  (xR h (mA m) 1 = tA (ty p m).toNat) ∧
  (xI h (mA m) 2 = nm p m) ∧
  (((xR h (mA m) 3 : Nat) : Int) = 4 + so p m) ∧
  (xR h (mA m) 4 = mA m + 1) ∧
  (xK h (mA m + 1) = 24) ∧
  (xN h (mA m + 1) = 24) ∧
  (xI h (mA m) 5 = om p m) ∧
  (xI h (mA m) 6 = rt p m) ∧
  (∀ i : Nat, (i : Int) < om p m → xR h (mA m + 1) i = oD (oa p (24 * m + i)).toNat)
theorem CS.M {h : Hp} {p : Pg} (q : CS h p) {m : Nat} (hh : (m : Int) < nM p) : CSm h p m := ⟨q.mr m hh, q.mkk m hh, q.mn m hh, q.mt m hh, q.mm m hh, q.ms m hh, q.mo m hh, q.mok m hh, q.mon m hh, q.mc m hh, q.mrt m hh, fun i h0 => q.mop m i hh h0⟩
def CSo (h : Hp) (p : Pg) (o : Nat) : Prop :=
  (xK h (oD o) = okd (ok p o)) ∧
  (xR h (oD o) 2 = oD o + 1) ∧
  (xK h (oD o + 1) = 21) ∧
  (xN h (oD o + 1) = 48) ∧
  (xR h (oD o) 3 = oD o + 2) ∧
  (xK h (oD o + 2) = 20) ∧
  (xN h (oD o + 2) = 4) ∧
  (ok p o ≤ 4 → xR h (oD o) 4 = tA (oA p o).toNat) ∧
  (1 ≤ ok p o → ok p o ≤ 4 → xI h (oD o) 5 = oB p o) ∧
  ((ok p o = 5 ∨ ok p o = 6) → xI h (oD o) 4 = oA p o) ∧
  (ok p o = 5 → xR h (oD o) 5 = mA (oB p o).toNat) ∧
  (ok p o = 7 → xI h (oD o) 4 = oB p o)
theorem CS.O {h : Hp} {p : Pg} (q : CS h p) {o : Nat} (hh : (o : Int) < nO p) : CSo h p o := ⟨q.okk o hh, q.oc o hh, q.ock o hh, q.ocn o hh, q.of o hh, q.ofk o hh, q.ofn o hh, fun h0 => q.oar o hh h0, fun h0 h1 => q.obr o hh h0 h1, fun h0 => q.og o hh h0, fun h0 => q.omr o hh h0, fun h0 => q.oy o hh h0⟩
def CSg (h : Hp) (p : Pg) : Prop := (GS h) ∧ (xI h 20 1 = nT p) ∧ (xI h 20 3 = nM p) ∧ (xI h 20 4 = nO p) ∧ (∀ i : Nat, 1 ≤ i → i ≤ 3 → xK h i = 30) ∧ (∀ i : Nat, 4 ≤ i → i ≤ 8 → xK h i = 31)
theorem CS.G {h : Hp} {p : Pg} (q : CS h p) : CSg h p := ⟨q.sh, q.ct, q.cm, q.co, q.kc, q.sc⟩
theorem CS_mk {h : Hp} {p : Pg} (g : CSg h p) (T : ∀ t : Nat, (t : Int) < nT p → CSt h p t) (M : ∀ m : Nat, (m : Int) < nM p → CSm h p m) (O : ∀ o : Nat, (o : Int) < nO p → CSo h p o) : CS h p := ⟨g.1,
  g.2.1,
  g.2.2.1,
  g.2.2.2.1,
  g.2.2.2.2.1,
  g.2.2.2.2.2,
  fun t hh => (T t hh).1,
  fun t hh => (T t hh).2.1,
  fun t hh => (T t hh).2.2.1,
  fun t hh => (T t hh).2.2.2.1,
  fun t hh => (T t hh).2.2.2.2.1,
  fun t hh => (T t hh).2.2.2.2.2.1,
  fun t hh => (T t hh).2.2.2.2.2.2.1,
  fun t hh => (T t hh).2.2.2.2.2.2.2.1,
  fun t hh => (T t hh).2.2.2.2.2.2.2.2.1,
  fun t i hh h0 => (T t hh).2.2.2.2.2.2.2.2.2.1 i h0,
  fun t hh => (T t hh).2.2.2.2.2.2.2.2.2.2.1,
  fun t hh => (T t hh).2.2.2.2.2.2.2.2.2.2.2.1,
  fun t hh => (T t hh).2.2.2.2.2.2.2.2.2.2.2.2.1,
  fun t u hh h0 => (T t hh).2.2.2.2.2.2.2.2.2.2.2.2.2.1 u h0,
  fun t hh => (T t hh).2.2.2.2.2.2.2.2.2.2.2.2.2.2.1,
  fun t hh => (T t hh).2.2.2.2.2.2.2.2.2.2.2.2.2.2.2.1,
  fun t hh => (T t hh).2.2.2.2.2.2.2.2.2.2.2.2.2.2.2.2.1,
  fun t x hh h0 => (T t hh).2.2.2.2.2.2.2.2.2.2.2.2.2.2.2.2.2.1 x h0,
  fun t hh => (T t hh).2.2.2.2.2.2.2.2.2.2.2.2.2.2.2.2.2.2,
  fun m hh => (M m hh).1,
  fun m hh => (M m hh).2.1,
  fun m hh => (M m hh).2.2.1,
  fun m hh => (M m hh).2.2.2.1,
  fun m hh => (M m hh).2.2.2.2.1,
  fun m hh => (M m hh).2.2.2.2.2.1,
  fun m hh => (M m hh).2.2.2.2.2.2.1,
  fun m hh => (M m hh).2.2.2.2.2.2.2.1,
  fun m hh => (M m hh).2.2.2.2.2.2.2.2.1,
  fun m hh => (M m hh).2.2.2.2.2.2.2.2.2.1,
  fun m hh => (M m hh).2.2.2.2.2.2.2.2.2.2.1,
  fun m i hh h0 => (M m hh).2.2.2.2.2.2.2.2.2.2.2 i h0,
  fun o hh => (O o hh).1,
  fun o hh => (O o hh).2.1,
  fun o hh => (O o hh).2.2.1,
  fun o hh => (O o hh).2.2.2.1,
  fun o hh => (O o hh).2.2.2.2.1,
  fun o hh => (O o hh).2.2.2.2.2.1,
  fun o hh => (O o hh).2.2.2.2.2.2.1,
  fun o hh h0 => (O o hh).2.2.2.2.2.2.2.1 h0,
  fun o hh h0 h1 => (O o hh).2.2.2.2.2.2.2.2.1 h0 h1,
  fun o hh h0 => (O o hh).2.2.2.2.2.2.2.2.2.1 h0,
  fun o hh h0 => (O o hh).2.2.2.2.2.2.2.2.2.2.1 h0,
  fun o hh h0 => (O o hh).2.2.2.2.2.2.2.2.2.2.2 h0⟩
theorem CSt_sa {h h' : Hp} {p p' : Pg} {t : Nat} (e : ∀ j, j < 4 → sa h h' (tA t + j)) (e21 : xR h' 21 t = xR h 21 t) (hf : fm p t ≤ 3) (d1 : kd p' t = kd p t) (d2 : up p' t = up p t) (d3 : fm p' t = fm p t) (d4 : ∀ i, i < 3 → fo p' (3 * t + i) = fo p (3 * t + i)) (d5 : ∀ u, u < 16 → (U p' t u ↔ U p t u)) (d6 : ∀ x, own p' t x = own p t x) (q : CSt h p t) : CSt h' p' t := by
  have s0 : sa h h' (tA t) := e 0 (by omega)
  have s1 := e 1 (by omega)
  have s2 := e 2 (by omega)
  have s3 := e 3 (by omega)
  obtain ⟨q1, q2, q3, q4, q5, q6, q7, q8, q9, q10, q11, q12, q13, q14, q15, q16, q17, q18, q19⟩ := q
  refine ⟨e21.trans q1, s0.1.trans q2, (s0.2.2.1 0).trans q3, ?_, ?_, (s0.2.2.2.1 3).trans q6, s1.1.trans q7, s1.2.1.trans q8, ?_, fun i hi => ?_, (s0.2.2.2.1 5).trans q11, s2.1.trans q12, s2.2.1.trans q13, fun u hu => ?_, (s0.2.2.2.1 6).trans q15, s3.1.trans q16, s3.2.1.trans q17, fun x hx => ?_, ?_⟩
  · rw [s0.2.2.2.1 1, d1]; exact q4
  · rw [s0.2.2.2.1 2, d2]; exact q5
  · rw [s0.2.2.1 4, d3]; exact q9
  · rw [d3] at hi
    rw [s1.2.2.2.1 i, d4 i (by omega)]; exact q10 i hi
  · rw [s2.2.2.1 u, bI_c (d5 u hu)]; exact q14 u hu
  · rw [s3.2.2.2.1 x, d6]; exact q18 x hx
  · rw [s0.2.2.2.1 7, d6]; exact q19
theorem CSm_sa {h h' : Hp} {p p' : Pg} {m : Nat} (e : ∀ j, j < 2 → sa h h' (mA m + j)) (e22 : xR h' 22 m = xR h 22 m) (ho : om p m ≤ 24) (d1 : ty p' m = ty p m) (d2 : nm p' m = nm p m) (d3 : so p' m = so p m) (d4 : om p' m = om p m) (d5 : rt p' m = rt p m) (d6 : ∀ i, i < 24 → oa p' (24 * m + i) = oa p (24 * m + i)) (q : CSm h p m) : CSm h' p' m := by
  have s0 : sa h h' (mA m) := e 0 (by omega)
  have s1 := e 1 (by omega)
  obtain ⟨q1, q2, q3, q4, q5, q6, q7, q8, q9, q10, q11, q12⟩ := q
  refine ⟨e22.trans q1, s0.1.trans q2, (s0.2.2.1 0).trans q3, ?_, ?_, ?_, (s0.2.2.2.1 4).trans q7, s1.1.trans q8, s1.2.1.trans q9, ?_, ?_, fun i hi => ?_⟩
  · rw [s0.2.2.2.1 1, d1]; exact q4
  · rw [s0.2.2.1 2, d2]; exact q5
  · rw [s0.2.2.2.1 3, d3]; exact q6
  · rw [s0.2.2.1 5, d4]; exact q10
  · rw [s0.2.2.1 6, d5]; exact q11
  · rw [d4] at hi
    rw [s1.2.2.2.1 i, d6 i (by omega)]; exact q12 i hi
theorem CSo_sa {h h' : Hp} {p p' : Pg} {o : Nat} (e : ∀ j, j < 3 → sa h h' (oD o + j)) (d1 : ok p' o = ok p o) (d2 : oA p' o = oA p o) (d3 : oB p' o = oB p o) (q : CSo h p o) : CSo h' p' o := by
  have s0 : sa h h' (oD o) := e 0 (by omega)
  have s1 := e 1 (by omega)
  have s2 := e 2 (by omega)
  unfold CSo at q ⊢
  rw [d1, d2, d3, s0.1, s0.2.2.2.1 2, s1.1, s1.2.1, s0.2.2.2.1 3, s2.1, s2.2.1, s0.2.2.2.1 4, s0.2.2.1 5, s0.2.2.1 4, s0.2.2.2.1 5]
  exact q
theorem GS_ag {h h' : Hp} (e : ∀ a, 20 ≤ a → a < 86 → xK h' a = xK h a ∧ xN h' a = xN h a) (r : ∀ a k, (a = 20 ∧ ¬ k = 6) ∨ a = 25 ∨ a = 30 ∨ (a = 80 ∧ ¬ k = 0) → xR h' a k = xR h a k) (c : GS h) : GS h' := by
  have eK : ∀ a, 20 ≤ a → a < 86 → xK h' a = xK h a := fun a h1 h2 => (e a h1 h2).1
  have eN : ∀ a, 20 ≤ a → a < 86 → xN h' a = xN h a := fun a h1 h2 => (e a h1 h2).2
  have e25 : ∀ b, xR h' 25 b = xR h 25 b := fun b => r 25 b (by omega)
  have e30 : ∀ b, xR h' 30 b = xR h 30 b := fun b => r 30 b (by omega)
  obtain ⟨g1, g2, g3, g4, g5, g6, g7, g8, g9, g10, g11, g12, g13, g14, g15, g16, g17, g18, g19, g20, g21, g22, g23, g24, g25, g26, g27, g28, g29, g30, g31, g32, g33, g34, g35, g36, g37, g38, g39, g40, g41⟩ := c
  refine ⟨(eK _ (by omega) (by omega)).trans g1, (r _ _ (by omega)).trans g2, (r _ _ (by omega)).trans g3, (r _ _ (by omega)).trans g4, (r _ _ (by omega)).trans g5, (r _ _ (by omega)).trans g6, (r _ _ (by omega)).trans g7, (r _ _ (by omega)).trans g8, (r _ _ (by omega)).trans g9, (eK _ (by omega) (by omega)).trans g10, (eN _ (by omega) (by omega)).trans g11, (eK _ (by omega) (by omega)).trans g12, (eN _ (by omega) (by omega)).trans g13, (eK _ (by omega) (by omega)).trans g14, (eN _ (by omega) (by omega)).trans g15, (eK _ (by omega) (by omega)).trans g16, (eN _ (by omega) (by omega)).trans g17, (eK _ (by omega) (by omega)).trans g18, (eN _ (by omega) (by omega)).trans g19, (eK _ (by omega) (by omega)).trans g20, (eN _ (by omega) (by omega)).trans g21, (eK _ (by omega) (by omega)).trans g22, (eN _ (by omega) (by omega)).trans g23, (eK _ (by omega) (by omega)).trans g24, (r _ _ (by omega)).trans g25, (r _ _ (by omega)).trans g26, (r _ _ (by omega)).trans g27, (r _ _ (by omega)).trans g28, (r _ _ (by omega)).trans g29, (eK _ (by omega) (by omega)).trans g30, (eN _ (by omega) (by omega)).trans g31, (eK _ (by omega) (by omega)).trans g32, (eN _ (by omega) (by omega)).trans g33, (eK _ (by omega) (by omega)).trans g34, (eN _ (by omega) (by omega)).trans g35, (eK _ (by omega) (by omega)).trans g36, (eN _ (by omega) (by omega)).trans g37, (eK _ (by omega) (by omega)).trans g38, (eN _ (by omega) (by omega)).trans g39, fun b hb => ?_, fun b hb => ?_⟩
  · rw [e25, eK _ (by omega) (by omega), eN _ (by omega) (by omega)]; exact g40 b hb
  · rw [e30, eK _ (by omega) (by omega), eN _ (by omega) (by omega)]; exact g41 b hb
/-! what is under what, and whose is what, when something is set -/
theorem U.front {p : Pg} {t u : Nat} (q : U p t u) : t = u ∨ ∃ v, eg p t v ∧ U p v u := by
  obtain ⟨n, h⟩ := q
  induction n generalizing u with
  | zero => exact Or.inl h
  | succ n ih =>
    obtain ⟨w, h1, h2⟩ := h
    rcases ih h1 with e | ⟨v, e1, e2⟩
    · rw [← e] at h2; exact Or.inr ⟨u, h2, U.rf⟩
    · exact Or.inr ⟨v, e1, e2.snoc h2⟩
theorem U_mono {p p' : Pg} (h : ∀ v u, eg p v u → eg p' v u) {t u : Nat} (q : U p t u) : U p' t u := by
  obtain ⟨n, z⟩ := q
  induction n generalizing u with
  | zero => exact ⟨0, z⟩
  | succ n ih => obtain ⟨w, h1, h2⟩ := z; exact (ih h1).snoc (h _ _ h2)
theorem eg_ty {p : Pg} {k u0 : Int} {v u : Nat} (hv : ¬ v = (nT p).toNat) : eg (pTy1 p k u0) v u ↔ eg p v u := by
  have eu : up (pTy1 p k u0) v = up p v := by simp [pTy1, gs, hv]
  have ef : fm (pTy1 p k u0) v = fm p v := by simp [pTy1, gs, hv]
  have eo : ∀ i, fo (pTy1 p k u0) i = fo p i := fun i => by simp [pTy1, gs]
  unfold eg
  rw [eu, ef]
  exact or_congr Iff.rfl ⟨fun ⟨i, z1, z2⟩ => ⟨i, z1, by rw [← eo]; exact z2⟩, fun ⟨i, z1, z2⟩ => ⟨i, z1, by rw [eo]; exact z2⟩⟩
theorem U_ty_old {p : Pg} {k u0 : Int} (hw : WF p) {t u : Nat} (ht : (t : Int) < nT p) : U (pTy1 p k u0) t u ↔ U p t u := by
  have w1 := hw.1
  constructor
  · rintro ⟨n, z⟩
    have key : ∀ (n u : Nat), pth (pTy1 p k u0) n t u → U p t u := by
      intro n
      induction n with
      | zero => intro u z; exact ⟨0, z⟩
      | succ n ih =>
        rintro u ⟨w, h1, h2⟩
        have a := ih w h1
        have := a.le hw ht
        exact a.snoc ((eg_ty (by omega)).mp h2)
    exact key n u z
  · rintro ⟨n, z⟩
    have key : ∀ (n u : Nat), pth p n t u → U (pTy1 p k u0) t u := by
      intro n
      induction n with
      | zero => intro u z; exact ⟨0, z⟩
      | succ n ih =>
        rintro u ⟨w, h1, h2⟩
        have a : U p t w := ⟨n, h1⟩
        have := a.le hw ht
        exact (ih w h1).snoc ((eg_ty (by omega)).mpr h2)
    exact key n u z
theorem U_ty_new {p : Pg} {k u0 : Int} (hw : WF p) (hu : -1 ≤ u0 ∧ u0 < nT p) {u : Nat} : U (pTy1 p k u0) (nT p).toNat u ↔ u = (nT p).toNat ∨ (¬ u0 = -1 ∧ U p u0.toNat u) := by
  have w1 := hw.1
  have eu : up (pTy1 p k u0) (nT p).toNat = u0 := by simp [pTy1, gs]
  have ef : fm (pTy1 p k u0) (nT p).toNat = 0 := by simp [pTy1, gs]
  constructor
  · intro z
    rcases z.front with e | ⟨v, e1, e2⟩
    · exact Or.inl e.symm
    · rcases e1 with e1 | ⟨i, e1, _⟩
      · rw [eu] at e1
        refine Or.inr ⟨by omega, ?_⟩
        rw [e1, Int.toNat_natCast]
        exact (U_ty_old hw (by omega)).mp e2
      · rw [ef] at e1; omega
  · rintro (e | ⟨e1, e2⟩)
    · rw [e]; exact U.rf
    · have h1 : eg (pTy1 p k u0) (nT p).toNat u0.toNat := Or.inl (by rw [eu]; omega)
      exact (U.rf.snoc h1).tr ((U_ty_old hw (by omega)).mpr e2)
theorem eg_fa {p : Pg} (hw : WF p) {t f v u : Nat} (ht : (t : Int) < nT p) (hn : fm p t < 3) (hv : (v : Int) < nT p) : eg (pFa1 p t f) v u ↔ eg p v u ∨ (v = t ∧ u = f) := by
  have z4 := (hw.2.2.2.1 t ht).2.2.2.1
  have zv := (hw.2.2.2.1 v hv).2.2.2.1
  have eu : up (pFa1 p t f) v = up p v := by simp [pFa1, gs]
  have ef : fm (pFa1 p t f) v = if v = t then fm p t + 1 else fm p v := by simp [pFa1, gs]
  have eo : ∀ i, fo (pFa1 p t f) i = if i = 3 * t + (fm p t).toNat then (f : Int) else fo p i := fun i => by simp [pFa1, gs]
  unfold eg
  rw [eu, ef]
  constructor
  · rintro (e | ⟨i, h1, h2⟩)
    · exact Or.inl (Or.inl e)
    · rw [eo] at h2
      by_cases e : v = t
      · rw [if_pos e] at h1
        by_cases e2 : 3 * v + i = 3 * t + (fm p t).toNat
        · rw [if_pos e2] at h2; exact Or.inr ⟨e, by omega⟩
        · rw [if_neg e2] at h2; exact Or.inl (Or.inr ⟨i, by rw [e]; omega, h2⟩)
      · rw [if_neg e] at h1
        rw [if_neg (by omega)] at h2
        exact Or.inl (Or.inr ⟨i, h1, h2⟩)
  · rintro ((e | ⟨i, h1, h2⟩) | ⟨e1, e2⟩)
    · exact Or.inl e
    · refine Or.inr ⟨i, ?_, ?_⟩
      · by_cases e : v = t
        · rw [if_pos e]; rw [e] at h1; omega
        · rw [if_neg e]; exact h1
      · rw [eo, if_neg ?_]
        · exact h2
        · by_cases e : v = t
          · rw [e] at h1 ⊢; omega
          · omega
    · refine Or.inr ⟨(fm p t).toNat, ?_, ?_⟩
      · rw [if_pos e1]; omega
      · rw [e1, eo, if_pos rfl, e2]
theorem U_fa {p : Pg} (hw : WF p) {t f v u : Nat} (ht : (t : Int) < nT p) (hf : f < t) (hk : kd p f = 2) (hn : fm p t < 3) (hv : (v : Int) < nT p) : U (pFa1 p t f) v u ↔ U p v u ∨ (U p v t ∧ U p f u) := by
  have hw' : WF (pFa1 p t f) := WF_fa hw (by omega) (by omega) (by rw [Int.toNat_natCast]; exact hk) (by rw [Int.toNat_natCast]; exact hn)
  constructor
  · rintro ⟨n, z⟩
    have key : ∀ (n u : Nat), pth (pFa1 p t f) n v u → U p v u ∨ (U p v t ∧ U p f u) := by
      intro n
      induction n with
      | zero => intro u z; exact Or.inl ⟨0, z⟩
      | succ n ih =>
        rintro u ⟨w, h1, h2⟩
        have hwv : (w : Int) < nT p := by
          have a : U (pFa1 p t f) v w := ⟨n, h1⟩
          have := a.le hw' hv
          omega
        rcases (eg_fa hw ht hn hwv).mp h2 with e | ⟨e1, e2⟩
        · rcases ih w h1 with a | ⟨a, b⟩
          · exact Or.inl (a.snoc e)
          · exact Or.inr ⟨a, b.snoc e⟩
        · rw [e2]
          rcases ih w h1 with a | ⟨a, b⟩
          · rw [e1] at a; exact Or.inr ⟨a, U.rf⟩
          · exact Or.inr ⟨a, U.rf⟩
    exact key n u z
  · have mono : ∀ (v u : Nat), (v : Int) < nT p → U p v u → U (pFa1 p t f) v u := by
      rintro v u hv ⟨n, z⟩
      have key : ∀ (n u : Nat), pth p n v u → U (pFa1 p t f) v u := by
        intro n
        induction n with
        | zero => intro u z; exact ⟨0, z⟩
        | succ n ih =>
          rintro u ⟨w, h1, h2⟩
          have a : U p v w := ⟨n, h1⟩
          have := a.le hw hv
          exact (ih w h1).snoc ((eg_fa hw ht hn (by omega)).mpr (Or.inl h2))
      exact key n u z
    rintro (a | ⟨a, b⟩)
    · exact mono v u hv a
    · exact ((mono v t hv a).snoc ((eg_fa hw ht hn ht).mpr (Or.inr ⟨rfl, rfl⟩))).tr (mono f u (by omega) b)
theorem own_me {p : Pg} (hw : WF p) {t y s : Int} (ho : own p t y = -1) (a x : Int) : own (pMe1 p t y s) a x = cI (a = t ∧ x = y) (nM p) (own p a x) := by
  have w2 := hw.2.1
  have e0 : (nM (pMe1 p t y s)).toNat = (nM p).toNat + 1 := by show (nM p + 1).toNat = _; omega
  have e1 : ∀ v, ty (pMe1 p t y s) v = if v = (nM p).toNat then t else ty p v := fun v => by simp [pMe1, gs]
  have e2 : ∀ v, nm (pMe1 p t y s) v = if v = (nM p).toNat then y else nm p v := fun v => by simp [pMe1, gs]
  have eq : ∀ m : Nat, m < (nM p).toNat → ((ty (pMe1 p t y s) m = a ∧ nm (pMe1 p t y s) m = x) ↔ (ty p m = a ∧ nm p m = x)) := fun m hm => by rw [e1, e2, if_neg (by omega), if_neg (by omega)]
  have en : (ty (pMe1 p t y s) (nM p).toNat = a ∧ nm (pMe1 p t y s) (nM p).toNat = x) ↔ (a = t ∧ x = y) := by rw [e1, e2, if_pos rfl, if_pos rfl]; exact ⟨fun z => ⟨z.1.symm, z.2.symm⟩, fun z => ⟨z.1.symm, z.2.symm⟩⟩
  unfold own at ho ⊢
  rw [e0]
  rcases fst_spec (fun m => ty p m = a ∧ nm p m = x) (nM p).toNat 0 with ⟨h1, h2⟩ | ⟨j, h1, h2, h3, h4, h5⟩
  · rcases Classical.em (a = t ∧ x = y) with c | c
    · rw [cI_t c, fst_val (j := (nM p).toNat) (by omega) (en.mpr c) (fun i hi z => h2 i (Nat.zero_le _) (by omega) ((eq i hi).mp z))]
      omega
    · rw [cI_f c, h1]
      refine (fst_m1 _ _ _).mpr (fun j _ hj z => ?_)
      rcases Nat.eq_or_lt_of_le (Nat.le_of_lt_succ (show j < (nM p).toNat + 1 by omega)) with e | e
      · rw [e] at z; exact c (en.mp z)
      · exact h2 j (Nat.zero_le _) (by omega) ((eq j e).mp z)
  · have c : ¬ (a = t ∧ x = y) := fun c => by
      have h3' : ty p j = a ∧ nm p j = x := h3
      rw [c.1, c.2] at h3'
      exact (fst_m1 _ _ _).mp ho j (Nat.zero_le _) (by omega) h3'
    rw [cI_f c, h5]
    exact fst_val (by omega) ((eq j (by omega)).mpr h3) (fun i hi z => h4 i (Nat.zero_le _) hi ((eq i (by omega)).mp z))
