/-! what is set: the data's change, and the model's methods -/
def Ms (p : Pg) (h : Hp) : Prop := Mok p h ∧ Fm p h
abbrev mdl : Nat → Nat → Prop := fun a _ => 100 ≤ a ∧ a < 151
theorem SD_put {h : Hp} {p : Pg} {a k : Nat} {x : Int} (hs : SD h p) : SD (sI h a k x) (gs p a k x) := by
  intro b j hb
  rw [xI_sI, gs_at]
  by_cases e : b = a ∧ j = k
  · rw [if_pos e, if_pos e]
  · rw [if_neg e, if_neg e]; exact hs b j hb
theorem U_congr {p p' : Pg} (h1 : ∀ v, up p' v = up p v) (h2 : ∀ v, fm p' v = fm p v) (h3 : ∀ v, fo p' v = fo p v) (t u : Nat) : U p' t u ↔ U p t u := by
  have e : eg p' = eg p := by
    funext v u
    unfold eg
    rw [h1, h2]
    refine propext (or_congr Iff.rfl ⟨fun ⟨i, z1, z2⟩ => ⟨i, z1, by rw [← h3]; exact z2⟩, fun ⟨i, z1, z2⟩ => ⟨i, z1, by rw [h3]; exact z2⟩⟩)
  have e2 : ∀ n t u, pth p' n t u = pth p n t u := by
    intro n
    induction n with
    | zero => intro t u; rfl
    | succ n ih =>
      intro t u
      show (∃ v, pth p' n t v ∧ eg p' v u) = (∃ v, pth p n t v ∧ eg p v u)
      rw [e]
      exact propext ⟨fun ⟨v, z1, z2⟩ => ⟨v, by rw [← ih]; exact z1, z2⟩, fun ⟨v, z1, z2⟩ => ⟨v, by rw [ih]; exact z1, z2⟩⟩
  exact ⟨fun ⟨n, z⟩ => ⟨n, by rw [← e2]; exact z⟩, fun ⟨n, z⟩ => ⟨n, by rw [e2]; exact z⟩⟩
theorem Lz_congr {h h' : Hp} {p p' : Pg} (hz : Lz h p) (e1 : xI h' 100 26 = xI h 100 26) (e2 : ∀ k, xI h' 126 k = xI h 126 k) (hn : nT p' = nT p) (h1 : ∀ v, up p' v = up p v) (h2 : ∀ v, fm p' v = fm p v) (h3 : ∀ v, fo p' v = fo p v) : Lz h' p' := by
  refine ⟨by rw [e1]; exact hz.1, fun c t u ht hu => ?_⟩
  rw [e1] at c
  rw [e2, bI_c (U_congr h1 h2 h3 t u)]
  exact hz.2 c t u (by rw [← hn]; exact ht) hu
theorem Fm_0 {p : Pg} {h : Hp} (e : xI h 100 16 = 0) : Fm p h := ⟨Or.inl e, fun c => absurd e c⟩
-- type
noncomputable def rTy (p : Pg) (k u : Int) : Int := cI (¬ u = -1 ∧ ¬ (0 ≤ u ∧ u < nT p)) (-101) (cI (¬ (0 ≤ k ∧ k ≤ 2) ∨ (¬ u = -1 ∧ (k = 2 ∨ kd p u.toNat = 2))) (-102) (cI (nT p = 16) (-104) (nT p)))
def pTy1 (p : Pg) (k u : Int) : Pg := gs (gs (gs (gs p 102 (nT p).toNat k) 103 (nT p).toNat u) 104 (nT p).toNat 0) 100 0 (nT p + 1)
noncomputable def pTy (p : Pg) (k u : Int) : Pg := cG (0 ≤ rTy p k u) (pTy1 p k u) p
theorem WF_ty {p : Pg} {k u : Int} (hw : WF p) (hk : 0 ≤ k ∧ k ≤ 2) (hu : -1 ≤ u ∧ u < nT p) (h2 : k = 2 → u = -1) (hn : nT p < 16) : WF (pTy1 p k u) := by
  obtain ⟨w1, w2, w3, w4, w5, w6, w7⟩ := hw
  have e0 : nT (pTy1 p k u) = nT p + 1 := rfl
  have ek : ∀ t, kd (pTy1 p k u) t = if t = (nT p).toNat then k else kd p t := fun t => by simp [pTy1, gs]
  have eu : ∀ t, up (pTy1 p k u) t = if t = (nT p).toNat then u else up p t := fun t => by simp [pTy1, gs]
  have ef : ∀ t, fm (pTy1 p k u) t = if t = (nT p).toNat then 0 else fm p t := fun t => by simp [pTy1, gs]
  refine ⟨by rw [e0]; omega, w2, w3, fun t ht => ?_, fun m hm => ?_, w6, fun o ho => ?_⟩
  · rw [e0] at ht
    rw [ek, eu, ef]
    by_cases e : t = (nT p).toNat
    · rw [if_pos e, if_pos e, if_pos e]
      exact ⟨hk, by omega, h2, by omega, fun i hi => by omega⟩
    · rw [if_neg e, if_neg e, if_neg e]
      obtain ⟨z1, z2, z3, z4, z5⟩ := w4 t (by omega)
      refine ⟨z1, z2, z3, z4, fun i hi => ?_⟩
      obtain ⟨y1, y2, y3⟩ := z5 i hi
      refine ⟨y1, y2, ?_⟩
      show kd (pTy1 p k u) (fo p (3 * t + i)).toNat = 2
      rw [ek, if_neg (show ¬ (fo p (3 * t + i)).toNat = (nT p).toNat by omega)]; exact y3
  · obtain ⟨z1, z⟩ := w5 m hm
    exact ⟨by rw [e0]; exact ⟨z1.1, by have := z1.2; show ty p m < _; omega⟩, z⟩
  · obtain ⟨z1, z2, z⟩ := w7 o ho
    exact ⟨z1, fun c => by rw [e0]; have := z2 c; exact ⟨this.1, by have := this.2; show oA p o < _; omega⟩, z⟩
-- face
noncomputable def rFa (p : Pg) (t f : Int) : Int := cI (¬ (0 ≤ t ∧ t < nT p) ∨ ¬ (0 ≤ f ∧ f < nT p)) (-101) (cI (¬ kd p f.toNat = 2 ∨ t ≤ f) (-102) (cI (∃ i : Nat, (i : Int) < fm p t.toNat ∧ fo p (3 * t.toNat + i) = f) (-103) (cI (fm p t.toNat = 3) (-104) (fm p t.toNat + 1))))
def pFa1 (p : Pg) (t f : Int) : Pg := gs (gs p 105 (3 * t.toNat + (fm p t.toNat).toNat) f) 104 t.toNat (fm p t.toNat + 1)
noncomputable def pFa (p : Pg) (t f : Int) : Pg := cG (0 ≤ rFa p t f) (pFa1 p t f) p
theorem WF_fa {p : Pg} {t f : Int} (hw : WF p) (ht : 0 ≤ t ∧ t < nT p) (hf : 0 ≤ f ∧ f < t) (hk : kd p f.toNat = 2) (hn : fm p t.toNat < 3) : WF (pFa1 p t f) := by
  obtain ⟨w1, w2, w3, w4, w5, w6, w7⟩ := hw
  have ef : ∀ v, fm (pFa1 p t f) v = if v = t.toNat then fm p t.toNat + 1 else fm p v := fun v => by simp [pFa1, gs]
  have eo : ∀ v, fo (pFa1 p t f) v = if v = 3 * t.toNat + (fm p t.toNat).toNat then f else fo p v := fun v => by simp [pFa1, gs]
  have ek : ∀ v, kd (pFa1 p t f) v = kd p v := fun v => by simp [pFa1, gs]
  refine ⟨w1, w2, w3, fun v hv => ?_, w5, w6, w7⟩
  have hv' : (v : Int) < nT p := hv
  obtain ⟨z1, z2, z3, z4, z5⟩ := w4 v hv'
  refine ⟨z1, z2, z3, ?_, fun i hi => ?_⟩
  · rw [ef]
    by_cases e : v = t.toNat
    · rw [if_pos e]; rw [e] at z4; omega
    · rw [if_neg e]; exact z4
  · rw [ef] at hi
    rw [eo, ek]
    by_cases e : v = t.toNat
    · rw [if_pos e] at hi
      by_cases e2 : 3 * v + i = 3 * t.toNat + (fm p t.toNat).toNat
      · rw [if_pos e2]; exact ⟨hf.1, by omega, hk⟩
      · rw [if_neg e2]; rw [e] at z4; exact z5 i (by rw [e]; omega)
    · rw [if_neg e] at hi
      have q := (w4 t.toNat (by omega)).2.2.2.1
      rw [if_neg (by omega)]; exact z5 i hi
-- member
noncomputable def rMe (p : Pg) (t x s : Int) : Int := cI (¬ (0 ≤ t ∧ t < nT p)) (-101) (cI (¬ (0 ≤ s ∧ s ≤ 4) ∨ (¬ s = 4 ∧ ¬ (0 ≤ x ∧ x ≤ 9)) ∨ (s = 1 ∧ kd p t.toNat = 0)) (-102) (cI (¬ own p t (cI (s = 4) (-1) x) = -1) (-103) (cI (nM p = 48) (-104) (nM p))))
def pMe1 (p : Pg) (t y s : Int) : Pg := gs (gs (gs (gs (gs (gs p 107 (nM p).toNat t) 108 (nM p).toNat y) 109 (nM p).toNat s) 110 (nM p).toNat 0) 111 (nM p).toNat 0) 100 5 (nM p + 1)
noncomputable def pMe (p : Pg) (t x s : Int) : Pg := cG (0 ≤ rMe p t x s) (pMe1 p t (cI (s = 4) (-1) x) s) p
theorem own_none {p : Pg} {t x : Int} (h : own p t x = -1) {m : Nat} (hm : (m : Int) < nM p) : ¬ (ty p m = t ∧ nm p m = x) := (fst_m1 _ _ _).mp h m (by omega) (by omega)
theorem WF_me {p : Pg} {t y s : Int} (hw : WF p) (ht : 0 ≤ t ∧ t < nT p) (hs : 0 ≤ s ∧ s ≤ 4) (hy : -1 ≤ y ∧ y ≤ 9) (hsy : s = 4 ↔ y = -1) (hn : nM p < 48) (ho : own p t y = -1) : WF (pMe1 p t y s) := by
  obtain ⟨w1, w2, w3, w4, w5, w6, w7⟩ := hw
  have e0 : nM (pMe1 p t y s) = nM p + 1 := rfl
  have e1 : ∀ v, ty (pMe1 p t y s) v = if v = (nM p).toNat then t else ty p v := fun v => by simp [pMe1, gs]
  have e2 : ∀ v, nm (pMe1 p t y s) v = if v = (nM p).toNat then y else nm p v := fun v => by simp [pMe1, gs]
  have e3 : ∀ v, so (pMe1 p t y s) v = if v = (nM p).toNat then s else so p v := fun v => by simp [pMe1, gs]
  have e4 : ∀ v, rt (pMe1 p t y s) v = if v = (nM p).toNat then 0 else rt p v := fun v => by simp [pMe1, gs]
  have e5 : ∀ v, om (pMe1 p t y s) v = if v = (nM p).toNat then 0 else om p v := fun v => by simp [pMe1, gs]
  refine ⟨w1, by rw [e0]; omega, w3, w4, fun m hm => ?_, fun m m' hm hm' h1 h2 => ?_, fun o ho => ?_⟩
  · rw [e0] at hm
    rw [e1, e2, e3, e4, e5]
    by_cases e : m = (nM p).toNat
    · simp only [if_pos e]
      exact ⟨ht, hy, hs, hsy, Or.inl trivial, by omega, fun i hi => by omega⟩
    · simp only [if_neg e]
      exact w5 m (by omega)
  · rw [e0] at hm hm'
    rw [e1, e1] at h1
    rw [e2, e2] at h2
    by_cases e : m = (nM p).toNat
    · by_cases e' : m' = (nM p).toNat
      · omega
      · rw [if_pos e, if_neg e'] at h1 h2
        exact absurd ⟨h1.symm, h2.symm⟩ (own_none ho (m := m') (by omega))
    · by_cases e' : m' = (nM p).toNat
      · rw [if_neg e, if_pos e'] at h1 h2
        exact absurd ⟨h1, h2⟩ (own_none ho (m := m) (by omega))
      · rw [if_neg e, if_neg e'] at h1 h2
        exact w6 m m' (by omega) (by omega) h1 h2
  · obtain ⟨z1, z2, z3, z4, z5⟩ := w7 o ho
    exact ⟨z1, z2, z3, fun c => by rw [e0]; have := z4 c; exact ⟨this.1, by have := this.2; show oB p o < _; omega⟩, z5⟩
-- op
def nxt (p : Pg) (t : Nat) (a : Int) : Prop := up p t = a ∨ ∃ i : Nat, (i : Int) < fm p t ∧ fo p (3 * t + i) = a
def rgt (p : Pg) (m : Nat) (k a b : Int) : Prop := (k = 0 ∧ kd p a.toNat = 0) ∨ (k = 1 ∧ 0 ≤ b ∧ b ≤ 9) ∨ (k = 2 ∧ nxt p (ty p m).toNat a ∧ 0 ≤ b ∧ b ≤ 9) ∨ (k = 3 ∧ 0 ≤ b ∧ b ≤ 9) ∨ k = 4 ∨ (k = 5 ∧ (0 ≤ a ∧ a ≤ 3) ∧ (so p b.toNat = 0 ∨ so p b.toNat = 2 ∨ so p b.toNat = 3)) ∨ (k = 6 ∧ 0 ≤ a ∧ a ≤ 3) ∨ (k = 7 ∧ 0 ≤ b ∧ b ≤ 9)
noncomputable def rOp (p : Pg) (m k a b : Int) : Int := cI (¬ (0 ≤ m ∧ m < nM p) ∨ ((0 ≤ k ∧ k ≤ 4) ∧ ¬ (0 ≤ a ∧ a < nT p)) ∨ (k = 5 ∧ ¬ (0 ≤ b ∧ b < nM p))) (-101) (cI (¬ rgt p m.toNat k a b) (-102) (cI (so p m.toNat = 1) (-103) (cI (nO p = 160 ∨ om p m.toNat = 24) (-104) (om p m.toNat))))
def pOp1 (p : Pg) (m : Nat) (k a y : Int) : Pg := gs (gs (gs (gs (gs (gs p 114 (nO p).toNat k) 115 (nO p).toNat a) 116 (nO p).toNat y) 112 (24 * m + (om p m).toNat) (nO p)) 100 12 (nO p + 1)) 111 m (om p m + 1)
noncomputable def pOp (p : Pg) (m k a b : Int) : Pg := cG (0 ≤ rOp p m k a b) (pOp1 p m.toNat k a (cI (k = 4) 9 b)) p
theorem WF_op {p : Pg} {m : Nat} {k a y : Int} (hw : WF p) (hm : (m : Int) < nM p) (hk : 0 ≤ k ∧ k ≤ 7) (ha : k ≤ 4 → 0 ≤ a ∧ a < nT p) (ha2 : 5 ≤ k → k ≤ 6 → 0 ≤ a ∧ a ≤ 3) (hb : k = 5 → 0 ≤ y ∧ y < nM p) (hb2 : (1 ≤ k ∧ k ≤ 4) ∨ k = 7 → 0 ≤ y ∧ y ≤ 9) (hn : nO p < 160) (hn2 : om p m < 24) : WF (pOp1 p m k a y) := by
  obtain ⟨w1, w2, w3, w4, w5, w6, w7⟩ := hw
  have e0 : nO (pOp1 p m k a y) = nO p + 1 := by simp [pOp1, gs]
  have e1 : ∀ v, ok (pOp1 p m k a y) v = if v = (nO p).toNat then k else ok p v := fun v => by simp [pOp1, gs]
  have e2 : ∀ v, oA (pOp1 p m k a y) v = if v = (nO p).toNat then a else oA p v := fun v => by simp [pOp1, gs]
  have e3 : ∀ v, oB (pOp1 p m k a y) v = if v = (nO p).toNat then y else oB p v := fun v => by simp [pOp1, gs]
  have e4 : ∀ v, om (pOp1 p m k a y) v = if v = m then om p m + 1 else om p v := fun v => by simp [pOp1, gs]
  have e5 : ∀ v, oa (pOp1 p m k a y) v = if v = 24 * m + (om p m).toNat then nO p else oa p v := fun v => by simp [pOp1, gs]
  have e6 : nM (pOp1 p m k a y) = nM p := by simp [pOp1, gs]
  refine ⟨w1, w2, by rw [e0]; omega, w4, fun v hv => ?_, w6, fun o ho => ?_⟩
  · rw [e6] at hv
    obtain ⟨z1, z2, z3, z4, z5, z6, z7⟩ := w5 v hv
    refine ⟨z1, z2, z3, z4, z5, ?_, fun i hi => ?_⟩
    · rw [e4]
      by_cases e : v = m
      · rw [if_pos e]; rw [e] at z6; omega
      · rw [if_neg e]; exact z6
    · rw [e4] at hi
      rw [e5, e0]
      by_cases e : v = m
      · rw [if_pos e] at hi
        by_cases e2 : 24 * v + i = 24 * m + (om p m).toNat
        · rw [if_pos e2]; omega
        · rw [if_neg e2]; rw [e] at z6; have := z7 i (by rw [e]; omega); omega
      · rw [if_neg e] at hi
        have q := (w5 m hm).2.2.2.2.2.1
        rw [if_neg (by omega)]; have := z7 i hi; omega
  · rw [e0] at ho
    rw [e1, e2, e3, e6]
    by_cases e : o = (nO p).toNat
    · simp only [if_pos e]
      exact ⟨hk, ha, ha2, hb, hb2⟩
    · simp only [if_neg e]
      exact w7 o (by omega)
-- root
noncomputable def rRo (p : Pg) (m x : Int) : Int := cI (¬ (0 ≤ m ∧ m < nM p)) (-101) (cI (so p m.toNat = 1 ∨ so p m.toNat = 4) (-102) (bI (¬ rt p m.toNat = x)))
noncomputable def pRo (p : Pg) (m x : Int) : Pg := cG (0 ≤ rRo p m x) (gs p 110 m.toNat x) p
theorem WF_ro {p : Pg} {m : Nat} {x : Int} (hw : WF p) (hx : x = 0 ∨ x = 1) : WF (gs p 110 m x) := by
  obtain ⟨w1, w2, w3, w4, w5, w6, w7⟩ := hw
  have e1 : ∀ v, rt (gs p 110 m x) v = if v = m then x else rt p v := fun v => by simp [gs]
  refine ⟨w1, w2, w3, w4, fun v hv => ?_, w6, w7⟩
  obtain ⟨z1, z2, z3, z4, z5, z⟩ := w5 v hv
  refine ⟨z1, z2, z3, z4, ?_, z⟩
  rw [e1]
  by_cases e : v = m
  · rw [if_pos e]; exact hx
  · rw [if_neg e]; exact z5
section SE
variable {l : Launch} {D : DD} {d kc ks : Nat} {h h0 : Hp} {Ψ : Option AV → Hp → Prop} {p g : Pg}
theorem ct_M_type {x1 x2 : Int} (hm : Ms p h) (k : ∀ h', sm mdl h h' → Ms (pTy p x1 x2) h' → Ψ (some (vi (rTy p x1 x2))) h') : Ev l D Y_M_type (d + 2) kc ks 0 [some (vr 100), some (vi x1), some (vi x2)] [] h Ψ := by
  have hw := hm.1.2.2.1
  have w1 := hw.1
  have hM := hm.1.1
  have hs := hm.1.2.1
  have bad : ∀ r, rTy p x1 x2 = r → r < 0 → Ψ (some (vi r)) h := fun r e hr => by
    have z := k h sm.rf
    rw [e, show pTy p x1 x2 = p from cG_f (by rw [e]; omega)] at z
    exact z hm
  have g48 : ¬ (¬ x2 = -1 ∧ ¬ (0 ≤ x2 ∧ x2 < nT p)) → ¬ (¬ (0 ≤ x1 ∧ x1 ≤ 2) ∨ (¬ x2 = -1 ∧ (x1 = 2 ∨ kd p x2.toNat = 2))) → Ev l D Y_M_type (d + 2) kc ks 48 [some (vr 100), some (vi x1), some (vi x2)] [] h Ψ := by
    intro c1 c2
    apply m_M_type_48 hM
    have e0 := hs.nT
    rw [e0]
    refine ⟨fun c => ?_, fun c => bad _ (by unfold rTy; rw [cI_f c1, cI_f c2, cI_t c]) (by omega)⟩
    have er : rTy p x1 x2 = nT p := by unfold rTy; rw [cI_f c1, cI_f c2, cI_f c]
    refine ⟨by omega, by omega, fun h1 eh1 => ?_⟩
    have e01 : xI h1 100 0 = nT p := by rw [eh1, xI_sI, if_neg (by omega)]; exact e0
    rw [e01]
    refine ⟨by omega, by omega, fun h2 eh2 => ?_⟩
    have e02 : xI h2 100 0 = nT p := by rw [eh2, xI_sI, if_neg (by omega)]; exact e01
    rw [e02]
    refine ⟨by omega, by omega, fun h3 eh3 h4 eh4 h5 eh5 h6 eh6 => ?_⟩
    have e03 : xI h3 100 0 = nT p := by rw [eh3, xI_sI, if_neg (by omega)]; exact e02
    rw [e03, wr_eq (by omega) (by omega)] at eh4
    have e06 : xI h6 100 0 = nT p + 1 := by rw [eh6, xI_sI, if_neg (by omega), eh5, xI_sI, if_neg (by omega), eh4, xI_sI, if_pos ⟨rfl, rfl⟩]
    rw [e06, wr_eq (by omega) (by omega)]
    have z := k h6
    rw [er, show pTy p x1 x2 = pTy1 p x1 x2 from cG_t (by rw [er]; omega)] at z
    rw [show nT p + 1 - 1 = nT p by omega]
    subst eh6; subst eh5; subst eh4; subst eh3; subst eh2; subst eh1
    refine z ((((((sm.rf.put (by omega)).put (by omega)).put (by omega)).put (by omega)).put (by omega)).put (by omega)) ⟨⟨hM, ?_, WF_ty hw (by omega) (by omega) (by omega) (by omega), ?_⟩, Fm_0 ?_⟩
    · exact SD_sI (SD_sI (SD_put (SD_put (SD_put (SD_put hs)))) (by decide)) (by decide)
    · exact ⟨Or.inl (by rw [xI_sI, if_pos ⟨rfl, rfl⟩]), fun c => absurd (by rw [xI_sI, if_pos ⟨rfl, rfl⟩]) c⟩
    · rw [xI_sI, if_neg (by omega), xI_sI, if_pos ⟨rfl, rfl⟩]
  have gin : ¬ (¬ x2 = -1 ∧ ¬ (0 ≤ x2 ∧ x2 < nT p)) → Ev l D Y_M_in (d + 1) 0 0 0 [some (vi x1), some (vi (0 : Int)), some (vi (2 : Int))] [] h (ki (fun r1 h1 => MS h1 ∧ ((r1 = 0 → (Ψ (some (vi (-102 : Int))) h1)) ∧ (¬ r1 = 0 → ((x2 = (-1 : Int) → (Ev l D Y_M_type (d + 2) kc ks 48 [some (vr 100), some (vi x1), some (vi x2)] [] h1 Ψ)) ∧ (¬ x2 = (-1 : Int) → ((x1 = (2 : Int) → (Ψ (some (vi (-102 : Int))) h1)) ∧ (¬ x1 = (2 : Int) → (0 ≤ x2 ∧ x2 < 16 ∧ ((¬ xI h1 102 (x2).toNat = (2 : Int) → (Ev l D Y_M_type (d + 2) kc ks 48 [some (vr 100), some (vi x1), some (vi x2)] [] h1 Ψ)) ∧ (xI h1 102 (x2).toNat = (2 : Int) → (Ψ (some (vi (-102 : Int))) h1)))))))))))) := by
    intro c1
    refine ct_M_in hM ⟨hM, fun c => ?_, fun c => ?_⟩
    · rw [bI_0] at c
      exact bad _ (by unfold rTy; rw [cI_f c1, cI_t (Or.inl c)]) (by omega)
    · rw [bI_n] at c
      rw [hs.kd]
      refine ⟨fun c2 => g48 c1 (by omega), fun c2 => ⟨fun c3 => bad _ ?_ (by omega), fun c3 => ⟨by omega, by omega, fun c4 => g48 c1 (by omega), fun c4 => bad _ ?_ (by omega)⟩⟩⟩
      · unfold rTy; rw [cI_f c1, cI_t (Or.inr ⟨c2, Or.inl c3⟩)]
      · unfold rTy; rw [cI_f c1, cI_t (Or.inr ⟨c2, Or.inr c4⟩)]
  apply m_M_type_0 hM
  refine ⟨fun c => gin (fun z => z.1 c), fun c => ct_M_isType hM hs hw ⟨hM, fun c2 => ?_, fun c2 => bad _ ?_ (by omega)⟩⟩
  · exact gin (fun z => z.2 (bI_n.mp c2))
  · unfold rTy; rw [cI_t ⟨c, bI_0.mp c2⟩]
theorem ct_M_face {x1 x2 : Int} (hm : Ms p h) (k : ∀ h', sm mdl h h' → Ms (pFa p x1 x2) h' → Ψ (some (vi (rFa p x1 x2))) h') : Ev l D Y_M_face (d + 2) kc ks 0 [some (vr 100), some (vi x1), some (vi x2), none] [] h Ψ := by
  have hw := hm.1.2.2.1
  have w1 := hw.1
  have hM := hm.1.1
  have hs := hm.1.2.1
  have bad : ∀ r, rFa p x1 x2 = r → r < 0 → Ψ (some (vi r)) h := fun r e hr => by
    have z := k h sm.rf
    rw [e, show pFa p x1 x2 = p from cG_f (by rw [e]; omega)] at z
    exact z hm
  apply m_M_face_0 hM
  refine ct_M_isType hM hs hw ⟨hM, fun c => bad _ ?_ (by omega), fun c => ct_M_isType hM hs hw ⟨hM, fun c2 => ?_, fun c2 => bad _ ?_ (by omega)⟩⟩
  · unfold rFa; rw [cI_t (Or.inl (bI_0.mp c))]
  · rw [bI_n] at c c2
    have n1 : ¬ (¬ (0 ≤ x1 ∧ x1 < nT p) ∨ ¬ (0 ≤ x2 ∧ x2 < nT p)) := by omega
    rw [hs.kd]
    refine ⟨by omega, by omega, fun c3 => bad _ ?_ (by omega), fun c3 => ⟨fun c4 => ?_, fun c4 => bad _ ?_ (by omega)⟩⟩
    · unfold rFa; rw [cI_f n1, cI_t (Or.inl c3)]
    · have n2 : ¬ (¬ kd p x2.toNat = 2 ∨ x1 ≤ x2) := by omega
      obtain ⟨t, rfl⟩ : ∃ t : Nat, x1 = (t : Int) := ⟨x1.toNat, by omega⟩
      obtain ⟨z1, z2, z3, z4, z5⟩ := hw.2.2.2.1 t c.2
      have key : ∀ (n i : Nat), i + n = (fm p t).toNat → (∀ j, j < i → ¬ fo p (3 * t + j) = x2) → Ev l D Y_M_face (d + 2) kc ks 39 [some (vr 100), some (vi (t : Int)), some (vi x2), some (vi (i : Int))] [] h Ψ := by
        intro n
        induction n with
        | zero =>
          intro i hi hno
          have n3 : ¬ (∃ i : Nat, (i : Int) < fm p (t : Int).toNat ∧ fo p (3 * (t : Int).toNat + i) = x2) := by
            rintro ⟨j, j1, j2⟩; rw [Int.toNat_natCast] at j1 j2; exact hno j (by omega) j2
          have e4 := hs.fm t
          apply m_M_face_39 hM
          rw [Int.toNat_natCast, e4]
          refine ⟨by omega, by omega, fun _ => ⟨by omega, by omega, fun c5 => ?_, fun c5 => bad _ ?_ (by omega)⟩, fun c5 => by omega⟩
          · have ix : wr (wr ((3 : Int) * (t : Int)) + fm p t) = ((3 * t + (fm p t).toNat : Nat) : Int) := by rw [wr_eq (x := 3 * (t : Int)) (by omega) (by omega), wr_eq (by omega) (by omega)]; omega
            rw [ix, Int.toNat_natCast]
            refine ⟨by omega, by omega, by omega, by omega, fun h1 eh1 => ⟨by omega, by omega, by omega, by omega, fun h2 eh2 h3 eh3 h4 eh4 => ⟨by omega, by omega, ?_⟩⟩⟩
            have e41 : xI h1 104 t = fm p t := by rw [eh1, xI_sI, if_neg (by omega)]; exact e4
            rw [e41, wr_eq (by omega) (by omega)] at eh2
            have e44 : xI h4 104 t = fm p t + 1 := by rw [eh4, xI_sI, if_neg (by omega), eh3, xI_sI, if_neg (by omega), eh2, xI_sI, if_pos ⟨rfl, rfl⟩]
            rw [e44]
            have er : rFa p t x2 = fm p t + 1 := by unfold rFa; rw [cI_f n1, cI_f n2, cI_f n3, Int.toNat_natCast, cI_f c5]
            have z := k h4
            rw [er, show pFa p t x2 = pFa1 p t x2 from cG_t (by rw [er]; omega)] at z
            subst eh4; subst eh3; subst eh2; subst eh1
            refine z ((((sm.rf.put (by omega)).put (by omega)).put (by omega)).put (by omega)) ⟨⟨hM, ?_, WF_fa hw c (by omega) c3 (by rw [Int.toNat_natCast]; omega), ?_⟩, Fm_0 ?_⟩
            · unfold pFa1
              rw [Int.toNat_natCast]
              exact SD_sI (SD_sI (SD_put (SD_put hs)) (by decide)) (by decide)
            · exact ⟨Or.inl (by rw [xI_sI, if_pos ⟨rfl, rfl⟩]), fun c => absurd (by rw [xI_sI, if_pos ⟨rfl, rfl⟩]) c⟩
            · rw [xI_sI, if_neg (by omega), xI_sI, if_pos ⟨rfl, rfl⟩]
          · unfold rFa; rw [cI_f n1, cI_f n2, cI_f n3, Int.toNat_natCast, cI_t c5]
        | succ n ih =>
          intro i hi hno
          have ix : wr (wr ((3 : Int) * (t : Int)) + (i : Int)) = ((3 * t + i : Nat) : Int) := by rw [wr_eq (x := 3 * (t : Int)) (by omega) (by omega), wr_eq (by omega) (by omega)]; omega
          have e4 := hs.fm t
          have e5 := hs.fo (3 * t + i)
          apply m_M_face_39 hM
          rw [Int.toNat_natCast, e4]
          refine ⟨by omega, by omega, fun c5 => by omega, fun _ => ?_⟩
          rw [ix, Int.toNat_natCast, e5, wr_s (show i < 1000000 by omega)]
          refine ⟨by omega, by omega, fun c6 => ih (i + 1) (by omega) (fun j hj => ?_), fun c6 => bad _ ?_ (by omega)⟩
          · rcases Nat.eq_or_lt_of_le (Nat.le_of_lt_succ hj) with e | e
            · rw [e]; exact c6
            · exact hno j e
          · unfold rFa; rw [cI_f n1, cI_f n2, cI_t ⟨i, by rw [Int.toNat_natCast]; omega, by rw [Int.toNat_natCast]; exact c6⟩]
      exact key (fm p t).toNat 0 (by omega) (fun j hj => by omega)
    · unfold rFa; rw [cI_f n1, cI_t (Or.inr (by omega))]
  · unfold rFa; rw [cI_t (Or.inr (bI_0.mp c2))]
end SE
