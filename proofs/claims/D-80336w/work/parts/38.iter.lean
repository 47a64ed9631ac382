/-! the graph: passes till nothing grows; plain facts -/
def Upg (g g' : Pg) : Prop := (∀ a k, 119 ≤ a → a ≤ 123 → ¬ g a k = 0 → ¬ g' a k = 0) ∧ (g' 100 17 = 0 → g 100 17 = 0 ∧ ∀ a k, 119 ≤ a → a ≤ 123 → g a k = 0 → g' a k = 0) ∧ (¬ g' 100 17 = 0 → ¬ g 100 17 = 0 ∨ ∃ a k, 119 ≤ a ∧ a ≤ 123 ∧ k < 7680 ∧ g a k = 0 ∧ ¬ g' a k = 0)
theorem Upg.rf {g : Pg} : Upg g g := ⟨fun _ _ _ _ h => h, fun e => ⟨e, fun _ _ _ _ h => h⟩, fun e => Or.inl e⟩
theorem Upg.tr {g g' g'' : Pg} (q : Upg g g') (r : Upg g' g'') : Upg g g'' := by
  refine ⟨fun a k h1 h2 h3 => r.1 a k h1 h2 (q.1 a k h1 h2 h3), fun e => ?_, fun e => ?_⟩
  · obtain ⟨e1, r1⟩ := r.2.1 e
    obtain ⟨e2, q1⟩ := q.2.1 e1
    exact ⟨e2, fun a k h1 h2 h3 => r1 a k h1 h2 (q1 a k h1 h2 h3)⟩
  · rcases r.2.2 e with e1 | ⟨a, k, h1, h2, h3, h4, h5⟩
    · rcases q.2.2 e1 with e2 | ⟨a, k, h1, h2, h3, h4, h5⟩
      · exact Or.inl e2
      · exact Or.inr ⟨a, k, h1, h2, h3, h4, r.1 a k h1 h2 h5⟩
    · refine Or.inr ⟨a, k, h1, h2, h3, ?_, h5⟩
      exact Classical.byContradiction (fun z => q.1 a k h1 h2 z h4)
theorem gset_at {g : Pg} {b : Prop} {a k : Nat} {x : Int} (c j : Nat) : gs (gw g b) a k x c j = if c = a ∧ j = k then x else if c = 100 ∧ j = 17 then bI (¬ g 100 17 = 0 ∨ b) else g c j := rfl
theorem Upg_set {g : Pg} {a k : Nat} (ha : 119 ≤ a ∧ a ≤ 123) (hk : k < 7680) : Upg g (gs (gw g (g a k = 0)) a k 1) := by
  have v : ∀ c j, 119 ≤ c → c ≤ 123 → gs (gw g (g a k = 0)) a k 1 c j = if c = a ∧ j = k then 1 else g c j := by
    intro c j h1 h2
    rw [gset_at, if_neg (show ¬ (c = 100 ∧ j = 17) by omega)]
  have w : gs (gw g (g a k = 0)) a k 1 100 17 = bI (¬ g 100 17 = 0 ∨ g a k = 0) := by
    rw [gset_at, if_neg (by omega), if_pos ⟨rfl, rfl⟩]
  refine ⟨fun c j h1 h2 h3 => ?_, fun e => ?_, fun e => ?_⟩
  · rw [v c j h1 h2]
    by_cases z : c = a ∧ j = k
    · rw [if_pos z]; decide
    · rw [if_neg z]; exact h3
  · rw [w, bI_0] at e
    refine ⟨Classical.byContradiction (fun z => e (Or.inl z)), fun c j h1 h2 h3 => ?_⟩
    rw [v c j h1 h2]
    by_cases z : c = a ∧ j = k
    · rw [z.1, z.2] at h3; exact absurd (Or.inr h3) e
    · rw [if_neg z]; exact h3
  · rw [w, bI_n] at e
    rcases e with e | e
    · exact Or.inl e
    · refine Or.inr ⟨a, k, ha.1, ha.2, hk, e, ?_⟩
      rw [v a k ha.1 ha.2, if_pos ⟨rfl, rfl⟩]; decide
def Sg (p : Pg) (o : Nat) (g g' : Pg) : Prop := Upg g g' ∧ (∀ m, m < 48 → ¬ g' 119 m = 0 → ¬ g 119 m = 0 ∨ ¬ g' 123 (48 * o + m) = 0) ∧ (∀ k, ¬ g' 123 k = 0 → ¬ g 123 k = 0 ∨ ∃ m : Nat, (m : Int) < nM p ∧ k = 48 * o + m) ∧ (∀ k, (k < 4 * o ∨ 4 * o + 4 ≤ k) → g' 124 k = g 124 k)
theorem Sg.rf {p g : Pg} {o : Nat} : Sg p o g g := ⟨Upg.rf, fun _ _ h => Or.inl h, fun _ h => Or.inl h, fun _ _ => rfl⟩
theorem Sg.tr {p g g' g'' : Pg} {o : Nat} (q : Sg p o g g') (r : Sg p o g' g'') : Sg p o g g'' := by
  refine ⟨q.1.tr r.1, fun m hm h => ?_, fun k h => ?_, fun k h => (r.2.2.2 k h).trans (q.2.2.2 k h)⟩
  · rcases r.2.1 m hm h with z | z
    · rcases q.2.1 m hm z with y | y
      · exact Or.inl y
      · exact Or.inr (r.1.1 123 _ (by omega) (by omega) y)
    · exact Or.inr z
  · rcases r.2.2.1 k h with z | z
    · exact q.2.2.1 k z
    · exact Or.inr z
theorem Sg_set {p g : Pg} {o a k : Nat} (ha : 120 ≤ a ∧ a ≤ 122) (hk : k < 7680) : Sg p o g (gs (gw g (g a k = 0)) a k 1) := by
  refine ⟨Upg_set (by omega) hk, fun m _ h => Or.inl ?_, fun j h => Or.inl ?_, fun j _ => ?_⟩
  · rw [gset_at, if_neg (by omega), if_neg (by omega)] at h; exact h
  · rw [gset_at, if_neg (by omega), if_neg (by omega)] at h; exact h
  · rw [gset_at, if_neg (by omega), if_neg (by omega)]
theorem Sg_call {p g : Pg} {o m : Nat} (ho : o < 160) (hm : (m : Int) < nM p) (hm2 : m < 48) : Sg p o g (gcall g o m) := by
  unfold gcall greach
  refine ⟨(Upg_set (by omega) (by omega)).tr (Upg_set (by omega) (by omega)), fun j hj h => ?_, fun j h => ?_, fun j _ => ?_⟩
  · rw [gset_at] at h
    by_cases e : j = m
    · right
      rw [gset_at, if_neg (by omega), if_neg (by omega), gset_at, if_pos ⟨rfl, by omega⟩]; decide
    · rw [if_neg (by omega), if_neg (by omega), gset_at, if_neg (by omega), if_neg (by omega)] at h
      exact Or.inl h
  · rw [gset_at, if_neg (by omega), if_neg (by omega), gset_at] at h
    by_cases e : j = 48 * o + m
    · exact Or.inr ⟨m, hm, e⟩
    · rw [if_neg (by omega), if_neg (by omega)] at h; exact Or.inl h
  · rw [gset_at, if_neg (by omega), if_neg (by omega), gset_at, if_neg (by omega), if_neg (by omega)]
theorem gs_at {g : Pg} {a k : Nat} {x : Int} (c j : Nat) : gs g a k x c j = if c = a ∧ j = k then x else g c j := rfl
theorem Sg_124 {p g : Pg} {o k : Nat} {x : Int} (hk : 4 * o ≤ k ∧ k < 4 * o + 4) : Sg p o g (gs g 124 k x) := by
  have v : ∀ c j, c ≠ 124 → gs g 124 k x c j = g c j := fun c j hc => by rw [gs_at, if_neg (fun z => hc z.1)]
  refine ⟨⟨fun a j h1 h2 h3 => by rw [v a j (by omega)]; exact h3, fun e => ⟨by rw [v 100 17 (by omega)] at e; exact e, fun a j h1 h2 h3 => by rw [v a j (by omega)]; exact h3⟩, fun e => Or.inl (by rw [v 100 17 (by omega)] at e; exact e)⟩, fun m _ h => Or.inl (by rw [v 119 m (by omega)] at h; exact h), fun j h => Or.inl (by rw [v 123 j (by omega)] at h; exact h), fun j hj => by rw [gs_at, if_neg (by omega)]⟩
theorem Sg_flt {p g : Pg} {o : Nat} {c : Int} (hc : -5 ≤ c ∧ c ≤ -2) : Sg p o g (gflt g o c) := Sg_124 (by omega)
theorem Sg_rst {p g : Pg} {o : Nat} : Sg p o g (grst o g) := ((((Sg_124 (k := 4 * o) (by omega)).tr (Sg_124 (k := 4 * o + 1) (by omega))).tr (Sg_124 (k := 4 * o + 2) (by omega))).tr (Sg_124 (k := 4 * o + 3) (by omega)))
theorem Sg_cG {p g a b : Pg} {o : Nat} {c : Prop} (h1 : c → Sg p o g a) (h2 : ¬ c → Sg p o g b) : Sg p o g (cG c a b) := by
  rcases Classical.em c with e | e
  · rw [cG_t e]; exact h1 e
  · rw [cG_f e]; exact h2 e
theorem Sg_beg {p : Pg} (hw : WF p) {o t : Nat} (ho : o < 160) : ∀ (n k : Nat) (g : Pg), k + n ≤ 16 → Sg p o g (gbeg p o t n k g)
  | 0, _, _, _ => Sg.rf
  | n + 1, k, g, hk => by
    refine Sg.tr ?_ (Sg_beg hw ho n (k + 1) _ (by omega))
    have w2 := hw.2.1
    have ob := own_bd hw (k : Int) (-1)
    refine Sg_cG (fun _ => Sg_cG (fun _ => Sg_set (by omega) (by omega)) (fun c => (Sg_set (by omega) (by omega)).tr (Sg_call ho (by omega) (by omega)))) (fun _ => Sg.rf)
theorem Sg_ca {p : Pg} (hw : WF p) {o t : Nat} {x : Int} (ho : o < 160) : ∀ (n c : Nat) (s : Int) (g : Pg), Sg p o g (gca p o t x n c s g)
  | 0, _, _, _ => Sg.rf
  | n + 1, c, s, g => by
    refine Sg.tr ?_ (Sg_ca hw ho n (c + 1) _ _)
    have w2 := hw.2.1
    have cb := chf_bd hw c t x
    exact Sg_cG (fun _ => Sg_cG (fun _ => Sg_call ho (by omega) (by omega)) (fun _ => Sg_cG (fun _ => Sg_flt (by omega)) (fun _ => Sg.rf))) (fun _ => Sg.rf)
theorem Sg_ou {p : Pg} (hw : WF p) {o a : Nat} (ho : o < 160) : ∀ (n m : Nat) (g : Pg), m + n ≤ (nM p).toNat → Sg p o g (gou o a n m g)
  | 0, _, _, _ => Sg.rf
  | n + 1, m, g, h => by
    refine Sg.tr ?_ (Sg_ou hw ho n (m + 1) _ (by omega))
    have w2 := hw.2.1
    exact Sg_cG (fun _ => Sg.rf) (fun _ => Sg_call ho (by omega) (by omega))
theorem Sg_an {p : Pg} (hw : WF p) {o : Nat} {b : Int} (ho : o < 160) : ∀ (n m : Nat) (g : Pg), m + n ≤ (nM p).toNat → Sg p o g (gan p o b n m g)
  | 0, _, _, _ => Sg.rf
  | n + 1, m, g, h => by
    refine Sg.tr ?_ (Sg_an hw ho n (m + 1) _ (by omega))
    have w2 := hw.2.1
    exact Sg_cG (fun _ => Sg_call ho (by omega) (by omega)) (fun _ => Sg.rf)
theorem Sg_fol {p : Pg} (hw : WF p) {o : Nat} (ho : (o : Int) < nO p) (g : Pg) : Sg p o g (gfol p o g) := by
  have w1 := hw.1
  have w2 := hw.2.1
  have w3 := hw.2.2.1
  obtain ⟨o1, o2, o3, o4, o5⟩ := hw.2.2.2.2.2.2 o ho
  have ho' : o < 160 := by omega
  refine Sg_rst.tr ?_
  have cb := chf_bd hw (oA p o).toNat (oA p o).toNat (oB p o)
  have fb := fnd_bd hw (oA p o).toNat (oB p o)
  refine Sg_cG (fun c => ?_) (fun c0 => Sg_cG (fun c => Sg_ca hw ho' _ _ _ _) (fun c1 => Sg_cG (fun c => ?_) (fun c2 => Sg_cG (fun c => ?_) (fun c3 => Sg_cG (fun c => ?_) (fun c4 => Sg_cG (fun c => Sg_ou hw ho' _ _ _ (by omega)) (fun c5 => Sg_an hw ho' _ _ _ (by omega)))))))
  · have := o2 (by omega)
    exact (Sg_set (by omega) (by omega)).tr (Sg_beg hw ho' _ _ _ (by omega))
  · exact Sg_cG (fun c => Sg_call ho' (by omega) (by omega)) (fun c => Sg_flt (by omega))
  · refine Sg_cG (fun c => ?_) (fun c => Sg_flt ?_)
    · have := c.1
      exact (Sg_call ho' (by omega) (by omega)).tr (Sg_beg hw ho' _ _ _ (by omega))
    · rcases Classical.em (fnd p (oA p o).toNat (oB p o) = -1) with e | e
      · rw [cI_t e]; decide
      · rw [cI_f e]; decide
  · have a3 := o3 (by omega) (by omega)
    have a4 := o4 c
    exact Sg_set (by omega) (by omega)
/-- one pass -/
noncomputable def gpi (p : Pg) (m : Nat) : Nat → Nat → Pg → Pg
  | 0, _, g => g
  | n + 1, i, g => cG (g 119 m = 0) g (gpi p m n (i + 1) (gfol p (oa p (24 * m + i)).toNat g))
noncomputable def gpm (p : Pg) : Nat → Nat → Pg → Pg
  | 0, _, g => g
  | n + 1, m, g => gpm p n (m + 1) (gpi p m (om p m).toNat 0 g)
noncomputable def gps (p g : Pg) : Pg := gpm p (nM p).toNat 0 (gs g 100 17 0)
def Itn (p : Pg) : Nat → Pg → Pg → Prop
  | 0, g, r => gps p g 100 17 = 0 ∧ r = gps p g
  | n + 1, g, r => ¬ gps p g 100 17 = 0 ∧ Itn p n (gps p g) r
noncomputable def gst (p : Pg) : Pg := fun a k => cI (a = 119 ∧ (k : Int) < nM p ∧ ¬ rt p k = 0) 1 (cI (a = 100) 1 0)
/-- a property that every step of a pass keeps -/
theorem gpi_ind {p : Pg} (Q : Pg → Prop) {m : Nat} (stp : ∀ (i : Nat) (g : Pg), (i : Int) < om p m → ¬ g 119 m = 0 → Q g → Q (gfol p (oa p (24 * m + i)).toNat g)) : ∀ (n i : Nat) (g : Pg), ((i + n : Nat) : Int) ≤ om p m → Q g → Q (gpi p m n i g)
  | 0, _, _, _, q => q
  | n + 1, i, g, h, q => by
    unfold gpi
    rcases Classical.em (g 119 m = 0) with e | e
    · rw [cG_t e]; exact q
    · rw [cG_f e]; exact gpi_ind Q stp n (i + 1) _ (by omega) (stp i g (by omega) e q)
theorem gpm_ind {p : Pg} (hw : WF p) (Q : Pg → Prop) (stp : ∀ (m i : Nat) (g : Pg), (m : Int) < nM p → (i : Int) < om p m → ¬ g 119 m = 0 → Q g → Q (gfol p (oa p (24 * m + i)).toNat g)) : ∀ (n m : Nat) (g : Pg), m + n ≤ (nM p).toNat → Q g → Q (gpm p n m g)
  | 0, _, _, _, q => q
  | n + 1, m, g, h, q => by
    unfold gpm
    have w := (hw.2.2.2.2.1 m (by omega)).2.2.2.2.2.1
    exact gpm_ind hw Q stp n (m + 1) _ (by omega) (gpi_ind Q (fun i g h1 h2 h3 => stp m i g (by omega) h1 h2 h3) _ 0 g (by omega) q)
theorem gps_ind {p : Pg} (hw : WF p) (Q : Pg → Prop) (stp : ∀ (m i : Nat) (g : Pg), (m : Int) < nM p → (i : Int) < om p m → ¬ g 119 m = 0 → Q g → Q (gfol p (oa p (24 * m + i)).toNat g)) {g : Pg} (q : Q (gs g 100 17 0)) : Q (gps p g) := gpm_ind hw Q stp _ 0 _ (by omega) q
theorem oa_bd {p : Pg} (hw : WF p) {m i : Nat} (hm : (m : Int) < nM p) (hi : (i : Int) < om p m) : (((oa p (24 * m + i)).toNat : Nat) : Int) < nO p ∧ oa p (24 * m + i) = ((oa p (24 * m + i)).toNat : Int) := by
  have w := (hw.2.2.2.2.1 m hm).2.2.2.2.2.2 i hi
  omega
theorem Upg_gps {p : Pg} (hw : WF p) (g : Pg) : Upg (gs g 100 17 0) (gps p g) := gps_ind hw (fun g' => Upg (gs g 100 17 0) g') (fun m i g' h1 h2 _ q => q.tr (Sg_fol hw (oa_bd hw h1 h2).1 g').1) Upg.rf
theorem cnt_lt {Q Q' : Nat → Prop} : ∀ (n m : Nat), (∀ j, Q' j → Q j) → (∃ j, m ≤ j ∧ j < m + n ∧ Q j ∧ ¬ Q' j) → cnt Q' n m < cnt Q n m := by
  have le : ∀ (n m : Nat), (∀ j, Q' j → Q j) → cnt Q' n m ≤ cnt Q n m := by
    intro n
    induction n with
    | zero => intro m _; exact Int.le_refl _
    | succ n ih =>
      intro m h
      have h1 := ih (m + 1) h
      unfold cnt
      rcases Classical.em (Q' m) with e | e
      · rw [bI_t e, bI_t (h m e)]; omega
      · rw [bI_f e]; rcases bI_01 (Q m) with z | z <;> rw [z] <;> omega
  intro n
  induction n with
  | zero => rintro m _ ⟨j, h1, h2, _⟩; omega
  | succ n ih =>
    rintro m h ⟨j, h1, h2, h3, h4⟩
    unfold cnt
    rcases Nat.eq_or_lt_of_le h1 with e | e
    · subst e
      have := le n (m + 1) h
      rw [bI_t h3, bI_f h4]; omega
    · have := ih (m + 1) h ⟨j, e, by omega, h3, h4⟩
      rcases Classical.em (Q' m) with z | z
      · rw [bI_t z, bI_t (h m z)]; omega
      · rw [bI_f z]; rcases bI_01 (Q m) with y | y <;> rw [y] <;> omega
noncomputable def zrs (g : Pg) : Int := cnt (fun i => i < 38400 ∧ g (119 + i / 7680) (i % 7680) = 0) 38400 0
theorem Itn_ex {p : Pg} (hw : WF p) : ∀ (N : Nat) (g : Pg), zrs g < N → ∃ n r, Itn p n g r := by
  intro N
  induction N with
  | zero => intro g h; have := cnt_le (fun i => i < 38400 ∧ g (119 + i / 7680) (i % 7680) = 0) 38400 0; unfold zrs at h; omega
  | succ N ih =>
    intro g h
    rcases Classical.em (gps p g 100 17 = 0) with e | e
    · exact ⟨0, _, e, rfl⟩
    · have up := Upg_gps hw g
      rcases up.2.2 e with e1 | ⟨a, k, h1, h2, h3, h4, h5⟩
      · exact absurd (by rw [gs_at, if_pos ⟨rfl, rfl⟩]) e1
      · have v : ∀ c j, 119 ≤ c → gs g 100 17 0 c j = g c j := fun c j hc => by rw [gs_at, if_neg (by omega)]
        have lt : zrs (gps p g) < zrs g := by
          refine cnt_lt 38400 0 (fun j hj => ?_) ⟨7680 * (a - 119) + k, by omega, by omega, ?_, ?_⟩
          · refine ⟨hj.1, Classical.byContradiction (fun z => up.1 _ _ (by omega) (by have := hj.1; omega) ?_ hj.2)⟩
            rw [v _ _ (by omega)]; exact z
          · rw [show 119 + (7680 * (a - 119) + k) / 7680 = a by omega, show (7680 * (a - 119) + k) % 7680 = k by omega, ← v a k (by omega)]; exact ⟨by omega, h4⟩
          · rw [show 119 + (7680 * (a - 119) + k) / 7680 = a by omega, show (7680 * (a - 119) + k) % 7680 = k by omega]; exact fun z => h5 z.2
        obtain ⟨n, r, q⟩ := ih (gps p g) (by omega)
        exact ⟨n + 1, r, e, q⟩
