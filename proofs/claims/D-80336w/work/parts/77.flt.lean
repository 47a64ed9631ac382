/-! faults in the end: plain facts -/
def rowE (o : Nat) (g G : Pg) : Prop := ∀ j, j < 4 → g 124 (4 * o + j) = G 124 (4 * o + j)
def patE (g G : Pg) : Prop := ∀ c, g 120 c = 0 ↔ G 120 c = 0
theorem flt_row {o : Nat} {c : Int} {g G : Pg} (hc : -5 ≤ c ∧ c ≤ -2) (h : rowE o g G) : rowE o (gflt g o c) (gflt G o c) := by
  intro j hj
  unfold gflt
  have e : (4 * (o : Int) - 2 - c).toNat = 4 * o + (-c - 2).toNat := by omega
  rw [gs_at, gs_at, e, h (-c - 2).toNat (by omega)]
  by_cases z : 124 = 124 ∧ 4 * o + j = 4 * o + (-c - 2).toNat
  · rw [if_pos z, if_pos z]
  · rw [if_neg z, if_neg z]; exact h j hj
theorem flt_pat {o : Nat} {c : Int} {g : Pg} (k : Nat) : gflt g o c 120 k = g 120 k := by unfold gflt; rw [gs_at, if_neg (by omega)]
theorem gca1_row {p : Pg} (hw : WF p) {o i t : Nat} {x s : Int} {g G : Pg} (h : rowE o g G) (hp : patE g G) : rowE o (gca1 o (chf p i t x) s g) (gca1 o (chf p i t x) s G) ∧ patE (gca1 o (chf p i t x) s g) (gca1 o (chf p i t x) s G) := by
  have cb := chf_bd hw i t x
  unfold gca1
  rcases Classical.em (0 ≤ chf p i t x) with c | c
  · rw [cG_t c, cG_t c]
    exact ⟨fun j hj => by rw [call_124, call_124]; exact h j hj, fun k => by rw [call_120, call_120]; exact hp k⟩
  · rw [cG_f c, cG_f c]
    rcases Classical.em (chf p i t x ≤ -4 ∨ s = 0) with c2 | c2
    · rw [cG_t c2, cG_t c2]
      exact ⟨flt_row (by omega) h, fun k => by rw [flt_pat, flt_pat]; exact hp k⟩
    · rw [cG_f c2, cG_f c2]; exact ⟨h, hp⟩
theorem gca_row {p : Pg} (hw : WF p) {o t : Nat} {x : Int} : ∀ (n i : Nat) (s : Int) (g G : Pg), rowE o g G → patE g G → rowE o (gca p o t x n i s g) (gca p o t x n i s G)
  | 0, _, _, _, _, h, _ => h
  | n + 1, i, s, g, G, h, hp => by
    unfold gca
    rcases Classical.em (¬ g 120 i = 0 ∧ U p i t) with c | c
    · have c' : ¬ G 120 i = 0 ∧ U p i t := ⟨fun z => c.1 ((hp i).mpr z), c.2⟩
      rw [cI_t c, cI_t c', cG_t c, cG_t c']
      obtain ⟨a, b⟩ := gca1_row hw (i := i) (t := t) (x := x) (s := s) h hp
      exact gca_row hw n (i + 1) 1 _ _ a b
    · have c' : ¬ (¬ G 120 i = 0 ∧ U p i t) := fun z => c ⟨fun y => z.1 ((hp i).mp y), z.2⟩
      rw [cI_f c, cI_f c', cG_f c, cG_f c']
      exact gca_row hw n (i + 1) s _ _ h hp
theorem gfk_row {p : Pg} (hw : WF p) {o : Nat} (ho : (o : Int) < nO p) {g G : Pg} (h : rowE o g G) (hp : patE g G) : rowE o (gfk p o g) (gfk p o G) := by
  have cb := chf_bd hw (oA p o).toNat (oA p o).toNat (oB p o)
  unfold gfk
  rcases Classical.em (ok p o = 0) with e0 | e0
  · rw [cG_t e0, cG_t e0]
    intro j hj
    rw [beg_124, beg_124, gset_at, if_neg (by omega), if_neg (by omega), gset_at, if_neg (by omega), if_neg (by omega)]; exact h j hj
  rw [cG_f e0, cG_f e0]
  rcases Classical.em (ok p o = 1 ∨ ok p o = 4) with e1 | e1
  · rw [cG_t e1, cG_t e1]; exact gca_row hw _ _ _ _ _ h hp
  rw [cG_f e1, cG_f e1]
  rcases Classical.em (ok p o = 2) with e2 | e2
  · rw [cG_t e2, cG_t e2]
    rcases Classical.em (0 ≤ chf p (oA p o).toNat (oA p o).toNat (oB p o)) with c | c
    · rw [cG_t c, cG_t c]; exact fun j hj => by rw [call_124, call_124]; exact h j hj
    · rw [cG_f c, cG_f c]; exact flt_row (by omega) h
  rw [cG_f e2, cG_f e2]
  rcases Classical.em (ok p o = 3) with e3 | e3
  · rw [cG_t e3, cG_t e3]
    rcases Classical.em (¬ fnd p (oA p o).toNat (oB p o) = -1 ∧ so p (fnd p (oA p o).toNat (oB p o)).toNat = 2) with c | c
    · rw [cG_t c, cG_t c]; exact fun j hj => by rw [beg_124, beg_124, call_124, call_124]; exact h j hj
    · rw [cG_f c, cG_f c]
      refine flt_row ?_ h
      rcases Classical.em (fnd p (oA p o).toNat (oB p o) = -1) with e | e
      · rw [cI_t e]; decide
      · rw [cI_f e]; decide
  rw [cG_f e3, cG_f e3]
  rcases Classical.em (ok p o = 5) with e5 | e5
  · rw [cG_t e5, cG_t e5]
    intro j hj
    rw [gset_at, if_neg (by omega), if_neg (by omega), gset_at, if_neg (by omega), if_neg (by omega)]; exact h j hj
  rw [cG_f e5, cG_f e5]
  rcases Classical.em (ok p o = 6) with e6 | e6
  · rw [cG_t e6, cG_t e6]; exact fun j hj => by rw [ou_124, ou_124]; exact h j hj
  rw [cG_f e6, cG_f e6]; exact fun j hj => by rw [an_124, an_124]; exact h j hj
theorem rst_row {o : Nat} {g : Pg} (j : Nat) (hj : j < 4) : grst o g 124 (4 * o + j) = 0 := by
  unfold grst
  rw [gs_at, gs_at, gs_at, gs_at]
  by_cases e3 : j = 3
  · rw [if_pos ⟨rfl, by omega⟩]
  rw [if_neg (by omega)]
  by_cases e2 : j = 2
  · rw [if_pos ⟨rfl, by omega⟩]
  rw [if_neg (by omega)]
  by_cases e1 : j = 1
  · rw [if_pos ⟨rfl, by omega⟩]
  rw [if_neg (by omega), if_pos ⟨rfl, by omega⟩]
theorem rst_pat {o : Nat} {g : Pg} (k : Nat) : grst o g 120 k = g 120 k := by unfold grst; rw [gs_at, if_neg (by omega), gs_at, if_neg (by omega), gs_at, if_neg (by omega), gs_at, if_neg (by omega)]
theorem fol_row {p : Pg} (hw : WF p) {o : Nat} (ho : (o : Int) < nO p) {g G : Pg} (hp : patE g G) : rowE o (gfol p o g) (gfol p o G) := gfk_row hw ho (fun j hj => by rw [rst_row j hj, rst_row j hj]) (fun k => by rw [rst_pat, rst_pat]; exact hp k)
theorem Itn_last {p : Pg} : ∀ (n : Nat) (g r : Pg), Itn p n g r → ∃ g1, r = gps p g1 ∧ r 100 17 = 0
  | 0, g, r, h => ⟨g, h.2, by rw [h.2]; exact h.1⟩
  | n + 1, _, r, h => Itn_last n _ r h.2
theorem Upg_pat {g r : Pg} (u : Upg g r) (h : r 100 17 = 0) (a k : Nat) (ha : 119 ≤ a ∧ a ≤ 123) : g a k = 0 ↔ r a k = 0 := ⟨(u.2.1 h).2 a k ha.1 ha.2, fun z => Classical.byContradiction (fun y => u.1 a k ha.1 ha.2 y z)⟩
theorem gpi_up {p : Pg} (hw : WF p) {m : Nat} (hm : (m : Int) < nM p) : ∀ (n i : Nat) (g : Pg), ((i + n : Nat) : Int) ≤ om p m → Upg g (gpi p m n i g) := fun n i g h => gpi_ind (fun g' => Upg g g') (fun i g' h1 _ q => q.tr (Sg_fol hw (oa_bd hw hm h1).1 g').1) n i g h Upg.rf
theorem gpm_up {p : Pg} (hw : WF p) : ∀ (n m : Nat) (g : Pg), m + n ≤ (nM p).toNat → Upg g (gpm p n m g) := fun n m g h => gpm_ind hw (fun g' => Upg g g') (fun m i g' h1 h2 _ q => q.tr (Sg_fol hw (oa_bd hw h1 h2).1 g').1) n m g h Upg.rf
/-- once right, right to the end -/
theorem fin_i {p : Pg} (hw : WF p) {r : Pg} {m : Nat} (hm : (m : Int) < nM p) (rn : r 100 17 = 0) : ∀ (n i : Nat) (g : Pg), ((i + n : Nat) : Int) ≤ om p m → Upg (gpi p m n i g) r → (∀ o : Nat, (o : Int) < nO p → rowE o g (gfol p o r) → rowE o (gpi p m n i g) (gfol p o r)) ∧ (¬ r 119 m = 0 → ∀ i' : Nat, i ≤ i' → i' < i + n → rowE (oa p (24 * m + i')).toNat (gpi p m n i g) (gfol p (oa p (24 * m + i')).toNat r))
  | 0, _, _, _, _ => ⟨fun _ _ h => h, fun _ i' h1 h2 => by omega⟩
  | n + 1, i, g, hn, u => by
    have ug := (gpi_up hw hm (n + 1) i g hn).tr u
    unfold gpi at u ⊢
    rcases Classical.em (g 119 m = 0) with e | e
    · rw [cG_t e]
      exact ⟨fun _ _ h => h, fun hr => absurd ((Upg_pat ug rn 119 m (by omega)).mp e) hr⟩
    · rw [cG_f e] at u ⊢
      obtain ⟨ob, -⟩ := oa_bd hw hm (show (i : Int) < om p m by omega)
      have pg : patE g r := fun c => Upg_pat ug rn 120 c (by omega)
      have fr := fol_row hw ob pg
      obtain ⟨a, b⟩ := fin_i hw hm rn n (i + 1) _ (by omega) u
      refine ⟨fun o ho h => a o ho ?_, fun hr i' h1 h2 => ?_⟩
      · by_cases z : o = (oa p (24 * m + i)).toNat
        · rw [z]; exact fr
        · intro j hj
          rw [(Sg_fol hw ob g).2.2.2 (4 * o + j) (by omega)]; exact h j hj
      · rcases Nat.eq_or_lt_of_le h1 with z | z
        · subst z; exact a _ ob fr
        · exact b hr i' z (by omega)
theorem fin_m {p : Pg} (hw : WF p) {r : Pg} (rn : r 100 17 = 0) : ∀ (n m : Nat) (g : Pg), m + n ≤ (nM p).toNat → Upg (gpm p n m g) r → (∀ o : Nat, (o : Int) < nO p → rowE o g (gfol p o r) → rowE o (gpm p n m g) (gfol p o r)) ∧ (∀ m' : Nat, m ≤ m' → m' < m + n → ¬ r 119 m' = 0 → ∀ i' : Nat, (i' : Int) < om p m' → rowE (oa p (24 * m' + i')).toNat (gpm p n m g) (gfol p (oa p (24 * m' + i')).toNat r))
  | 0, _, _, _, _ => ⟨fun _ _ h => h, fun m' h1 h2 => by omega⟩
  | n + 1, m, g, hn, u => by
    have hm : (m : Int) < nM p := by omega
    have wm := (hw.2.2.2.2.1 m hm).2.2.2.2.2.1
    unfold gpm at u ⊢
    have u2 := (gpm_up hw n (m + 1) (gpi p m (om p m).toNat 0 g) (by omega)).tr u
    obtain ⟨a, b⟩ := fin_m hw rn n (m + 1) _ (by omega) u
    obtain ⟨c, d⟩ := fin_i hw hm rn (om p m).toNat 0 g (by omega) u2
    refine ⟨fun o ho h => a o ho (c o ho h), fun m' h1 h2 hr i' hi' => ?_⟩
    rcases Nat.eq_or_lt_of_le h1 with z | z
    · subst z
      exact a _ (oa_bd hw hm hi').1 (d hr i' (Nat.zero_le _) (by omega))
    · exact b m' z (by omega) hr i' hi'
theorem gF_flt {p : Pg} (hw : WF p) {m i : Nat} (hm : (m : Int) < nM p) (hi : (i : Int) < om p m) (hr : ¬ gF p 119 m = 0) : rowE (oa p (24 * m + i)).toNat (gF p) (gfol p (oa p (24 * m + i)).toNat (gF p)) := by
  obtain ⟨n, it⟩ := gF_it hw
  obtain ⟨g1, e1, e2⟩ := Itn_last n _ _ it
  have z := (fin_m hw (r := gF p) e2 (nM p).toNat 0 (gs g1 100 17 0) (by omega) (by
    show Upg (gps p g1) (gF p)
    rw [← e1]; exact Upg.rf)).2 m (Nat.zero_le _) (by omega) hr i hi
  have z' : rowE (oa p (24 * m + i)).toNat (gps p g1) (gfol p (oa p (24 * m + i)).toNat (gF p)) := z
  rw [← e1] at z'
  exact z'
