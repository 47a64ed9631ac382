/-! how far it is: plain facts; what holds of the graph in the end -/
def wk (E : Nat → Nat → Prop) (N : Nat) : Nat → Nat → Nat → Prop
  | 0, k, t => k = t
  | n + 1, k, t => ∃ c, c < N ∧ E k c ∧ wk E N n c t
theorem wk_snoc {E : Nat → Nat → Prop} {N : Nat} {t u : Nat} (hu : u < N) (e : E t u) : ∀ (n k : Nat), wk E N n k t → wk E N (n + 1) k u
  | 0, k, h => by rw [show k = t from h]; exact ⟨u, hu, e, rfl⟩
  | n + 1, k, ⟨c, h1, h2, h3⟩ => ⟨c, h1, h2, wk_snoc hu e n c h3⟩
theorem wk_mono {E F : Nat → Nat → Prop} {N : Nat} (q : ∀ a c, E a c → F a c) : ∀ (n k t : Nat), wk E N n k t → wk F N n k t
  | 0, _, _, h => h
  | n + 1, _, t, ⟨c, h1, h2, h3⟩ => ⟨c, h1, q _ _ h2, wk_mono q n c t h3⟩
def FarOk (E : Nat → Nat → Prop) (N t : Nat) (f : Nat → Int) : Prop := (∀ k, k < N → 0 ≤ f k ∧ f k ≤ 99 ∧ (f k < 99 → wk E N (f k).toNat k t)) ∧ f t = 0 ∧ ∀ k c, k < N → c < N → E k c → f k ≤ f c + 1
theorem Far_le {E : Nat → Nat → Prop} {N t : Nat} {f : Nat → Int} (q : FarOk E N t f) : ∀ (n k : Nat), k < N → wk E N n k t → f k ≤ n
  | 0, k, _, h => by rw [show k = t from h, q.2.1]; exact Int.le_refl _
  | n + 1, k, hk, ⟨c, h1, h2, h3⟩ => by
    have := Far_le q n c h1 h3
    have := q.2.2 k c hk h1 h2
    omega
theorem Far_eq {E : Nat → Nat → Prop} {N t : Nat} {f f' : Nat → Int} (q : FarOk E N t f) (q' : FarOk E N t f') (k : Nat) (hk : k < N) : f k = f' k := by
  have le : ∀ {f f' : Nat → Int}, FarOk E N t f → FarOk E N t f' → f' k ≤ f k := by
    intro f f' q q'
    obtain ⟨h1, h2, h3⟩ := q.1 k hk
    rcases Classical.em (f k < 99) with e | e
    · have := Far_le q' _ k hk (h3 e); omega
    · have := (q'.1 k hk).2.1; omega
  have := le q q'
  have := le q' q
  omega
theorem Far_lv {E : Nat → Nat → Prop} {N t : Nat} {f : Nat → Int} (q : FarOk E N t f) : ∀ (v k : Nat), k < N → f k = (v : Int) → v < 99 → ((v + 1 : Nat) : Int) ≤ cnt (fun j => j < N ∧ f j ≤ (v : Int)) N 0
  | 0, k, hk, e, _ => by
    have := cnt_lt (Q := fun j => j < N ∧ f j ≤ ((0 : Nat) : Int)) (Q' := fun _ => False) N 0 (fun _ z => z.elim) ⟨k, Nat.zero_le _, by omega, ⟨hk, by omega⟩, fun z => z⟩
    rw [(cnt_0 (fun _ => False) N 0).mpr (fun _ _ _ z => z)] at this
    omega
  | v + 1, k, hk, e, hv => by
    obtain ⟨h1, h2, h3⟩ := q.1 k hk
    have h4 := h3 (by omega)
    rw [show (f k).toNat = v + 1 by omega] at h4
    obtain ⟨c, c1, c2, c3⟩ := h4
    have l1 := Far_le q v c c1 c3
    have l2 := q.2.2 k c hk c1 c2
    have ih := Far_lv q v c c1 (by omega) (by omega)
    have lt := cnt_lt (Q := fun j => j < N ∧ f j ≤ ((v + 1 : Nat) : Int)) (Q' := fun j => j < N ∧ f j ≤ (v : Int)) N 0 (fun j z => ⟨z.1, by have := z.2; omega⟩) ⟨k, Nat.zero_le _, by omega, ⟨hk, by omega⟩, fun z => by have := z.2; omega⟩
    omega
theorem Far_bd {E : Nat → Nat → Prop} {N t : Nat} {f : Nat → Int} (q : FarOk E N t f) {k : Nat} (hk : k < N) (h : f k < 99) : f k < N := by
  have h0 := (q.1 k hk).1
  have := Far_lv q (f k).toNat k hk (by omega) (by omega)
  have := cnt_le (fun j => j < N ∧ f j ≤ (((f k).toNat : Nat) : Int)) N 0
  omega
theorem Far_fin {E : Nat → Nat → Prop} {N t : Nat} {f : Nat → Int} (hN : N ≤ 48) (q : FarOk E N t f) : ∀ (n k : Nat), k < N → wk E N n k t → f k < 99
  | 0, k, _, h => by rw [show k = t from h, q.2.1]; decide
  | n + 1, k, hk, ⟨c, h1, h2, h3⟩ => by
    have := Far_bd q h1 (Far_fin hN q n c h1 h3)
    have := q.2.2 k c hk h1 h2
    omega
/-- invariants of the passes -/
def RI (p g : Pg) : Prop := ∀ m : Nat, m < 48 → ¬ g 119 m = 0 → (m : Int) < nM p ∧ ∃ r n : Nat, (r : Int) < nM p ∧ ¬ rt p r = 0 ∧ wk (dr p g) (nM p).toNat n r m
def CI (p g : Pg) : Prop := ∀ k, ¬ g 123 k = 0 → ∃ m i c : Nat, (m : Int) < nM p ∧ (i : Int) < om p m ∧ (c : Int) < nM p ∧ ¬ g 119 m = 0 ∧ k = 48 * (oa p (24 * m + i)).toNat + c
def FI (p g : Pg) : Prop := ∀ k, ¬ g 124 k = 0 → ∃ m i j : Nat, (m : Int) < nM p ∧ (i : Int) < om p m ∧ j < 4 ∧ ¬ g 119 m = 0 ∧ k = 4 * (oa p (24 * m + i)).toNat + j
theorem dr_mono {p g g' : Pg} (q : ∀ a k, 119 ≤ a → a ≤ 123 → ¬ g a k = 0 → ¬ g' a k = 0) (a c : Nat) (h : dr p g a c) : dr p g' a c := by
  obtain ⟨i, h1, h2, h3⟩ := h
  exact ⟨i, h1, q _ _ (by omega) (by omega) h2, q _ _ (by omega) (by omega) h3⟩
theorem inv_step {p g : Pg} (hw : WF p) {m i : Nat} (hm : (m : Int) < nM p) (hi : (i : Int) < om p m) (hr : ¬ g 119 m = 0) (q : RI p g ∧ CI p g ∧ FI p g) : RI p (gfol p (oa p (24 * m + i)).toNat g) ∧ CI p (gfol p (oa p (24 * m + i)).toNat g) ∧ FI p (gfol p (oa p (24 * m + i)).toNat g) := by
  have w2 := hw.2.1
  have s := Sg_fol hw (oa_bd hw hm hi).1 g
  have mono := s.1.1
  have ci : CI p (gfol p (oa p (24 * m + i)).toNat g) := by
    intro k hk
    rcases s.2.2.1 k hk with z | ⟨c, c1, c2⟩
    · obtain ⟨m', i', c, h1, h2, h3, h4, h5⟩ := q.2.1 k z
      exact ⟨m', i', c, h1, h2, h3, mono _ _ (by omega) (by omega) h4, h5⟩
    · exact ⟨m, i, c, hm, hi, c1, mono _ _ (by omega) (by omega) hr, c2⟩
  refine ⟨fun j hj h => ?_, ci, fun k hk => ?_⟩
  · rcases s.2.1 j hj h with z | z
    · obtain ⟨h1, r, n, h2, h3, h4⟩ := q.1 j hj z
      exact ⟨h1, r, n, h2, h3, wk_mono (dr_mono mono) n r j h4⟩
    · obtain ⟨m', i', c, h1, h2, h3, h4, h5⟩ := ci _ z
      have ej : j = c := by omega
      obtain ⟨-, r, n, g2, g3, g4⟩ := q.1 m (by omega) hr
      refine ⟨by omega, r, n + 1, g2, g3, wk_snoc (by omega) ?_ n r (wk_mono (dr_mono mono) n r m g4)⟩
      exact ⟨i, hi, mono _ _ (by omega) (by omega) hr, z⟩
  · by_cases e : k < 4 * (oa p (24 * m + i)).toNat ∨ 4 * (oa p (24 * m + i)).toNat + 4 ≤ k
    · rw [s.2.2.2 k e] at hk
      obtain ⟨m', i', c, h1, h2, h3, h4, h5⟩ := q.2.2 k hk
      exact ⟨m', i', c, h1, h2, h3, mono _ _ (by omega) (by omega) h4, h5⟩
    · exact ⟨m, i, k - 4 * (oa p (24 * m + i)).toNat, hm, hi, by omega, mono _ _ (by omega) (by omega) hr, by omega⟩
theorem Itn_ind {p : Pg} (Q : Pg → Prop) (st : ∀ g, Q g → Q (gps p g)) : ∀ (n : Nat) (g r : Pg), Itn p n g r → Q g → Q r
  | 0, g, r, h, q => by rw [h.2]; exact st g q
  | n + 1, g, r, h, q => Itn_ind Q st n _ r h.2 (st g q)
theorem gF_inv {p : Pg} (hw : WF p) : RI p (gF p) ∧ CI p (gF p) ∧ FI p (gF p) := by
  obtain ⟨n, it⟩ := gF_it hw
  refine Itn_ind (fun g => RI p g ∧ CI p g ∧ FI p g) (fun g q => ?_) n _ _ it ⟨fun m hm h => ?_, fun k h => ?_, fun k h => ?_⟩
  · refine gps_ind hw (fun g => RI p g ∧ CI p g ∧ FI p g) (fun m i g' h1 h2 h3 h4 => inv_step hw h1 h2 h3 h4) ?_
    have v : ∀ c j, 119 ≤ c → gs g 100 17 0 c j = g c j := fun c j hc => by rw [gs_at, if_neg (by omega)]
    refine ⟨fun m hm h => ?_, fun k h => ?_, fun k h => ?_⟩
    · rw [v _ _ (by omega)] at h
      obtain ⟨h1, r, n, h2, h3, h4⟩ := q.1 m hm h
      exact ⟨h1, r, n, h2, h3, wk_mono (dr_mono (fun a k h1 _ z => by rw [v a k h1]; exact z)) n r m h4⟩
    · rw [v _ _ (by omega)] at h
      obtain ⟨m', i', c, h1, h2, h3, h4, h5⟩ := q.2.1 k h
      exact ⟨m', i', c, h1, h2, h3, by rw [v _ _ (by omega)]; exact h4, h5⟩
    · rw [v _ _ (by omega)] at h
      obtain ⟨m', i', c, h1, h2, h3, h4, h5⟩ := q.2.2 k h
      exact ⟨m', i', c, h1, h2, h3, by rw [v _ _ (by omega)]; exact h4, h5⟩
  · rw [gst119] at h
    have := bI_n.mp h
    exact ⟨this.1, m, 0, this.1, this.2, rfl⟩
  · exact absurd (gst_0 (by omega) (by omega)) h
  · exact absurd (gst_0 (by omega) (by omega)) h
/-- the least of the nearest -/
noncomputable def bst (Q : Nat → Prop) (f : Nat → Int) : Nat → Nat → Int
  | 0, _ => -1
  | n + 1, k => cI (Q k ∧ (bst Q f n (k + 1) = -1 ∨ f k ≤ f (bst Q f n (k + 1)).toNat)) k (bst Q f n (k + 1))
def isB (Q : Nat → Prop) (f : Nat → Int) (n k : Nat) (r : Int) : Prop := (r = -1 ∧ ∀ j, k ≤ j → j < k + n → ¬ Q j) ∨ ∃ j : Nat, r = (j : Int) ∧ k ≤ j ∧ j < k + n ∧ Q j ∧ ∀ i, k ≤ i → i < k + n → Q i → f j ≤ f i ∧ (f i = f j → j ≤ i)
theorem bst_is (Q : Nat → Prop) (f : Nat → Int) : ∀ (n k : Nat), isB Q f n k (bst Q f n k)
  | 0, k => Or.inl ⟨rfl, fun j h1 h2 => by omega⟩
  | n + 1, k => by
    unfold bst
    rcases bst_is Q f n (k + 1) with ⟨h1, h2⟩ | ⟨j, h1, h2, h3, h4, h5⟩
    · rw [h1]
      rcases Classical.em (Q k) with e | e
      · rw [cI_t ⟨e, Or.inl rfl⟩]
        refine Or.inr ⟨k, rfl, Nat.le_refl _, by omega, e, fun i g1 g2 g3 => ?_⟩
        rcases Nat.eq_or_lt_of_le g1 with z | z
        · subst z; exact ⟨Int.le_refl _, fun _ => Nat.le_refl _⟩
        · exact absurd g3 (h2 i (by omega) (by omega))
      · rw [cI_f (fun z => e z.1)]
        refine Or.inl ⟨rfl, fun i g1 g2 => ?_⟩
        rcases Nat.eq_or_lt_of_le g1 with z | z
        · subst z; exact e
        · exact h2 i (by omega) (by omega)
    · rw [h1, Int.toNat_natCast]
      rcases Classical.em (Q k ∧ f k ≤ f j) with e | e
      · rw [cI_t ⟨e.1, Or.inr e.2⟩]
        refine Or.inr ⟨k, rfl, Nat.le_refl _, by omega, e.1, fun i g1 g2 g3 => ?_⟩
        rcases Nat.eq_or_lt_of_le g1 with z | z
        · subst z; exact ⟨Int.le_refl _, fun _ => Nat.le_refl _⟩
        · have := h5 i (by omega) (by omega) g3
          have := e.2
          exact ⟨by omega, fun _ => by omega⟩
      · rw [cI_f (fun z => z.2.elim (fun y => by omega) (fun y => e ⟨z.1, y⟩))]
        refine Or.inr ⟨j, rfl, by omega, by omega, h4, fun i g1 g2 g3 => ?_⟩
        rcases Nat.eq_or_lt_of_le g1 with z | z
        · subst z
          have : ¬ f k ≤ f j := fun y => e ⟨g3, y⟩
          exact ⟨by omega, fun _ => by omega⟩
        · exact h5 i (by omega) (by omega) g3
theorem isB_eq {Q : Nat → Prop} {f : Nat → Int} {n k : Nat} {r r' : Int} (q : isB Q f n k r) (q' : isB Q f n k r') : r = r' := by
  rcases q with ⟨h1, h2⟩ | ⟨j, h1, h2, h3, h4, h5⟩
  · rcases q' with ⟨g1, g2⟩ | ⟨j', g1, g2, g3, g4, g5⟩
    · omega
    · exact absurd g4 (h2 j' g2 g3)
  · rcases q' with ⟨g1, g2⟩ | ⟨j', g1, g2, g3, g4, g5⟩
    · exact absurd h4 (g2 j h2 h3)
    · have a := h5 j' g2 g3 g4
      have b := g5 j h2 h3 h4
      have e : f j = f j' := by omega
      have := a.2 e.symm
      have := b.2 e
      omega
/-- steps along a shortest way -/
noncomputable def nxw (E : Nat → Nat → Prop) (N : Nat) (f : Nat → Int) (a : Nat) : Int := fst (fun c => f c = f a - 1 ∧ E a c) N 0
noncomputable def gow (E : Nat → Nat → Prop) (N : Nat) (f : Nat → Int) : Nat → Int → Int
  | 0, a => a
  | n + 1, a => cI (nxw E N f a.toNat = -1) (-1) (gow E N f n (nxw E N f a.toNat))
theorem nxw_bd (E : Nat → Nat → Prop) (N : Nat) (f : Nat → Int) (a : Nat) : nxw E N f a = -1 ∨ ∃ c : Nat, nxw E N f a = (c : Int) ∧ c < N ∧ f c = f a - 1 ∧ E a c := by
  rcases fst_spec (fun c => f c = f a - 1 ∧ E a c) N 0 with ⟨h1, h2⟩ | ⟨j, h1, h2, h3, h4, h5⟩
  · exact Or.inl h1
  · exact Or.inr ⟨j, h5, by omega, h3.1, h3.2⟩
theorem nxw_ex {E : Nat → Nat → Prop} {N t : Nat} {f : Nat → Int} (q : FarOk E N t f) {a : Nat} (ha : a < N) (h1 : 0 < f a) (h2 : f a < 99) : ∃ c : Nat, nxw E N f a = (c : Int) ∧ c < N ∧ f c = f a - 1 ∧ E a c := by
  rcases nxw_bd E N f a with e | e
  · exfalso
    have h3 := (q.1 a ha).2.2 h2
    obtain ⟨v, ev⟩ : ∃ v : Nat, (f a).toNat = v + 1 := ⟨(f a).toNat - 1, by omega⟩
    rw [ev] at h3
    obtain ⟨c, c1, c2, c3⟩ := h3
    have l1 := Far_le q v c c1 c3
    have l2 := q.2.2 a c ha c1 c2
    exact (fst_m1 _ _ _).mp e c (Nat.zero_le _) (by omega) ⟨by omega, c2⟩
  · exact e
theorem gow_far {E : Nat → Nat → Prop} {N t : Nat} {f : Nat → Int} (q : FarOk E N t f) : ∀ (n a : Nat), a < N → f a < n → f a < 99 → gow E N f n a = -1
  | 0, a, ha, h1, _ => by have := (q.1 a ha).1; omega
  | n + 1, a, ha, h1, h2 => by
    unfold gow
    rw [Int.toNat_natCast]
    rcases nxw_bd E N f a with e | ⟨c, c1, c2, c3, c4⟩
    · rw [cI_t e]
    · rw [cI_f (by omega), c1]; exact gow_far q n c c2 (by omega) (by omega)
