/-! runs: what is kept, and that they end -/
theorem nth_spec (Q : Nat → Prop) (i : Int) : ∀ (n k : Nat) (c : Int), c ≤ i → i < c + cnt Q n k → ∃ j : Nat, k ≤ j ∧ j < k + n ∧ Q j ∧ nth Q i n k c = (j : Int)
  | 0, k, c, h1, h2 => by unfold cnt at h2; omega
  | n + 1, k, c, h1, h2 => by
    unfold cnt at h2
    unfold nth
    rcases Classical.em (Q k) with e | e
    · rw [bI_t e] at h2
      rw [cI_t e]
      rcases Classical.em (c = i) with e2 | e2
      · rw [cI_t e2]; exact ⟨k, Nat.le_refl _, by omega, e, rfl⟩
      · rw [cI_f e2]
        obtain ⟨j, g1, g2, g3, g4⟩ := nth_spec Q i n (k + 1) (c + 1) (by omega) (by omega)
        exact ⟨j, by omega, by omega, g3, g4⟩
    · rw [bI_f e] at h2
      rw [cI_f e]
      obtain ⟨j, g1, g2, g3, g4⟩ := nth_spec Q i n (k + 1) c h1 (by omega)
      exact ⟨j, by omega, by omega, g3, g4⟩
theorem cnt_add1 {Q Q' : Nat → Prop} {m0 : Nat} (q : ∀ j, Q' j ↔ Q j ∨ j = m0) (hn : ¬ Q m0) : ∀ (n m : Nat), m ≤ m0 → m0 < m + n → cnt Q' n m = cnt Q n m + 1
  | 0, m, h1, h2 => by omega
  | n + 1, m, h1, h2 => by
    unfold cnt
    rcases Nat.eq_or_lt_of_le h1 with e | e
    · subst e
      rw [bI_t ((q m).mpr (Or.inr rfl)), bI_f hn, cnt_congr (Q := Q') (Q' := Q) n (m + 1) (fun j g1 _ => (q j).trans ⟨fun z => z.elim id (fun y => by omega), Or.inl⟩)]
      omega
    · rw [cnt_add1 q hn n (m + 1) e (by omega), bI_c (show Q' m ↔ Q m from (q m).trans ⟨fun z => z.elim id (fun y => by omega), Or.inl⟩)]
      omega
theorem cnt_T (n m : Nat) : cnt (fun _ => True) n m = n := by
  induction n generalizing m with
  | zero => rfl
  | succ n ih => unfold cnt; rw [ih, bI_t trivial]; omega
def OkO (p : Pg) (s : Rst) (q : List Tk × Rst) : Prop := q.1.length ≤ 2 ∧ nfr q.1 = 0 ∧ (∀ T, T ∈ q.1 → tv p T) ∧ Rv p q.2 ∧ ∀ a k, a ≠ 149 → a ≠ 150 → q.2.1 a k = s.1 a k
theorem rx0 (a : Pg) (x : Int64) : (rx (a, x)).1 = a := rfl
theorem rx1 (s : Rst) : (rx s).1 = s.1 := by obtain ⟨a, x⟩ := s; exact rx0 a x
theorem Rv_rx {p : Pg} {s : Rst} (q : Rv p s) : Rv p (rx s) := by
  have e := rx1 s
  unfold Rv hasB at q ⊢
  rw [e]
  exact q
theorem OkO_nil {p : Pg} {s s' : Rst} (q : Rv p s') (e : ∀ a k, a ≠ 149 → a ≠ 150 → s'.1 a k = s.1 a k) : OkO p s ([], s') := ⟨Nat.zero_le _, rfl, (fun T h => by cases h), q, e⟩
theorem OkO_one {p : Pg} {s s' : Rst} {t : Int} {o : Nat} (q : Rv p s') (e : ∀ a k, a ≠ 149 → a ≠ 150 → s'.1 a k = s.1 a k) (ht : t < nM p) (ho : (o : Int) < nO p) : OkO p s (one t o, s') := by
  unfold one
  rcases Classical.em (0 ≤ t) with c | c
  · rw [cA_t c]
    refine ⟨by show 1 ≤ 2; decide, rfl, fun T h => ?_, q, e⟩
    rw [List.mem_singleton.mp h]
    exact Or.inr (Or.inl ⟨rfl, by show ((t.toNat : Nat) : Int) < nM p; omega, by show -1 ≤ (o : Int); omega, ho⟩)
  · rw [cA_f c]; exact OkO_nil q e
theorem bag_bd {p : Pg} {s : Rst} (hw : WF p) (q : Rv p s) {a : Nat} (ha : a < 4) : 0 ≤ s.1 150 a ∧ s.1 150 a ≤ nM p := by
  have h := q.2.2.2.2.2 a ha
  have := cnt_le (fun m => hasB s a m) (nM p).toNat 0
  have w2 := hw.2.1
  omega
theorem bag_lt {p : Pg} {s : Rst} (hw : WF p) (q : Rv p s) {a : Nat} (ha : a < 4) {b : Int} (hb : 0 ≤ b ∧ b < nM p) (hn : ¬ hasB s a b) : s.1 150 a < nM p := by
  have h := q.2.2.2.2.2 a ha
  have w2 := hw.2.1
  have := cnt_lt (Q := fun _ => True) (Q' := fun m => hasB s a m) (nM p).toNat 0 (fun _ _ => trivial) ⟨b.toNat, by omega, by omega, trivial, by rw [show ((b.toNat : Nat) : Int) = b by omega]; exact hn⟩
  rw [cnt_T] at this
  omega
theorem Rv_put {p : Pg} {s : Rst} (hw : WF p) (q : Rv p s) {a : Nat} (ha : a < 4) {b : Int} (hb : 0 ≤ b ∧ b < nM p) : Rv p (oPut s a b) ∧ ∀ c k, c ≠ 149 → c ≠ 150 → (oPut s a b).1 c k = s.1 c k := by
  unfold oPut
  rcases Classical.em (hasB s a b) with c | c
  · rw [cA_t c]; exact ⟨q, fun _ _ _ _ => rfl⟩
  · rw [cA_f c]
    have lt := bag_lt hw q ha hb c
    have w2 := hw.2.1
    have e1 : ∀ c k, c ≠ 149 → c ≠ 150 → (rs (rs s 149 (48 * a + (s.1 150 a).toNat) b) 150 a (s.1 150 a + 1)).1 c k = s.1 c k := fun c k h1 h2 => by rw [rs_at, if_neg (fun z => h2 z.1), rs_at, if_neg (fun z => h1 z.1)]
    have e2 : ∀ k, (rs (rs s 149 (48 * a + (s.1 150 a).toNat) b) 150 a (s.1 150 a + 1)).1 150 k = if k = a then s.1 150 a + 1 else s.1 150 k := fun k => by
      rw [rs_at]
      by_cases z : k = a
      · rw [if_pos ⟨rfl, z⟩, if_pos z]
      · rw [if_neg (fun y => z y.2), if_neg z, rs_at, if_neg (by omega)]
    have e3 : ∀ k, (rs (rs s 149 (48 * a + (s.1 150 a).toNat) b) 150 a (s.1 150 a + 1)).1 149 k = if k = 48 * a + (s.1 150 a).toNat then b else s.1 149 k := fun k => by
      rw [rs_at, if_neg (by omega), rs_at]
      by_cases z : k = 48 * a + (s.1 150 a).toNat
      · rw [if_pos ⟨rfl, z⟩, if_pos z]
      · rw [if_neg (fun y => z y.2), if_neg z]
    obtain ⟨r1, r2, r3, r4, r5, r6⟩ := q
    refine ⟨⟨?_, ?_, ?_, ?_, fun i hi => ?_, fun a' ha' => ?_⟩, e1⟩
    · rw [e1 _ _ (by omega) (by omega)]; exact r1
    · rw [e1 _ _ (by omega) (by omega)]; exact r2
    · rw [e1 _ _ (by omega) (by omega)]; exact r3
    · rw [e1 _ _ (by omega) (by omega)]; exact r4
    · rw [e1 _ _ (by omega) (by omega)] at hi ⊢; exact r5 i hi
    · obtain ⟨g1, g2, g3⟩ := r6 a' ha'
      have bb := bag_bd hw ⟨r1, r2, r3, r4, r5, r6⟩ ha'
      by_cases z : a' = a
      · subst z
        rw [e2, if_pos rfl]
        refine ⟨by omega, ?_, fun i hi => ?_⟩
        · refine Eq.trans (cnt_add1 (m0 := b.toNat) (Q := fun m => hasB s a' m) (fun j => ?_) ?_ _ _ (by omega) (by omega)) (by rw [g2])
          · unfold hasB
            rw [e2, if_pos rfl]
            constructor
            · rintro ⟨i, i1, i2⟩
              rw [e3] at i2
              by_cases y : 48 * a' + i = 48 * a' + (s.1 150 a').toNat
              · rw [if_pos y] at i2; right; omega
              · rw [if_neg y] at i2; exact Or.inl ⟨i, by omega, i2⟩
            · rintro (⟨i, i1, i2⟩ | e)
              · exact ⟨i, by omega, by rw [e3, if_neg (by omega)]; exact i2⟩
              · exact ⟨(s.1 150 a').toNat, by omega, by rw [e3, if_pos rfl]; omega⟩
          · rw [show ((b.toNat : Nat) : Int) = b by omega]; exact c
        · rw [e3]
          by_cases y : 48 * a' + i = 48 * a' + (s.1 150 a').toNat
          · rw [if_pos y]; exact hb
          · rw [if_neg y]; exact g3 i (by omega)
      · rw [e2, if_neg z]
        refine ⟨g1, ?_, fun i hi => ?_⟩
        · refine Eq.trans (cnt_congr (Q' := fun m => hasB s a' m) _ _ (fun j _ _ => ?_)) g2
          unfold hasB
          rw [e2, if_neg z]
          constructor
          · rintro ⟨i, i1, i2⟩; rw [e3, if_neg (by omega)] at i2; exact ⟨i, i1, i2⟩
          · rintro ⟨i, i1, i2⟩; exact ⟨i, i1, by rw [e3, if_neg (by omega)]; exact i2⟩
        · rw [e3, if_neg (by omega)]; exact g3 i hi
theorem opr_ok {p : Pg} {s : Rst} (hw : WF p) (q : Rv p s) {o : Nat} (ho : (o : Int) < nO p) : OkO p s (opr p o s) := by
  have w1 := hw.1
  have w2 := hw.2.1
  obtain ⟨o1, o2, o3, o4, o5⟩ := hw.2.2.2.2.2.2 o ho
  have sx : ∀ a k, a ≠ 149 → a ≠ 150 → (rx s).1 a k = s.1 a k := fun _ _ _ _ => by rw [rx1]
  have cb := fun c => chf_bd hw c (oA p o).toNat (oB p o)
  have fb := fnd_bd hw (oA p o).toNat (oB p o)
  unfold opr
  rcases Classical.em (ok p o = 0) with c0 | c0
  · rw [cA_t c0]
    have h2 := o2 (by omega)
    refine ⟨by show 2 ≤ 2; decide, rfl, fun T h => ?_, q, fun _ _ _ _ => rfl⟩
    rcases List.mem_cons.mp h with e | h
    · rw [e]; exact Or.inr (Or.inr (Or.inl ⟨rfl, by show (((oA p o).toNat : Nat) : Int) < nT p; omega, by show 0 ≤ (o : Int); omega, ho⟩))
    · rw [List.mem_singleton.mp h]; exact Or.inr (Or.inr (Or.inr ⟨rfl, by show (((oA p o).toNat : Nat) : Int) < nT p; omega⟩))
  rw [cA_f c0]
  rcases Classical.em (ok p o = 1 ∨ ok p o = 4) with c1 | c1
  · rw [cA_t c1]
    unfold oCall
    rcases Classical.em (cnt (cpl p s (oA p o).toNat) (s.1 100 47).toNat 0 = 0) with e | e
    · rw [cA_t e]; exact OkO_nil q (fun _ _ _ _ => rfl)
    · rw [cA_f e]; exact OkO_one (Rv_rx q) sx (by have := cb (s.1 147 (nth (cpl p s (oA p o).toNat) (dw (rx s).2 (cnt (cpl p s (oA p o).toNat) (s.1 100 47).toNat 0)) (s.1 100 47).toNat 0 0).toNat).toNat; omega) ho
  rw [cA_f c1]
  rcases Classical.em (ok p o = 2) with c2 | c2
  · rw [cA_t c2]; exact OkO_one q (fun _ _ _ _ => rfl) (by have := cb (oA p o).toNat; omega) ho
  rw [cA_f c2]
  rcases Classical.em (ok p o = 3) with c3 | c3
  · rw [cA_t c3]
    rcases Classical.em (¬ fnd p (oA p o).toNat (oB p o) = -1 ∧ so p (fnd p (oA p o).toNat (oB p o)).toNat = 2) with e | e
    · rw [cA_t e]
      have e1 := e.1
      have wt := (hw.2.2.2.2.1 (fnd p (oA p o).toNat (oB p o)).toNat (by omega)).1
      refine ⟨by show 2 ≤ 2; decide, rfl, fun T h => ?_, q, fun _ _ _ _ => rfl⟩
      rcases List.mem_cons.mp h with e | h
      · rw [e]; exact Or.inr (Or.inr (Or.inl ⟨rfl, by show (((ty p (fnd p (oA p o).toNat (oB p o)).toNat).toNat : Nat) : Int) < nT p; omega, by show 0 ≤ (o : Int); omega, ho⟩))
      · rw [List.mem_singleton.mp h]; exact Or.inr (Or.inl ⟨rfl, by show (((fnd p (oA p o).toNat (oB p o)).toNat : Nat) : Int) < nM p; omega, by show -1 ≤ (o : Int); omega, ho⟩)
    · rw [cA_f e]; exact OkO_nil q (fun _ _ _ _ => rfl)
  rw [cA_f c3]
  rcases Classical.em (ok p o = 5) with c5 | c5
  · rw [cA_t c5]
    have a3 := o3 (by omega) (by omega)
    have r := Rv_put hw q (show (oA p o).toNat < 4 by omega) (o4 c5)
    exact OkO_nil r.1 r.2
  rw [cA_f c5]
  rcases Classical.em (ok p o = 6) with c6 | c6
  · rw [cA_t c6]
    have a3 := o3 (by omega) (by omega)
    unfold oOut
    rcases Classical.em (s.1 150 (oA p o).toNat ≤ 0) with e | e
    · rw [cA_t e]; exact OkO_nil q (fun _ _ _ _ => rfl)
    · rw [cA_f e]
      have bb := bag_bd hw q (show (oA p o).toNat < 4 by omega)
      have db := dw_bd (x := (rx s).2) (n := s.1 150 (oA p o).toNat) (by omega) (by omega)
      have := (q.2.2.2.2.2 (oA p o).toNat (by omega)).2.2 (dw (rx s).2 (s.1 150 (oA p o).toNat)).toNat (by omega)
      exact OkO_one (Rv_rx q) sx this.2 ho
  rw [cA_f c6]
  unfold oAny
  rcases Classical.em (cnt (tel p (oB p o)) (nM p).toNat 0 = 0) with e | e
  · rw [cA_t e]; exact OkO_nil q (fun _ _ _ _ => rfl)
  · rw [cA_f e]
    have cl := cnt_le (tel p (oB p o)) (nM p).toNat 0
    have db := dw_bd (x := (rx s).2) (n := cnt (tel p (oB p o)) (nM p).toNat 0) (by omega) (by omega)
    obtain ⟨j, j1, j2, j3, j4⟩ := nth_spec (tel p (oB p o)) (dw (rx s).2 (cnt (tel p (oB p o)) (nM p).toNat 0)) (nM p).toNat 0 0 db.1 (by omega)
    exact OkO_one (Rv_rx q) sx (by rw [j4]; omega) ho
theorem fr1_ok {p : Pg} {s : Rst} (hw : WF p) (q : Rv p s) {m i : Nat} (hm : (m : Int) < nM p) (hi : (i : Int) < om p m) : OkO p s (fr1 p m i s) := by
  unfold fr1
  rcases Classical.em (dw (rx s).2 4 = 0) with e | e
  · rw [cA_t e]; exact OkO_nil (Rv_rx q) (fun _ _ _ _ => by rw [rx1])
  · rw [cA_f e]
    obtain ⟨z1, z2, z3, z4, z5⟩ := opr_ok hw (Rv_rx q) (oa_bd hw hm hi).1
    exact ⟨z1, z2, z3, z4, fun a k h1 h2 => (z5 a k h1 h2).trans (by rw [rx1])⟩
theorem bg0_ok {p : Pg} (hw : WF p) {t : Nat} {y : Int} (hy : 0 ≤ y ∧ y < nO p) : (bg0 p t y).length ≤ 1 ∧ nfr (bg0 p t y) = 0 ∧ ∀ T, T ∈ bg0 p t y → tv p T := by
  unfold bg0
  have ob := own_bd hw (t : Int) (-1)
  rcases Classical.em (own p t (-1) = -1) with e | e
  · rw [cA_t e]; exact ⟨Nat.zero_le _, rfl, fun T h => by cases h⟩
  · rw [cA_f e]
    refine ⟨by show 1 ≤ 1; decide, rfl, fun T h => ?_⟩
    rw [List.mem_singleton.mp h]
    exact Or.inr (Or.inl ⟨rfl, by show (((own p t (-1)).toNat : Nat) : Int) < nM p; omega, by show -1 ≤ y; omega, hy.2⟩)
theorem bgf_ok {p : Pg} {t : Nat} {y : Int} (hy : 0 ≤ y ∧ y < nO p) : ∀ (n k : Nat), k + n ≤ (nT p).toNat → (bgf p t y n k).length ≤ n ∧ nfr (bgf p t y n k) = 0 ∧ ∀ T, T ∈ bgf p t y n k → tv p T
  | 0, _, _ => ⟨Nat.zero_le _, rfl, fun T h => by cases h⟩
  | n + 1, k, hk => by
    obtain ⟨h1, h2, h3⟩ := bgf_ok (p := p) (t := t) hy n (k + 1) (by omega)
    unfold bgf
    rcases Classical.em (U p t k ∧ kd p k = 2 ∧ hpl p k) with e | e
    · rw [cA_t e]
      refine ⟨?_, ?_, fun T h => ?_⟩
      · simp only [List.length_append, List.length_singleton]; omega
      · rw [nfr_app, h2]; rfl
      · rcases List.mem_append.mp h with z | z
        · rw [List.mem_singleton.mp z]; exact Or.inr (Or.inr (Or.inl ⟨rfl, by show (k : Int) < nT p; omega, hy⟩))
        · exact h3 T z
    · rw [cA_f e, List.nil_append]; exact ⟨by omega, h2, h3⟩
theorem bgs_ok {p : Pg} (hw : WF p) {t : Nat} {y : Int} (ht : (t : Int) < nT p) (hy : 0 ≤ y ∧ y < nO p) : (bgs p t y).length ≤ 18 ∧ nfr (bgs p t y) = 0 ∧ ∀ T, T ∈ bgs p t y → tv p T := by
  have w1 := hw.1
  obtain ⟨a1, a2, a3⟩ := bg0_ok hw (t := t) hy
  obtain ⟨b1, b2, b3⟩ := bgf_ok (p := p) (t := t) hy (nT p).toNat 0 (by omega)
  have wt := (hw.2.2.2.1 t ht).2.1
  unfold bgs
  rcases Classical.em (kd p t = 2) with e | e
  · rw [cA_t e]; exact ⟨by omega, a2, a3⟩
  · rw [cA_f e]
    have c : (cA (up p t = -1) [] [((2, (up p t).toNat, 0, y) : Tk)]).length ≤ 1 ∧ nfr (cA (up p t = -1) [] [((2, (up p t).toNat, 0, y) : Tk)]) = 0 ∧ ∀ T, T ∈ cA (up p t = -1) [] [((2, (up p t).toNat, 0, y) : Tk)] → tv p T := by
      rcases Classical.em (up p t = -1) with e2 | e2
      · rw [cA_t e2]; exact ⟨Nat.zero_le _, rfl, fun T h => by cases h⟩
      · rw [cA_f e2]
        refine ⟨by show 1 ≤ 1; decide, rfl, fun T h => ?_⟩
        rw [List.mem_singleton.mp h]
        exact Or.inr (Or.inr (Or.inl ⟨rfl, by show (((up p t).toNat : Nat) : Int) < nT p; omega, hy⟩))
    obtain ⟨c1, c2, c3⟩ := c
    refine ⟨?_, ?_, fun T h => ?_⟩
    · simp only [List.length_append]; omega
    · rw [nfr_app, nfr_app, a2, b2, c2]
    · rcases List.mem_append.mp h with z | z
      · exact c3 T z
      · rcases List.mem_append.mp z with z | z
        · exact b3 T z
        · exact a3 T z
/-- the measure -/
def wt1 (p : Pg) (T : Tk) : Int := if T.1 = 0 then 3 * (om p T.2.1 - T.2.2.1) + 1 else 1
def wts (p : Pg) : List Tk → Int
  | [] => 0
  | T :: K => wt1 p T + wts p K
theorem wts_app (p : Pg) : ∀ (A B : List Tk), wts p (A ++ B) = wts p A + wts p B
  | [], B => by show wts p B = 0 + wts p B; omega
  | T :: A, B => by
    show wt1 p T + wts p (A ++ B) = wt1 p T + wts p A + wts p B
    rw [wts_app p A B]; omega
theorem wts_n0 (p : Pg) : ∀ (A : List Tk), nfr A = 0 → wts p A = A.length
  | [], _ => rfl
  | T :: A, h => by
    have e : nfr (T :: A) = (if T.1 = 0 then 1 else 0) + nfr A := rfl
    have hT : ¬ T.1 = 0 := fun z => by rw [e, if_pos z] at h; omega
    rw [e, if_neg hT] at h
    show wt1 p T + wts p A = ((A.length + 1 : Nat) : Int)
    rw [wts_n0 p A (by omega)]
    unfold wt1; rw [if_neg hT]; omega
noncomputable def phi (p : Pg) (K : List Tk) (s : Rst) : Int := 80 * (300 - s.1 100 39) + 20 * (16 - nbg s) + wts p K
theorem nbg_bd (s : Rst) : 0 ≤ nbg s ∧ nbg s ≤ 16 := cnt_le _ 16 0
theorem act_ok {p : Pg} (hw : WF p) {T : Tk} {K : List Tk} {s : Rst} (q : Kv p (T :: K) s) : Kv p ((act p T s).1 ++ K) (act p T s).2 ∧ phi p ((act p T s).1 ++ K) (act p T s).2 < phi p (T :: K) s := by
  obtain ⟨rv, vt, rn, si⟩ := q
  have vT := vt T (List.mem_cons_self ..)
  have vK : ∀ T', T' ∈ K → tv p T' := fun T' h => vt T' (List.mem_cons_of_mem _ h)
  have ew : wts p (T :: K) = wt1 p T + wts p K := rfl
  have ef : nfr (T :: K) = (if T.1 = 0 then 1 else 0) + nfr K := rfl
  have sl := si.1
  have sK := si.2
  have lK := SI_len K sK (nbg_bd s).1
  rw [List.length_cons] at sl
  obtain ⟨r1, r2, r3, r4, r5, r6⟩ := rv
  have w1 := hw.1
  have b0 := nbg_bd s
  unfold act
  rcases Classical.em (T.1 = 0) with k0 | k0
  · rw [cA_t k0]
    have vT' : (T.2.1 : Int) < nM p ∧ (T.2.2.1 : Int) ≤ om p T.2.1 := by unfold tv at vT; omega
    rw [ef, if_pos k0] at rn sl
    have ew1 : wt1 p T = 3 * (om p T.2.1 - T.2.2.1) + 1 := if_pos k0
    rcases Classical.em ((T.2.2.1 : Int) = om p T.2.1) with e | e
    · rw [cA_t e]
      show Kv p ([] ++ K) (rs s 100 40 (s.1 100 40 - 1)) ∧ phi p ([] ++ K) (rs s 100 40 (s.1 100 40 - 1)) < _
      rw [List.nil_append]
      have v : ∀ a k, ¬ (a = 100 ∧ k = 40) → (rs s 100 40 (s.1 100 40 - 1)).1 a k = s.1 a k := fun a k h => by rw [rs_at, if_neg h]
      have v4 : (rs s 100 40 (s.1 100 40 - 1)).1 100 40 = s.1 100 40 - 1 := by rw [rs_at, if_pos ⟨rfl, rfl⟩]
      refine ⟨⟨⟨r1, by rw [v4]; omega, r3, r4, r5, r6⟩, vK, by rw [v4]; omega, sK⟩, ?_⟩
      have en : nbg (rs s 100 40 (s.1 100 40 - 1)) = nbg s := rfl
      unfold phi
      rw [en, v 100 39 (by omega), ew, ew1]
      omega
    · rw [cA_f e]
      obtain ⟨o1, o2, o3, o4, o5⟩ := fr1_ok hw ⟨r1, r2, r3, r4, r5, r6⟩ vT'.1 (show (T.2.2.1 : Int) < om p T.2.1 by omega)
      have en : nbg (fr1 p T.2.1 T.2.2.1 s).2 = nbg s := by unfold nbg; exact cnt_congr _ _ (fun j _ _ => by rw [o5 146 j (by omega) (by omega)])
      show Kv p (((fr1 p T.2.1 T.2.2.1 s).1 ++ [(0, T.2.1, T.2.2.1 + 1, -1)]) ++ K) (fr1 p T.2.1 T.2.2.1 s).2 ∧ phi p (((fr1 p T.2.1 T.2.2.1 s).1 ++ [(0, T.2.1, T.2.2.1 + 1, -1)]) ++ K) (fr1 p T.2.1 T.2.2.1 s).2 < _
      rw [List.append_assoc]
      have n1 : nfr ([((0, T.2.1, T.2.2.1 + 1, -1) : Tk)] ++ K) = 1 + nfr K := rfl
      refine ⟨⟨o4, fun T' h => ?_, ?_, ?_⟩, ?_⟩
      · rcases List.mem_append.mp h with z | z
        · exact o3 T' z
        · rcases List.mem_append.mp z with z | z
          · rw [List.mem_singleton.mp z]
            exact Or.inl ⟨rfl, vT'.1, by show (((T.2.2.1 + 1 : Nat)) : Int) ≤ om p T.2.1; omega⟩
          · exact vK T' z
      · rw [o5 100 40 (by omega) (by omega), nfr_app, o2, n1]; omega
      · rw [en]
        refine SI_app _ _ ⟨?_, sK⟩ ?_
        · show ((([((0, T.2.1, T.2.2.1 + 1, -1) : Tk)] ++ K).length : Nat) : Int) ≤ 3 * nfr ([((0, T.2.1, T.2.2.1 + 1, -1) : Tk)] ++ K) + 1 + 18 * nbg s
          rw [n1, List.length_append, List.length_singleton]; omega
        · rw [n1, List.length_append, List.length_singleton]; omega
      · unfold phi
        rw [en, o5 100 39 (by omega) (by omega), wts_app, wts_app, wts_n0 p _ o2, ew, ew1]
        have e2 : wts p [((0, T.2.1, T.2.2.1 + 1, -1) : Tk)] = 3 * (om p T.2.1 - ((T.2.2.1 + 1 : Nat) : Int)) + 1 + 0 := rfl
        rw [e2]; omega
  rw [cA_f k0]
  rw [ef, if_neg k0] at rn sl
  have ew1 : wt1 p T = 1 := if_neg k0
  rcases Classical.em (T.1 = 1) with k1 | k1
  · rw [cA_t k1]
    have vT' : (T.2.1 : Int) < nM p := by unfold tv at vT; omega
    have wm := (hw.2.2.2.2.1 T.2.1 vT').2.2.2.2.2.1
    rcases Classical.em (s.1 100 40 = 12 ∨ s.1 100 39 = 300) with e | e
    · rw [cA_t e]
      refine ⟨⟨⟨r1, r2, ?_, r4, r5, r6⟩, vK, by show s.1 100 40 = ((nfr K : Nat) : Int); omega, sK⟩, ?_⟩
      · rw [rs_at, if_neg (by omega), rs_at, if_pos ⟨rfl, rfl⟩]; exact bI_01 _
      · show 80 * (300 - s.1 100 39) + 20 * (16 - nbg s) + wts p K < 80 * (300 - s.1 100 39) + 20 * (16 - nbg s) + wts p (T :: K)
        rw [ew, ew1]; omega
    · rw [cA_f e]
      refine ⟨⟨⟨?_, ?_, ?_, r4, r5, r6⟩, fun T' h => ?_, ?_, ⟨?_, sK⟩⟩, ?_⟩
      · show 0 ≤ s.1 100 39 + 1 ∧ s.1 100 39 + 1 ≤ 300; omega
      · show 0 ≤ s.1 100 40 + 1 ∧ s.1 100 40 + 1 ≤ 12; omega
      · rw [rs_at, if_neg (by omega), rs_at, if_neg (by omega), rs_at, if_neg (by omega), rs_at, if_neg (by omega), rs_at, if_pos ⟨rfl, rfl⟩]; exact bI_01 _
      · rcases List.mem_cons.mp h with z | z
        · rw [z]; exact Or.inl ⟨rfl, vT', by show ((0 : Nat) : Int) ≤ om p T.2.1; omega⟩
        · exact vK T' z
      · show s.1 100 40 + 1 = ((1 + nfr K : Nat) : Int); omega
      · show ((K.length + 1 : Nat) : Int) ≤ 3 * ((1 + nfr K : Nat) : Int) + 1 + 18 * nbg s; omega
      · show 80 * (300 - (s.1 100 39 + 1)) + 20 * (16 - nbg s) + (3 * (om p T.2.1 - ((0 : Nat) : Int)) + 1 + wts p K) < 80 * (300 - s.1 100 39) + 20 * (16 - nbg s) + wts p (T :: K)
        rw [ew, ew1]; omega
  rw [cA_f k1]
  rcases Classical.em (T.1 = 2) with k2 | k2
  · rw [cA_t k2]
    have vT' : (T.2.1 : Int) < nT p ∧ 0 ≤ T.2.2.2 ∧ T.2.2.2 < nO p := by unfold tv at vT; omega
    rcases Classical.em (¬ s.1 146 T.2.1 = 0) with e | e
    · rw [cA_t e]
      refine ⟨⟨⟨r1, r2, r3, r4, r5, r6⟩, vK, by show s.1 100 40 = ((nfr K : Nat) : Int); omega, sK⟩, ?_⟩
      show 80 * (300 - s.1 100 39) + 20 * (16 - nbg s) + wts p K < 80 * (300 - s.1 100 39) + 20 * (16 - nbg s) + wts p (T :: K)
      rw [ew, ew1]; omega
    · rw [cA_f e]
      obtain ⟨g1, g2, g3⟩ := bgs_ok hw vT'.1 vT'.2
      have en : nbg (rs (rs s 146 T.2.1 1) 100 43 (bI (¬ s.1 100 43 = 0 ∧ ¬ gF p 121 T.2.1 = 0))) = nbg s + 1 := by
        refine cnt_add1 (m0 := T.2.1) (fun j => ?_) (fun z => e z) 16 0 (by omega) (by omega)
        rw [rs_at, if_neg (by omega), rs_at]
        by_cases z : j = T.2.1
        · rw [if_pos ⟨rfl, z⟩]; exact ⟨fun _ => Or.inr z, fun _ => by decide⟩
        · rw [if_neg (fun y => z y.2)]; exact ⟨Or.inl, fun y => y.elim id (fun x => absurd x z)⟩
      refine ⟨⟨⟨r1, r2, ?_, r4, r5, r6⟩, fun T' h => ?_, ?_, ?_⟩, ?_⟩
      · rw [rs_at, if_pos ⟨rfl, rfl⟩]; exact bI_01 _
      · rcases List.mem_append.mp h with z | z
        · exact g3 T' z
        · exact vK T' z
      · show s.1 100 40 = ((nfr (bgs p T.2.1 T.2.2.2 ++ K) : Nat) : Int)
        rw [nfr_app, g2]; omega
      · rw [en]
        exact SI_app _ _ (SI_mono (by omega) K sK) (by show ((((bgs p T.2.1 T.2.2.2).length + K.length : Nat)) : Int) ≤ _; omega)
      · show 80 * (300 - s.1 100 39) + 20 * (16 - nbg (rs (rs s 146 T.2.1 1) 100 43 (bI (¬ s.1 100 43 = 0 ∧ ¬ gF p 121 T.2.1 = 0)))) + wts p (bgs p T.2.1 T.2.2.2 ++ K) < 80 * (300 - s.1 100 39) + 20 * (16 - nbg s) + wts p (T :: K)
        rw [en, wts_app, wts_n0 p _ g2, ew, ew1]; omega
  rw [cA_f k2]
  have vT' : (T.2.1 : Int) < nT p := by unfold tv at vT; omega
  rcases Classical.em (20 ≤ s.1 100 47) with e | e
  · rw [cA_t e]
    refine ⟨⟨⟨r1, r2, ?_, r4, r5, r6⟩, vK, by show s.1 100 40 = ((nfr K : Nat) : Int); omega, sK⟩, ?_⟩
    · rw [rs_at, if_pos ⟨rfl, rfl⟩]; exact bI_01 _
    · show 80 * (300 - s.1 100 39) + 20 * (16 - nbg s) + wts p K < 80 * (300 - s.1 100 39) + 20 * (16 - nbg s) + wts p (T :: K)
      rw [ew, ew1]; omega
  · rw [cA_f e]
    refine ⟨⟨⟨r1, r2, ?_, ?_, fun i hi => ?_, r6⟩, vK, by show s.1 100 40 = ((nfr K : Nat) : Int); omega, sK⟩, ?_⟩
    · rw [rs_at, if_neg (by omega), rs_at, if_neg (by omega), rs_at, if_pos ⟨rfl, rfl⟩]; exact bI_01 _
    · show 0 ≤ s.1 100 47 + 1 ∧ s.1 100 47 + 1 ≤ 20; omega
    · have hi' : (i : Int) < s.1 100 47 + 1 := hi
      rw [rs_at, if_neg (by omega), rs_at]
      by_cases z : i = (s.1 100 47).toNat
      · rw [if_pos ⟨rfl, z⟩]; omega
      · rw [if_neg (fun y => z y.2), rs_at, if_neg (by omega)]; exact r5 i (by omega)
    · show 80 * (300 - s.1 100 39) + 20 * (16 - nbg s) + wts p K < 80 * (300 - s.1 100 39) + 20 * (16 - nbg s) + wts p (T :: K)
      rw [ew, ew1]; omega
theorem wts_nn (p : Pg) : ∀ (K : List Tk), (∀ T, T ∈ K → tv p T) → 0 ≤ wts p K
  | [], _ => Int.le_refl _
  | T :: K, h => by
    have a := wts_nn p K (fun T' z => h T' (List.mem_cons_of_mem _ z))
    have b := h T (List.mem_cons_self ..)
    show 0 ≤ wt1 p T + wts p K
    unfold wt1
    by_cases e : T.1 = 0
    · rw [if_pos e]; unfold tv at b; omega
    · rw [if_neg e]; omega
theorem Mc_ex {p : Pg} (hw : WF p) : ∀ (N : Nat) (K : List Tk) (s : Rst), Kv p K s → phi p K s < N → ∃ n r, Mc p n K s r := by
  intro N
  induction N with
  | zero =>
    intro K s q h
    have a := wts_nn p K q.2.1
    have b := nbg_bd s
    have c := q.1.1
    unfold phi at h
    omega
  | succ N ih =>
    intro K s q h
    cases K with
    | nil => exact ⟨0, s, rfl, rfl⟩
    | cons T K =>
      obtain ⟨h1, h2⟩ := act_ok hw q
      obtain ⟨n, r, z⟩ := ih _ _ h1 (by omega)
      exact ⟨n + 1, r, T, K, rfl, z⟩
theorem Mc_kv {p : Pg} (hw : WF p) : ∀ (n : Nat) (K : List Tk) (s r : Rst), Mc p n K s r → Kv p K s → Kv p [] r
  | 0, K, s, r, h, q => by rw [h.2, ← h.1]; exact q
  | n + 1, K, s, r, ⟨T, K', e, h⟩, q => by
    rw [e] at q
    exact Mc_kv hw n _ _ r h (act_ok hw q).1
theorem Mc_det {p : Pg} : ∀ (n n' : Nat) (K : List Tk) (s r r' : Rst), Mc p n K s r → Mc p n' K s r' → r = r'
  | 0, 0, K, s, r, r', h, h' => h.2.trans h'.2.symm
  | 0, n' + 1, K, s, r, r', h, ⟨T, K', e, _⟩ => by rw [h.1] at e; cases e
  | n + 1, 0, K, s, r, r', ⟨T, K', e, _⟩, h' => by rw [h'.1] at e; cases e
  | n + 1, n' + 1, K, s, r, r', ⟨T, K', e, h⟩, ⟨T2, K2, e2, h2⟩ => by
    rw [e] at e2
    cases e2
    exact Mc_det n n' _ _ r r' h h2
