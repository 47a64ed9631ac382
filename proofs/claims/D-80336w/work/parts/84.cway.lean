/-! the component: measure, way -/
def BM (E : Nat → Nat → Prop) (N t D : Nat) (f : Nat → Int) (k c : Nat) : Prop := (∀ j, j < N → f j = 99 ∨ (0 ≤ f j ∧ f j ≤ (D : Int) + 1 ∧ wk E N (f j).toNat j t)) ∧ f t = 0 ∧ ∀ j i, j < N → i < N → E j i → (f i < (D : Int) ∨ (f i = (D : Int) ∧ (j < k ∨ (j = k ∧ i < c)))) → f j ≤ f i + 1
theorem BM_skip {E : Nat → Nat → Prop} {N t D : Nat} {f : Nat → Int} {k c : Nat} (q : BM E N t D f k c) (h : ¬ (f c = (D : Int) ∧ E k c)) : BM E N t D f k (c + 1) := by
  refine ⟨q.1, q.2.1, fun j i hj hi e z => ?_⟩
  by_cases y : j = k ∧ i = c
  · rcases z with z | z
    · exact q.2.2 j i hj hi e (Or.inl z)
    · rw [y.1, y.2] at e; rw [y.2] at z; exact absurd ⟨z.1, e⟩ h
  · refine q.2.2 j i hj hi e ?_
    rcases z with z | ⟨z, v⟩
    · exact Or.inl z
    · exact Or.inr ⟨z, by omega⟩
theorem BM_low {E : Nat → Nat → Prop} {N t D : Nat} {f : Nat → Int} {k c : Nat} (q : BM E N t D f k c) (h : f k ≤ (D : Int) + 1) : BM E N t D f (k + 1) 0 := by
  refine ⟨q.1, q.2.1, fun j i hj hi e z => ?_⟩
  rcases z with z | ⟨z, v⟩
  · exact q.2.2 j i hj hi e (Or.inl z)
  · by_cases y : j = k
    · rw [y]; omega
    · exact q.2.2 j i hj hi e (Or.inr ⟨z, by omega⟩)
theorem BM_row {E : Nat → Nat → Prop} {N t D : Nat} {f : Nat → Int} {k : Nat} (q : BM E N t D f k N) : BM E N t D f (k + 1) 0 := by
  refine ⟨q.1, q.2.1, fun j i hj hi e z => q.2.2 j i hj hi e ?_⟩
  rcases z with z | ⟨z, v⟩
  · exact Or.inl z
  · exact Or.inr ⟨z, by omega⟩
theorem BM_set {E : Nat → Nat → Prop} {N t D : Nat} {f f' : Nat → Int} {k c : Nat} (hD : D < 98) (hc : c < N) (q : BM E N t D f k c) (h1 : f k > (D : Int) + 1) (h2 : f c = (D : Int)) (h3 : E k c) (e1 : f' k = (D : Int) + 1) (e2 : ∀ j, ¬ j = k → f' j = f j) : BM E N t D f' k (c + 1) := by
  have nt : ¬ t = k := fun z => by rw [← z, q.2.1] at h1; omega
  refine ⟨fun j hj => ?_, by rw [e2 t nt]; exact q.2.1, fun j i hj hi e z => ?_⟩
  · by_cases y : j = k
    · rw [y, e1]
      refine Or.inr ⟨by omega, by omega, ?_⟩
      rw [show ((D : Int) + 1).toNat = D + 1 by omega]
      rcases q.1 c hc with v | ⟨_, _, v⟩
      · omega
      · rw [h2, Int.toNat_natCast] at v; exact ⟨c, hc, h3, v⟩
    · rw [e2 j y]; exact q.1 j hj
  · by_cases y2 : i = k
    · rw [y2, e1] at z; omega
    · rw [e2 i y2] at z ⊢
      by_cases y : j = k
      · rw [y, e1]
        rcases z with z | z
        · have := q.2.2 j i hj hi e (Or.inl z)
          rw [y] at this; omega
        · omega
      · rw [e2 j y]
        refine q.2.2 j i hj hi e ?_
        rcases z with z | ⟨z, v⟩
        · exact Or.inl z
        · exact Or.inr ⟨z, by omega⟩
theorem isB_snoc0 {Q : Nat → Prop} {f : Nat → Int} {n : Nat} {r : Int} (q : isB Q f n 0 r) (h : ¬ Q n) : isB Q f (n + 1) 0 r := by
  rcases q with ⟨h1, h2⟩ | ⟨j, h1, h2, h3, h4, h5⟩
  · refine Or.inl ⟨h1, fun j g1 g2 => ?_⟩
    rcases Nat.eq_or_lt_of_le (Nat.le_of_lt_succ (show j < n + 1 by omega)) with e | e
    · rw [e]; exact h
    · exact h2 j g1 (by omega)
  · refine Or.inr ⟨j, h1, h2, by omega, h4, fun i g1 g2 g3 => ?_⟩
    rcases Nat.eq_or_lt_of_le (Nat.le_of_lt_succ (show i < n + 1 by omega)) with e | e
    · rw [e] at g3; exact absurd g3 h
    · exact h5 i g1 (by omega) g3
theorem isB_snoc1 {Q : Nat → Prop} {f : Nat → Int} {n : Nat} {r : Int} (q : isB Q f n 0 r) (h : Q n) (hr : r < 0 ∨ f n < f r.toNat) : isB Q f (n + 1) 0 (n : Int) := by
  refine Or.inr ⟨n, rfl, Nat.zero_le _, by omega, h, fun i g1 g2 g3 => ?_⟩
  rcases Nat.eq_or_lt_of_le (Nat.le_of_lt_succ (show i < n + 1 by omega)) with e | e
  · rw [e]; exact ⟨Int.le_refl _, fun _ => Nat.le_refl _⟩
  · rcases q with ⟨h1, h2⟩ | ⟨j, h1, h2, h3, h4, h5⟩
    · exact absurd g3 (h2 i g1 (by omega))
    · have v := (h5 i g1 (by omega) g3).1
      rw [h1, Int.toNat_natCast] at hr
      have v2 : f n < f j := by omega
      exact ⟨by omega, fun y => by omega⟩
theorem isB_snoc2 {Q : Nat → Prop} {f : Nat → Int} {n : Nat} {r : Int} (q : isB Q f n 0 r) (hr : 0 ≤ r) (hf : f r.toNat ≤ f n) : isB Q f (n + 1) 0 r := by
  rcases q with ⟨h1, h2⟩ | ⟨j, h1, h2, h3, h4, h5⟩
  · omega
  · refine Or.inr ⟨j, h1, h2, by omega, h4, fun i g1 g2 g3 => ?_⟩
    rcases Nat.eq_or_lt_of_le (Nat.le_of_lt_succ (show i < n + 1 by omega)) with e | e
    · rw [e]; rw [h1, Int.toNat_natCast] at hf; exact ⟨hf, fun _ => by omega⟩
    · exact h5 i g1 (by omega) g3
theorem isB_f {Q : Nat → Prop} {f f' : Nat → Int} {n : Nat} {r : Int} (e : ∀ j, j < n → f j = f' j) (q : isB Q f n 0 r) : isB Q f' n 0 r := by
  rcases q with ⟨h1, h2⟩ | ⟨j, h1, h2, h3, h4, h5⟩
  · exact Or.inl ⟨h1, h2⟩
  · refine Or.inr ⟨j, h1, h2, h3, h4, fun i g1 g2 g3 => ?_⟩
    rw [← e i (by omega), ← e j (by omega)]; exact h5 i g1 g2 g3
abbrev A79 : Nat → Nat → Prop := fun a _ => a = 79
section CWY
variable {l : Launch} {D : DD} {d kc ks : Nat} {h h0 : Hp} {Ψ : Option AV → Hp → Prop} {p g : Pg}
theorem CS_79 {h h' : Hp} (hw : WF p) (f : sm A79 h h') (q : CS h p) : CS h' p := CS_fx hw (f.fx (B := fun _ _ => False)) (fun a k z => by have z' : a = 79 := z; unfold cst; omega) (fun a k z => z.elim) q
theorem Dr_79 {h h' : Hp} (hw : WF p) (f : sm A79 h h') (q : Dr p h) : Dr p h' := Dr_fx hw (f.fx (B := fun _ _ => False)) (fun a k z => by have z' : a = 79 := z; unfold drx cdx; omega) q
theorem CA_79 {h h' : Hp} (f : sm A79 h h') (q : CA p h) : CA p h' ∧ agM h h' := CA_mv q (f.fx (B := fun _ _ => False)) (fun a k z => by have z' : a = 79 := z; omega) (fun a k z => z.elim) (Cs_fx (f.fx (B := fun _ _ => False)) (fun a k z => by have z' : a = 79 := z; unfold cst drx cdx; omega) (fun a k z => z.elim) q.1)
theorem ct_measure {t : Nat} (q : CS h p) (hw : WF p) (e : Dr p h) (ht : (t : Int) < nM p) (k : ∀ h', sm A79 h h' → FarOk (dr p (gF p)) (nM p).toNat t (xI h' 79) → Ψ none h') : Ev l D Y_G_measure (d + 1) kc ks 0 [some (vr 20), some (vi (t : Int)), none, none, none, none] [] h Ψ := by
  have w2 := hw.2.1
  have k79 : xK h 79 = 20 ∧ xN h 79 = 48 := by
    have c := q.sh
    unfold GS at c
    obtain ⟨_, _, _, _, _, _, _, _, _, _, _, _, _, _, _, _, _, _, _, _, _, a1, a2, _⟩ := c
    exact ⟨a1, a2⟩
  -- a round
  have rd : ∀ (n : Nat) (D' : Nat) (h1 : Hp), cnt (fun j => xI h1 79 j = 99) (nM p).toNat 0 ≤ n → ((D' : Int) + cnt (fun j => xI h1 79 j = 99) (nM p).toNat 0 < nM p) → sm A79 h h1 → ((∀ j, j < (nM p).toNat → xI h1 79 j = 99 ∨ (0 ≤ xI h1 79 j ∧ xI h1 79 j ≤ (D' : Int) ∧ wk (dr p (gF p)) (nM p).toNat (xI h1 79 j).toNat j t)) ∧ xI h1 79 t = 0 ∧ ∀ j i, j < (nM p).toNat → i < (nM p).toNat → dr p (gF p) j i → xI h1 79 i < (D' : Int) → xI h1 79 j ≤ xI h1 79 i + 1) → Ev l D Y_G_measure (d + 1) kc ks 20 [some (vr 20), some (vi (t : Int)), some (vi (1 : Int)), some (vi (D' : Int)), none, none] [] h1 Ψ := by
    intro n
    induction n with
    | zero =>
      intro D' h1 hn hD s1 b1
      -- no far ones: one more round ends it; treated as below
      exact (by
        have lm : ∀ (n2 m : Nat) (h2 : Hp), m + n2 = (nM p).toNat → sm A79 h h2 → BM (dr p (gF p)) (nM p).toNat t D' (xI h2 79) m 0 → (∀ j, j < (nM p).toNat → xI h2 79 j ≤ (D' : Int)) → Ev l D Y_G_measure (d + 1) kc ks 29 [some (vr 20), some (vi (t : Int)), some (vi (0 : Int)), some (vi (D' : Int)), some (vi (m : Int)), none] [] h2 Ψ := by
          intro n2
          have cb := cnt_le (fun j => xI h1 79 j = 99) (nM p).toNat 0
          induction n2 with
          | zero =>
            intro m h2 hm s2 b2 al
            have c2 := CS_79 hw s2 q
            apply g_G_measure_29 c2.sh
            rw [c2.cm, wr_s (show D' < 1000000 by omega)]
            refine ⟨fun _ => ?_, fun c => by omega⟩
            apply g_G_measure_20 c2.sh
            refine ⟨fun _ => k h2 s2 ⟨fun j hj => ?_, b2.2.1, fun j i hj hi ee => ?_⟩, fun c => absurd rfl c⟩
            · rcases b2.1 j hj with v | ⟨v1, v2, v3⟩
              · have := al j hj; omega
              · exact ⟨v1, by omega, fun _ => v3⟩
            · have := al i hi
              exact b2.2.2 j i hj hi ee (by omega)
          | succ n2 ih2 =>
            intro m h2 hm s2 b2 al
            have c2 := CS_79 hw s2 q
            apply g_G_measure_29 c2.sh
            rw [c2.cm]
            refine ⟨fun c => by omega, fun _ => ?_⟩
            apply g_G_measure_41 c2.sh
            have am := al m (by omega)
            rw [c2.cm, Int.toNat_natCast, wr_eq (x := (D' : Int) + 1) (by omega) (by omega), wr_s (show m < 1000000 by omega)]
            exact ⟨fun c => by omega, fun _ => ⟨by omega, by omega, fun _ => ih2 (m + 1) h2 (by omega) s2 (BM_low b2 (by omega)) al, fun c => by omega⟩⟩
        have c1 := CS_79 hw s1 q
        apply g_G_measure_20 c1.sh
        refine ⟨fun c => by omega, fun _ => ?_⟩
        have z := (cnt_0 (fun j => xI h1 79 j = 99) (nM p).toNat 0).mp (by have := cnt_le (fun j => xI h1 79 j = 99) (nM p).toNat 0; omega)
        have al : ∀ j, j < (nM p).toNat → xI h1 79 j ≤ (D' : Int) := fun j hj => (b1.1 j hj).elim (fun y => absurd y (z j (Nat.zero_le _) (by omega))) (fun y => y.2.1)
        refine lm (nM p).toNat 0 h1 (by omega) s1 ⟨fun j hj => ?_, b1.2.1, fun j i hj hi ee y => ?_⟩ al
        · rcases b1.1 j hj with v | ⟨v1, v2, v3⟩
          · exact Or.inl v
          · exact Or.inr ⟨v1, by omega, v3⟩
        · exact b1.2.2 j i hj hi ee (by omega))
    | succ n ih =>
      intro D' h1 hn hD s1 b1
      have cb1 := cnt_le (fun j => xI h1 79 j = 99) (nM p).toNat 0
      have lm : ∀ (n2 m : Nat) (h2 : Hp) (x2 : Int), m + n2 = (nM p).toNat → sm A79 h h2 → BM (dr p (gF p)) (nM p).toNat t D' (xI h2 79) m 0 → ((x2 = 0 ∧ ∀ j, j < (nM p).toNat → xI h2 79 j = 99 ∨ xI h2 79 j ≤ (D' : Int)) ∨ (x2 = 1 ∧ cnt (fun j => xI h2 79 j = 99) (nM p).toNat 0 < cnt (fun j => xI h1 79 j = 99) (nM p).toNat 0)) → cnt (fun j => xI h2 79 j = 99) (nM p).toNat 0 ≤ cnt (fun j => xI h1 79 j = 99) (nM p).toNat 0 → Ev l D Y_G_measure (d + 1) kc ks 29 [some (vr 20), some (vi (t : Int)), some (vi x2), some (vi (D' : Int)), some (vi (m : Int)), none] [] h2 Ψ := by
        intro n2
        induction n2 with
        | zero =>
          intro m h2 x2 hm s2 b2 gs2 cl
          have c2 := CS_79 hw s2 q
          apply g_G_measure_29 c2.sh
          rw [c2.cm, wr_s (show D' < 1000000 by omega)]
          refine ⟨fun _ => ?_, fun c => by omega⟩
          rcases gs2 with ⟨rfl, al⟩ | ⟨rfl, lt⟩
          · apply g_G_measure_20 c2.sh
            refine ⟨fun _ => k h2 s2 ⟨fun j hj => ?_, b2.2.1, fun j i hj hi ee => ?_⟩, fun c => absurd rfl c⟩
            · rcases b2.1 j hj with v | ⟨v1, v2, v3⟩
              · exact ⟨by omega, by omega, fun y => by omega⟩
              · exact ⟨v1, by omega, fun _ => v3⟩
            · rcases al i hi with v | v
              · rcases b2.1 j hj with u | ⟨u1, u2, _⟩
                · omega
                · omega
              · exact b2.2.2 j i hj hi ee (by omega)
          · refine ih (D' + 1) h2 (by omega) (by omega) s2 ⟨fun j hj => ?_, b2.2.1, fun j i hj hi ee y => b2.2.2 j i hj hi ee (by omega)⟩
            rcases b2.1 j hj with v | ⟨v1, v2, v3⟩
            · exact Or.inl v
            · exact Or.inr ⟨v1, by omega, v3⟩
        | succ n2 ih2 =>
          intro m h2 x2 hm s2 b2 gs2 cl
          have c2 := CS_79 hw s2 q
          apply g_G_measure_29 c2.sh
          rw [c2.cm]
          refine ⟨fun c => by omega, fun _ => ?_⟩
          have lc : ∀ (n3 i : Nat) (h3 : Hp) (x2 : Int), i + n3 = (nM p).toNat → sm A79 h h3 → BM (dr p (gF p)) (nM p).toNat t D' (xI h3 79) m i → ((x2 = 0 ∧ ∀ j, j < (nM p).toNat → xI h3 79 j = 99 ∨ xI h3 79 j ≤ (D' : Int)) ∨ (x2 = 1 ∧ cnt (fun j => xI h3 79 j = 99) (nM p).toNat 0 < cnt (fun j => xI h1 79 j = 99) (nM p).toNat 0)) → cnt (fun j => xI h3 79 j = 99) (nM p).toNat 0 ≤ cnt (fun j => xI h1 79 j = 99) (nM p).toNat 0 → Ev l D Y_G_measure (d + 1) kc ks 41 [some (vr 20), some (vi (t : Int)), some (vi x2), some (vi (D' : Int)), some (vi (m : Int)), some (vi (i : Int))] [] h3 Ψ := by
            intro n3
            induction n3 with
            | zero =>
              intro i h3 x2 hi s3 b3 gs3 cl3
              have c3 := CS_79 hw s3 q
              apply g_G_measure_41 c3.sh
              rw [c3.cm, wr_s (show m < 1000000 by omega)]
              refine ⟨fun _ => ih2 (m + 1) h3 x2 (by omega) s3 ?_ gs3 cl3, fun c => by omega⟩
              rw [show i = (nM p).toNat by omega] at b3
              exact BM_row b3
            | succ n3 ih3 =>
              intro i h3 x2 hi s3 b3 gs3 cl3
              have c3 := CS_79 hw s3 q
              have e3 := Dr_79 hw s3 e
              apply g_G_measure_41 c3.sh
              rw [c3.cm, Int.toNat_natCast, Int.toNat_natCast, wr_s (show m < 1000000 by omega), wr_s (show i < 1000000 by omega), wr_eq (x := (D' : Int) + 1) (by omega) (by omega), c3.mr m (by omega)]
              refine ⟨fun c => by omega, fun _ => ⟨by omega, by omega, fun c => ih2 (m + 1) h3 x2 (by omega) s3 (BM_low b3 c) gs3 cl3, fun c => ⟨by omega, by omega, fun c4 => ih3 (i + 1) h3 x2 (by omega) s3 (BM_skip b3 (fun y => c4 y.1)) gs3 cl3, fun c4 => ⟨by omega, by omega, ct_calls c3 hw e3 (by omega) (by omega) ⟨c3.sh, fun c5 => ?_, fun c5 => ⟨by omega, by omega, fun h4 eh => ?_⟩⟩⟩⟩⟩⟩
              · exact ih3 (i + 1) h3 x2 (by omega) s3 (BM_skip b3 (fun y => bI_0.mp c5 y.2)) gs3 cl3
              · have ev : ∀ j, xI h4 79 j = if j = m then (D' : Int) + 1 else xI h3 79 j := fun j => by
                  rw [eh, xI_sI]
                  by_cases y : j = m
                  · rw [if_pos ⟨rfl, y⟩, if_pos y]
                  · rw [if_neg (fun z => y z.2), if_neg y]
                have v99 : xI h3 79 m = 99 := (b3.1 m (by omega)).elim id (fun y => by omega)
                have s4 : sm A79 h h4 := by rw [eh]; exact s3.put rfl
                have lt : cnt (fun j => xI h4 79 j = 99) (nM p).toNat 0 < cnt (fun j => xI h3 79 j = 99) (nM p).toNat 0 := by
                  refine cnt_lt _ _ (fun j hj => ?_) ⟨m, Nat.zero_le _, by omega, v99, ?_⟩
                  · have hj' : xI h4 79 j = 99 := hj
                    rw [ev] at hj'
                    by_cases y : j = m
                    · rw [if_pos y] at hj'; omega
                    · rw [if_neg y] at hj'; exact hj'
                  · rw [ev, if_pos rfl]; omega
                refine ih3 (i + 1) h4 1 (by omega) s4 ?_ (Or.inr ⟨rfl, by omega⟩) (by omega)
                exact BM_set (by omega) (by omega) b3 c c4 (bI_n.mp c5) (by rw [ev, if_pos rfl]) (fun j y => by rw [ev, if_neg y])
          exact lc (nM p).toNat 0 h2 x2 (by omega) s2 b2 gs2 cl
      have c1 := CS_79 hw s1 q
      apply g_G_measure_20 c1.sh
      refine ⟨fun c => by omega, fun _ => lm (nM p).toNat 0 h1 0 (by omega) s1 ⟨fun j hj => ?_, b1.2.1, fun j i hj hi ee y => b1.2.2 j i hj hi ee (by omega)⟩ (Or.inl ⟨rfl, fun j hj => (b1.1 j hj).elim Or.inl (fun y => Or.inr y.2.1)⟩) (Int.le_refl _)⟩
      rcases b1.1 j hj with v | ⟨v1, v2, v3⟩
      · exact Or.inl v
      · exact Or.inr ⟨v1, by omega, v3⟩
  apply g_G_measure_0 q.sh
  refine ct_fillI k79.1 (by omega) (by omega) (fun h1 s1 z1 => ?_)
  rw [k79.2] at z1
  refine ⟨(CS_79 hw s1 q).sh, by omega, by omega, fun h2 eh => ?_⟩
  have s2 : sm A79 h h2 := by rw [eh]; exact sm.put s1 rfl
  have ev : ∀ j, j < 48 → xI h2 79 j = if j = t then 0 else 99 := fun j hj => by
    rw [eh, Int.toNat_natCast, xI_sI]
    by_cases y : j = t
    · rw [if_pos ⟨rfl, y⟩, if_pos y]
    · rw [if_neg (fun z => y z.2), if_neg y]; exact z1 j hj
  have cl : cnt (fun j => xI h2 79 j = 99) (nM p).toNat 0 < cnt (fun _ => True) (nM p).toNat 0 := cnt_lt _ _ (fun _ _ => trivial) ⟨t, Nat.zero_le _, by omega, trivial, by rw [ev t (by omega), if_pos rfl]; decide⟩
  have c2 := cnt_le (fun _ => True) (nM p).toNat 0
  refine rd (cnt (fun j => xI h2 79 j = 99) (nM p).toNat 0).toNat 0 h2 (by omega) (by omega) s2 ⟨fun j hj => ?_, by rw [ev t (by omega), if_pos rfl], fun j i hj hi ee y => ?_⟩
  · rw [ev j (by omega)]
    by_cases y : j = t
    · rw [if_pos y]; exact Or.inr ⟨by omega, by omega, y⟩
    · rw [if_neg y]; exact Or.inl rfl
  · rw [ev i (by omega)] at y
    by_cases v : i = t
    · rw [if_pos v] at y; omega
    · rw [if_neg v] at y; omega
theorem ct_G_way {x1 x2 : Int} (q : CA p h) (hx : x2 ≤ 2147483647) (k : ∀ h', agM h h' → CA p h' → Ψ (some (vi (rWa p x1 x2))) h') : Ev l D Y_G_way (d + 9) kc ks 0 [some (vr 20), some (vi x1), some (vi x2), none, none, none] [] h Ψ := by
  obtain ⟨c, hw, ho, hf⟩ := q.1
  have w2 := hw.2.1
  apply g_G_way_0 c.sh
  refine ct_G_isMember c hw ⟨c.sh, fun c1 => ct_d q (fun h1 ag ca e => ⟨ca.1.1.sh, ?_⟩), fun c1 => ?_⟩
  · rw [bI_n] at c1
    obtain ⟨m, rfl⟩ : ∃ t : Nat, x1 = (t : Int) := ⟨x1.toNat, by omega⟩
    have hm := c1.2
    have s := ca.1.1
    have bad : (gF p 119 m = 0 ∨ x2 < 0) → Ψ (some (vi (-1))) h1 := fun y => by
      have z := k h1 ag ca
      rw [show rWa p m x2 = -1 from (cI_f (fun q => q c1)).trans (cI_t (by rw [Int.toNat_natCast]; exact y))] at z
      exact z
    rw [Int.toNat_natCast, s.mr m hm, e.1.1 m hm]
    refine ⟨by omega, by omega, s.mkk m hm, fun c2 => bad (Or.inl c2), fun c2 => ⟨fun c3 => ct_measure s hw e hm (fun h3 s3 fo => ?_), fun c3 => bad (Or.inr c3)⟩⟩
    obtain ⟨ca3, ag3⟩ := CA_79 s3 ca
    have e3 := Dr_79 hw s3 e
    have s' := ca3.1.1
    have z := k h3 (ag.tr ag3) ca3
    rw [show rWa p m x2 = _ from (cI_f (fun q => q c1)).trans (cI_f (by rw [Int.toNat_natCast]; exact fun y => y.elim c2 (fun v => by omega))), Int.toNat_natCast] at z
    have ed : ∀ j, j < (nM p).toNat → xI h3 79 j = dst p m j := fun j hj => Far_eq fo (dst_ok fo) j hj
    have fb : ∀ j, j < (nM p).toNat → 0 ≤ dst p m j ∧ dst p m j ≤ 99 := fun j hj => ⟨((dst_ok fo).1 j hj).1, ((dst_ok fo).1 j hj).2.1⟩
    refine ⟨s'.sh, ?_⟩
    -- steps
    have l101 : ∀ (n st a : Nat), st + n = x2.toNat → a < (nM p).toNat → Ψ (some (vi (gow (dr p (gF p)) (nM p).toNat (dst p m) n a))) h3 → Ev l D Y_G_way (d + 9) kc ks 101 [some (vr 20), some (vi (m : Int)), some (vi x2), some (vi (a : Int)), some (vi (st : Int)), none] [] h3 Ψ := by
      intro n
      induction n with
      | zero =>
        intro st a hs ha z
        apply g_G_way_101 s'.sh
        exact ⟨fun _ => z, fun c => by omega⟩
      | succ n ih =>
        intro st a hs ha z
        unfold gow at z
        rw [Int.toNat_natCast] at z
        have fa := fb a ha
        apply g_G_way_101 s'.sh
        refine ⟨fun c => by omega, fun _ => ?_⟩
        have lj : ∀ (n3 j : Nat), j + n3 = (nM p).toNat → fst (fun c => dst p m c = dst p m a - 1 ∧ dr p (gF p) a c) n3 j = nxw (dr p (gF p)) (nM p).toNat (dst p m) a → Ev l D Y_G_way (d + 9) kc ks 110 [some (vr 20), some (vi (m : Int)), some (vi x2), some (vi (a : Int)), some (vi (st : Int)), some (vi (j : Int))] [] h3 Ψ := by
          intro n3
          induction n3 with
          | zero =>
            intro j hj ef
            have ef' : nxw (dr p (gF p)) (nM p).toNat (dst p m) a = -1 := ef.symm
            rw [cI_t ef'] at z
            apply g_G_way_110 s'.sh
            rw [s'.cm]
            exact ⟨fun _ => ⟨fun c => by omega, fun _ => z⟩, fun c => by omega⟩
          | succ n3 ih3 =>
            intro j hj ef
            unfold fst at ef
            apply g_G_way_110 s'.sh
            rw [s'.cm, Int.toNat_natCast, Int.toNat_natCast, ed a ha, ed j (by omega), wr_eq (x := dst p m a - 1) (by omega) (by omega), s'.mr a (by omega), wr_s (show j < 1000000 by omega)]
            refine ⟨fun c => by omega, fun _ => ⟨by omega, by omega, by omega, by omega, fun c5 => ih3 (j + 1) (by omega) ?_, fun c5 => ⟨by omega, by omega, ct_calls s' hw e3 (by omega) (by omega) ⟨s'.sh, fun c6 => ?_, fun c6 => ih3 (j + 1) (by omega) ?_⟩⟩⟩⟩
            · rw [← ef]; exact (cI_f (fun y => c5 y.1)).symm
            · rw [s'.cm]
              refine ⟨fun _ => ?_, fun y => by omega⟩
              rw [cI_t ⟨c5, bI_n.mp c6⟩] at ef
              rw [← ef, cI_f (by omega)] at z
              rw [wr_eq (by omega) (by omega)]
              exact ih (st + 1) j (by omega) (by omega) z
            · rw [← ef]; exact (cI_f (fun y => bI_0.mp c6 y.2)).symm
        exact lj (nM p).toNat 0 (by omega) rfl
    have l43 : ∀ (n j : Nat) (r : Int), j + n = (nM p).toNat → isB (fun k => ¬ rt p k = 0) (xI h3 79) j 0 r → Ev l D Y_G_way (d + 9) kc ks 43 [some (vr 20), some (vi (m : Int)), some (vi x2), some (vi r), some (vi (j : Int)), none] [] h3 Ψ := by
      intro n
      induction n with
      | zero =>
        intro j r hj b
        rw [show j = (nM p).toNat by omega] at b
        have er : r = bst (fun k => ¬ rt p k = 0) (dst p m) (nM p).toNat 0 := isB_eq (isB_f ed b) (bst_is _ _ _ _)
        rw [← er] at z
        apply g_G_way_43 s'.sh
        rw [s'.cm]
        refine ⟨fun _ => ?_, fun c => by omega⟩
        rcases b with ⟨b1, b2⟩ | ⟨a, b1, b2, b3, b4, b5⟩
        · obtain ⟨_, r0, n0, g1, g2, g3⟩ := (gF_inv hw).1 m (by omega) c2
          exact absurd g2 (b2 r0 (Nat.zero_le _) (by omega))
        · rw [b1] at z ⊢
          exact l101 x2.toNat 0 a (by omega) (by omega) z
      | succ n ih =>
        intro j r hj b
        have rb : r = -1 ∨ (0 ≤ r ∧ r < (j : Int)) := by
          rcases b with ⟨b1, _⟩ | ⟨a, b1, b2, b3, _⟩
          · exact Or.inl b1
          · exact Or.inr (by omega)
        apply g_G_way_43 s'.sh
        rw [s'.cm, Int.toNat_natCast, s'.mr j (by omega), s'.mrt j (by omega), wr_s (show j < 1000000 by omega)]
        refine ⟨fun c => by omega, fun _ => ⟨by omega, by omega, s'.mkk j (by omega), fun c4 => ih (j + 1) r (by omega) (isB_snoc0 b (fun y => y c4)), fun c4 => ⟨fun c5 => ih (j + 1) j (by omega) (isB_snoc1 b c4 (Or.inl c5)), fun c5 => ⟨by omega, by omega, by omega, by omega, fun c6 => ih (j + 1) r (by omega) (isB_snoc2 b (by omega) c6), fun c6 => ih (j + 1) j (by omega) (isB_snoc1 b c4 (Or.inr c6))⟩⟩⟩⟩
    exact l43 (nM p).toNat 0 (-1) (by omega) (Or.inl ⟨rfl, fun j h1 h2 => by omega⟩)
  · have z := k h agM.rf q
    rw [show rWa p x1 x2 = -101 from cI_t (bI_0.mp c1)] at z
    exact z
end CWY
