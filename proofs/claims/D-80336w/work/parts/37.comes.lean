/-! which member comes to which -/
def dr (p g : Pg) (m k : Nat) : Prop := ∃ i : Nat, (i : Int) < om p m ∧ ¬ g 119 m = 0 ∧ ¬ g 123 (48 * (oa p (24 * m + i)).toNat + k) = 0
def wsh (E : Nat → Nat → Prop) : Nat → Nat → Nat → Prop
  | 0, a, c => E a c
  | b + 1, a, c => wsh E b a c ∨ (wsh E b a b ∧ wsh E b b c)
theorem wsh_tr (E : Nat → Nat → Prop) : ∀ (b a j c : Nat), j < b → wsh E b a j → wsh E b j c → wsh E b a c
  | 0, _, _, _, h, _, _ => absurd h (Nat.not_lt_zero _)
  | b + 1, a, j, c, h, q, r => by
    have ih := wsh_tr E b
    rcases Nat.eq_or_lt_of_le (Nat.le_of_lt_succ h) with e | e
    · subst e
      have q1 : wsh E j a j := q.elim id (fun z => z.1)
      have r1 : wsh E j j c := r.elim id (fun z => z.2)
      exact Or.inr ⟨q1, r1⟩
    · rcases q with q | ⟨q1, q2⟩
      · rcases r with r | ⟨r1, r2⟩
        · exact Or.inl (ih a j c e q r)
        · exact Or.inr ⟨ih a j b e q r1, r2⟩
      · rcases r with r | ⟨r1, r2⟩
        · exact Or.inr ⟨q1, ih b j c e q2 r⟩
        · exact Or.inr ⟨q1, r2⟩
theorem wsh_dir (E : Nat → Nat → Prop) : ∀ (b a c : Nat), E a c → wsh E b a c
  | 0, _, _, h => h
  | b + 1, a, c, h => Or.inl (wsh_dir E b a c h)
theorem wsh_congr {E F : Nat → Nat → Prop} {n : Nat} (q : ∀ a c, a < n → c < n → (E a c ↔ F a c)) : ∀ (b a c : Nat), b ≤ n → a < n → c < n → (wsh E b a c ↔ wsh F b a c)
  | 0, a, c, _, ha, hc => q a c ha hc
  | b + 1, a, c, hb, ha, hc => or_congr (wsh_congr q b a c (by omega) ha hc) (and_congr (wsh_congr q b a b (by omega) ha (by omega)) (wsh_congr q b b c (by omega) (by omega) hc))
/-- the state within a round -/
def wq (E : Nat → Nat → Prop) (b m k a c : Nat) : Prop := wsh E b a c ∨ ((a < m ∨ (a = m ∧ c < k)) ∧ wsh E b a b ∧ wsh E b b c)
theorem wq_col {E : Nat → Nat → Prop} {b m k a : Nat} : wq E b m k a b ↔ wsh E b a b := ⟨fun q => q.elim id (fun z => z.2.1), Or.inl⟩
theorem wq_row {E : Nat → Nat → Prop} {b m k c : Nat} : wq E b m k b c ↔ wsh E b b c := ⟨fun q => q.elim id (fun z => z.2.2), Or.inl⟩
theorem wq_at {E : Nat → Nat → Prop} {b m k : Nat} : wq E b m k m k ↔ wsh E b m k := ⟨fun q => q.elim id (fun z => by omega), Or.inl⟩
theorem wq_0 {E : Nat → Nat → Prop} {b a c : Nat} : wq E b 0 0 a c ↔ wsh E b a c := ⟨fun q => q.elim id (fun z => by omega), Or.inl⟩
theorem wq_n {E : Nat → Nat → Prop} {b n a c : Nat} (ha : a < n) : wq E b n 0 a c ↔ wsh E (b + 1) a c := or_congr Iff.rfl ⟨fun q => q.2, fun q => ⟨Or.inl ha, q⟩⟩
theorem wq_m {E : Nat → Nat → Prop} {b m n a c : Nat} (hc : c < n) : wq E b m n a c ↔ wq E b (m + 1) 0 a c := or_congr Iff.rfl (and_congr (by omega) Iff.rfl)
theorem wq_no {E : Nat → Nat → Prop} {b m k a c : Nat} (hn : ¬ wsh E b m b) : wq E b m k a c ↔ wq E b (m + 1) 0 a c := by
  refine or_congr Iff.rfl ⟨fun q => ⟨by have := q.1; omega, q.2⟩, fun q => ⟨?_, q.2⟩⟩
  rcases Nat.eq_or_lt_of_le (show a ≤ m by have := q.1; omega) with e | e
  · rw [e] at q; exact absurd q.2.1 hn
  · exact Or.inl e
theorem wq_s {E : Nat → Nat → Prop} {b m k a c : Nat} (hn : ¬ (a = m ∧ c = k)) : wq E b m k a c ↔ wq E b m (k + 1) a c := or_congr Iff.rfl (and_congr (by omega) Iff.rfl)
abbrev A13 : Nat → Nat → Prop := fun a _ => a = 131 ∨ a = 132
section CO
variable {l : Launch} {D : DD} {d kc ks : Nat} {h h0 : Hp} {Ψ : Option AV → Hp → Prop} {p g : Pg}
theorem SD13 {h h' : Hp} (q : sm A13 h h') (hs : SD h p) : SD h' p := SD_sm q (fun a k e z => by have := sta_iff.mp z; have e' : a = 131 ∨ a = 132 := e; omega) hs
theorem ct_M_findComes (q : Gv p h0 h g) (k : ∀ h', sm A13 h h' → (∀ a c : Nat, (a : Int) < nM p → (c : Int) < nM p → xI h' 132 (48 * a + c) = bI (dr p g a c) ∧ xI h' 131 (48 * a + c) = bI (wsh (dr p g) (nM p).toNat a c)) → Ψ none h') : Ev l D Y_M_findComes d kc ks 0 [some (vr 100), none, none, none, none] [] h Ψ := by
  have hM := q.2.1.1
  have hs := q.2.1.2.1
  have hw := q.2.1.2.2.1
  have w2 := hw.2.1
  have w3 := hw.2.2.1
  have ix : ∀ a b : Nat, a < 160 → b < 48 → wr (wr ((48 : Int) * (a : Int)) + (b : Int)) = ((48 * a + b : Nat) : Int) := fun a b ha hb => by rw [wr_eq (x := 48 * (a : Int)) (by omega) (by omega), wr_eq (by omega) (by omega)]; omega
  have ix4 : ∀ a b : Nat, a < 48 → b < 24 → wr (wr ((24 : Int) * (a : Int)) + (b : Int)) = ((24 * a + b : Nat) : Int) := fun a b ha hb => by rw [wr_eq (x := 24 * (a : Int)) (by omega) (by omega), wr_eq (by omega) (by omega)]; omega
  -- second phase
  have ph2 : ∀ (b : Nat) (h1 : Hp), b ≤ (nM p).toNat → (sm A13 h h1 ∧ (∀ a c : Nat, (a : Int) < nM p → (c : Int) < nM p → xI h1 132 (48 * a + c) = bI (dr p g a c) ∧ xI h1 131 (48 * a + c) = bI (wsh (dr p g) b a c))) → Ev l D Y_M_findComes d kc ks 124 [some (vr 100), some (vi (b : Int)), none, none, none] [] h1 Ψ := by
    refine lup _ _ ?_ ?_
    · rintro h1 ⟨q1, q2⟩
      apply m_M_findComes_124 (MS_sm q1 hM)
      rw [(SD13 q1 hs).nM]
      exact ⟨fun _ => k h1 q1 q2, fun c => by omega⟩
    · rintro b h1 hb ⟨q1, q2⟩ ih
      apply m_M_findComes_124 (MS_sm q1 hM)
      rw [(SD13 q1 hs).nM]
      refine ⟨fun c => by omega, fun _ => ?_⟩
      have lpm : ∀ (m : Nat) (h2 : Hp), m ≤ (nM p).toNat → (sm A13 h h2 ∧ (∀ a c : Nat, (a : Int) < nM p → (c : Int) < nM p → xI h2 132 (48 * a + c) = bI (dr p g a c) ∧ xI h2 131 (48 * a + c) = bI (wq (dr p g) b m 0 a c))) → Ev l D Y_M_findComes d kc ks 134 [some (vr 100), some (vi (b : Int)), some (vi (m : Int)), none, none] [] h2 Ψ := by
        refine lup _ _ ?_ ?_
        · rintro h2 ⟨r1, r2⟩
          apply m_M_findComes_134 (MS_sm r1 hM)
          rw [(SD13 r1 hs).nM, wr_s (show b < 1000000 by omega)]
          refine ⟨fun _ => ih h2 ⟨r1, fun a c ha hc => ⟨(r2 a c ha hc).1, ?_⟩⟩, fun c => by omega⟩
          rw [(r2 a c ha hc).2]; exact bI_c (wq_n (by omega))
        · rintro m h2 hm ⟨r1, r2⟩ ih2
          apply m_M_findComes_134 (MS_sm r1 hM)
          rw [(SD13 r1 hs).nM]
          refine ⟨fun c => by omega, fun _ => ?_⟩
          have lpk : ∀ (j : Nat) (h3 : Hp), j ≤ (nM p).toNat → (sm A13 h h3 ∧ (∀ a c : Nat, (a : Int) < nM p → (c : Int) < nM p → xI h3 132 (48 * a + c) = bI (dr p g a c) ∧ xI h3 131 (48 * a + c) = bI (wq (dr p g) b m j a c))) → Ev l D Y_M_findComes d kc ks 144 [some (vr 100), some (vi (b : Int)), some (vi (m : Int)), some (vi (j : Int)), none] [] h3 Ψ := by
            refine lup _ _ ?_ ?_
            · rintro h3 ⟨s1, s2⟩
              apply m_M_findComes_144 (MS_sm s1 hM)
              rw [(SD13 s1 hs).nM, wr_s (show m < 1000000 by omega)]
              refine ⟨fun _ => ih2 h3 ⟨s1, fun a c ha hc => ⟨(s2 a c ha hc).1, ?_⟩⟩, fun c => by omega⟩
              rw [(s2 a c ha hc).2]; exact bI_c (wq_m (by omega))
            · rintro j h3 hj ⟨s1, s2⟩ ih3
              have g209 : ∀ y0 : Int, y0 = bI (wq (dr p g) b m (j + 1) m j) → Ev l D Y_M_findComes d kc ks 209 [some (vr 100), some (vi (b : Int)), some (vi (m : Int)), some (vi (j : Int)), none] [vi y0, vi ((48 * m + j : Nat) : Int), vr 131] h3 Ψ := by
                intro y0 ey
                apply m_M_findComes_209 (MS_sm s1 hM)
                rw [Int.toNat_natCast, wr_s (show j < 1000000 by omega)]
                refine ⟨by omega, by omega, by rw [ey]; exact bI_01 _, fun h4 eh => ?_⟩
                subst eh
                refine ih3 _ ⟨s1.put (Or.inl rfl), fun a c ha hc => ⟨?_, ?_⟩⟩
                · rw [xI_sI, if_neg (by omega)]; exact (s2 a c ha hc).1
                · rw [xI_sI]
                  by_cases e : a = m ∧ c = j
                  · rw [if_pos ⟨rfl, by omega⟩, ey, e.1, e.2]
                  · rw [if_neg (by omega), (s2 a c ha hc).2]; exact bI_c (wq_s e)
              have e1 := (s2 m b (by omega) (by omega)).2
              have e2 := (s2 m j (by omega) (by omega)).2
              have e3 := (s2 b j (by omega) (by omega)).2
              rw [bI_c wq_col] at e1
              rw [bI_c wq_at] at e2
              rw [bI_c wq_row] at e3
              apply m_M_findComes_144 (MS_sm s1 hM)
              simp only [(SD13 s1 hs).nM, wr_s (show m < 1000000 by omega), ix m b (by omega) (by omega), ix m j (by omega) (by omega), ix b j (by omega) (by omega), Int.toNat_natCast, e1, e2, e3]
              refine ⟨fun c => by omega, fun _ => ⟨by omega, by omega, fun c => ?_, fun c => ⟨by omega, by omega, fun c2 => g209 1 ?_, fun c2 => ⟨by omega, by omega, fun c3 => g209 0 ?_, fun c3 => g209 1 ?_⟩⟩⟩⟩
              · refine ih2 h3 ⟨s1, fun a c2 ha hc => ⟨(s2 a c2 ha hc).1, ?_⟩⟩
                rw [(s2 a c2 ha hc).2]; exact bI_c (wq_no (bI_0.mp c))
              · exact (bI_t (Or.inl (bI_n.mp c2))).symm
              · refine (bI_f (fun z => ?_)).symm
                rcases z with z | z
                · exact bI_0.mp c2 z
                · exact bI_0.mp c3 z.2.2
              · exact (bI_t (Or.inr ⟨Or.inr ⟨rfl, by omega⟩, bI_n.mp c, bI_n.mp c3⟩)).symm
          exact lpk 0 h2 (Nat.zero_le _) ⟨r1, r2⟩
      refine lpm 0 h1 (Nat.zero_le _) ⟨q1, fun a c ha hc => ⟨(q2 a c ha hc).1, ?_⟩⟩
      rw [(q2 a c ha hc).2]; exact bI_c wq_0.symm
  apply m_M_findComes_0 hM
  have ph1 : ∀ (m : Nat) (h1 : Hp), m ≤ (nM p).toNat → (sm A13 h h1 ∧ (∀ a c : Nat, a < m → (c : Int) < nM p → xI h1 132 (48 * a + c) = bI (dr p g a c) ∧ xI h1 131 (48 * a + c) = bI (dr p g a c))) → Ev l D Y_M_findComes d kc ks 2 [some (vr 100), some (vi (m : Int)), none, none, none] [] h1 Ψ := by
    refine lup _ _ ?_ ?_
    · rintro h1 ⟨q1, q2⟩
      apply m_M_findComes_2 (MS_sm q1 hM)
      rw [(SD13 q1 hs).nM]
      exact ⟨fun _ => ph2 0 h1 (Nat.zero_le _) ⟨q1, fun a c ha hc => q2 a c (by omega) hc⟩, fun c => by omega⟩
    · rintro m h1 hm ⟨q1, q2⟩ ih
      obtain ⟨m1, m2, m3, m4, m5, m6, m7⟩ := hw.2.2.2.2.1 m (by omega)
      apply m_M_findComes_2 (MS_sm q1 hM)
      rw [(SD13 q1 hs).nM]
      refine ⟨fun c => by omega, fun _ => ?_⟩
      have lpk : ∀ (j : Nat) (h2 : Hp), j ≤ (nM p).toNat → (sm A13 h h2 ∧ (∀ a c : Nat, (a < m ∨ (a = m ∧ c < j)) → (c : Int) < nM p → xI h2 132 (48 * a + c) = bI (dr p g a c) ∧ xI h2 131 (48 * a + c) = bI (dr p g a c))) → Ev l D Y_M_findComes d kc ks 12 [some (vr 100), some (vi (m : Int)), some (vi (j : Int)), none, none] [] h2 Ψ := by
        refine lup _ _ ?_ ?_
        · rintro h2 ⟨r1, r2⟩
          apply m_M_findComes_12 (MS_sm r1 hM)
          rw [(SD13 r1 hs).nM, wr_s (show m < 1000000 by omega)]
          exact ⟨fun _ => ih h2 ⟨r1, fun a c ha hc => r2 a c (by omega) hc⟩, fun c => by omega⟩
        · rintro j h2 hj ⟨r1, r2⟩ ih2
          apply m_M_findComes_12 (MS_sm r1 hM)
          rw [(SD13 r1 hs).nM]
          refine ⟨fun c => by omega, fun _ => ?_⟩
          have e111 := (SD13 r1 hs).om m
          have e119 : xI h2 119 m = g 119 m := (r1.2.2 119 m (by omega)).trans (q.2.2 119 m (by unfold dyn; omega))
          have e123 : ∀ z, z < 7680 → xI h2 123 z = g 123 z := fun z hz => (r1.2.2 123 z (by omega)).trans (q.2.2 123 z (by unfold dyn; omega))
          have fin : ∀ x3 : Int, x3 = bI (dr p g m j) → ∀ h3 h4, h3 = sI h2 132 (48 * m + j) x3 → h4 = sI h3 131 (48 * m + j) x3 → Ev l D Y_M_findComes d kc ks 12 [some (vr 100), some (vi (m : Int)), some (vi ((j + 1 : Nat) : Int)), none, none] [] h4 Ψ := by
            intro x3 ex h3 h4 e3 e4
            subst e3; subst e4
            refine ih2 _ ⟨(r1.put (Or.inr rfl)).put (Or.inl rfl), fun a c ha hc => ?_⟩
            by_cases e : a = m ∧ c = j
            · rw [xI_sI, if_neg (by omega), xI_sI, if_pos ⟨rfl, by omega⟩, xI_sI, if_pos ⟨rfl, by omega⟩, ex, e.1, e.2]; exact ⟨rfl, rfl⟩
            · rw [xI_sI, if_neg (by omega), xI_sI, if_neg (by omega), xI_sI, if_neg (by omega), xI_sI, if_neg (by omega)]
              exact r2 a c (by omega) hc
          have lpi : ∀ (n i : Nat), i + n = (om p m).toNat → Ev l D Y_M_findComes d kc ks 25 [some (vr 100), some (vi (m : Int)), some (vi (j : Int)), some (vi (bI (∃ z : Nat, z < i ∧ ¬ g 119 m = 0 ∧ ¬ g 123 (48 * (oa p (24 * m + z)).toNat + j) = 0))), some (vi (i : Int))] [] h2 Ψ := by
            intro n
            induction n with
            | zero =>
              intro i hi
              have ex : bI (∃ z : Nat, z < i ∧ ¬ g 119 m = 0 ∧ ¬ g 123 (48 * (oa p (24 * m + z)).toNat + j) = 0) = bI (dr p g m j) := bI_c ⟨fun ⟨z, z1, z2⟩ => ⟨z, by omega, z2⟩, fun ⟨z, z1, z2⟩ => ⟨z, by omega, z2⟩⟩
              apply m_M_findComes_25 (MS_sm r1 hM)
              simp only [Int.toNat_natCast, e111, ix m j (by omega) (by omega), wr_s (show j < 1000000 by omega)]
              exact ⟨by omega, by omega, fun _ => ⟨by omega, by omega, bI_01 _, fun h3 e3 => ⟨by omega, by omega, bI_01 _, fun h4 e4 => fin _ ex h3 h4 e3 e4⟩⟩, fun c => by omega⟩
            | succ n ihn =>
              intro i hi
              have g79 : ∀ y0 x3 : Int, y0 = bI (∃ z : Nat, z < i + 1 ∧ ¬ g 119 m = 0 ∧ ¬ g 123 (48 * (oa p (24 * m + z)).toNat + j) = 0) → Ev l D Y_M_findComes d kc ks 79 [some (vr 100), some (vi (m : Int)), some (vi (j : Int)), some (vi x3), some (vi (i : Int))] [vi y0] h2 Ψ := by
                intro y0 x3 ey
                apply m_M_findComes_79 (MS_sm r1 hM)
                rw [wr_s (show i < 1000000 by omega), ey]
                exact ihn (i + 1) (by omega)
              have e112 := (SD13 r1 hs).oa (24 * m + i)
              obtain ⟨ob, obd⟩ := m7 i (by omega)
              have ixo : wr (wr ((48 : Int) * oa p (24 * m + i)) + (j : Int)) = ((48 * (oa p (24 * m + i)).toNat + j : Nat) : Int) := by
                have := ix (oa p (24 * m + i)).toNat j (by omega) (by omega)
                rwa [show (((oa p (24 * m + i)).toNat : Nat) : Int) = oa p (24 * m + i) by omega] at this
              apply m_M_findComes_25 (MS_sm r1 hM)
              simp only [Int.toNat_natCast, e111, e119, ix m j (by omega) (by omega), ix4 m i (by omega) (by omega), e112, ixo, e123 (48 * (oa p (24 * m + i)).toNat + j) (by omega), wr_s (show j < 1000000 by omega)]
              refine ⟨by omega, by omega, fun c => by omega, fun _ => ⟨by omega, by omega, fun c => ⟨by omega, by omega, bI_01 _, fun h3 e3 => ⟨by omega, by omega, bI_01 _, fun h4 e4 => fin _ ?_ h3 h4 e3 e4⟩⟩, fun c => ⟨fun c2 => g79 1 _ ?_, fun c2 => ⟨by omega, by omega, by omega, by omega, fun c3 => g79 0 _ ?_, fun c3 => g79 1 _ ?_⟩⟩⟩⟩
              · exact bI_c ⟨fun ⟨z, z1, z2, _⟩ => absurd c z2, fun ⟨z, z1, z2, _⟩ => absurd c z2⟩
              · obtain ⟨z, z1, z2⟩ := bI_n.mp c2
                exact (bI_t ⟨z, by omega, z2⟩).symm
              · refine (bI_f (fun ⟨z, z1, z2, z3⟩ => ?_)).symm
                rcases Nat.eq_or_lt_of_le (Nat.le_of_lt_succ z1) with e | e
                · rw [e] at z3; exact z3 c3
                · exact bI_0.mp c2 ⟨z, e, z2, z3⟩
              · exact (bI_t ⟨i, by omega, c, c3⟩).symm
          have := lpi (om p m).toNat 0 (by omega)
          rw [bI_f (fun ⟨z, z1, _⟩ => by omega)] at this
          exact this
      exact lpk 0 h1 (Nat.zero_le _) ⟨q1, fun a c ha hc => q2 a c (by omega) hc⟩
  exact ph1 0 h (Nat.zero_le _) ⟨sm.rf, fun a c ha _ => by omega⟩
end CO
