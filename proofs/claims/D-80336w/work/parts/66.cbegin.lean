/-! the component: hasPlain, begin -/
theorem iorV_01 {a b : Prop} : iorV (bI a) (bI b) = bI (a ∨ b) := by
  rcases Classical.em a with ha | ha <;> rcases Classical.em b with hb | hb
  · rw [bI_t ha, bI_t hb, bI_t (Or.inl ha)]; decide
  · rw [bI_t ha, bI_f hb, bI_t (Or.inl ha)]; decide
  · rw [bI_f ha, bI_t hb, bI_t (Or.inr hb)]; decide
  · rw [bI_f ha, bI_f hb, bI_f (fun z => z.elim ha hb)]; decide
section CBG
variable {l : Launch} {D : DD} {d kc ks : Nat} {h h0 : Hp} {Ψ : Option AV → Hp → Prop} {p g : Pg}
theorem ct_hasPlain {t : Nat} (q : CS h p) (hw : WF p) (ht : (t : Int) < nT p) (k : Ψ (some (vi (bI (hpl p t)))) h) : Ev l D Y_Type_hasPlain d kc ks 0 [some (vr (tA t)), none, none, none, none, none] [] h Ψ := by
  have w2 := hw.2.1
  have w5 := hw.2.2.2.2.1
  apply s_Type_hasPlain_0
  rw [q.tm t ht, q.tmk t ht, q.tmn t ht]
  refine ⟨q.tk t ht, by omega, ?_⟩
  have key : ∀ (n j : Nat), j + n = 10 → Ev l D Y_Type_hasPlain d kc ks 13 [some (vr (tA t)), some (vi (bI (∃ m : Nat, (m : Int) < nM p ∧ ty p m = (t : Int) ∧ so p m = 0 ∧ nm p m < (j : Int)))), some (vr (tA t + 3)), some (vi ((10 : Nat) : Int)), some (vi (j : Int)), none] [] h Ψ := by
    intro n
    induction n with
    | zero =>
      intro j hj
      have e : bI (∃ m : Nat, (m : Int) < nM p ∧ ty p m = (t : Int) ∧ so p m = 0 ∧ nm p m < (j : Int)) = bI (hpl p t) := bI_c ⟨fun ⟨m, a, b, c, _⟩ => ⟨m, a, b, c⟩, fun ⟨m, a, b, c⟩ => ⟨m, a, b, c, by have := (w5 m a).2.1; omega⟩⟩
      rw [e]
      clear e
      apply s_Type_hasPlain_13
      exact ⟨fun _ => ⟨bI_01 _, k⟩, fun c => by omega⟩
    | succ n ih =>
      intro j hj
      have ob := own_bd hw (t : Int) (j : Int)
      have g47 : ∀ (Q : Prop) (y0 x1 : Int) (x5 : Nat), y0 = bI Q → ((∃ m : Nat, (m : Int) < nM p ∧ ty p m = (t : Int) ∧ so p m = 0 ∧ nm p m < (j : Int)) ∨ Q ↔ (∃ m : Nat, (m : Int) < nM p ∧ ty p m = (t : Int) ∧ so p m = 0 ∧ nm p m < ((j + 1 : Nat) : Int))) → Ev l D Y_Type_hasPlain d kc ks 47 [some (vr (tA t)), some (vi x1), some (vr (tA t + 3)), some (vi ((10 : Nat) : Int)), some (vi (j : Int)), some (vr x5)] [vi y0, vi (bI (∃ m : Nat, (m : Int) < nM p ∧ ty p m = (t : Int) ∧ so p m = 0 ∧ nm p m < (j : Int)))] h Ψ := by
        intro Q y0 x1 x5 ey hq
        have nx := ih (j + 1) (by clear hq; omega)
        apply s_Type_hasPlain_47
        rw [ey, iorV_01, bI_c hq, wr_s (show j < 1000000 by clear hq nx; omega)]
        exact nx
      have no : (¬ ∃ m : Nat, (m : Int) < nM p ∧ ty p m = (t : Int) ∧ so p m = 0 ∧ nm p m = (j : Int)) → ((∃ m : Nat, (m : Int) < nM p ∧ ty p m = (t : Int) ∧ so p m = 0 ∧ nm p m < (j : Int)) ∨ False ↔ (∃ m : Nat, (m : Int) < nM p ∧ ty p m = (t : Int) ∧ so p m = 0 ∧ nm p m < ((j + 1 : Nat) : Int))) := by
        intro hn
        constructor
        · rintro (⟨m, a, b, c, e⟩ | z)
          · exact ⟨m, a, b, c, by omega⟩
          · exact z.elim
        · rintro ⟨m, a, b, c, e⟩
          rcases Classical.em (nm p m = (j : Int)) with z | z
          · exact absurd ⟨m, a, b, c, z⟩ hn
          · exact Or.inl ⟨m, a, b, c, by clear hn; omega⟩
      have z0 : (0 : Int) = bI False := (bI_f (fun z => z)).symm
      have z1 : (1 : Int) = bI True := (bI_t trivial).symm
      apply s_Type_hasPlain_13
      rw [Int.toNat_natCast, q.tmk t ht, q.tmn t ht, q.tmm t j ht (by omega)]
      refine ⟨fun c => by omega, fun _ => ⟨by omega, by omega, by omega, fun c => ?_, fun c => ?_⟩⟩
      · rw [mrf_0 (by omega)] at c
        exact g47 False 0 _ _ z0 (no (fun ⟨m, a, b, _, e⟩ => own_none c a ⟨b, e⟩))
      · rw [mrf_0 (by omega)] at c
        obtain ⟨m, hm⟩ : ∃ m : Nat, own p t j = (m : Int) := ⟨(own p t j).toNat, by omega⟩
        obtain ⟨m1, m2, m3⟩ := own_is hm
        have em : mrf (own p t j) = mA m := by rw [mrf_s c, hm, Int.toNat_natCast]
        have es := q.ms m m1
        have ws := (w5 m m1).2.2.1
        rw [em]
        refine ⟨q.mkk m m1, fun c2 => ?_, fun c2 => ?_⟩
        · refine g47 False 0 _ _ z0 (no (fun ⟨m', a, b, b2, e⟩ => ?_))
          have := hw.2.2.2.2.2.1 m' m a m1 (by omega) (by omega)
          rw [this] at b2
          omega
        · refine g47 True 1 _ _ z1 ⟨fun _ => ⟨m, m1, m2, by omega, by omega⟩, fun _ => Or.inr trivial⟩
  have k0 := key 10 0 (by omega)
  rw [bI_f (fun ⟨m, a, b, c, e⟩ => by
    have z := (w5 m a)
    have z1 := z.2.1
    have z2 := z.2.2.2.1
    have e' : nm p m < 0 := e
    have : so p m = 4 := z2.mpr (by omega)
    omega)] at k0
  exact k0
end CBG
