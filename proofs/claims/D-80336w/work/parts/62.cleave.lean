/-! the component: isLeft, leave -/
abbrev A205 : Nat → Nat → Prop := fun a k => a = 20 ∧ k = 5
abbrev B206 : Nat → Nat → Prop := fun a k => a = 20 ∧ k = 6
def lfT (p : Pg) (t u : Nat) (x : Int) : Prop := mnt p t u x ∧ ∀ k : Nat, (k : Int) < nT p → k = u ∨ ¬ U p k u ∨ ¬ mnt p t k x
theorem mnt_cd {p : Pg} (hw : WF p) {t m : Nat} {x : Int} (h : cd p t x m) : mnt p t (ty p m).toNat x ∧ own p (ty p m) x = (m : Int) := by
  have h1 := h.1
  have wt := (hw.2.2.2.2.1 m h1).1
  have e := own_eq hw h1
  rw [h.2.1] at e
  refine ⟨?_, e⟩
  unfold mnt
  rw [show (((ty p m).toNat : Nat) : Int) = ty p m by omega, e, Int.toNat_natCast]
  exact ⟨by omega, h⟩
theorem lf_T {p : Pg} (hw : WF p) {t m : Nat} {x : Int} (h : lf p t x m) : lfT p t (ty p m).toNat x := by
  have w5 := hw.2.2.2.2.1
  refine ⟨(mnt_cd hw h.1).1, fun k hk => ?_⟩
  rcases Classical.em (k = (ty p m).toNat) with e | e
  · exact Or.inl e
  · right
    rcases Classical.em (U p k (ty p m).toNat ∧ mnt p t k x) with z | z
    · exfalso
      obtain ⟨z1, z2, z3⟩ := z
      have ob := own_bd hw (k : Int) x
      obtain ⟨o, ho⟩ : ∃ o : Nat, own p k x = (o : Int) := ⟨(own p k x).toNat, by omega⟩
      rw [ho, Int.toNat_natCast] at z3
      obtain ⟨o1, o2, o3⟩ := own_is ho
      have wt := (w5 m h.1.1).1
      refine h.2 o ⟨z3, by omega, ?_⟩
      rw [o2, Int.toNat_natCast]; exact z1
    · rcases Classical.em (U p k (ty p m).toNat) with y | y
      · exact Or.inr (fun w => z ⟨y, w⟩)
      · exact Or.inl y
theorem T_lf {p : Pg} (hw : WF p) {t u : Nat} {x : Int} (h : lfT p t u x) : ∃ m : Nat, own p u x = (m : Int) ∧ (m : Int) < nM p ∧ ty p m = (u : Int) ∧ lf p t x m := by
  have w5 := hw.2.2.2.2.1
  have ob := own_bd hw (u : Int) x
  have h1 := h.1.1
  obtain ⟨m, hm⟩ : ∃ m : Nat, own p u x = (m : Int) := ⟨(own p u x).toNat, by omega⟩
  obtain ⟨m1, m2, m3⟩ := own_is hm
  have hc := h.1.2
  rw [hm, Int.toNat_natCast] at hc
  refine ⟨m, hm, m1, m2, hc, fun o b => ?_⟩
  obtain ⟨b1, b2, b3⟩ := b
  have wt := (w5 o b1.1).1
  have hmn := (mnt_cd hw b1).1
  rcases h.2 (ty p o).toNat (by omega) with z | z | z
  · omega
  · rw [m2, Int.toNat_natCast] at b3; exact z b3
  · exact z hmn
section CL
variable {l : Launch} {D : DD} {d kc ks : Nat} {h h0 : Hp} {Ψ : Option AV → Hp → Prop} {p g : Pg}
theorem ct_isLeft {t u x : Nat} (q : CS h p) (hw : WF p) (ht : (t : Int) < nT p) (hu : (u : Int) < nT p) (hx : x < 10) (k : Ψ (some (vi (bI (lfT p t u x)))) h) : Ev l D Y_G_isLeft (d + 2) kc ks 0 [some (vr 20), some (vr (tA t)), some (vr (tA u)), some (vi (x : Int)), none, none] [] h Ψ := by
  have w1 := hw.1
  apply g_G_isLeft_0 q.sh
  refine ct_isMeant q hw ht hu hx ⟨q.sh, ?_⟩
  have key : ∀ (n j : Nat), j + n = (nT p).toNat → Ev l D Y_G_isLeft (d + 2) kc ks 11 [some (vr 20), some (vr (tA t)), some (vr (tA u)), some (vi (x : Int)), some (vi (bI (mnt p t u x ∧ ∀ i : Nat, i < j → i = u ∨ ¬ U p i u ∨ ¬ mnt p t i x))), some (vi (j : Int))] [] h Ψ := by
    intro n
    induction n with
    | zero =>
      intro j hj
      have e : bI (mnt p t u x ∧ ∀ i : Nat, i < j → i = u ∨ ¬ U p i u ∨ ¬ mnt p t i x) = bI (lfT p t u x) := bI_c (and_congr Iff.rfl ⟨fun z i hi => z i (by omega), fun z i hi => z i (by omega)⟩)
      rw [e]
      apply g_G_isLeft_11 q.sh
      rw [q.ct]
      exact ⟨fun _ => ⟨bI_01 _, k⟩, fun c => by omega⟩
    | succ n ih =>
      intro j hj
      have hjt : (j : Int) < nT p := by omega
      have g70 : ∀ y0 x4 : Int, y0 = bI (mnt p t u x ∧ ∀ i : Nat, i < j + 1 → i = u ∨ ¬ U p i u ∨ ¬ mnt p t i x) → Ev l D Y_G_isLeft (d + 2) kc ks 70 [some (vr 20), some (vr (tA t)), some (vr (tA u)), some (vi (x : Int)), some (vi x4), some (vi (j : Int))] [vi y0] h Ψ := by
        intro y0 x4 ey
        apply g_G_isLeft_70 q.sh
        rw [wr_s (show j < 1000000 by omega), ey]
        exact ih (j + 1) (by omega)
      have yes : ¬ bI (mnt p t u x ∧ ∀ i : Nat, i < j → i = u ∨ ¬ U p i u ∨ ¬ mnt p t i x) = 0 → (j = u ∨ ¬ U p j u ∨ ¬ mnt p t j x) → (1 : Int) = bI (mnt p t u x ∧ ∀ i : Nat, i < j + 1 → i = u ∨ ¬ U p i u ∨ ¬ mnt p t i x) := by
        intro c1 c2
        have c3 := bI_n.mp c1
        refine (bI_t ⟨c3.1, fun i hi => ?_⟩).symm
        rcases Nat.eq_or_lt_of_le (Nat.le_of_lt_succ hi) with z | z
        · rw [z]; exact c2
        · exact c3.2 i z
      apply g_G_isLeft_11 q.sh
      rw [q.ct]
      refine ⟨fun c => by omega, fun _ => ⟨fun c => ?_, fun c => ?_⟩⟩
      · rw [c]
        have nf : ¬ lfT p t u x := fun z => bI_0.mp c ⟨z.1, fun i hi => z.2 i (by omega)⟩
        rw [bI_f nf] at k
        exact ⟨Or.inl rfl, k⟩
      · rw [Int.toNat_natCast, q.trr j hjt]
        refine ⟨by omega, by omega, fun c2 => g70 1 _ (yes c (Or.inl (tA_inj.mp c2))), fun c2 => ⟨by omega, by omega, q.tk j hjt, ct_isUnder q hw hjt hu ⟨q.sh, fun c3 => g70 1 _ (yes c (Or.inr (Or.inl (bI_0.mp c3)))), fun c3 => ⟨by omega, by omega, ?_⟩⟩⟩⟩
        rw [q.trr j hjt]
        refine ct_isMeant q hw ht hjt hx ⟨q.sh, fun c4 => g70 0 _ ?_, fun c4 => g70 1 _ (yes c (Or.inr (Or.inr (bI_0.mp c4))))⟩
        refine (bI_f (fun z => ?_)).symm
        rcases z.2 j (by omega) with y | y | y
        · exact c2 (by rw [y])
        · exact y (bI_n.mp c3)
        · exact y (bI_n.mp c4)
  have k0 := key (nT p).toNat 0 (by omega)
  rw [bI_c (show (mnt p t u x ∧ ∀ i : Nat, i < 0 → i = u ∨ ¬ U p i u ∨ ¬ mnt p t i x) ↔ mnt p t u x from ⟨fun z => z.1, fun z => ⟨z, fun i hi => by omega⟩⟩)] at k0
  exact k0
end CL
