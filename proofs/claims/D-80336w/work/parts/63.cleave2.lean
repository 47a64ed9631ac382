/-! the component: leave -/
theorem fst_none {Q : Nat → Prop} {n : Nat} : fst Q n 0 = -1 ↔ ∀ j, j < n → ¬ Q j := by
  rw [fst_m1]
  exact ⟨fun z j hj => z j (Nat.zero_le _) (by omega), fun z j _ hj => z j (by omega)⟩
theorem fst_val {Q : Nat → Prop} {n j : Nat} (hj : j < n) (hQ : Q j) (hm : ∀ i, i < j → ¬ Q i) : fst Q n 0 = (j : Int) := by
  rcases fst_spec Q n 0 with ⟨_, h2⟩ | ⟨i, h1, h2, h3, h4, h5⟩
  · exact absurd hQ (h2 j (Nat.zero_le _) (by omega))
  · rcases Nat.lt_trichotomy i j with z | z | z
    · exact absurd h3 (hm i z)
    · rw [h5, z]
    · exact absurd hQ (h4 j (Nat.zero_le _) z)
theorem fst_add {Q Q' : Nat → Prop} {n m0 : Nat} (q : ∀ j, Q' j ↔ Q j ∨ j = m0) (h0 : m0 < n) : fst Q' n 0 = cI (fst Q n 0 = -1 ∨ (m0 : Int) < fst Q n 0) m0 (fst Q n 0) := by
  rcases fst_spec Q n 0 with ⟨h1, h2⟩ | ⟨i, h1, h2, h3, h4, h5⟩
  · rw [cI_t (Or.inl h1)]
    refine fst_val h0 ((q m0).mpr (Or.inr rfl)) (fun i hi z => ?_)
    rcases (q i).mp z with y | y
    · exact h2 i (Nat.zero_le _) (by omega) y
    · omega
  · rcases Classical.em (m0 < i) with e | e
    · rw [cI_t (Or.inr (by omega))]
      refine fst_val h0 ((q m0).mpr (Or.inr rfl)) (fun j hj z => ?_)
      rcases (q j).mp z with y | y
      · exact h4 j (Nat.zero_le _) (by omega) y
      · omega
    · rw [cI_f (by omega), h5]
      refine fst_val (by omega) ((q i).mpr (Or.inl h3)) (fun j hj z => ?_)
      rcases (q j).mp z with y | y
      · exact h4 j (Nat.zero_le _) hj y
      · omega
/-- the left ones of types below k; the plain of them -/
def lfk (p : Pg) (t : Nat) (x : Int) (k m : Nat) : Prop := lf p t x m ∧ ty p m < (k : Int)
def lpk (p : Pg) (t : Nat) (x : Int) (k m : Nat) : Prop := lp0 p t x m ∧ ty p m < (k : Int)
noncomputable def lvR (p : Pg) (t : Nat) (x : Int) : Int := cI (cnt (lp0 p t x) (nM p).toNat 0 = 1) (fst (lp0 p t x) (nM p).toNat 0) (fst (lf p t x) (nM p).toNat 0)
section CV
variable {l : Launch} {D : DD} {d kc ks : Nat} {h h0 : Hp} {Ψ : Option AV → Hp → Prop} {p g : Pg}
theorem CS_lv {h h' : Hp} (hw : WF p) (f : fx A205 B206 h h') (q : CS h p) : CS h' p := CS_fx hw f (fun a k z => by have z' : a = 20 ∧ k = 5 := z; unfold cst; omega) (fun a k z => by have z' : a = 20 ∧ k = 6 := z; unfold csr; omega) q
theorem mA_inj {a b : Nat} : mA a = mA b ↔ a = b := by unfold mA; omega
theorem ct_leave {t x : Nat} (q : CS h p) (hw : WF p) (ht : (t : Int) < nT p) (hx : x < 10) (k : ∀ h', fx A205 B206 h h' → xI h' 20 5 = cnt (lp0 p t x) (nM p).toNat 0 → xR h' 20 6 = mrf (lvR p t x) → Ψ none h') : Ev l D Y_G_leave (d + 3) kc ks 0 [some (vr 20), some (vr (tA t)), some (vi (x : Int)), none, none, none] [] h Ψ := by
  have w1 := hw.1
  have w2 := hw.2.1
  have w5 := hw.2.2.2.2.1
  have lfb : ∀ {m : Nat}, lf p t x m → (m : Int) < nM p ∧ 0 ≤ ty p m ∧ ty p m < nT p := fun {m} z => ⟨z.1.1, (w5 m z.1.1).1⟩
  have key : ∀ (n j : Nat) (h' : Hp) (pl : Nat), j + n = (nT p).toNat → fx A205 B206 h h' → xI h' 20 5 = cnt (lpk p t x j) (nM p).toNat 0 → xR h' 20 6 = mrf (fst (lfk p t x j) (nM p).toNat 0) → ((pl = 0 ∧ ∀ m : Nat, ¬ lpk p t x j m) ∨ ∃ m : Nat, pl = mA m ∧ lpk p t x j m) → Ev l D Y_G_leave (d + 3) kc ks 15 [some (vr 20), some (vr (tA t)), some (vi (x : Int)), some (vr pl), some (vi (j : Int)), none] [] h' Ψ := by
    intro n
    induction n with
    | zero =>
      intro j h' pl hj f e5 e6 hp
      have q' := CS_lv hw f q
      have ej : j = (nT p).toNat := by omega
      have ec : cnt (lpk p t x j) (nM p).toNat 0 = cnt (lp0 p t x) (nM p).toNat 0 := cnt_congr _ _ (fun m _ _ => ⟨fun z => z.1, fun z => ⟨z, by have := (lfb z.1).2; omega⟩⟩)
      have ef : fst (lfk p t x j) (nM p).toNat 0 = fst (lf p t x) (nM p).toNat 0 := fst_congr _ _ (fun m _ _ => ⟨fun z => z.1, fun z => ⟨z, by have := (lfb z).2; omega⟩⟩)
      rw [ec] at e5
      rw [ef] at e6
      have fin : ∀ y0 : Nat, y0 = mrf (lvR p t x) → Ev l D Y_G_leave (d + 3) kc ks 155 [some (vr 20), some (vr (tA t)), some (vi (x : Int)), some (vr pl), some (vi (j : Int)), none] [vr y0, vr 20] h' Ψ := by
        intro y0 ey
        apply g_G_leave_155 q'.sh
        intro h1 eh
        have f1 : fx A205 B206 h h1 := by rw [eh]; exact f.putR ⟨rfl, rfl⟩
        refine ⟨(CS_lv hw f1 q).sh, k h1 f1 ?_ ?_⟩
        · rw [eh]; exact e5
        · rw [eh, xR_sR, if_pos ⟨rfl, rfl⟩]; exact ey
      apply g_G_leave_15 q'.sh
      rw [q'.ct, e5, e6]
      refine ⟨fun _ => ⟨fun c => fin _ ?_, fun c => fin _ ?_⟩, fun c => by clear hp; omega⟩
      · unfold lvR; rw [cI_f c]
      · unfold lvR; rw [cI_t c]
        obtain ⟨m1, a1, a2, a3, a4⟩ := (cnt_1 _ _ _).mp c
        rcases hp with ⟨_, z⟩ | ⟨m, b1, b2⟩
        · exact absurd ⟨a3, by have := (lfb a3.1).2; omega⟩ (z m1)
        · have bm := lfb b2.1.1
          have e : m = m1 := a4 m (Nat.zero_le _) (by omega) b2.1
          rw [b1, fst_val (j := m) (by omega) b2.1 (fun i hi z => by have := a4 i (Nat.zero_le _) (by omega) z; omega), mrf_s (by omega), Int.toNat_natCast]
    | succ n ih =>
      intro j h' pl hj f e5 e6 hp
      have q' := CS_lv hw f q
      have hjt : (j : Int) < nT p := by omega
      have cb := cnt_le (lpk p t x j) (nM p).toNat 0
      apply g_G_leave_15 q'.sh
      rw [q'.ct, Int.toNat_natCast, Int.toNat_natCast, q'.trr j hjt, q'.tm j hjt, q'.tmk j hjt, q'.tmn j hjt, q'.tmm j x hjt hx]
      refine ⟨fun c => by omega, fun _ => ⟨by omega, by omega, q'.tk j hjt, by omega, by omega, by omega, by omega, by omega, ct_isLeft q' hw ht hjt hx ⟨q'.sh, fun c => ?_, fun c => ?_⟩⟩⟩
      · -- not left
        have nl : ∀ m : Nat, lf p t x m → ¬ ty p m = (j : Int) := by
          intro m hm z
          have := lf_T hw hm
          rw [z, Int.toNat_natCast] at this
          exact bI_0.mp c this
        have s1 : ∀ m : Nat, lfk p t x (j + 1) m ↔ lfk p t x j m := fun m => ⟨fun z => ⟨z.1, by have := nl m z.1; have := z.2; omega⟩, fun z => ⟨z.1, by have := z.2; omega⟩⟩
        have s2 : ∀ m : Nat, lpk p t x (j + 1) m ↔ lpk p t x j m := fun m => ⟨fun z => ⟨z.1, by have := nl m z.1.1; have := z.2; omega⟩, fun z => ⟨z.1, by have := z.2; omega⟩⟩
        apply g_G_leave_132 q'.sh
        rw [wr_s (show j < 1000000 by omega)]
        refine ih (j + 1) h' pl (by omega) f ?_ ?_ ?_
        · rw [e5]; exact (cnt_congr _ _ (fun m _ _ => s2 m)).symm
        · rw [e6, fst_congr _ _ (fun m _ _ => s1 m)]
        · rcases hp with ⟨z1, z2⟩ | ⟨m, b1, b2⟩
          · exact Or.inl ⟨z1, fun m z => z2 m ((s2 m).mp z)⟩
          · exact Or.inr ⟨m, b1, (s2 m).mpr b2⟩
      · rw [bI_n] at c
        obtain ⟨m0, o1, o2, o3, o4⟩ := T_lf hw c
        have em : mrf (own p j x) = mA m0 := by rw [mrf_s (by omega), o1, Int.toNat_natCast]
        have uq : ∀ m : Nat, lf p t x m → ty p m = (j : Int) → m = m0 := by
          intro m hm z
          have a := (mnt_cd hw hm.1).2
          rw [z, o1] at a
          omega
        have s1 : ∀ m : Nat, lfk p t x (j + 1) m ↔ lfk p t x j m ∨ m = m0 := fun m => ⟨fun z => by
            rcases Classical.em (ty p m = (j : Int)) with y | y
            · exact Or.inr (uq m z.1 y)
            · exact Or.inl ⟨z.1, by have := z.2; omega⟩, fun z => z.elim (fun y => ⟨y.1, by have := y.2; omega⟩) (fun y => by rw [y]; exact ⟨o4, by omega⟩)⟩
        have n0 : ¬ lfk p t x j m0 := fun z => by have := z.2; omega
        have b0 := fst_bd (lfk p t x j) (nM p).toNat 0
        have eF := fst_add s1 (n := (nM p).toNat) (by omega)
        rw [em]
        -- after the least is set
        have g86 : ∀ y0 : Nat, y0 = mrf (fst (lfk p t x (j + 1)) (nM p).toNat 0) → Ev l D Y_G_leave (d + 3) kc ks 86 [some (vr 20), some (vr (tA t)), some (vi (x : Int)), some (vr pl), some (vi (j : Int)), some (vr (mA m0))] [vr y0, vr 20] h' Ψ := by
          intro y0 ey
          apply g_G_leave_86 q'.sh
          intro h1 eh
          have f1 : fx A205 B206 h h1 := by rw [eh]; exact f.putR ⟨rfl, rfl⟩
          have q1 := CS_lv hw f1 q
          have e51 : xI h1 20 5 = cnt (lpk p t x j) (nM p).toNat 0 := by rw [eh]; exact e5
          have e61 : xR h1 20 6 = mrf (fst (lfk p t x (j + 1)) (nM p).toNat 0) := by rw [eh, xR_sR, if_pos ⟨rfl, rfl⟩]; exact ey
          have es := q1.ms m0 o2
          have ws := (w5 m0 o2).2.2.1
          have g110 : ∀ y : Int, y = bI (so p m0 = 0) → Ev l D Y_G_leave (d + 3) kc ks 110 [some (vr 20), some (vr (tA t)), some (vi (x : Int)), some (vr pl), some (vi (j : Int)), some (vr (mA m0))] [vi y, vi (cnt (lpk p t x j) (nM p).toNat 0), vr 20] h1 Ψ := by
            intro y ey2
            have b01 := bI_01 (so p m0 = 0)
            apply g_G_leave_110 q1.sh
            intro h2 eh2
            rw [wr_eq (by omega) (by omega)] at eh2
            have f2 : fx A205 B206 h h2 := by rw [eh2]; exact f1.put ⟨rfl, rfl⟩
            have q2 := CS_lv hw f2 q
            have es2 := q2.ms m0 o2
            have e62 : xR h2 20 6 = mrf (fst (lfk p t x (j + 1)) (nM p).toNat 0) := by rw [eh2]; exact e61
            have e52 : xI h2 20 5 = cnt (lpk p t x j) (nM p).toNat 0 + y := by rw [eh2, xI_sI, if_pos ⟨rfl, rfl⟩]
            refine ⟨q2.mkk m0 o2, fun c2 => ?_, fun c2 => ?_⟩
            · have s2 : ∀ m : Nat, lpk p t x (j + 1) m ↔ lpk p t x j m := fun m => ⟨fun z => by
                  rcases (s1 m).mp ⟨z.1.1, z.2⟩ with y | y
                  · exact ⟨z.1, y.2⟩
                  · exfalso; rw [y] at z; have := z.1.2; omega, fun z => ⟨z.1, by have := z.2; omega⟩⟩
              apply g_G_leave_132 q2.sh
              rw [wr_s (show j < 1000000 by omega)]
              refine ih (j + 1) h2 pl (by omega) f2 ?_ e62 ?_
              · rw [e52, ey2, bI_f (by omega), Int.add_zero]; exact (cnt_congr _ _ (fun m _ _ => s2 m)).symm
              · rcases hp with ⟨z1, z2⟩ | ⟨m, b1, b2⟩
                · exact Or.inl ⟨z1, fun m z => z2 m ((s2 m).mp z)⟩
                · exact Or.inr ⟨m, b1, (s2 m).mpr b2⟩
            · have so0 : so p m0 = 0 := by omega
              have s2 : ∀ m : Nat, lpk p t x (j + 1) m ↔ lpk p t x j m ∨ m = m0 := fun m => ⟨fun z => by
                  rcases (s1 m).mp ⟨z.1.1, z.2⟩ with y | y
                  · exact Or.inl ⟨z.1, y.2⟩
                  · exact Or.inr y, fun z => z.elim (fun y => ⟨y.1, by have := y.2; omega⟩) (fun y => by rw [y]; exact ⟨⟨o4, so0⟩, by omega⟩)⟩
              apply g_G_leave_132 q2.sh
              rw [wr_s (show j < 1000000 by omega)]
              refine ih (j + 1) h2 (mA m0) (by omega) f2 ?_ e62 (Or.inr ⟨m0, rfl, (s2 m0).mpr (Or.inr rfl)⟩)
              rw [e52, ey2, bI_t so0]
              exact (cnt_add1 s2 (fun z => by have := z.2; omega) _ _ (by omega) (by omega)).symm
          rw [e51]
          exact ⟨(CS_lv hw f1 q).sh, q1.mkk m0 o2, fun c2 => g110 0 (bI_f (by omega)).symm, fun c2 => g110 1 (bI_t (by omega)).symm⟩
        rw [e6]
        rcases fst_spec (lfk p t x j) (nM p).toNat 0 with ⟨h1, h2⟩ | ⟨i0, i1, i2, i3, i4, i5⟩
        · refine ⟨fun _ => g86 _ ?_, fun c2 => absurd ((mrf_0 (by omega)).mpr h1) c2⟩
          rw [eF, cI_t (Or.inl h1), mrf_s (by omega), Int.toNat_natCast]
        · have ib := lfb i3.1
          have ei : mrf (fst (lfk p t x j) (nM p).toNat 0) = mA i0 := by rw [i5, mrf_s (by omega), Int.toNat_natCast]
          rw [ei, q'.mn m0 o2, q'.mn i0 ib.1]
          refine ⟨fun c2 => absurd c2 (by unfold mA; omega), fun _ => ⟨q'.mkk m0 o2, q'.mkk i0 ib.1, fun c2 => g86 _ ?_, fun c2 => g86 _ ?_⟩⟩
          · rw [eF, cI_f (by omega), ei]
          · rw [eF, cI_t (by omega), mrf_s (by omega), Int.toNat_natCast]
  apply g_G_leave_0 q.sh
  intro h1 e1 h2 e2
  have f2 : fx A205 B206 h h2 := by rw [e2, e1]; exact (fx.rf.put ⟨rfl, rfl⟩).putR ⟨rfl, rfl⟩
  refine ⟨(CS_lv hw f2 q).sh, ?_⟩
  have nk : ∀ m : Nat, ¬ lfk p t x 0 m := fun m z => by have := (lfb z.1).2; have := z.2; omega
  refine key (nT p).toNat 0 h2 0 (by omega) f2 ?_ ?_ (Or.inl ⟨rfl, fun m z => nk m ⟨z.1.1, z.2⟩⟩)
  · rw [e2, (cnt_0 _ _ _).mpr (fun m _ _ z => nk m ⟨z.1.1, z.2⟩)]
    rw [e1]
    show xI (sI h 20 5 0) 20 5 = 0
    rw [xI_sI, if_pos ⟨rfl, rfl⟩]
  · rw [e2, xR_sR, if_pos ⟨rfl, rfl⟩, fst_none.mpr (fun m _ => nk m)]; rfl
end CV
