/-! the graph: an op is followed -/
section GR2
variable {l : Launch} {D : DD} {d kc ks : Nat} {h h0 : Hp} {Ψ : Option AV → Hp → Prop} {p g : Pg}
theorem ct_M_callAll {o t : Nat} {x : Int} (q : Gv p h0 h g) (ho : o < 160) (ht : (t : Int) < nT p) (k : ∀ h', Gv p h0 h' (gca p o t x (nT p).toNat 0 0 g) → Ψ none h') : Ev l D Y_M_callAll (d + 4) kc ks 0 [some (vr 100), some (vi (o : Int)), some (vi (t : Int)), some (vi x), none, none, none, none] [] h Ψ := by
  have hw := q.2.1.2.2.1
  have w1 := hw.1
  have w2 := hw.2.1
  have fb := fnd_bd hw t x
  apply m_M_callAll_0 q.2.1.1
  refine ct_M_find q.2.1 ht (fun h1 s1 => ⟨s1.2.1, ?_⟩)
  have key : ∀ (n i : Nat) (s : Int) (h' : Hp) (g' : Pg), i + n = (nT p).toNat → Gv p h0 h' g' → gca p o t x n i s g' = gca p o t x (nT p).toNat 0 0 g → Ev l D Y_M_callAll (d + 4) kc ks 14 [some (vr 100), some (vi (o : Int)), some (vi (t : Int)), some (vi x), some (vi (fnd p t x)), some (vi s), some (vi (i : Int)), none] [] h' Ψ := by
    intro n
    induction n with
    | zero =>
      intro i s h' g' hi r1 eg
      apply m_M_callAll_14 r1.2.1.1
      rw [(r1.2.1.2.1).nT]
      refine ⟨fun _ => k h' ?_, fun c => by omega⟩
      rw [← eg]; exact r1
    | succ n ih =>
      intro i s h' g' hi r1 eg
      have e0 := (r1.2.1.2.1).nT
      have e2 := r1.2.2 120 i (by unfold dyn; omega)
      have g78 : (¬ g' 120 i = 0 ∧ U p i t) → ∀ h2 y0, Gv p h0 h2 g' → y0 = chf p i t x → Ev l D Y_M_callAll (d + 4) kc ks 78 [some (vr 100), some (vi (o : Int)), some (vi (t : Int)), some (vi x), some (vi (fnd p t x)), some (vi s), some (vi (i : Int)), none] [vi y0] h2 Ψ := by
        intro hc h2 y0 r2 ey
        subst ey
        have eg1 : gca p o t x (n + 1) i s g' = gca p o t x n (i + 1) 1 (gca1 o (chf p i t x) s g') := by
          show gca p o t x n (i + 1) _ _ = _
          rw [cI_t hc, cG_t hc]
        rw [eg1] at eg
        have cb := chf_bd hw i t x
        have nx : ∀ h3 g3, Gv p h0 h3 g3 → gca1 o (chf p i t x) s g' = g3 → Ev l D Y_M_callAll (d + 4) kc ks 14 [some (vr 100), some (vi (o : Int)), some (vi (t : Int)), some (vi x), some (vi (fnd p t x)), some (vi 1), some (vi ((i + 1 : Nat) : Int)), none] [] h3 Ψ := fun h3 g3 r3 e3 => ih (i + 1) 1 h3 g3 (by omega) r3 (by rw [← e3]; exact eg)
        apply m_M_callAll_78 r2.2.1.1
        simp only [wr_s (show i < 1000000 by omega)]
        refine ⟨fun c => ⟨fun c2 => ct_M_fault r2 ho (by omega) (fun h3 _ r3 => ⟨r3.2.1.1, nx h3 _ r3 ?_⟩), fun c2 => ⟨fun c3 => nx h2 _ r2 ?_, fun c3 => ct_M_fault r2 ho (by omega) (fun h3 _ r3 => ⟨r3.2.1.1, nx h3 _ r3 ?_⟩)⟩⟩, fun c => ?_⟩
        · unfold gca1; rw [cG_f (by omega), cG_t (Or.inl c2)]
        · unfold gca1; rw [cG_f (by omega), cG_f (by omega)]
        · unfold gca1; rw [cG_f (by omega), cG_t (Or.inr c3)]
        · obtain ⟨m, hm⟩ : ∃ m : Nat, chf p i t x = (m : Int) := ⟨(chf p i t x).toNat, by omega⟩
          rw [hm] at nx cb ⊢
          refine ct_M_call r2 ho (by omega) (fun h3 _ r3 => ⟨r3.2.1.1, nx h3 _ r3 ?_⟩)
          unfold gca1; rw [cG_t (by omega), Int.toNat_natCast]
      have skip : ¬ (¬ g' 120 i = 0 ∧ U p i t) → ∀ h2, Gv p h0 h2 g' → Ev l D Y_M_callAll (d + 4) kc ks 14 [some (vr 100), some (vi (o : Int)), some (vi (t : Int)), some (vi x), some (vi (fnd p t x)), some (vi s), some (vi ((i + 1 : Nat) : Int)), none] [] h2 Ψ := by
        intro hc h2 r2
        refine ih (i + 1) s h2 g' (by omega) r2 ?_
        rw [← eg]
        show _ = gca p o t x n (i + 1) _ _
        rw [cI_f hc, cG_f hc]
      apply m_M_callAll_14 r1.2.1.1
      simp only [e0, Int.toNat_natCast, e2, wr_s (show i < 1000000 by omega)]
      refine ⟨fun c => by omega, fun _ => ⟨by omega, by omega, fun c => skip (fun z => z.1 c) h' r1, fun c => ct_M_isUnderI r1.2.1 ⟨by omega, by omega⟩ ⟨by omega, by omega⟩ (fun h2 u1 => ⟨u1.2.1, ?_⟩)⟩⟩
      have r2 := r1.sc u1
      rw [Int.toNat_natCast, Int.toNat_natCast]
      refine ⟨fun c2 => skip (fun z => bI_0.mp c2 z.2) h2 r2, fun c2 => ?_⟩
      have hc : ¬ g' 120 i = 0 ∧ U p i t := ⟨c, bI_n.mp c2⟩
      have e3 := (r2.2.1.2.1).so (fnd p t x).toNat
      refine ⟨fun c3 => ⟨by omega, by omega, fun c4 => ?_, fun c4 => g78 hc h2 _ r2 ?_⟩, fun c3 => g78 hc h2 _ r2 ?_⟩
      · rw [e3] at c4
        obtain ⟨f, hf⟩ : ∃ f : Nat, fnd p t x = (f : Int) := ⟨(fnd p t x).toNat, by omega⟩
        have ec : chf p i t x = cho p i f := by unfold chf; rw [cI_f c3, cI_f c4, hf, Int.toNat_natCast]
        rw [hf] at fb g78 ⊢
        exact ct_M_choose r2.2.1 (by omega) (by omega) (fun h3 v1 => ⟨v1.2.1, g78 hc h3 _ (r2.sc v1) ec.symm⟩)
      · rw [e3] at c4; unfold chf; rw [cI_f c3, cI_t c4]
      · unfold chf; rw [cI_t c3]
  exact key (nT p).toNat 0 0 h1 g (by omega) (q.sc s1) rfl
theorem ct_M_follow {o : Nat} (q : Gv p h0 h g) (ho : (o : Int) < nO p) (k : ∀ h', Gv p h0 h' (gfol p o g) → Ψ none h') : Ev l D Y_M_follow (d + 5) kc ks 0 [some (vr 100), some (vi (o : Int)), none, none, none, none, none] [] h Ψ := by
  have hw := q.2.1.2.2.1
  have w1 := hw.1
  have w2 := hw.2.1
  have w3 := hw.2.2.1
  obtain ⟨o1, o2, o3, o4, o5⟩ := hw.2.2.2.2.2.2 o ho
  have ho' : o < 160 := by omega
  have ea := (q.2.1.2.1).oA o
  have eb := (q.2.1.2.1).oB o
  apply m_M_follow_0 q.2.1.1
  rw [Int.toNat_natCast, ea, eb]
  refine ⟨by omega, by omega, by omega, by omega, ?_⟩
  have g17 : ∀ h4 g4, Gv p h0 h4 g4 → gfk p o g4 = gfol p o g → Ev l D Y_M_follow (d + 5) kc ks 17 [some (vr 100), some (vi (o : Int)), some (vi (oA p o)), some (vi (oB p o)), some (vi (4 : Int)), none, none] [] h4 Ψ := by
    intro h4 g4 r1 eg
    have e1 := r1.2.2 100 17 (by unfold dyn; omega)
    have ek := (r1.2.1.2.1).ok o
    apply m_M_follow_17 r1.2.1.1
    refine ⟨fun _ => ?_, fun c => by omega⟩
    rw [Int.toNat_natCast, ek]
    refine ⟨by omega, by omega, fun c => ?_, fun c => ?_, fun c => ?_, fun c => ?_, fun c => ?_, fun c => ?_, fun c => ?_, fun c => ?_⟩
    · -- new
      obtain ⟨a, ha⟩ : ∃ a : Nat, oA p o = (a : Int) := ⟨(oA p o).toNat, by have := o2 (by omega); omega⟩
      have hab := o2 (by omega)
      rw [show gfk p o g4 = _ from cG_t c, ha, Int.toNat_natCast] at eg
      rw [ha] at hab ⊢
      have e2 := r1.2.2 120 a (by unfold dyn; omega)
      have g110 : ∀ y0 : Int, y0 = bI (¬ g4 100 17 = 0 ∨ g4 120 a = 0) → Ev l D Y_M_follow (d + 5) kc ks 110 [some (vr 100), some (vi (o : Int)), some (vi (a : Int)), some (vi (oB p o)), some (vi (4 : Int)), none, none] [vi y0, vr 100] h4 Ψ := by
        intro y0 ey
        apply m_M_follow_110 r1.2.1.1
        rw [Int.toNat_natCast]
        refine ⟨by rw [ey]; exact bI_01 _, fun h5 eh5 => ⟨by omega, by omega, fun h6 eh6 => ?_⟩⟩
        subst eh5; subst eh6
        have r3 : Gv p h0 (sI (sI h4 100 17 y0) 120 a 1) (gs (gw g4 (g4 120 a = 0)) 120 a 1) := by
          rw [ey]; exact (r1.put (a := 100) (k := 17) (by unfold dyn; omega)).put (by unfold dyn; omega)
        refine ct_M_beginBy r3 ho' (by omega) (fun h7 r4 => ⟨r4.2.1.1, k h7 ?_⟩)
        rw [← eg]; exact r4
      rw [e1, Int.toNat_natCast, e2]
      exact ⟨fun c2 => g110 1 (bI_t (Or.inl c2)).symm, fun c2 => ⟨by omega, by omega, fun c3 => g110 0 (bI_f (fun z => z.elim (fun y => y c2) c3)).symm, fun c3 => g110 1 (bI_t (Or.inr c3)).symm⟩⟩
    · obtain ⟨a, ha⟩ : ∃ a : Nat, oA p o = (a : Int) := ⟨(oA p o).toNat, by have := o2 (by omega); omega⟩
      have hab := o2 (by omega)
      rw [show gfk p o g4 = _ from (cG_f (by omega)).trans (cG_t (Or.inl c)), ha, Int.toNat_natCast] at eg
      rw [ha] at hab ⊢
      refine ct_M_callAll r1 ho' (by omega) (fun h5 r2 => ⟨r2.2.1.1, k h5 ?_⟩)
      rw [← eg]; exact r2
    · obtain ⟨a, ha⟩ : ∃ a : Nat, oA p o = (a : Int) := ⟨(oA p o).toNat, by have := o2 (by omega); omega⟩
      have hab := o2 (by omega)
      rw [show gfk p o g4 = _ from (cG_f (by omega)).trans ((cG_f (by omega)).trans (cG_t c)), ha, Int.toNat_natCast] at eg
      rw [ha] at hab ⊢
      have cb := chf_bd hw a a (oB p o)
      refine ct_M_chosenOf r1.2.1 (by omega) (by omega) (fun h5 s5 => ⟨s5.2.1, fun c2 => ?_, fun c2 => ?_⟩)
      · refine ct_M_fault (r1.sc s5) ho' (by omega) (fun h6 _ r3 => ⟨r3.2.1.1, k h6 ?_⟩)
        rw [← eg, cG_f (by omega)]; exact r3
      · obtain ⟨m, hm⟩ : ∃ m : Nat, chf p a a (oB p o) = (m : Int) := ⟨(chf p a a (oB p o)).toNat, by omega⟩
        rw [cG_t c2, hm, Int.toNat_natCast] at eg
        rw [hm] at cb ⊢
        refine ct_M_call (r1.sc s5) ho' (by omega) (fun h6 _ r3 => ⟨r3.2.1.1, k h6 ?_⟩)
        rw [← eg]; exact r3
    · obtain ⟨a, ha⟩ : ∃ a : Nat, oA p o = (a : Int) := ⟨(oA p o).toNat, by have := o2 (by omega); omega⟩
      have hab := o2 (by omega)
      rw [show gfk p o g4 = _ from (cG_f (by omega)).trans ((cG_f (by omega)).trans ((cG_f (by omega)).trans (cG_t c))), ha, Int.toNat_natCast] at eg
      rw [ha] at hab ⊢
      have fb := fnd_bd hw a (oB p o)
      refine ct_M_find r1.2.1 (by omega) (fun h5 s5 => ⟨s5.2.1, fun c2 => ⟨fun c3 => absurd c2 c3, fun _ => ?_⟩, fun c2 => ⟨by omega, by omega, fun c3 => ⟨fun _ => ?_, fun c4 => absurd c4 c2⟩, fun c3 => ?_⟩⟩)
      · rw [cG_f (fun z => z.1 c2), cI_t c2] at eg
        refine ct_M_fault (r1.sc s5) ho' (by omega) (fun h6 _ r3 => ⟨r3.2.1.1, k h6 ?_⟩)
        rw [← eg]; exact r3
      · rw [(s5.2.2.1).so] at c3
        rw [cG_f (fun z => c3 z.2), cI_f c2] at eg
        refine ct_M_fault (r1.sc s5) ho' (by omega) (fun h6 _ r3 => ⟨r3.2.1.1, k h6 ?_⟩)
        rw [← eg]; exact r3
      · rw [(s5.2.2.1).so] at c3
        rw [cG_t ⟨c2, c3⟩] at eg
        obtain ⟨f, hf⟩ : ∃ f : Nat, fnd p a (oB p o) = (f : Int) := ⟨(fnd p a (oB p o)).toNat, by omega⟩
        rw [hf, Int.toNat_natCast] at eg
        rw [hf] at fb ⊢
        have wf := (hw.2.2.2.2.1 f (by omega)).1
        refine ct_M_call (r1.sc s5) ho' (by omega) (fun h6 _ r3 => ⟨r3.2.1.1, by omega, by omega, ?_⟩)
        rw [Int.toNat_natCast, (r3.2.1.2.1).ty f]
        obtain ⟨b, hb⟩ : ∃ b : Nat, ty p f = (b : Int) := ⟨(ty p f).toNat, by omega⟩
        rw [hb, Int.toNat_natCast] at eg
        rw [hb] at wf ⊢
        refine ct_M_beginBy r3 ho' (by omega) (fun h7 r4 => ⟨r4.2.1.1, k h7 ?_⟩)
        rw [← eg]; exact r4
    · obtain ⟨a, ha⟩ : ∃ a : Nat, oA p o = (a : Int) := ⟨(oA p o).toNat, by have := o2 (by omega); omega⟩
      have hab := o2 (by omega)
      rw [show gfk p o g4 = _ from (cG_f (by omega)).trans (cG_t (Or.inr c)), ha, Int.toNat_natCast] at eg
      rw [ha] at hab ⊢
      refine ct_M_callAll r1 ho' (by omega) (fun h5 r2 => ⟨r2.2.1.1, k h5 ?_⟩)
      rw [← eg]; exact r2
    · obtain ⟨a, ha⟩ : ∃ a : Nat, oA p o = (a : Int) := ⟨(oA p o).toNat, by have := o3 (by omega) (by omega); omega⟩
      obtain ⟨b, hb⟩ : ∃ b : Nat, oB p o = (b : Int) := ⟨(oB p o).toNat, by have := o4 c; omega⟩
      have hab := o3 (by omega) (by omega)
      have hbb := o4 c
      rw [show gfk p o g4 = _ from (cG_f (by omega)).trans ((cG_f (by omega)).trans ((cG_f (by omega)).trans ((cG_f (by omega)).trans (cG_t c)))), ha, hb, Int.toNat_natCast, Int.toNat_natCast] at eg
      rw [ha] at hab ⊢
      rw [hb] at hbb ⊢
      have ix : wr (wr ((48 : Int) * (a : Int)) + (b : Int)) = ((48 * a + b : Nat) : Int) := by rw [wr_eq (x := 48 * (a : Int)) (by omega) (by omega), wr_eq (by omega) (by omega)]; omega
      have e2 := r1.2.2 122 (48 * a + b) (by unfold dyn; omega)
      have g278 : ∀ y0 : Int, y0 = bI (¬ g4 100 17 = 0 ∨ g4 122 (48 * a + b) = 0) → Ev l D Y_M_follow (d + 5) kc ks 278 [some (vr 100), some (vi (o : Int)), some (vi (a : Int)), some (vi (b : Int)), some (vi (4 : Int)), none, none] [vi y0, vr 100] h4 Ψ := by
        intro y0 ey
        apply m_M_follow_278 r1.2.1.1
        rw [ix, Int.toNat_natCast]
        refine ⟨by rw [ey]; exact bI_01 _, fun h5 eh5 => ⟨by omega, by omega, fun h6 eh6 => ?_⟩⟩
        subst eh5; subst eh6
        refine k _ ?_
        rw [← eg, ey]; exact (r1.put (a := 100) (k := 17) (by unfold dyn; omega)).put (by unfold dyn; omega)
      rw [e1, ix, Int.toNat_natCast, e2]
      exact ⟨fun c2 => g278 1 (bI_t (Or.inl c2)).symm, fun c2 => ⟨by omega, by omega, fun c3 => g278 0 (bI_f (fun z => z.elim (fun y => y c2) c3)).symm, fun c3 => g278 1 (bI_t (Or.inr c3)).symm⟩⟩
    · obtain ⟨a, ha⟩ : ∃ a : Nat, oA p o = (a : Int) := ⟨(oA p o).toNat, by have := o3 (by omega) (by omega); omega⟩
      have hab := o3 (by omega) (by omega)
      rw [show gfk p o g4 = _ from (cG_f (by omega)).trans ((cG_f (by omega)).trans ((cG_f (by omega)).trans ((cG_f (by omega)).trans ((cG_f (by omega)).trans (cG_t c))))), ha, Int.toNat_natCast] at eg
      rw [ha] at hab ⊢
      have key : ∀ (n i : Nat) (h' : Hp) (g' : Pg), i + n = (nM p).toNat → Gv p h0 h' g' → gou o a n i g' = gou o a (nM p).toNat 0 g4 → Ev l D Y_M_follow (d + 5) kc ks 299 [some (vr 100), some (vi (o : Int)), some (vi (a : Int)), some (vi (oB p o)), some (vi (4 : Int)), none, some (vi (i : Int))] [] h' Ψ := by
        intro n
        induction n with
        | zero =>
          intro i h' g' hi r1 eg2
          apply m_M_follow_299 r1.2.1.1
          rw [(r1.2.1.2.1).nM]
          refine ⟨fun _ => k h' ?_, fun c => by omega⟩
          rw [← eg, ← eg2]; exact r1
        | succ n ih =>
          intro i h' g' hi r1 eg2
          have ix : wr (wr ((48 : Int) * (a : Int)) + (i : Int)) = ((48 * a + i : Nat) : Int) := by rw [wr_eq (x := 48 * (a : Int)) (by omega) (by omega), wr_eq (by omega) (by omega)]; omega
          have e0 := (r1.2.1.2.1).nM
          have e2 := r1.2.2 122 (48 * a + i) (by unfold dyn; omega)
          have nx : ∀ h3 g3, Gv p h0 h3 g3 → cG (g' 122 (48 * a + i) = 0) g' (gcall g' o i) = g3 → Ev l D Y_M_follow (d + 5) kc ks 299 [some (vr 100), some (vi (o : Int)), some (vi (a : Int)), some (vi (oB p o)), some (vi (4 : Int)), none, some (vi ((i + 1 : Nat) : Int))] [] h3 Ψ := fun h3 g3 r3 e3 => ih (i + 1) h3 g3 (by omega) r3 (by rw [← e3]; exact eg2)
          apply m_M_follow_299 r1.2.1.1
          simp only [e0, ix, Int.toNat_natCast, e2, wr_s (show i < 1000000 by omega)]
          refine ⟨fun c => by omega, fun _ => ⟨by omega, by omega, fun c2 => nx h' g' r1 (cG_t c2), fun c2 => ?_⟩⟩
          exact ct_M_call r1 ho' (by omega) (fun h3 _ r3 => ⟨r3.2.1.1, nx h3 _ r3 (cG_f c2)⟩)
      exact key (nM p).toNat 0 h4 g4 (by omega) r1 rfl
    · have c7 : ok p o = 7 := by omega
      rw [show gfk p o g4 = _ from (cG_f (by omega)).trans ((cG_f (by omega)).trans ((cG_f (by omega)).trans ((cG_f (by omega)).trans ((cG_f (by omega)).trans (cG_f (by omega))))))] at eg
      have key : ∀ (n i : Nat) (h' : Hp) (g' : Pg), i + n = (nM p).toNat → Gv p h0 h' g' → gan p o (oB p o) n i g' = gan p o (oB p o) (nM p).toNat 0 g4 → Ev l D Y_M_follow (d + 5) kc ks 342 [some (vr 100), some (vi (o : Int)), some (vi (oA p o)), some (vi (oB p o)), some (vi (4 : Int)), none, some (vi (i : Int))] [] h' Ψ := by
        intro n
        induction n with
        | zero =>
          intro i h' g' hi r1 eg2
          apply m_M_follow_342 r1.2.1.1
          rw [(r1.2.1.2.1).nM]
          refine ⟨fun _ => k h' ?_, fun c => by omega⟩
          rw [← eg, ← eg2]; exact r1
        | succ n ih =>
          intro i h' g' hi r1 eg2
          have e0 := (r1.2.1.2.1).nM
          have e2 := (r1.2.1.2.1).nm i
          have e3 := (r1.2.1.2.1).so i
          have nx : ∀ h3 g3, Gv p h0 h3 g3 → cG (nm p i = oB p o ∧ (so p i = 0 ∨ so p i = 2 ∨ so p i = 3)) (gcall g' o i) g' = g3 → Ev l D Y_M_follow (d + 5) kc ks 342 [some (vr 100), some (vi (o : Int)), some (vi (oA p o)), some (vi (oB p o)), some (vi (4 : Int)), none, some (vi ((i + 1 : Nat) : Int))] [] h3 Ψ := fun h3 g3 r3 e3 => ih (i + 1) h3 g3 (by omega) r3 (by rw [← e3]; exact eg2)
          apply m_M_follow_342 r1.2.1.1
          simp only [e0, Int.toNat_natCast, e2, e3, wr_s (show i < 1000000 by omega)]
          refine ⟨fun c => by omega, fun _ => ⟨by omega, by omega, fun c2 => nx h' g' r1 (cG_f (fun z => c2 z.1)), fun c2 => ⟨by omega, by omega, ct_M_canBeCalled r1.2.1.1 ⟨r1.2.1.1, fun c3 => nx h' g' r1 (cG_f (fun z => bI_0.mp c3 z.2)), fun c3 => ?_⟩⟩⟩⟩
          exact ct_M_call r1 ho' (by omega) (fun h3 _ r3 => ⟨r3.2.1.1, nx h3 _ r3 (cG_t ⟨c2, bI_n.mp c3⟩)⟩)
      exact key (nM p).toNat 0 h4 g4 (by omega) r1 rfl
  have st : ∀ (j : Nat) (h1 : Hp) (g1 : Pg), j < 4 → Gv p h0 h1 g1 → (∀ h2, Gv p h0 h2 (gs g1 124 (4 * o + j) 0) → Ev l D Y_M_follow (d + 5) kc ks 17 [some (vr 100), some (vi (o : Int)), some (vi (oA p o)), some (vi (oB p o)), some (vi ((j + 1 : Nat) : Int)), none, none] [] h2 Ψ) → Ev l D Y_M_follow (d + 5) kc ks 17 [some (vr 100), some (vi (o : Int)), some (vi (oA p o)), some (vi (oB p o)), some (vi (j : Int)), none, none] [] h1 Ψ := by
    intro j h1 g1 hj r1 hx
    have ix : wr (wr ((4 : Int) * (o : Int)) + (j : Int)) = ((4 * o + j : Nat) : Int) := by rw [wr_eq (x := 4 * (o : Int)) (by omega) (by omega), wr_eq (by omega) (by omega)]; omega
    apply m_M_follow_17 r1.2.1.1
    refine ⟨fun c => by omega, fun _ => ?_⟩
    rw [ix, wr_s (show j < 1000000 by omega), Int.toNat_natCast]
    exact ⟨by omega, by omega, fun h2 eh2 => by subst eh2; exact hx _ (r1.put (by unfold dyn; omega))⟩
  exact st 0 h g (by omega) q (fun h1 r1 => st 1 h1 _ (by omega) r1 (fun h2 r2 => st 2 h2 _ (by omega) r2 (fun h3 r3 => st 3 h3 _ (by omega) r3 (fun h4 r4 => g17 h4 _ r4 rfl))))
end GR2
