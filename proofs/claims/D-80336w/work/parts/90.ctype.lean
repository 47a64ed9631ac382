/-! the component: type -/
def off (S : Nat → Prop) (h h' : Hp) : Prop := ∀ a, ¬ S a → sa h h' a
theorem sa.rf {h : Hp} {a : Nat} : sa h h a := ⟨rfl, rfl, fun _ => rfl, fun _ => rfl, fun _ => rfl⟩
theorem sa.tr {h h1 h2 : Hp} {a : Nat} (q : sa h h1 a) (r : sa h1 h2 a) : sa h h2 a := ⟨r.1.trans q.1, r.2.1.trans q.2.1, fun k => (r.2.2.1 k).trans (q.2.2.1 k), fun k => (r.2.2.2.1 k).trans (q.2.2.2.1 k), fun k => (r.2.2.2.2 k).trans (q.2.2.2.2 k)⟩
theorem off.rf {S : Nat → Prop} {h : Hp} : off S h h := fun _ _ => sa.rf
theorem off.tr {S : Nat → Prop} {h h1 h2 : Hp} (q : off S h h1) (r : off S h1 h2) : off S h h2 := fun a z => (q a z).tr (r a z)
theorem off.mono {S S' : Nat → Prop} {h h1 : Hp} (q : off S h h1) (z : ∀ a, S a → S' a) : off S' h h1 := fun a y => q a (fun x => y (z a x))
theorem off.nw {S : Nat → Prop} {h h1 : Hp} {b k n : Nat} (q : off S h h1) (hb : S b) : off S h (nw h1 b k n) := fun a z => (q a z).tr (by
  have ne : ¬ a = b := fun e => z (by rw [e]; exact hb)
  exact ⟨by rw [xK_nw, if_neg ne], by rw [xN_nw, if_neg ne], fun k => by rw [xI_nw, if_neg ne], fun k => by rw [xR_nw, if_neg ne], fun k => by rw [xL_nw, if_neg ne]⟩)
theorem off.cp {S : Nat → Prop} {h h1 : Hp} {b c : Nat} (q : off S h h1) (hb : S b) : off S h (cp h1 b c) := fun a z => (q a z).tr (by
  have ne : ¬ a = b := fun e => z (by rw [e]; exact hb)
  exact ⟨by rw [xK_cp, if_neg ne], by rw [xN_cp, if_neg ne], fun k => by rw [xI_cp, if_neg ne], fun k => by rw [xR_cp, if_neg ne], fun k => by rw [xL_cp, if_neg ne]⟩)
theorem off.sI {S : Nat → Prop} {h h1 : Hp} {b k : Nat} {x : Int} (q : off S h h1) (hb : S b) : off S h (sI h1 b k x) := fun a z => (q a z).tr (by
  have ne : ¬ a = b := fun e => z (by rw [e]; exact hb)
  exact ⟨rfl, rfl, fun k => by rw [xI_sI, if_neg (fun y => ne y.1)], fun k => rfl, fun k => rfl⟩)
theorem off.sR {S : Nat → Prop} {h h1 : Hp} {b k x : Nat} (q : off S h h1) (hb : S b) : off S h (sR h1 b k x) := fun a z => (q a z).tr (by
  have ne : ¬ a = b := fun e => z (by rw [e]; exact hb)
  exact ⟨rfl, rfl, fun k => rfl, fun k => by rw [xR_sR, if_neg (fun y => ne y.1)], fun k => rfl⟩)
theorem off.sm {S : Nat → Prop} {A : Nat → Nat → Prop} {h h1 h2 : Hp} (q : off S h h1) (r : sm A h1 h2) (hA : ∀ a k, A a k → S a) : off S h h2 := fun a z => (q a z).tr ⟨r.K a, r.N a, fun k => r.2.2 a k (fun y => z (hA a k y)), fun k => r.R a k, fun k => r.L a k⟩
/-- free of the data p -/
def frg (p : Pg) (a : Nat) : Prop := (200 + 4 * nT p ≤ (a : Int) ∧ a < 264) ∨ (300 + 2 * nM p ≤ (a : Int) ∧ a < 396) ∨ (400 + 3 * nO p ≤ (a : Int) ∧ a < 880) ∨ 1000 ≤ a
theorem GS_off {S : Nat → Prop} {h h' : Hp} (f : off S h h') (hS : ∀ a, S a → ¬ (20 ≤ a ∧ a < 86)) (c : GS h) : GS h' := GS_ag (fun a h1 h2 => ⟨(f a (fun z => hS a z ⟨h1, h2⟩)).1, (f a (fun z => hS a z ⟨h1, h2⟩)).2.1⟩) (fun a k z => (f a (fun y => hS a y (by omega))).2.2.2.1 k) c
theorem CS_off {S : Nat → Prop} {h h' : Hp} {p : Pg} (hw : WF p) (f : off S h h') (hS : ∀ a, S a → frg p a) (q : CS h p) : CS h' p := by
  have w1 := hw.1
  have w2 := hw.2.1
  have w3 := hw.2.2.1
  have e : ∀ a, ¬ frg p a → sa h h' a := fun a z => f a (fun y => z (hS a y))
  refine CS_mk ⟨GS_off f (fun a z => by have := hS a z; unfold frg at this; omega) q.sh, ?_, ?_, ?_, fun i h1 h2 => ?_, fun i h1 h2 => ?_⟩ (fun t ht => ?_) (fun m hm => ?_) (fun o ho => ?_)
  · rw [(e 20 (by unfold frg; omega)).2.2.1]; exact q.ct
  · rw [(e 20 (by unfold frg; omega)).2.2.1]; exact q.cm
  · rw [(e 20 (by unfold frg; omega)).2.2.1]; exact q.co
  · rw [(e i (by unfold frg; omega)).1]; exact q.kc i h1 h2
  · rw [(e i (by unfold frg; omega)).1]; exact q.sc i h1 h2
  · exact CSt_sa (fun j hj => e _ (by unfold frg tA; omega)) ((e 21 (by unfold frg; omega)).2.2.2.1 t) (hw.2.2.2.1 t ht).2.2.2.1.2 rfl rfl rfl (fun _ _ => rfl) (fun _ _ => Iff.rfl) (fun _ => rfl) (q.T ht)
  · exact CSm_sa (fun j hj => e _ (by unfold frg mA; omega)) ((e 22 (by unfold frg; omega)).2.2.2.1 m) (hw.2.2.2.2.1 m hm).2.2.2.2.2.1.2 rfl rfl rfl rfl rfl (fun _ _ => rfl) (q.M hm)
  · exact CSo_sa (fun j hj => e _ (by unfold frg oD; omega)) rfl rfl rfl (q.O ho)
section CTY
variable {l : Launch} {D : DD} {d kc ks : Nat} {h h0 : Hp} {Ψ : Option AV → Hp → Prop} {p g : Pg}
theorem ct_join {t u : Nat} {P Q : Nat → Prop} (hne : ¬ t = u) (t1 : xK h (tA t) = 3) (t2 : xR h (tA t) 5 = tA t + 2) (t3 : xK h (tA t + 2) = 21) (t4 : xN h (tA t + 2) = 16) (t5 : ∀ j, j < 16 → xI h (tA t + 2) j = bI (P j)) (u1 : xK h (tA u) = 3) (u2 : xR h (tA u) 5 = tA u + 2) (u3 : xK h (tA u + 2) = 21) (u4 : xN h (tA u + 2) = 16) (u5 : ∀ j, j < 16 → xI h (tA u + 2) j = bI (Q j)) (k : ∀ h', sm (fun a _ => a = tA t + 2) h h' → (∀ j, j < 16 → xI h' (tA t + 2) j = bI (P j ∨ Q j)) → Ψ none h') : Ev l D Y_Type_join d kc ks 0 [some (vr (tA t)), some (vr (tA u)), none] [] h Ψ := by
  apply s_Type_join_0
  have key : ∀ (i : Nat) (h1 : Hp), i ≤ 16 → (sm (fun a _ => a = tA t + 2) h h1 ∧ (∀ j, j < 16 → (j < i → xI h1 (tA t + 2) j = bI (P j ∨ Q j)) ∧ (¬ j < i → xI h1 (tA t + 2) j = bI (P j)))) → Ev l D Y_Type_join d kc ks 2 [some (vr (tA t)), some (vr (tA u)), some (vi (i : Int))] [] h1 Ψ := by
    refine lup _ _ ?_ ?_
    · rintro h1 ⟨s1, z1⟩
      apply s_Type_join_2
      exact ⟨fun _ => k h1 s1 (fun j hj => (z1 j hj).1 hj), fun c => by omega⟩
    · rintro i h1 hi ⟨s1, z1⟩ ih
      have eu : xI h1 (tA u + 2) i = bI (Q i) := (s1.2.2 _ _ (by unfold tA; omega)).trans (u5 i hi)
      apply s_Type_join_2
      rw [s1.K, s1.K, s1.R, s1.R, t2, u2, s1.K, s1.K, s1.N, s1.N, Int.toNat_natCast, (z1 i hi).2 (by omega), eu, iorV_01, wr_s (show i < 1000000 by omega)]
      refine ⟨fun c => by omega, fun _ => ⟨t1, t3, by omega, by omega, u1, u3, by omega, by omega, t3, by unfold tA; omega, by omega, by omega, bI_01 _, fun h2 e2 => ?_⟩⟩
      subst e2
      refine ih _ ⟨s1.put rfl, fun j hj => ⟨fun y => ?_, fun y => ?_⟩⟩
      · rw [xI_sI]
        by_cases e : j = i
        · rw [if_pos ⟨rfl, e⟩, e]
        · rw [if_neg (fun v => e v.2)]; exact (z1 j hj).1 (by omega)
      · rw [xI_sI, if_neg (by omega)]; exact (z1 j hj).2 (by omega)
  exact key 0 h (by omega) ⟨sm.rf, fun j hj => ⟨fun y => by omega, fun _ => t5 j hj⟩⟩
def TyN (h h' : Hp) (n kr ur : Nat) (P : Nat → Prop) : Prop := off (fun a => tA n ≤ a ∧ a < tA n + 4) h h' ∧ xK h' (tA n) = 3 ∧ xI h' (tA n) 0 = (n : Int) ∧ xR h' (tA n) 1 = kr ∧ xR h' (tA n) 2 = ur ∧ xR h' (tA n) 3 = tA n + 1 ∧ xI h' (tA n) 4 = xI h (tA n) 4 ∧ xR h' (tA n) 5 = tA n + 2 ∧ xR h' (tA n) 6 = tA n + 3 ∧ xR h' (tA n) 7 = xR h (tA n) 7 ∧ xK h' (tA n + 1) = 22 ∧ xN h' (tA n + 1) = 3 ∧ xK h' (tA n + 2) = 21 ∧ xN h' (tA n + 2) = 16 ∧ (∀ j, j < 16 → xI h' (tA n + 2) j = bI (P j)) ∧ xK h' (tA n + 3) = 23 ∧ xN h' (tA n + 3) = 10 ∧ ∀ x, xR h' (tA n + 3) x = 0
theorem ct_Type_init {n kr : Nat} {u : Int} (hn : n < 16) (hw : WF p) (q : CS h p) (hnn : nT p = (n : Int)) (hu : -1 ≤ u ∧ u < nT p) (hk0 : xK h (tA n) = 3) (hf : ∀ j, 1 ≤ j → j < 4 → xK h (tA n + j) = 0) (k : ∀ h', TyN h h' n kr (trf u) (fun j => j = n ∨ (¬ u = -1 ∧ U p u.toNat j)) → Ψ none h') : Ev l D Y_Type_init (d + 1) (kc + 3) (ks + 29) 0 [some (vr (tA n)), some (vi (n : Int)), some (vr kr), some (vr (trf u))] [] h Ψ := by
  have b16 : 16 ≤ tA n := by unfold tA; omega
  apply s_Type_init_0
  refine ⟨by omega, tA n + 1, by omega, hf 1 (by omega) (by omega), fun h1 e1 => ?_⟩
  have a1 : ∀ a, xK h1 a = if a = tA n + 1 then 22 else xK h a := fun a => by rw [e1, xK_nw]
  refine ⟨by rw [a1, if_neg (by omega)]; exact hk0, b16, fun h2 e2 => ⟨tA n + 2, by omega, by rw [e2, xK_sR, a1, if_neg (by omega)]; exact hf 2 (by omega) (by omega), fun h3 e3 => ?_⟩⟩
  have a3 : ∀ a, xK h3 a = if a = tA n + 2 then 21 else if a = tA n + 1 then 22 else xK h a := fun a => by rw [e3, xK_nw, e2, xK_sR, a1]
  refine ⟨by rw [a3, if_neg (by omega), if_neg (by omega)]; exact hk0, b16, fun h4 e4 => ⟨tA n + 3, by omega, by rw [e4, xK_sR, a3, if_neg (by omega), if_neg (by omega)]; exact hf 3 (by omega) (by omega), fun h5 e5 => ?_⟩⟩
  have a5 : ∀ a, xK h5 a = if a = tA n + 3 then 23 else if a = tA n + 2 then 21 else if a = tA n + 1 then 22 else xK h a := fun a => by rw [e5, xK_nw, e4, xK_sR, a3]
  have a50 : xK h5 (tA n) = 3 := by rw [a5, if_neg (by omega), if_neg (by omega), if_neg (by omega)]; exact hk0
  have n5 : ∀ a, xN h5 a = if a = tA n + 3 then 10 else if a = tA n + 2 then 16 else if a = tA n + 1 then 3 else xN h a := fun a => by rw [e5, xN_nw, e4, xN_sR, e3, xN_nw, e2, xN_sR, e1, xN_nw]; rfl
  have i5 : ∀ a j, xI h5 a j = if a = tA n + 3 then 0 else if a = tA n + 2 then 0 else if a = tA n + 1 then 0 else xI h a j := fun a j => by rw [e5, xI_nw, e4, xI_sR, e3, xI_nw, e2, xI_sR, e1, xI_nw]
  have r5 : ∀ a j, xR h5 a j = if a = tA n + 3 then 0 else if a = tA n ∧ j = 5 then tA n + 2 else if a = tA n + 2 then 0 else if a = tA n ∧ j = 3 then tA n + 1 else if a = tA n + 1 then 0 else xR h a j := fun a j => by rw [e5, xR_nw, e4, xR_sR, e3, xR_nw, e2, xR_sR, e1, xR_nw]
  have o5 : off (fun a => tA n ≤ a ∧ a < tA n + 4) h h5 := by
    rw [e5, e4, e3, e2, e1]
    exact ((((off.rf.nw (by omega)).sR (by omega)).nw (by omega)).sR (by omega)).nw (by omega)
  refine ⟨a50, b16, fun h6 e6 => ⟨by rw [e6, xK_sR]; exact a50, b16, fun h7 e7 => ⟨by rw [e7, xK_sI, e6, xK_sR]; exact a50, b16, fun h8 e8 => ⟨by rw [e8, xK_sR, e7, xK_sI, e6, xK_sR]; exact a50, b16, fun h9 e9 => ?_⟩⟩⟩⟩
  have a9 : ∀ a, xK h9 a = xK h5 a := fun a => by rw [e9, xK_sR, e8, xK_sR, e7, xK_sI, e6, xK_sR]
  have n9 : ∀ a, xN h9 a = xN h5 a := fun a => by rw [e9, xN_sR, e8, xN_sR, e7, xN_sI, e6, xN_sR]
  have i9 : ∀ a j, xI h9 a j = if a = tA n ∧ j = 0 then (n : Int) else xI h5 a j := fun a j => by rw [e9, xI_sR, e8, xI_sR, e7, xI_sI, e6, xI_sR]
  have r9 : ∀ a j, xR h9 a j = if a = tA n ∧ j = 2 then trf u else if a = tA n ∧ j = 1 then kr else if a = tA n ∧ j = 6 then tA n + 3 else xR h5 a j := fun a j => by rw [e9, xR_sR, e8, xR_sR, e7, xR_sI, e6, xR_sR]
  have o9 : off (fun a => tA n ≤ a ∧ a < tA n + 4) h h9 := by
    rw [e9, e8, e7, e6]
    exact (((o5.sR (by omega)).sI (by omega)).sR (by omega)).sR (by omega)
  clear e9 e8 e7 e6 e5 e4 e3 e2 e1
  have r95 : xR h9 (tA n) 5 = tA n + 2 := by rw [r9, if_neg (by omega), if_neg (by omega), if_neg (by omega), r5, if_neg (by omega), if_pos ⟨rfl, rfl⟩]
  have k92 : xK h9 (tA n + 2) = 21 := by rw [a9, a5, if_neg (by omega), if_pos rfl]
  have n92 : xN h9 (tA n + 2) = 16 := by rw [n9, n5, if_neg (by omega), if_pos rfl]
  rw [r95, n92]
  refine ⟨by rw [a9]; exact a50, k92, by omega, by omega, by omega, fun h10 e10 => ?_⟩
  rw [Int.toNat_natCast] at e10
  have i10 : ∀ a j, xI h10 a j = if a = tA n + 2 ∧ j = n then 1 else xI h9 a j := fun a j => by rw [e10, xI_sI]
  have o10 : off (fun a => tA n ≤ a ∧ a < tA n + 4) h h10 := by rw [e10]; exact o9.sI (by omega)
  have k10 : ∀ a, xK h10 a = xK h9 a := fun a => by rw [e10, xK_sI]
  have n10 : ∀ a, xN h10 a = xN h9 a := fun a => by rw [e10, xN_sI]
  have r10 : ∀ a j, xR h10 a j = xR h9 a j := fun a j => by rw [e10, xR_sI]
  clear e10
  have v10 : ∀ j, j < 16 → xI h10 (tA n + 2) j = bI (j = n) := fun j hj => by
    rw [i10]
    by_cases e : j = n
    · rw [if_pos ⟨rfl, e⟩, bI_t e]
    · rw [if_neg (fun z => e z.2), bI_f e, i9, if_neg (by omega), i5, if_neg (by omega), if_pos rfl]
  have fin : ∀ (h' : Hp) (P : Nat → Prop), sm (fun a _ => a = tA n + 2) h10 h' → (∀ j, j < 16 → xI h' (tA n + 2) j = bI (P j)) → TyN h h' n kr (trf u) P := by
    intro h' P s hP
    refine ⟨o10.sm s (fun a k z => by have z' : a = tA n + 2 := z; omega), ?_, ?_, ?_, ?_, ?_, ?_, ?_, ?_, ?_, ?_, ?_, ?_, ?_, hP, ?_, ?_, fun x => ?_⟩
    · rw [s.K, k10, a9]; exact a50
    · rw [s.2.2 _ _ (by omega), i10, if_neg (by omega), i9, if_pos ⟨rfl, rfl⟩]
    · rw [s.R, r10, r9, if_neg (by omega), if_pos ⟨rfl, rfl⟩]
    · rw [s.R, r10, r9, if_pos ⟨rfl, rfl⟩]
    · rw [s.R, r10, r9, if_neg (by omega), if_neg (by omega), if_neg (by omega), r5, if_neg (by omega), if_neg (by omega), if_neg (by omega), if_pos ⟨rfl, rfl⟩]
    · rw [s.2.2 _ _ (by omega), i10, if_neg (by omega), i9, if_neg (by omega), i5, if_neg (by omega), if_neg (by omega), if_neg (by omega)]
    · rw [s.R, r10]; exact r95
    · rw [s.R, r10, r9, if_neg (by omega), if_neg (by omega), if_pos ⟨rfl, rfl⟩]
    · rw [s.R, r10, r9, if_neg (by omega), if_neg (by omega), if_neg (by omega), r5, if_neg (by omega), if_neg (by omega), if_neg (by omega), if_neg (by omega), if_neg (by omega)]
    · rw [s.K, k10, a9, a5, if_neg (by omega), if_neg (by omega), if_pos rfl]
    · rw [s.N, n10, n9, n5, if_neg (by omega), if_neg (by omega), if_pos rfl]
    · rw [s.K, k10]; exact k92
    · rw [s.N, n10]; exact n92
    · rw [s.K, k10, a9, a5, if_pos rfl]
    · rw [s.N, n10, n9, n5, if_pos rfl]
    · rw [s.R, r10, r9, if_neg (by omega), if_neg (by omega), if_neg (by omega), r5, if_pos rfl]
  have e0 : trf u = 0 ↔ u = -1 := by
    unfold trf tA
    by_cases e : u = -1
    · rw [if_pos e]; exact ⟨fun _ => e, fun _ => rfl⟩
    · rw [if_neg e]; omega
  refine ⟨fun c => ?_, fun c => ⟨by rw [k10, a9]; exact a50, ?_⟩⟩
  · rw [e0] at c
    exact k h10 (fin h10 _ sm.rf (fun j hj => (v10 j hj).trans (bI_c ⟨Or.inl, fun z => z.elim id (fun y => absurd c y.1)⟩)))
  · rw [e0] at c
    have eu : trf u = tA u.toNat := if_neg c
    rw [eu]
    have cs10 : CS h10 p := CS_off hw o10 (fun a z => by have z' : tA n ≤ a ∧ a < tA n + 4 := z; unfold tA at z'; unfold frg; omega) q
    have hu' : ((u.toNat : Nat) : Int) < nT p := by omega
    refine ct_join (P := fun j => j = n) (Q := fun j => U p u.toNat j) (by omega) (by rw [k10, a9]; exact a50) (by rw [r10]; exact r95) (by rw [k10]; exact k92) (by rw [n10]; exact n92) v10 (cs10.tk _ hu') (cs10.tu _ hu') (cs10.tuk _ hu') (cs10.tun _ hu') (fun j hj => cs10.tuu _ j hu' hj) (fun h' s hP => k h' (fin h' _ s (fun j hj => (hP j hj).trans (bI_c ⟨fun z => z.elim Or.inl (fun y => Or.inr ⟨c, y⟩), fun z => z.elim Or.inl (fun y => Or.inr y.2)⟩))))
theorem own_no {n : Nat} {x : Int} (hw : WF p) (hn : nT p = (n : Int)) : own p (n : Int) x = -1 := (fst_m1 _ _ _).mpr (fun m _ hm z => by
  have := (hw.2.2.2.2.1 m (by omega)).1
  have z' : ty p m = (n : Int) ∧ nm p m = x := z
  omega)
theorem CA_ty {n : Nat} {k u : Int} {h1 h2 h3 : Hp} (q : CA p h) (hnn : nT p = (n : Int)) (hn : n < 16) (hk : 0 ≤ k ∧ k ≤ 2) (hu : -1 ≤ u ∧ u < nT p) (h2u : k = 2 → u = -1) (o1 : off (fun a => a = tA n ∨ a = 1000 + n) h h1) (z4 : xI h1 (tA n) 4 = 0) (z7 : xR h1 (tA n) 7 = 0) (ty' : TyN h1 h2 n (1 + k.toNat) (trf u) (fun j => j = n ∨ (¬ u = -1 ∧ U p u.toNat j))) (e3 : h3 = sI (sI (sR h2 21 n (tA n)) 20 7 0) 20 1 ((n : Int) + 1)) : CA (pTy1 p k u) h3 ∧ agM h h3 := by
  obtain ⟨⟨c, hw, ho, hf⟩, ⟨f1, f2, f3, f4, f5⟩, ⟨b1, b2, b3, b4, b5, b6⟩⟩ := q
  have w1 := hw.1
  have w2 := hw.2.1
  have w3 := hw.2.2.1
  obtain ⟨o2, t1, t2, t3, t4, t5, t6, t7, t8, t9, t10, t11, t12, t13, t14, t15, t16, t17⟩ := ty'
  have oo : off (fun a => (tA n ≤ a ∧ a < tA n + 4) ∨ a = 1000 + n) h h2 := (o1.mono (fun a z => by have z' : a = tA n ∨ a = 1000 + n := z; show (tA n ≤ a ∧ a < tA n + 4) ∨ a = 1000 + n; omega)).tr (o2.mono (fun a z => Or.inl z))
  have i3 : ∀ a j, xI h3 a j = if a = 20 ∧ j = 1 then (n : Int) + 1 else if a = 20 ∧ j = 7 then 0 else xI h2 a j := fun a j => by rw [e3, xI_sI, xI_sI, xI_sR]
  have r3 : ∀ a j, xR h3 a j = if a = 21 ∧ j = n then tA n else xR h2 a j := fun a j => by rw [e3, xR_sI, xR_sI, xR_sR]
  have k3 : ∀ a, xK h3 a = xK h2 a := fun a => by rw [e3, xK_sI, xK_sI, xK_sR]
  have n3 : ∀ a, xN h3 a = xN h2 a := fun a => by rw [e3, xN_sI, xN_sI, xN_sR]
  have o3 : off (fun a => (tA n ≤ a ∧ a < tA n + 4) ∨ a = 1000 + n ∨ a = 20 ∨ a = 21) h h3 := by
    rw [e3]
    exact (((oo.mono (fun a z => by have z' : (tA n ≤ a ∧ a < tA n + 4) ∨ a = 1000 + n := z; show (tA n ≤ a ∧ a < tA n + 4) ∨ a = 1000 + n ∨ a = 20 ∨ a = 21; omega)).sR (by omega)).sI (by omega)).sI (by omega)
  clear e3
  have tb : tA n = 200 + 4 * n := rfl
  have e2 : ∀ a, ¬ ((tA n ≤ a ∧ a < tA n + 4) ∨ a = 1000 + n) → sa h h2 a := oo
  have e3 : ∀ a, ¬ ((tA n ≤ a ∧ a < tA n + 4) ∨ a = 1000 + n ∨ a = 20 ∨ a = 21) → sa h h3 a := o3
  have ekd : ∀ t, kd (pTy1 p k u) t = if t = n then k else kd p t := fun t => by simp [pTy1, gs, hnn]
  have eup : ∀ t, up (pTy1 p k u) t = if t = n then u else up p t := fun t => by simp [pTy1, gs, hnn]
  have efm : ∀ t, fm (pTy1 p k u) t = if t = n then 0 else fm p t := fun t => by simp [pTy1, gs, hnn]
  have enT : nT (pTy1 p k u) = (n : Int) + 1 := by show nT p + 1 = _; omega
  have hw' : WF (pTy1 p k u) := WF_ty hw hk hu h2u (by omega)
  have cs : CS h3 (pTy1 p k u) := by
    refine CS_mk ⟨GS_ag (fun a h1 h2 => ?_) (fun a j z => ?_) c.sh, ?_, ?_, ?_, fun i g1 g2 => ?_, fun i g1 g2 => ?_⟩ (fun t ht => ?_) (fun m hm => ?_) (fun o ho => ?_)
    · rw [k3, n3]; exact ⟨(e2 a (by omega)).1, (e2 a (by omega)).2.1⟩
    · rw [r3, if_neg (by omega)]; exact (e2 a (by omega)).2.2.2.1 j
    · rw [i3, if_pos ⟨rfl, rfl⟩, enT]
    · rw [i3, if_neg (by omega), if_neg (by omega), (e2 20 (by omega)).2.2.1]; exact c.cm
    · rw [i3, if_neg (by omega), if_neg (by omega), (e2 20 (by omega)).2.2.1]; exact c.co
    · rw [(e3 i (by omega)).1]; exact c.kc i g1 g2
    · rw [(e3 i (by omega)).1]; exact c.sc i g1 g2
    · rw [enT] at ht
      by_cases et : t = n
      · subst et
        refine ⟨?_, ?_, ?_, ?_, ?_, ?_, ?_, ?_, ?_, fun i hi => ?_, ?_, ?_, ?_, fun j hj => ?_, ?_, ?_, ?_, fun x hx => ?_, ?_⟩
        · rw [r3, if_pos ⟨rfl, rfl⟩]
        · rw [k3]; exact t1
        · rw [i3, if_neg (by omega), if_neg (by omega)]; exact t2
        · rw [r3, if_neg (by omega), t3, ekd, if_pos rfl]; omega
        · rw [r3, if_neg (by omega), t4, eup, if_pos rfl]
        · rw [r3, if_neg (by omega)]; exact t5
        · rw [k3]; exact t10
        · rw [n3]; exact t11
        · rw [i3, if_neg (by omega), if_neg (by omega), t6, z4, efm, if_pos rfl]
        · rw [efm, if_pos rfl] at hi; omega
        · rw [r3, if_neg (by omega)]; exact t7
        · rw [k3]; exact t12
        · rw [n3]; exact t13
        · rw [i3, if_neg (by omega), if_neg (by omega), t14 j hj]
          refine bI_c ?_
          have z := U_ty_new (k := k) hw hu (u := j)
          rw [show (nT p).toNat = t by omega] at z
          exact z.symm
        · rw [r3, if_neg (by omega)]; exact t8
        · rw [k3]; exact t15
        · rw [n3]; exact t16
        · rw [r3, if_neg (by omega), t17]
          have z : own (pTy1 p k u) (t : Int) x = -1 := own_no (p := p) hw hnn
          rw [z]; rfl
        · rw [r3, if_neg (by omega), t9, z7]
          have z : own (pTy1 p k u) (t : Int) (-1) = -1 := own_no (p := p) hw hnn
          rw [z]; rfl
      · have ht' : (t : Int) < nT p := by omega
        refine CSt_sa (p := p) (fun j hj => e3 _ (by unfold tA; omega)) ?_ (hw.2.2.2.1 t ht').2.2.2.1.2 ?_ ?_ ?_ (fun _ _ => rfl) (fun j _ => U_ty_old hw ht') (fun _ => rfl) (c.T ht')
        · rw [r3, if_neg (by omega)]; exact (e2 21 (by omega)).2.2.2.1 t
        · rw [ekd, if_neg et]
        · rw [eup, if_neg et]
        · rw [efm, if_neg et]
    · have hm' : (m : Int) < nM p := hm
      refine CSm_sa (p := p) (fun j hj => e3 _ (by unfold mA; omega)) ((e3 22 (by omega)).2.2.2.1 m) (hw.2.2.2.2.1 m hm').2.2.2.2.2.1.2 rfl rfl rfl rfl rfl (fun _ _ => rfl) (c.M hm')
    · have ho' : (o : Int) < nO p := ho
      exact CSo_sa (p := p) (fun j hj => e3 _ (by unfold oD; omega)) rfl rfl rfl (c.O ho')
  refine ⟨⟨⟨cs, hw', WO_ty ho, Or.inl (by rw [i3, if_neg (by omega), if_pos ⟨rfl, rfl⟩]), fun z => absurd (by rw [i3, if_neg (by omega), if_pos ⟨rfl, rfl⟩]) z⟩, ⟨fun t j x y z => ?_, fun m j x y z => ?_, fun o j x y z => ?_, fun t x y => ?_, fun m x y => ?_⟩, ⟨?_, ?_, ?_, ?_, fun i hi => ?_, fun i hi => ?_⟩⟩, fun a ha => e3 a (by omega)⟩
  · rw [enT] at x
    rw [(e3 _ (by unfold tA; omega)).1]; exact f1 t j (by omega) y z
  · rw [(e3 _ (by unfold mA; omega)).1]; exact f2 m j x y z
  · rw [(e3 _ (by unfold oD; omega)).1]; exact f3 o j x y z
  · rw [enT] at x
    rw [(e3 _ (by omega)).1]; exact f4 t (by omega) y
  · rw [(e3 _ (by omega)).1]; exact f5 m x y
  · rw [(e3 9 (by omega)).1]; exact b1
  · rw [(e3 9 (by omega)).2.1]; exact b2
  · rw [(e3 10 (by omega)).1]; exact b3
  · rw [(e3 10 (by omega)).2.1]; exact b4
  · rw [(e3 9 (by omega)).2.2.2.1]; exact b5 i hi
  · rw [(e3 10 (by omega)).2.2.2.1]; exact b6 i hi
theorem ct_G_change (hM : GS h) (k : ∀ h', h' = sI h 20 7 0 → Ψ none h') : Ev l D Y_G_change d kc ks 0 [some (vr 20)] [] h Ψ := by
  apply g_G_change_0 hM
  exact fun h1 e1 => k h1 e1
theorem ct_G_type {x1 x2 : Int} (q : CA p h) (k : ∀ h', agM h h' → CA (pTy p x1 x2) h' → Ψ (some (vi (rTy p x1 x2))) h') : Ev l D Y_G_type (d + 3) (kc + 5) (ks + 40) 0 [some (vr 20), some (vi x1), some (vi x2)] [] h Ψ := by
  obtain ⟨c, hw, ho, hf⟩ := q.1
  have w1 := hw.1
  have w2 := hw.2.1
  have bad : ∀ r, rTy p x1 x2 = r → r < 0 → Ψ (some (vi r)) h := fun r e hr => by
    have z := k h agM.rf
    rw [e, show pTy p x1 x2 = p from cG_f (by rw [e]; omega)] at z
    exact z q
  have g50 : ¬ (¬ x2 = -1 ∧ ¬ (0 ≤ x2 ∧ x2 < nT p)) → ¬ (¬ (0 ≤ x1 ∧ x1 ≤ 2) ∨ (¬ x2 = -1 ∧ (x1 = 2 ∨ kd p x2.toNat = 2))) → Ev l D Y_G_type (d + 3) (kc + 5) (ks + 40) 50 [some (vr 20), some (vi x1), some (vi x2)] [] h Ψ := by
    intro c1 c2
    apply g_G_type_50 c.sh
    rw [c.ct]
    refine ⟨fun c3 => ?_, fun c3 => bad _ (by unfold rTy; rw [cI_f c1, cI_f c2, cI_t c3]) (by omega)⟩
    obtain ⟨n, hn⟩ : ∃ n : Nat, nT p = (n : Int) := ⟨(nT p).toNat, by omega⟩
    have er : rTy p x1 x2 = (n : Int) := by unfold rTy; rw [cI_f c1, cI_f c2, cI_f c3]; exact hn
    have hn16 : n < 16 := by omega
    have tb : tA n = 200 + 4 * n := rfl
    obtain ⟨-, ⟨f1, f2, f3, f4, f5⟩, ⟨b1, b2, b3, b4, b5, b6⟩⟩ := id q
    rw [hn]
    refine ⟨tA n, by omega, f1 n 0 (by omega) hn16 (by omega), fun h1 e1 => ?_⟩
    have o1 : off (fun a => a = tA n ∨ a = 1000 + n) h h1 := by rw [e1]; exact off.rf.nw (Or.inl rfl)
    have sf : ∀ a, (a = tA n ∨ a = 1000 + n) → frg p a := fun a z => by unfold frg; omega
    have c1' := CS_off hw o1 sf c
    refine ⟨c1'.sh, ?_⟩
    apply s_Kind_values_0
    have s9 := o1 9 (by show ¬ (9 = tA n ∨ 9 = 1000 + n); omega)
    refine ⟨s9.1.trans b1, s9.2.1.trans b2, 1000 + n, by omega, by rw [e1, xK_nw, if_neg (by omega)]; exact f4 n (by omega) hn16, fun h2 e2 => ?_⟩
    have o2 : off (fun a => a = tA n ∨ a = 1000 + n) h h2 := by rw [e2]; exact o1.cp (Or.inr rfl)
    have c2' := CS_off hw o2 sf c
    have k2 : xK h2 (1000 + n) = 26 := by rw [e2, xK_cp, if_pos rfl]; exact s9.1.trans b1
    have n2 : xN h2 (1000 + n) = 3 := by rw [e2, xN_cp, if_pos rfl]; exact s9.2.1.trans b2
    obtain ⟨kk, rfl⟩ : ∃ kk : Nat, x1 = (kk : Int) := ⟨x1.toNat, by omega⟩
    have r2 : xR h2 (1000 + n) kk = 1 + kk := by rw [e2, xR_cp, if_pos rfl, s9.2.2.2.1]; exact b5 kk (by omega)
    have i20 : xI h1 20 1 = (n : Int) := by rw [c1'.ct]; exact hn
    have k2n : xK h2 (tA n) = 3 := by rw [e2, xK_cp, if_neg (by omega), e1, xK_nw, if_pos rfl]
    have i2n : xI h2 (tA n) 4 = 0 := by rw [e2, xI_cp, if_neg (by omega), e1, xI_nw, if_pos rfl]
    have r2n : xR h2 (tA n) 7 = 0 := by rw [e2, xR_cp, if_neg (by omega), e1, xR_nw, if_pos rfl]
    have f2n : ∀ j, 1 ≤ j → j < 4 → xK h2 (tA n + j) = 0 := fun j h1 h2 => by rw [e2, xK_cp, if_neg (by omega), e1, xK_nw, if_neg (by omega)]; exact f1 n j (by omega) hn16 h2
    refine ⟨k2, c2'.sh, by omega, by omega, by omega, ?_⟩
    rw [Int.toNat_natCast, r2, i20]
    have g98 : Ev l D Y_G_type (d + 3) (kc + 3) (ks + 29) 98 [some (vr 20), some (vi (kk : Int)), some (vi x2)] [vr (trf x2), vr (1 + kk), vi (n : Int), vr (tA n), vr (tA n), vi (n : Int), vr 21] h2 Ψ := by
      apply g_G_type_98 c2'.sh
      refine ⟨by omega, ct_Type_init (kc := 0) (ks := 0) (p := p) (u := x2) hn16 hw c2' hn (by omega) k2n f2n (fun h3 ty' => ?_)⟩
      have sg : ∀ a, (tA n ≤ a ∧ a < tA n + 4) → ¬ (20 ≤ a ∧ a < 86) := fun a z => by omega
      have g3 : GS h3 := GS_off ty'.1 sg c2'.sh
      have k21 : xK h3 21 = 22 := by
        have c := g3
        unfold GS at c
        exact c.2.2.2.2.2.2.2.2.2.1
      refine ⟨g3, by rw [k21, ty'.2.1]; rfl, by omega, by omega, fun h4 e4 => ?_⟩
      rw [Int.toNat_natCast] at e4
      have g4 : GS h4 := by
        rw [e4]
        exact GS_ag (fun a _ _ => ⟨xK_sR _ _ _ _ _, xN_sR _ _ _ _ _⟩) (fun a j z => by rw [xR_sR, if_neg (by omega)]) g3
      refine ⟨g4, ct_G_change g4 (fun h5 e5 => ?_)⟩
      have g5 : GS h5 := by
        rw [e5]
        exact GS_ag (fun a _ _ => ⟨rfl, rfl⟩) (fun a j z => rfl) g4
      have i5 : xI h5 20 1 = (n : Int) := by
        rw [e5, xI_sI, if_neg (by omega), e4, xI_sR, (ty'.1 20 (by show ¬ (tA n ≤ 20 ∧ 20 < tA n + 4); omega)).2.2.1, c2'.ct]; exact hn
      refine ⟨g5, fun h6 e6 => ?_⟩
      rw [i5, wr_eq (by omega) (by omega)] at e6
      rw [i5]
      have ty2 : TyN h2 h3 n (1 + (kk : Int).toNat) (trf x2) (fun j => j = n ∨ (¬ x2 = -1 ∧ U p x2.toNat j)) := ty'
      obtain ⟨ca, ag⟩ := CA_ty (k := (kk : Int)) (u := x2) (h3 := h6) q hn hn16 (by omega) (by omega) (by omega) o2 i2n r2n ty2 (by rw [e6, e5, e4])
      have z := k h6 ag
      rw [er, show pTy p kk x2 = pTy1 p kk x2 from cG_t (by rw [er]; omega)] at z
      exact z ca
    refine ⟨fun c4 => ⟨by omega, by omega, ?_⟩, fun c4 => ?_⟩
    · rw [c2'.trr _ (by omega)]
      rw [show trf x2 = tA x2.toNat from if_neg c4] at g98
      exact g98
    · rw [show trf x2 = 0 from if_pos c4] at g98
      exact g98
  have gw : ¬ (¬ x2 = -1 ∧ ¬ (0 ≤ x2 ∧ x2 < nT p)) → Ev l D Y_G_within (d + 2) 0 0 0 [some (vi x1), some (vi (0 : Int)), some (vi (2 : Int))] [] h (ki (fun r1 h1 => GS h1 ∧ ((r1 = 0 → (Ψ (some (vi (-102 : Int))) h1)) ∧ (¬ r1 = 0 → ((x2 = (-1 : Int) → (Ev l D Y_G_type (d + 3) (kc + 5) (ks + 40) 50 [some (vr 20), some (vi x1), some (vi x2)] [] h1 Ψ)) ∧ (¬ x2 = (-1 : Int) → ((x1 = (2 : Int) → (Ψ (some (vi (-102 : Int))) h1)) ∧ (¬ x1 = (2 : Int) → (0 ≤ x2 ∧ x2 < 16 ∧ (xK h1 (xR h1 21 (x2).toNat) = 3 ∧ Ev l D Y_Type_isClass (d + 2) 0 0 0 [some (vr (xR h1 21 (x2).toNat))] [] h1 (ki (fun r2 h2 => GS h2 ∧ ((¬ r2 = 0 → (Ev l D Y_G_type (d + 3) (kc + 5) (ks + 40) 50 [some (vr 20), some (vi x1), some (vi x2)] [] h2 Ψ)) ∧ (r2 = 0 → (Ψ (some (vi (-102 : Int))) h2))))))))))))))) := by
    intro c1
    refine ct_within c.sh ⟨c.sh, fun c2 => ?_, fun c2 => ?_⟩
    · rw [bI_0] at c2
      exact bad _ (by unfold rTy; rw [cI_f c1, cI_t (Or.inl c2)]) (by omega)
    · rw [bI_n] at c2
      refine ⟨fun c3 => g50 c1 (by omega), fun c3 => ⟨fun c4 => bad _ ?_ (by omega), fun c4 => ⟨by omega, by omega, ?_⟩⟩⟩
      · unfold rTy; rw [cI_f c1, cI_t (Or.inr ⟨c3, Or.inl c4⟩)]
      · have ht : ((x2.toNat : Nat) : Int) < nT p := by omega
        rw [c.trr _ ht]
        refine ⟨c.tk _ ht, ct_isClass c ht ⟨c.sh, fun c5 => g50 c1 ?_, fun c5 => bad _ ?_ (by omega)⟩⟩
        · rw [bI_n] at c5; omega
        · rw [bI_0] at c5
          unfold rTy; rw [cI_f c1, cI_t (Or.inr ⟨c3, Or.inr (Classical.not_not.mp c5)⟩)]
  apply g_G_type_0 c.sh
  refine ⟨fun c1 => gw (fun z => z.1 c1), fun c1 => ct_G_isType c hw ⟨c.sh, fun c2 => gw (fun z => z.2 (bI_n.mp c2)), fun c2 => bad _ ?_ (by omega)⟩⟩
  unfold rTy; rw [cI_t ⟨c1, bI_0.mp c2⟩]
end CTY
