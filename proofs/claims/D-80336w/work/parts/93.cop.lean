/-! the component: op, root -/
def OpN (h h' : Hp) (n : Nat) : Prop := off (fun a => oD n ≤ a ∧ a < oD n + 3) h h' ∧ xK h' (oD n) = xK h (oD n) ∧ xR h' (oD n) 2 = oD n + 1 ∧ xK h' (oD n + 1) = 21 ∧ xN h' (oD n + 1) = 48 ∧ xR h' (oD n) 3 = oD n + 2 ∧ xK h' (oD n + 2) = 20 ∧ xN h' (oD n + 2) = 4
theorem OpN.sI {h h' : Hp} {n j : Nat} {x : Int} (q : OpN h h' n) : OpN h (sI h' (oD n) j x) n := ⟨q.1.sI (by omega), q.2.1, q.2.2.1, q.2.2.2.1, q.2.2.2.2.1, q.2.2.2.2.2.1, q.2.2.2.2.2.2.1, q.2.2.2.2.2.2.2⟩
theorem OpN.sR {h h' : Hp} {n j x : Nat} (q : OpN h h' n) (hj : 4 ≤ j) : OpN h (sR h' (oD n) j x) n := ⟨q.1.sR (by omega), q.2.1, by rw [xR_sR, if_neg (by omega)]; exact q.2.2.1, q.2.2.2.1, q.2.2.2.2.1, by rw [xR_sR, if_neg (by omega)]; exact q.2.2.2.2.2.1, q.2.2.2.2.2.2.1, q.2.2.2.2.2.2.2⟩
/-- an op made anew -/
def OpF (h h' : Hp) (n : Nat) (k a y : Int) : Prop := off (fun b => oD n ≤ b ∧ b < oD n + 3) h h' ∧ xK h' (oD n) = okd k ∧ xR h' (oD n) 2 = oD n + 1 ∧ xK h' (oD n + 1) = 21 ∧ xN h' (oD n + 1) = 48 ∧ xR h' (oD n) 3 = oD n + 2 ∧ xK h' (oD n + 2) = 20 ∧ xN h' (oD n + 2) = 4 ∧ (k ≤ 4 → xR h' (oD n) 4 = tA a.toNat) ∧ (1 ≤ k → k ≤ 4 → xI h' (oD n) 5 = y) ∧ ((k = 5 ∨ k = 6) → xI h' (oD n) 4 = a) ∧ (k = 5 → xR h' (oD n) 5 = mA y.toNat) ∧ (k = 7 → xI h' (oD n) 4 = y)
section COP
variable {l : Launch} {D : DD} {d kc ks : Nat} {h h0 : Hp} {Ψ : Option AV → Hp → Prop} {p g : Pg}
theorem ct_Op_init {n x2 : Nat} {x1 : Int} (hk0 : opk (xK h (oD n)) = true) (hf : ∀ j, 1 ≤ j → j < 3 → xK h (oD n + j) = 0) (k : ∀ h', OpN h h' n → Ψ none h') : Ev l D Y_Op_init (d + 1) (kc + 2) (ks + 52) 0 [some (vr (oD n)), some (vi x1), some (vr x2)] [] h Ψ := by
  have b16 : 16 ≤ oD n := by unfold oD; omega
  have k0 : ¬ xK h (oD n) = 0 := fun z => by rw [z] at hk0; exact absurd hk0 (by decide)
  apply s_Op_init_0
  refine ⟨k0, oD n + 1, by omega, hf 1 (by omega) (by omega), fun h1 e1 => ?_⟩
  have a1 : ∀ a, xK h1 a = if a = oD n + 1 then 21 else xK h a := fun a => by rw [e1, xK_nw]
  have a10 : opk (xK h1 (oD n)) = true := by rw [a1, if_neg (by omega)]; exact hk0
  refine ⟨a10, b16, fun h2 e2 => ⟨oD n + 2, by omega, by rw [e2, xK_sR, a1, if_neg (by omega)]; exact hf 2 (by omega) (by omega), fun h3 e3 => ?_⟩⟩
  have a3 : ∀ a, xK h3 a = if a = oD n + 2 then 20 else if a = oD n + 1 then 21 else xK h a := fun a => by rw [e3, xK_nw, e2, xK_sR, a1]
  have a30 : opk (xK h3 (oD n)) = true := by rw [a3, if_neg (by omega), if_neg (by omega)]; exact hk0
  refine ⟨a30, b16, fun h4 e4 => ⟨by rw [e4, xK_sR]; exact a30, b16, fun h5 e5 => ⟨by rw [e5, xK_sI, e4, xK_sR]; exact a30, b16, fun h6 e6 => k h6 ?_⟩⟩⟩
  have a6 : ∀ a, xK h6 a = xK h3 a := fun a => by rw [e6, xK_sR, e5, xK_sI, e4, xK_sR]
  have n6 : ∀ a, xN h6 a = if a = oD n + 2 then 4 else if a = oD n + 1 then 48 else xN h a := fun a => by rw [e6, xN_sR, e5, xN_sI, e4, xN_sR, e3, xN_nw, e2, xN_sR, e1, xN_nw]; rfl
  have r6 : ∀ a j, xR h6 a j = if a = oD n ∧ j = 1 then x2 else if a = oD n ∧ j = 3 then oD n + 2 else if a = oD n + 2 then 0 else if a = oD n ∧ j = 2 then oD n + 1 else if a = oD n + 1 then 0 else xR h a j := fun a j => by rw [e6, xR_sR, e5, xR_sI, e4, xR_sR, e3, xR_nw, e2, xR_sR, e1, xR_nw]
  have o6 : off (fun a => oD n ≤ a ∧ a < oD n + 3) h h6 := by
    rw [e6, e5, e4, e3, e2, e1]
    exact (((((off.rf.nw (by omega)).sR (by omega)).nw (by omega)).sR (by omega)).sI (by omega)).sR (by omega)
  refine ⟨o6, ?_, ?_, ?_, ?_, ?_, ?_, ?_⟩
  · rw [a6, a3, if_neg (by omega), if_neg (by omega)]
  · rw [r6, if_neg (by omega), if_neg (by omega), if_neg (by omega), if_pos ⟨rfl, rfl⟩]
  · rw [a6, a3, if_neg (by omega), if_pos rfl]
  · rw [n6, if_neg (by omega), if_pos rfl]
  · rw [r6, if_neg (by omega), if_pos ⟨rfl, rfl⟩]
  · rw [a6, a3, if_pos rfl]
  · rw [n6, if_pos rfl]
theorem ct_mkop {n m : Nat} {kd' a b : Int} (q : CS h p) (hw : WF p) (fr' : ∀ j, j < 3 → xK h (oD n + j) = 0) (hn : nO p = (n : Int)) (hn2 : n < 160) (hm : (m : Int) < nM p) (hk : 0 ≤ kd' ∧ kd' ≤ 7) (ha : kd' ≤ 4 → 0 ≤ a ∧ a < nT p) (hb : kd' = 5 → 0 ≤ b ∧ b < nM p) (k : ∀ h', OpF h h' n kd' a (cI (kd' = 4) 9 b) → Ψ (some (vr (oD n))) h') : Ev l D Y_G_mkop (d + 3) (kc + 3) (ks + 58) 0 [some (vr 20), some (vr (mA m)), some (vi kd'), some (vi a), some (vi b), none] [] h Ψ := by
  have w1 := hw.1
  have w2 := hw.2.1
  have b16 : 16 ≤ oD n := by unfold oD; omega
  have ob : oD n = 400 + 3 * n := rfl
  have fr0 : xK h (oD n) = 0 := fr' 0 (by omega)
  -- the object is there
  have new : ∀ (kk : Nat) (h1 : Hp), h1 = nw h (oD n) kk 0 → opk kk = true → CS h1 p ∧ xK h1 (oD n) = kk ∧ ¬ xK h1 (oD n) = 0 ∧ (∀ j, 1 ≤ j → j < 3 → xK h1 (oD n + j) = 0) ∧ off (fun b => oD n ≤ b ∧ b < oD n + 3) h h1 := by
    intro kk h1 e1 hkk
    have o1 : off (fun b => oD n ≤ b ∧ b < oD n + 3) h h1 := by rw [e1]; exact off.rf.nw (by omega)
    have kk1 : xK h1 (oD n) = kk := by rw [e1, xK_nw, if_pos rfl]
    refine ⟨CS_off hw o1 (fun b z => by have z' : oD n ≤ b ∧ b < oD n + 3 := z; unfold frg; omega) q, kk1, ?_, fun j g1 g2 => ?_, o1⟩
    · intro z
      rw [kk1] at z
      rw [z] at hkk
      exact absurd hkk (by decide)
    · rw [e1, xK_nw, if_neg (by omega)]; exact fr' j g2
  have gsf : ∀ {h1 h2 : Hp}, GS h1 → OpN h1 h2 n → GS h2 := fun g o => GS_off o.1 (fun b z => by have z' : oD n ≤ b ∧ b < oD n + 3 := z; omega) g
  have tr : ∀ {h1 h2 : Hp} {kk : Nat}, off (fun b => oD n ≤ b ∧ b < oD n + 3) h h1 → xK h1 (oD n) = kk → OpN h1 h2 n → off (fun b => oD n ≤ b ∧ b < oD n + 3) h h2 ∧ xK h2 (oD n) = kk := fun o e z => ⟨o.tr z.1, z.2.1.trans e⟩
  apply g_G_mkop_0 q.sh
  refine ⟨q.mkk m hm, fun c => ?_, fun c => ?_, fun c => ?_, fun c => ?_, fun c => ?_, fun c => ?_, fun c => ?_, fun c => ?_⟩
  · refine ⟨oD n, b16, fr0, fun h1 e1 => ?_⟩
    obtain ⟨c1, k1, k2, k3, o1⟩ := new 5 h1 e1 rfl
    obtain ⟨t, ht⟩ : ∃ t : Nat, a = (t : Int) := ⟨a.toNat, by omega⟩
    have htt : (t : Int) < nT p := by omega
    rw [ht, Int.toNat_natCast, c1.trr t htt]
    refine ⟨c1.sh, by omega, by omega, k2, ?_⟩
    apply s_New_init_0
    refine ⟨k2, ct_Op_init (by rw [k1]; rfl) k3 (fun h2 z => ⟨z.2.1.trans k1, b16, fun h3 e3 => ?_⟩)⟩
    have z3 : OpN h1 h3 n := by rw [e3]; exact z.sR (by omega)
    obtain ⟨o3, ek⟩ := tr o1 k1 z3
    refine ⟨gsf c1.sh z3, k h3 ⟨o3, by rw [ek, c]; rfl, z3.2.2.1, z3.2.2.2.1, z3.2.2.2.2.1, z3.2.2.2.2.2.1, z3.2.2.2.2.2.2.1, z3.2.2.2.2.2.2.2, fun _ => ?_, fun y => by omega, fun y => by omega, fun y => by omega, fun y => by omega⟩⟩
    rw [e3, xR_sR, if_pos ⟨rfl, rfl⟩, ht, Int.toNat_natCast]
  · refine ⟨oD n, b16, fr0, fun h1 e1 => ?_⟩
    obtain ⟨c1, k1, k2, k3, o1⟩ := new 6 h1 e1 rfl
    obtain ⟨t, ht⟩ : ∃ t : Nat, a = (t : Int) := ⟨a.toNat, by omega⟩
    have htt : (t : Int) < nT p := by omega
    rw [ht, Int.toNat_natCast, c1.trr t htt]
    refine ⟨c1.sh, by omega, by omega, k2, ?_⟩
    apply s_Call_init_0
    refine ⟨k2, ct_Op_init (by rw [k1]; rfl) k3 (fun h2 z => ⟨z.2.1.trans k1, b16, fun h3 e3 => ⟨by rw [e3, xK_sR]; exact z.2.1.trans k1, b16, fun h4 e4 => ?_⟩⟩)⟩
    have z4 : OpN h1 h4 n := by rw [e4, e3]; exact (z.sR (by omega)).sI
    obtain ⟨o4, ek⟩ := tr o1 k1 z4
    refine ⟨gsf c1.sh z4, k h4 ⟨o4, by rw [ek, c]; rfl, z4.2.2.1, z4.2.2.2.1, z4.2.2.2.2.1, z4.2.2.2.2.2.1, z4.2.2.2.2.2.2.1, z4.2.2.2.2.2.2.2, fun _ => ?_, fun _ _ => ?_, fun y => by omega, fun y => by omega, fun y => by omega⟩⟩
    · rw [e4, xR_sI, e3, xR_sR, if_pos ⟨rfl, rfl⟩, ht, Int.toNat_natCast]
    · rw [e4, xI_sI, if_pos ⟨rfl, rfl⟩, cI_f (by omega)]
  · refine ⟨oD n, b16, fr0, fun h1 e1 => ?_⟩
    obtain ⟨c1, k1, k2, k3, o1⟩ := new 7 h1 e1 rfl
    obtain ⟨t, ht⟩ : ∃ t : Nat, a = (t : Int) := ⟨a.toNat, by omega⟩
    have htt : (t : Int) < nT p := by omega
    rw [ht, Int.toNat_natCast, c1.trr t htt]
    refine ⟨c1.sh, by omega, by omega, k2, ?_⟩
    apply s_Up_init_0
    refine ⟨k2, ct_Op_init (by rw [k1]; rfl) k3 (fun h2 z => ⟨z.2.1.trans k1, b16, fun h3 e3 => ⟨by rw [e3, xK_sR]; exact z.2.1.trans k1, b16, fun h4 e4 => ?_⟩⟩)⟩
    have z4 : OpN h1 h4 n := by rw [e4, e3]; exact (z.sR (by omega)).sI
    obtain ⟨o4, ek⟩ := tr o1 k1 z4
    refine ⟨gsf c1.sh z4, k h4 ⟨o4, by rw [ek, c]; rfl, z4.2.2.1, z4.2.2.2.1, z4.2.2.2.2.1, z4.2.2.2.2.2.1, z4.2.2.2.2.2.2.1, z4.2.2.2.2.2.2.2, fun _ => ?_, fun _ _ => ?_, fun y => by omega, fun y => by omega, fun y => by omega⟩⟩
    · rw [e4, xR_sI, e3, xR_sR, if_pos ⟨rfl, rfl⟩, ht, Int.toNat_natCast]
    · rw [e4, xI_sI, if_pos ⟨rfl, rfl⟩, cI_f (by omega)]
  · refine ⟨oD n, b16, fr0, fun h1 e1 => ?_⟩
    obtain ⟨c1, k1, k2, k3, o1⟩ := new 8 h1 e1 rfl
    obtain ⟨t, ht⟩ : ∃ t : Nat, a = (t : Int) := ⟨a.toNat, by omega⟩
    have htt : (t : Int) < nT p := by omega
    rw [ht, Int.toNat_natCast, c1.trr t htt]
    refine ⟨c1.sh, by omega, by omega, k2, ?_⟩
    apply s_Static_init_0
    refine ⟨k2, ct_Op_init (by rw [k1]; rfl) k3 (fun h2 z => ⟨z.2.1.trans k1, b16, fun h3 e3 => ⟨by rw [e3, xK_sR]; exact z.2.1.trans k1, b16, fun h4 e4 => ?_⟩⟩)⟩
    have z4 : OpN h1 h4 n := by rw [e4, e3]; exact (z.sR (by omega)).sI
    obtain ⟨o4, ek⟩ := tr o1 k1 z4
    refine ⟨gsf c1.sh z4, k h4 ⟨o4, by rw [ek, c]; rfl, z4.2.2.1, z4.2.2.2.1, z4.2.2.2.2.1, z4.2.2.2.2.2.1, z4.2.2.2.2.2.2.1, z4.2.2.2.2.2.2.2, fun _ => ?_, fun _ _ => ?_, fun y => by omega, fun y => by omega, fun y => by omega⟩⟩
    · rw [e4, xR_sI, e3, xR_sR, if_pos ⟨rfl, rfl⟩, ht, Int.toNat_natCast]
    · rw [e4, xI_sI, if_pos ⟨rfl, rfl⟩, cI_f (by omega)]
  · refine ⟨oD n, b16, fr0, fun h1 e1 => ?_⟩
    obtain ⟨c1, k1, k2, k3, o1⟩ := new 6 h1 e1 rfl
    obtain ⟨t, ht⟩ : ∃ t : Nat, a = (t : Int) := ⟨a.toNat, by omega⟩
    have htt : (t : Int) < nT p := by omega
    rw [ht, Int.toNat_natCast, c1.trr t htt]
    refine ⟨c1.sh, by omega, by omega, k2, ?_⟩
    apply s_Call_init_0
    refine ⟨k2, ct_Op_init (by rw [k1]; rfl) k3 (fun h2 z => ⟨z.2.1.trans k1, b16, fun h3 e3 => ⟨by rw [e3, xK_sR]; exact z.2.1.trans k1, b16, fun h4 e4 => ?_⟩⟩)⟩
    have z4 : OpN h1 h4 n := by rw [e4, e3]; exact (z.sR (by omega)).sI
    obtain ⟨o4, ek⟩ := tr o1 k1 z4
    refine ⟨gsf c1.sh z4, k h4 ⟨o4, by rw [ek, c]; rfl, z4.2.2.1, z4.2.2.2.1, z4.2.2.2.2.1, z4.2.2.2.2.2.1, z4.2.2.2.2.2.2.1, z4.2.2.2.2.2.2.2, fun _ => ?_, fun _ _ => ?_, fun y => by omega, fun y => by omega, fun y => by omega⟩⟩
    · rw [e4, xR_sI, e3, xR_sR, if_pos ⟨rfl, rfl⟩, ht, Int.toNat_natCast]
    · rw [e4, xI_sI, if_pos ⟨rfl, rfl⟩, cI_t c]
  · refine ⟨oD n, b16, fr0, fun h1 e1 => ?_⟩
    obtain ⟨c1, k1, k2, k3, o1⟩ := new 9 h1 e1 rfl
    obtain ⟨t, ht⟩ : ∃ t : Nat, b = (t : Int) := ⟨b.toNat, by omega⟩
    have htt : (t : Int) < nM p := by omega
    rw [ht, Int.toNat_natCast, c1.mr t htt]
    refine ⟨c1.sh, by omega, by omega, k2, ?_⟩
    apply s_Put_init_0
    refine ⟨k2, ct_Op_init (by rw [k1]; rfl) k3 (fun h2 z => ⟨z.2.1.trans k1, b16, fun h3 e3 => ⟨by rw [e3, xK_sI]; exact z.2.1.trans k1, b16, fun h4 e4 => ?_⟩⟩)⟩
    have z4 : OpN h1 h4 n := by rw [e4, e3]; exact z.sI.sR (by omega)
    obtain ⟨o4, ek⟩ := tr o1 k1 z4
    refine ⟨gsf c1.sh z4, k h4 ⟨o4, by rw [ek, c]; rfl, z4.2.2.1, z4.2.2.2.1, z4.2.2.2.2.1, z4.2.2.2.2.2.1, z4.2.2.2.2.2.2.1, z4.2.2.2.2.2.2.2, fun y => by omega, fun y _ => by omega, fun _ => ?_, fun _ => ?_, fun y => by omega⟩⟩
    · rw [e4, xI_sR, e3, xI_sI, if_pos ⟨rfl, rfl⟩]
    · rw [e4, xR_sR, if_pos ⟨rfl, rfl⟩, cI_f (by omega), ht, Int.toNat_natCast]
  · refine ⟨oD n, b16, fr0, fun h1 e1 => ?_⟩
    obtain ⟨c1, k1, k2, k3, o1⟩ := new 10 h1 e1 rfl
    refine ⟨c1.sh, k2, ?_⟩
    apply s_Out_init_0
    refine ⟨k2, ct_Op_init (by rw [k1]; rfl) k3 (fun h2 z => ⟨z.2.1.trans k1, b16, fun h3 e3 => ?_⟩)⟩
    have z3 : OpN h1 h3 n := by rw [e3]; exact z.sI
    obtain ⟨o3, ek⟩ := tr o1 k1 z3
    refine ⟨gsf c1.sh z3, k h3 ⟨o3, by rw [ek, c]; rfl, z3.2.2.1, z3.2.2.2.1, z3.2.2.2.2.1, z3.2.2.2.2.2.1, z3.2.2.2.2.2.2.1, z3.2.2.2.2.2.2.2, fun y => by omega, fun y _ => by omega, fun _ => ?_, fun y => by omega, fun y => by omega⟩⟩
    rw [e3, xI_sI, if_pos ⟨rfl, rfl⟩]
  · have c7 : kd' = 7 := by omega
    refine ⟨oD n, b16, fr0, fun h1 e1 => ?_⟩
    obtain ⟨c1, k1, k2, k3, o1⟩ := new 11 h1 e1 rfl
    refine ⟨c1.sh, k2, ?_⟩
    apply s_Any_init_0
    refine ⟨k2, ct_Op_init (by rw [k1]; rfl) k3 (fun h2 z => ⟨z.2.1.trans k1, b16, fun h3 e3 => ?_⟩)⟩
    have z3 : OpN h1 h3 n := by rw [e3]; exact z.sI
    obtain ⟨o3, ek⟩ := tr o1 k1 z3
    refine ⟨gsf c1.sh z3, k h3 ⟨o3, by rw [ek, c7]; rfl, z3.2.2.1, z3.2.2.2.1, z3.2.2.2.2.1, z3.2.2.2.2.2.1, z3.2.2.2.2.2.2.1, z3.2.2.2.2.2.2.2, fun y => by omega, fun y _ => by omega, fun y => by omega, fun y => by omega, fun _ => ?_⟩⟩
    rw [e3, xI_sI, if_pos ⟨rfl, rfl⟩, cI_f (by omega)]
theorem ct_fits {m : Nat} {k' a b : Int} (q : CS h p) (hw : WF p) (hm : (m : Int) < nM p) (ha : 0 ≤ k' → k' ≤ 4 → 0 ≤ a ∧ a < nT p) (hb : k' = 5 → 0 ≤ b ∧ b < nM p) (k : Ψ (some (vi (bI (rgt p m k' a b)))) h) : Ev l D Y_G_fits (d + 1) kc ks 0 [some (vr 20), some (vr (mA m)), some (vi k'), some (vi a), some (vi b)] [] h Ψ := by
  have w1 := hw.1
  have w2 := hw.2.1
  obtain ⟨m1, m2, m3, m4, m5, m6, m7⟩ := hw.2.2.2.2.1 m hm
  have yes : rgt p m k' a b → Ψ (some (vi 1)) h := fun z => by rw [bI_t z] at k; exact k
  have no : ¬ rgt p m k' a b → Ψ (some (vi 0)) h := fun z => by rw [bI_f z] at k; exact k
  apply g_G_fits_0 q.sh
  refine ⟨fun c => ?_, fun c => ?_, fun c => ?_, fun c => ?_, fun c => yes (by unfold rgt; omega), fun c => ?_, fun c => ?_, fun c => ?_, fun c => no (by unfold rgt; omega)⟩
  · obtain ⟨t, rfl⟩ : ∃ t : Nat, a = (t : Int) := ⟨a.toNat, by omega⟩
    have ht : (t : Int) < nT p := by omega
    have ek := q.tkd t ht
    rw [Int.toNat_natCast, q.trr t ht]
    refine ⟨by omega, by omega, q.tk t ht, fun c2 => no ?_, fun c2 => yes ?_⟩
    · unfold rgt; rw [Int.toNat_natCast]; omega
    · unfold rgt; rw [Int.toNat_natCast]; omega
  · refine ct_within q.sh ⟨q.sh, bI_01 _, ?_⟩
    rw [bI_c (show (0 ≤ b ∧ b ≤ 9) ↔ rgt p m k' a b by unfold rgt; omega)]
    exact k
  · refine ct_within q.sh ⟨q.sh, fun c2 => no ?_, fun c2 => ?_⟩
    · rw [bI_0] at c2
      unfold rgt; omega
    · rw [bI_n] at c2
      obtain ⟨t, rfl⟩ : ∃ t : Nat, a = (t : Int) := ⟨a.toNat, by omega⟩
      have ht : (t : Int) < nT p := by omega
      obtain ⟨w, ew⟩ : ∃ w : Nat, ty p m = (w : Int) := ⟨(ty p m).toNat, by omega⟩
      have hww : (w : Int) < nT p := by omega
      have ub := (hw.2.2.2.1 w hww).2.1
      have rg : rgt p m k' t b ↔ nxt p w t := by
        unfold rgt
        rw [ew, Int.toNat_natCast]
        refine ⟨fun z => ?_, fun z => Or.inr (Or.inr (Or.inl ⟨c, z, c2⟩))⟩
        rcases z with z | z | z | z | z | z | z | z
        · omega
        · omega
        · exact z.2.1
        all_goals omega
      have eu : trf (up p w) = tA t ↔ up p w = (t : Int) := by
        unfold trf
        by_cases e : up p w = -1
        · rw [if_pos e]; exact ⟨fun z => by unfold tA at z; omega, fun z => by omega⟩
        · rw [if_neg e, tA_inj]; omega
      rw [q.mt m hm, ew, Int.toNat_natCast, Int.toNat_natCast, q.trr t ht, q.tup w hww]
      refine ⟨q.mkk m hm, q.tk w hww, by omega, by omega, fun c3 => yes ?_, fun c3 => ⟨q.mkk m hm, by omega, by omega, q.tk w hww, ct_hasFace q hw hww ⟨q.sh, fun c4 => no ?_, fun c4 => yes ?_⟩⟩⟩
      · exact rg.mpr (Or.inl (eu.mp c3))
      · exact fun z => (rg.mp z).elim (fun y => c3 (eu.mpr y)) (bI_0.mp c4)
      · exact rg.mpr (Or.inr (bI_n.mp c4))
  · refine ct_within q.sh ⟨q.sh, bI_01 _, ?_⟩
    rw [bI_c (show (0 ≤ b ∧ b ≤ 9) ↔ rgt p m k' a b by unfold rgt; omega)]
    exact k
  · refine ct_within q.sh ⟨q.sh, fun c2 => no ?_, fun c2 => ?_⟩
    · rw [bI_0] at c2
      unfold rgt; omega
    · rw [bI_n] at c2
      obtain ⟨t, rfl⟩ : ∃ t : Nat, b = (t : Int) := ⟨b.toNat, by omega⟩
      have ht : (t : Int) < nM p := by omega
      have es := q.ms t ht
      have ws := (hw.2.2.2.2.1 t ht).2.2.1
      rw [Int.toNat_natCast, q.mr t ht]
      refine ⟨by omega, by omega, q.mkk t ht, q.sc _ (by omega) (by omega), ct_isNamed ⟨q.sh, fun c3 => no ?_, fun c3 => yes ?_⟩⟩
      · rw [bI_0] at c3
        unfold rgt; rw [Int.toNat_natCast]; omega
      · rw [bI_n] at c3
        unfold rgt; rw [Int.toNat_natCast]; omega
  · refine ct_within q.sh ⟨q.sh, bI_01 _, ?_⟩
    rw [bI_c (show (0 ≤ a ∧ a ≤ 3) ↔ rgt p m k' a b by unfold rgt; omega)]
    exact k
  · refine ct_within q.sh ⟨q.sh, bI_01 _, ?_⟩
    rw [bI_c (show (0 ≤ b ∧ b ≤ 9) ↔ rgt p m k' a b by unfold rgt; omega)]
    exact k
theorem CA_op {n m : Nat} {k a y : Int} {h2 h6 : Hp} (q : CA p h) (hnn : nO p = (n : Int)) (hn : n < 160) (hm : (m : Int) < nM p) (hn2 : om p m < 24) (hk : 0 ≤ k ∧ k ≤ 7) (ha : k ≤ 4 → 0 ≤ a ∧ a < nT p) (ha2 : 5 ≤ k → k ≤ 6 → 0 ≤ a ∧ a ≤ 3) (hb : k = 5 → 0 ≤ y ∧ y < nM p) (hb2 : (1 ≤ k ∧ k ≤ 4) ∨ k = 7 → 0 ≤ y ∧ y ≤ 9) (of' : OpF h h2 n k a y) (e6 : h6 = sI (sI (sI (sR h2 (mA m + 1) (om p m).toNat (oD n)) 20 4 ((n : Int) + 1)) 20 7 0) (mA m) 5 (om p m + 1)) : CA (pOp1 p m k a y) h6 ∧ agM h h6 := by
  obtain ⟨⟨c, hw, ho, hf⟩, ⟨f1, f2, f3, f4, f5⟩, ⟨b1, b2, b3, b4, b5, b6⟩⟩ := q
  have w1 := hw.1
  have w2 := hw.2.1
  have w3 := hw.2.2.1
  have wm := (hw.2.2.2.2.1 m hm).2.2.2.2.2.1
  obtain ⟨o2, t1, t2, t3, t4, t5, t6, t7, t8, t9, t10, t11, t12⟩ := of'
  have ob : oD n = 400 + 3 * n := rfl
  have mb : mA m = 300 + 2 * m := rfl
  have i6 : ∀ b j, xI h6 b j = if b = mA m ∧ j = 5 then om p m + 1 else if b = 20 ∧ j = 7 then 0 else if b = 20 ∧ j = 4 then (n : Int) + 1 else xI h2 b j := fun b j => by rw [e6, xI_sI, xI_sI, xI_sI, xI_sR]
  have r6 : ∀ b j, xR h6 b j = if b = mA m + 1 ∧ j = (om p m).toNat then oD n else xR h2 b j := fun b j => by rw [e6, xR_sI, xR_sI, xR_sI, xR_sR]
  have k6 : ∀ b, xK h6 b = xK h2 b := fun b => by rw [e6, xK_sI, xK_sI, xK_sI, xK_sR]
  have n6 : ∀ b, xN h6 b = xN h2 b := fun b => by rw [e6, xN_sI, xN_sI, xN_sI, xN_sR]
  have o6 : off (fun b => (oD n ≤ b ∧ b < oD n + 3) ∨ b = 20 ∨ b = mA m ∨ b = mA m + 1) h h6 := by
    rw [e6]
    exact ((((o2.mono (fun b z => by have z' : oD n ≤ b ∧ b < oD n + 3 := z; show (oD n ≤ b ∧ b < oD n + 3) ∨ b = 20 ∨ b = mA m ∨ b = mA m + 1; omega)).sR (by omega)).sI (by omega)).sI (by omega)).sI (by omega)
  clear e6
  have e2 : ∀ b, ¬ (oD n ≤ b ∧ b < oD n + 3) → sa h h2 b := o2
  have e6 : ∀ b, ¬ ((oD n ≤ b ∧ b < oD n + 3) ∨ b = 20 ∨ b = mA m ∨ b = mA m + 1) → sa h h6 b := o6
  have enO0 : nO (pOp1 p m k a y) = nO p + 1 := by simp [pOp1, gs]
  have enO : nO (pOp1 p m k a y) = (n : Int) + 1 := by rw [enO0, hnn]
  have d1 : ∀ v, ok (pOp1 p m k a y) v = if v = n then k else ok p v := fun v => by simp [pOp1, gs, hnn]
  have d2 : ∀ v, oA (pOp1 p m k a y) v = if v = n then a else oA p v := fun v => by simp [pOp1, gs, hnn]
  have d3 : ∀ v, oB (pOp1 p m k a y) v = if v = n then y else oB p v := fun v => by simp [pOp1, gs, hnn]
  have d4 : ∀ v, om (pOp1 p m k a y) v = if v = m then om p m + 1 else om p v := fun v => by simp [pOp1, gs]
  have d5 : ∀ v, oa (pOp1 p m k a y) v = if v = 24 * m + (om p m).toNat then (n : Int) else oa p v := fun v => by simp [pOp1, gs, hnn]
  have enT : nT (pOp1 p m k a y) = nT p := by simp [pOp1, gs]
  have enM : nM (pOp1 p m k a y) = nM p := by simp [pOp1, gs]
  have hw' : WF (pOp1 p m k a y) := WF_op hw hm hk ha ha2 hb hb2 (by omega) hn2
  have cs : CS h6 (pOp1 p m k a y) := by
    refine CS_mk ⟨GS_ag (fun b h1 h2 => ?_) (fun b j z => ?_) c.sh, ?_, ?_, ?_, fun i g1 g2 => ?_, fun i g1 g2 => ?_⟩ (fun v hv => ?_) (fun v hv => ?_) (fun o hoo => ?_)
    · rw [k6, n6]; exact ⟨(e2 b (by omega)).1, (e2 b (by omega)).2.1⟩
    · rw [r6, if_neg (by omega)]; exact (e2 b (by omega)).2.2.2.1 j
    · rw [i6, if_neg (by omega), if_neg (by omega), if_neg (by omega), (e2 20 (by omega)).2.2.1, enT]; exact c.ct
    · rw [i6, if_neg (by omega), if_neg (by omega), if_neg (by omega), (e2 20 (by omega)).2.2.1, enM]; exact c.cm
    · rw [i6, if_neg (by omega), if_neg (by omega), if_pos ⟨rfl, rfl⟩, enO]
    · rw [(e6 i (by omega)).1]; exact c.kc i g1 g2
    · rw [(e6 i (by omega)).1]; exact c.sc i g1 g2
    · rw [enT] at hv
      refine CSt_sa (p := p) (fun j hj => e6 _ (by unfold tA; omega)) ((e6 21 (by omega)).2.2.2.1 v) (hw.2.2.2.1 v hv).2.2.2.1.2 ?_ ?_ ?_ (fun i _ => ?_) (fun u _ => U_congr (p := p) (p' := pOp1 p m k a y) (fun w => ?_) (fun w => ?_) (fun w => ?_) v u) (fun x => ?_) (c.T hv)
      · simp [pOp1, gs]
      · simp [pOp1, gs]
      · simp [pOp1, gs]
      · simp [pOp1, gs]
      · simp [pOp1, gs]
      · simp [pOp1, gs]
      · simp [pOp1, gs]
      · unfold own
        rw [enM]
        refine fst_congr _ _ (fun j _ _ => ?_)
        have a1 : ty (pOp1 p m k a y) j = ty p j := by simp [pOp1, gs]
        have a2 : nm (pOp1 p m k a y) j = nm p j := by simp [pOp1, gs]
        rw [a1, a2]
    · rw [enM] at hv
      have f1' : ty (pOp1 p m k a y) v = ty p v := by simp [pOp1, gs]
      have f2' : nm (pOp1 p m k a y) v = nm p v := by simp [pOp1, gs]
      have f3' : so (pOp1 p m k a y) v = so p v := by simp [pOp1, gs]
      have f5' : rt (pOp1 p m k a y) v = rt p v := by simp [pOp1, gs]
      by_cases ev : v = m
      · subst ev
        have kk : ∀ b, ¬ (oD n ≤ b ∧ b < oD n + 3) → xK h6 b = xK h b ∧ xN h6 b = xN h b := fun b z => ⟨(k6 b).trans (e2 b z).1, (n6 b).trans (e2 b z).2.1⟩
        have ii : ∀ b j, ¬ (oD n ≤ b ∧ b < oD n + 3) → ¬ (b = mA v ∧ j = 5) → ¬ b = 20 → xI h6 b j = xI h b j := fun b j z1 z2 z3 => by rw [i6, if_neg z2, if_neg (fun y => z3 y.1), if_neg (fun y => z3 y.1)]; exact (e2 b z1).2.2.1 j
        have rr : ∀ b j, ¬ (oD n ≤ b ∧ b < oD n + 3) → ¬ (b = mA v + 1 ∧ j = (om p v).toNat) → xR h6 b j = xR h b j := fun b j z1 z2 => by rw [r6, if_neg z2]; exact (e2 b z1).2.2.2.1 j
        obtain ⟨q1, q2, q3, q4, q5, q6, q7, q8, q9, q10, q11, q12⟩ := c.M hv
        refine ⟨?_, ?_, ?_, ?_, ?_, ?_, ?_, ?_, ?_, ?_, ?_, fun i hi => ?_⟩
        · rw [rr _ _ (by omega) (by omega)]; exact q1
        · rw [(kk _ (by omega)).1]; exact q2
        · rw [ii _ _ (by omega) (by omega) (by omega)]; exact q3
        · rw [rr _ _ (by omega) (by omega), f1']; exact q4
        · rw [ii _ _ (by omega) (by omega) (by omega), f2']; exact q5
        · rw [rr _ _ (by omega) (by omega), f3']; exact q6
        · rw [rr _ _ (by omega) (by omega)]; exact q7
        · rw [(kk _ (by omega)).1]; exact q8
        · rw [(kk _ (by omega)).2]; exact q9
        · rw [i6, if_pos ⟨rfl, rfl⟩, d4, if_pos rfl]
        · rw [ii _ _ (by omega) (by omega) (by omega), f5']; exact q11
        · rw [d4, if_pos rfl] at hi
          rw [d5]
          by_cases ei : i = (om p v).toNat
          · rw [r6, if_pos ⟨rfl, ei⟩, if_pos (by omega), Int.toNat_natCast]
          · rw [rr _ _ (by omega) (by omega), if_neg (by omega)]; exact q12 i (by omega)
      · have wv := (hw.2.2.2.2.1 v hv).2.2.2.2.2.1
        refine CSm_sa (p := p) (fun j hj => e6 _ (by unfold mA at *; omega)) ((e6 22 (by omega)).2.2.2.1 v) wv.2 f1' f2' f3' ?_ f5' (fun i hi => ?_) (c.M hv)
        · rw [d4, if_neg ev]
        · rw [d5, if_neg (by omega)]
    · rw [enO] at hoo
      by_cases eo : o = n
      · subst eo
        refine ⟨?_, ?_, ?_, ?_, ?_, ?_, ?_, ?_, ?_, ?_, ?_, ?_⟩
        · rw [k6, d1, if_pos rfl]; exact t1
        · rw [r6, if_neg (by omega)]; exact t2
        · rw [k6]; exact t3
        · rw [n6]; exact t4
        · rw [r6, if_neg (by omega)]; exact t5
        · rw [k6]; exact t6
        · rw [n6]; exact t7
        · rw [d1, if_pos rfl, d2, if_pos rfl, r6, if_neg (by omega)]; exact t8
        · rw [d1, if_pos rfl, d3, if_pos rfl, i6, if_neg (by omega), if_neg (by omega), if_neg (by omega)]; exact t9
        · rw [d1, if_pos rfl, d2, if_pos rfl, i6, if_neg (by omega), if_neg (by omega), if_neg (by omega)]; exact t10
        · rw [d1, if_pos rfl, d3, if_pos rfl, r6, if_neg (by omega)]; exact t11
        · rw [d1, if_pos rfl, d3, if_pos rfl, i6, if_neg (by omega), if_neg (by omega), if_neg (by omega)]; exact t12
      · have ho' : (o : Int) < nO p := by omega
        exact CSo_sa (p := p) (fun j hj => e6 _ (by unfold oD at *; omega)) (by rw [d1, if_neg eo]) (by rw [d2, if_neg eo]) (by rw [d3, if_neg eo]) (c.O ho')
  have z7 : xI h6 20 7 = 0 := by rw [i6, if_neg (by omega), if_pos ⟨rfl, rfl⟩]
  refine ⟨⟨⟨cs, hw', WO_op hw hm hn2 ho, Or.inl z7, fun z => absurd z7 z⟩, ⟨fun v j x y z => ?_, fun v j x y z => ?_, fun o j x y z => ?_, fun v x y => ?_, fun v x y => ?_⟩, ⟨?_, ?_, ?_, ?_, fun i hi => ?_, fun i hi => ?_⟩⟩, fun b hb => e6 b (by omega)⟩
  · rw [enT] at x
    rw [(e6 _ (by unfold tA; omega)).1]; exact f1 v j x y z
  · rw [enM] at x
    rw [(e6 _ (by unfold mA at *; omega)).1]; exact f2 v j x y z
  · rw [enO] at x
    rw [(e6 _ (by unfold oD at *; omega)).1]; exact f3 o j (by omega) y z
  · rw [enT] at x
    rw [(e6 _ (by omega)).1]; exact f4 v x y
  · rw [enM] at x
    rw [(e6 _ (by omega)).1]; exact f5 v x y
  · rw [(e6 9 (by omega)).1]; exact b1
  · rw [(e6 9 (by omega)).2.1]; exact b2
  · rw [(e6 10 (by omega)).1]; exact b3
  · rw [(e6 10 (by omega)).2.1]; exact b4
  · rw [(e6 9 (by omega)).2.2.2.1]; exact b5 i hi
  · rw [(e6 10 (by omega)).2.2.2.1]; exact b6 i hi
theorem rgt_bd {m : Nat} {k a b : Int} (h : rgt p m k a b) : (0 ≤ k ∧ k ≤ 7) ∧ (5 ≤ k → k ≤ 6 → 0 ≤ a ∧ a ≤ 3) ∧ ((1 ≤ k ∧ k ≤ 3) ∨ k = 7 → 0 ≤ b ∧ b ≤ 9) := by
  rcases h with h | h | h | h | h | h | h | h
  · exact ⟨by omega, fun _ _ => by omega, fun _ => by omega⟩
  · exact ⟨by omega, fun _ _ => by omega, fun _ => by omega⟩
  · exact ⟨by omega, fun _ _ => by omega, fun _ => h.2.2⟩
  · exact ⟨by omega, fun _ _ => by omega, fun _ => by omega⟩
  · exact ⟨by omega, fun _ _ => by omega, fun _ => by omega⟩
  · exact ⟨by omega, fun _ _ => h.2.1, fun _ => by omega⟩
  · exact ⟨by omega, fun _ _ => by omega, fun _ => by omega⟩
  · exact ⟨by omega, fun _ _ => by omega, fun _ => by omega⟩
set_option maxHeartbeats 2000000 in
theorem ct_G_op {x1 x2 x3 x4 : Int} (q : CA p h) (k : ∀ h', agM h h' → CA (pOp p x1 x2 x3 x4) h' → Ψ (some (vi (rOp p x1 x2 x3 x4))) h') : Ev l D Y_G_op (d + 4) (kc + 3) (ks + 58) 0 [some (vr 20), some (vi x1), some (vi x2), some (vi x3), some (vi x4), none] [] h Ψ := by
  obtain ⟨c, hw, ho, hf⟩ := q.1
  have w1 := hw.1
  have w2 := hw.2.1
  have w3 := hw.2.2.1
  have bad : ∀ r, rOp p x1 x2 x3 x4 = r → r < 0 → Ψ (some (vi r)) h := fun r e hr => by
    have z := k h agM.rf
    rw [e, show pOp p x1 x2 x3 x4 = p from cG_f (by rw [e]; omega)] at z
    exact z q
  have g42 : ¬ (¬ (0 ≤ x1 ∧ x1 < nM p) ∨ ((0 ≤ x2 ∧ x2 ≤ 4) ∧ ¬ (0 ≤ x3 ∧ x3 < nT p)) ∨ (x2 = 5 ∧ ¬ (0 ≤ x4 ∧ x4 < nM p))) → Ev l D Y_G_op (d + 4) (kc + 3) (ks + 58) 42 [some (vr 20), some (vi x1), some (vi x2), some (vi x3), some (vi x4), none] [] h Ψ := by
    intro c1
    obtain ⟨m, rfl⟩ : ∃ t : Nat, x1 = (t : Int) := ⟨x1.toNat, by omega⟩
    have hm : (m : Int) < nM p := by omega
    obtain ⟨m1, m2, m3, m4, m5, m6, m7⟩ := hw.2.2.2.2.1 m hm
    have es := c.ms m hm
    have g100 : rOp p m x2 x3 x4 = -104 → Ev l D Y_G_op (d + 4) (kc + 3) (ks + 58) 100 [some (vr 20), some (vi (m : Int)), some (vi x2), some (vi x3), some (vi x4), some (vr (mA m))] [] h Ψ := fun e => by
      apply g_G_op_100 c.sh
      exact bad _ e (by omega)
    apply g_G_op_42 c.sh
    rw [Int.toNat_natCast, c.mr m hm]
    refine ⟨by omega, by omega, ct_fits c hw hm (fun y1 y2 => by omega) (fun y => by omega) ⟨c.sh, fun c2 => ⟨c.mkk m hm, fun c3 => ⟨c.mkk m hm, ?_⟩, fun c3 => bad _ ?_ (by omega)⟩, fun c2 => bad _ ?_ (by omega)⟩⟩
    · rw [bI_n] at c2
      have n2 : ¬ ¬ rgt p (m : Int).toNat x2 x3 x4 := by rw [Int.toNat_natCast]; exact fun z => z c2
      have n3 : ¬ so p (m : Int).toNat = 1 := by rw [Int.toNat_natCast]; omega
      rw [c.mc m hm, c.co]
      refine ⟨fun c4 => g100 ?_, fun c4 => ⟨fun c5 => ⟨c.mkk m hm, c.mkk m hm, ?_⟩, fun c5 => g100 ?_⟩⟩
      · unfold rOp; rw [cI_f c1, cI_f n2, cI_f n3, cI_t (by rw [Int.toNat_natCast]; exact Or.inr c4)]
      · obtain ⟨n, hn⟩ : ∃ n : Nat, nO p = (n : Int) := ⟨(nO p).toNat, by omega⟩
        have er : rOp p m x2 x3 x4 = om p m := by unfold rOp; rw [cI_f c1, cI_f n2, cI_f n3, cI_f (by rw [Int.toNat_natCast]; omega), Int.toNat_natCast]
        have ob : oD n = 400 + 3 * n := rfl
        have mb : mA m = 300 + 2 * m := rfl
        obtain ⟨kb, ab, bb⟩ := rgt_bd c2
        clear n2 c2
        have yb : (x2 = 4 → cI (x2 = 4) 9 x4 = 9) ∧ (¬ x2 = 4 → cI (x2 = 4) 9 x4 = x4) := ⟨fun z => cI_t z, fun z => cI_f z⟩
        have n160 : n < 160 := by omega
        refine ct_mkop (n := n) (kc := 0) (ks := 0) c hw (fun j hj => q.2.1.2.2.1 n j (by omega) n160 hj) hn n160 hm kb (fun y => by omega) (fun y => by omega) (fun h2 of' => ?_)
        have e2 : ∀ b, ¬ (oD n ≤ b ∧ b < oD n + 3) → sa h h2 b := of'.1
        have g2 : GS h2 := GS_off of'.1 (fun b z => by have z' : oD n ≤ b ∧ b < oD n + 3 := z; omega) c.sh
        have en := c.mon m hm
        rw [c.mo m hm]
        refine ⟨g2, ?_, by omega, by omega, by rw [(e2 (mA m + 1) (by omega)).2.1]; omega, fun h3 e3 => ?_⟩
        · rw [(e2 (mA m + 1) (by omega)).1, c.mok m hm, of'.2.1]; exact opk_ok x2
        · have g3 : GS h3 := by
            rw [e3]
            exact GS_ag (fun a _ _ => ⟨xK_sR _ _ _ _ _, xN_sR _ _ _ _ _⟩) (fun a j z => by rw [xR_sR, if_neg (by omega)]) g2
          have i3 : xI h3 20 4 = (n : Int) := by rw [e3, xI_sR, (e2 20 (by omega)).2.2.1, c.co]; exact hn
          refine ⟨g3, fun h4 e4 => ?_⟩
          rw [i3, wr_eq (by omega) (by omega)] at e4
          have g4 : GS h4 := by rw [e4]; exact GS_ag (h := h3) (fun a _ _ => ⟨rfl, rfl⟩) (fun a j _ => rfl) g3
          refine ct_G_change g4 (fun h5 e5 => ?_)
          have g5 : GS h5 := by rw [e5]; exact GS_ag (h := h4) (fun a _ _ => ⟨rfl, rfl⟩) (fun a j _ => rfl) g4
          have k5 : xK h5 (mA m) = 4 := by rw [e5, xK_sI, e4, xK_sI, e3, xK_sR, (e2 _ (by omega)).1]; exact c.mkk m hm
          have i5 : xI h5 (mA m) 5 = om p m := by rw [e5, xI_sI, if_neg (by omega), e4, xI_sI, if_neg (by omega), e3, xI_sR, (e2 _ (by omega)).2.2.1]; exact c.mc m hm
          refine ⟨g5, k5, k5, by omega, fun h6 e6 => ?_⟩
          rw [i5, wr_eq (by omega) (by omega)] at e6
          rw [i5]
          obtain ⟨ca, ag⟩ := CA_op (h6 := h6) q hn n160 hm (by omega) kb (fun y => by omega) ab (fun y => by have := yb.2 (by omega); omega) (fun y => by
            rcases Classical.em (x2 = 4) with v | v
            · have := yb.1 v; omega
            · have := yb.2 v
              have := bb (by omega)
              omega) of' (by rw [e6, e5, e4, e3])
          have z := k h6 ag
          rw [er, show pOp p m x2 x3 x4 = pOp1 p (m : Int).toNat x2 x3 (cI (x2 = 4) 9 x4) from cG_t (by rw [er]; omega), Int.toNat_natCast] at z
          exact z ca
      · unfold rOp; rw [cI_f c1, cI_f n2, cI_f n3, cI_t (Or.inl c5)]
    · rw [bI_n] at c2
      have n2 : ¬ ¬ rgt p (m : Int).toNat x2 x3 x4 := by rw [Int.toNat_natCast]; exact fun z => z c2
      unfold rOp; rw [cI_f c1, cI_f n2, cI_t (by rw [Int.toNat_natCast]; omega)]
    · rw [bI_0] at c2
      unfold rOp; rw [cI_f c1, cI_t (by rw [Int.toNat_natCast]; exact c2)]
  have bad1 : (¬ (0 ≤ x1 ∧ x1 < nM p) ∨ ((0 ≤ x2 ∧ x2 ≤ 4) ∧ ¬ (0 ≤ x3 ∧ x3 < nT p)) ∨ (x2 = 5 ∧ ¬ (0 ≤ x4 ∧ x4 < nM p))) → Ψ (some (vi (-101))) h := fun z => bad _ (by unfold rOp; rw [cI_t z]) (by omega)
  apply g_G_op_0 c.sh
  refine ct_G_isMember c hw ⟨c.sh, fun c1 => bad1 (Or.inl (bI_0.mp c1)), fun c1 => ct_within c.sh ⟨c.sh, fun c2 => ⟨fun c3 => g42 ?_, fun c3 => ct_G_isMember c hw ⟨c.sh, fun c4 => g42 ?_, fun c4 => bad1 (Or.inr (Or.inr ⟨c3, bI_0.mp c4⟩))⟩⟩, fun c2 => ct_G_isType c hw ⟨c.sh, fun c3 => bad1 (Or.inr (Or.inl ⟨bI_n.mp c2, bI_0.mp c3⟩)), fun c3 => ⟨fun c4 => g42 ?_, fun c4 => ?_⟩⟩⟩⟩
  · rw [bI_n] at c1; rw [bI_0] at c2; omega
  · rw [bI_n] at c1 c4; rw [bI_0] at c2; omega
  · rw [bI_n] at c1 c2 c3; omega
  · rw [bI_n] at c2; omega
theorem ct_G_root {x1 x2 : Int} (q : CA p h) (hx : x2 = 0 ∨ x2 = 1) (k : ∀ h', agM h h' → CA (pRo p x1 x2) h' → Ψ (some (vi (rRo p x1 x2))) h') : Ev l D Y_G_root (d + 2) kc ks 0 [some (vr 20), some (vi x1), some (vi x2), none, none] [] h Ψ := by
  obtain ⟨c, hw, ho, hf⟩ := q.1
  have w1 := hw.1
  have w2 := hw.2.1
  have w3 := hw.2.2.1
  have bad : ∀ r, rRo p x1 x2 = r → r < 0 → Ψ (some (vi r)) h := fun r e hr => by
    have z := k h agM.rf
    rw [e, show pRo p x1 x2 = p from cG_f (by rw [e]; omega)] at z
    exact z q
  apply g_G_root_0 c.sh
  refine ct_G_isMember c hw ⟨c.sh, fun c1 => ?_, fun c1 => bad _ ?_ (by omega)⟩
  · rw [bI_n] at c1
    have n1 : ¬ ¬ (0 ≤ x1 ∧ x1 < nM p) := by omega
    obtain ⟨m, rfl⟩ : ∃ t : Nat, x1 = (t : Int) := ⟨x1.toNat, by omega⟩
    have hm := c1.2
    have es := c.ms m hm
    have ws := (hw.2.2.2.2.1 m hm).2.2.1
    have mb : mA m = 300 + 2 * m := rfl
    rw [Int.toNat_natCast, c.mr m hm]
    refine ⟨by omega, by omega, c.mkk m hm, c.sc _ (by omega) (by omega), ct_isNamed ⟨c.sh, fun c2 => ⟨c.mkk m hm, c.mkk m hm, by omega, hx, fun h3 e3 => ?_⟩, fun c2 => bad _ ?_ (by omega)⟩⟩
    · rw [bI_n] at c2
      have er : rRo p m x2 = bI (¬ rt p m = x2) := by unfold rRo; rw [cI_f n1, cI_f (by rw [Int.toNat_natCast]; omega), Int.toNat_natCast]
      have erb := bI_01 (¬ rt p m = x2)
      have g3 : GS h3 := by rw [e3]; exact GS_ag (h := h) (fun a _ _ => ⟨rfl, rfl⟩) (fun a j _ => rfl) c.sh
      refine ct_G_change g3 (fun h4 e4 => ?_)
      have g4 : GS h4 := by rw [e4]; exact GS_ag (h := h3) (fun a _ _ => ⟨rfl, rfl⟩) (fun a j _ => rfl) g3
      have i4 : ∀ a j, xI h4 a j = if a = 20 ∧ j = 7 then 0 else if a = mA m ∧ j = 6 then x2 else xI h a j := fun a j => by rw [e4, xI_sI, e3, xI_sI]
      have o4 : off (fun a => a = 20 ∨ a = mA m) h h4 := by rw [e4, e3]; exact (off.rf.sI (Or.inr rfl)).sI (Or.inl rfl)
      have k4 : ∀ a, xK h4 a = xK h a := fun a => by rw [e4, xK_sI, e3, xK_sI]
      have n4 : ∀ a, xN h4 a = xN h a := fun a => by rw [e4, xN_sI, e3, xN_sI]
      have r4 : ∀ a j, xR h4 a j = xR h a j := fun a j => by rw [e4, xR_sI, e3, xR_sI]
      have eA : ∀ a, ¬ (a = 20 ∨ a = mA m) → sa h h4 a := o4
      clear e4 e3
      have ert : ∀ v, rt (gs p 110 m x2) v = if v = m then x2 else rt p v := fun v => by simp [gs]
      have hw' : WF (gs p 110 m x2) := WF_ro hw hx
      obtain ⟨-, ⟨f1, f2, f3, f4, f5⟩, ⟨b1, b2, b3, b4, b5, b6⟩⟩ := id q
      have cs : CS h4 (gs p 110 m x2) := by
        refine CS_mk ⟨g4, ?_, ?_, ?_, fun i g1 g2 => ?_, fun i g1 g2 => ?_⟩ (fun v hv => ?_) (fun v hv => ?_) (fun o hoo => ?_)
        · rw [i4, if_neg (by omega), if_neg (by omega)]; exact c.ct
        · rw [i4, if_neg (by omega), if_neg (by omega)]; exact c.cm
        · rw [i4, if_neg (by omega), if_neg (by omega)]; exact c.co
        · rw [k4]; exact c.kc i g1 g2
        · rw [k4]; exact c.sc i g1 g2
        · have hv' : (v : Int) < nT p := hv
          exact CSt_sa (p := p) (fun j hj => eA _ (by unfold tA; omega)) (r4 21 v) (hw.2.2.2.1 v hv').2.2.2.1.2 rfl rfl rfl (fun _ _ => rfl) (fun u _ => U_congr (p := p) (p' := gs p 110 m x2) (fun _ => rfl) (fun _ => rfl) (fun _ => rfl) v u) (fun _ => rfl) (c.T hv')
        · have hv' : (v : Int) < nM p := hv
          by_cases ev : v = m
          · subst ev
            obtain ⟨q1, q2, q3, q4, q5, q6, q7, q8, q9, q10, q11, q12⟩ := c.M hv'
            refine ⟨?_, ?_, ?_, ?_, ?_, ?_, ?_, ?_, ?_, ?_, ?_, fun i hi => ?_⟩
            · rw [r4]; exact q1
            · rw [k4]; exact q2
            · rw [i4, if_neg (by omega), if_neg (by omega)]; exact q3
            · rw [r4]; exact q4
            · rw [i4, if_neg (by omega), if_neg (by omega)]; exact q5
            · rw [r4]; exact q6
            · rw [r4]; exact q7
            · rw [k4]; exact q8
            · rw [n4]; exact q9
            · rw [i4, if_neg (by omega), if_neg (by omega)]; exact q10
            · rw [i4, if_neg (by omega), if_pos ⟨rfl, rfl⟩, ert, if_pos rfl]
            · rw [r4]; exact q12 i hi
          · exact CSm_sa (p := p) (fun j hj => eA _ (by unfold mA at *; omega)) (r4 22 v) (hw.2.2.2.2.1 v hv').2.2.2.2.2.1.2 rfl rfl rfl rfl (by rw [ert, if_neg ev]) (fun _ _ => rfl) (c.M hv')
        · have ho' : (o : Int) < nO p := hoo
          exact CSo_sa (p := p) (fun j hj => eA _ (by unfold oD; omega)) rfl rfl rfl (c.O ho')
      have z7 : xI h4 20 7 = 0 := by rw [i4, if_pos ⟨rfl, rfl⟩]
      have ca : CA (gs p 110 m x2) h4 := ⟨⟨cs, hw', WO_ro ho, Or.inl z7, fun z => absurd z7 z⟩, ⟨fun v j x y z => by rw [k4]; exact f1 v j x y z, fun v j x y z => by rw [k4]; exact f2 v j x y z, fun v j x y z => by rw [k4]; exact f3 v j x y z, fun v x y => by rw [k4]; exact f4 v x y, fun v x y => by rw [k4]; exact f5 v x y⟩, ⟨by rw [k4]; exact b1, by rw [n4]; exact b2, by rw [k4]; exact b3, by rw [n4]; exact b4, fun i hi => by rw [r4]; exact b5 i hi, fun i hi => by rw [r4]; exact b6 i hi⟩⟩
      have z := k h4 (fun a ha => eA a (by omega))
      rw [er, show pRo p m x2 = gs p 110 m x2 from (cG_t (by rw [er]; omega)).trans (by rw [Int.toNat_natCast])] at z
      have z' := z ca
      rw [c.mrt m hm]
      refine ⟨g4, fun y => ?_, fun y => ?_⟩
      · rw [bI_t y] at z'; exact z'
      · rw [bI_f (fun v => v y)] at z'; exact z'
    · rw [bI_0] at c2
      unfold rRo; rw [cI_f n1, cI_t (by rw [Int.toNat_natCast]; omega)]
  · unfold rRo; rw [cI_t (bI_0.mp c1)]
end COP
