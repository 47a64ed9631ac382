/-! the component: spread, the rest -/
theorem mtc_Static (k : Nat) : mt_Static_call_Y k = Y_Op_call := by unfold mt_Static_call_Y; split <;> rfl
theorem mtc_Call (k : Nat) : mt_Call_call_Y k = Y_Op_call := by unfold mt_Call_call_Y; split <;> rfl
section CSQ
variable {l : Launch} {D : DD} {d kc ks : Nat} {h h0 : Hp} {Ψ : Option AV → Hp → Prop} {p g : Pg}
theorem GS_bg {h : Hp} (c : GS h) {b : Nat} (hb : b < 4) : xR h 25 b = 26 + b ∧ xK h (26 + b) = 21 ∧ xN h (26 + b) = 48 := by
  unfold GS at c
  exact c.2.2.2.2.2.2.2.2.2.2.2.2.2.2.2.2.2.2.2.2.2.2.2.2.2.2.2.2.2.2.2.2.2.2.2.2.2.2.2.1 b hb
theorem Gc.set3 {b m : Nat} (hw : WF p) (q : Gc p h0 h g) (hb : b < 4) (hm : m < 48) (hz : g 122 (48 * b + m) = 0) : Gc p h0 (sI (sI h (26 + b) m 1) 20 8 1) (gs (gw g (g 122 (48 * b + m) = 0)) 122 (48 * b + m) 1) := by
  obtain ⟨q1, q2, ⟨d1, d2, d3, d4, d5, d6⟩, q4⟩ := q
  have f : fx cdy B206 h (sI (sI h (26 + b) m 1) 20 8 1) := (fx.rf.put (by unfold cdy; omega)).put (by unfold cdy; omega)
  have e : ∀ c j, ¬ (c = 26 + b ∧ j = m) → ¬ (c = 20 ∧ j = 8) → xI (sI (sI h (26 + b) m 1) 20 8 1) c j = xI h c j := fun c j h1 h2 => by rw [xI_sI, if_neg h2, xI_sI, if_neg h1]
  have eb : xI (sI (sI h (26 + b) m 1) 20 8 1) (26 + b) m = 1 := by rw [xI_sI, if_neg (by omega), xI_sI, if_pos ⟨rfl, rfl⟩]
  refine ⟨q1.tr f, CS_fx hw f (fun _ _ => cdy_cst) (fun a k z => by have z' : a = 20 ∧ k = 6 := z; unfold csr; omega) q2, ⟨fun m' hm' => ?_, fun t ht => ?_, fun t ht => ?_, fun b' m' hb' hm' => ?_, fun o' m' ho' hm' => ?_, ?_⟩, b01_set q4⟩
  · rw [gset_at, if_neg (by omega), if_neg (by omega), e _ _ (by unfold mA; omega) (by unfold mA; omega)]; exact d1 m' hm'
  · rw [gset_at, if_neg (by omega), if_neg (by omega), e _ _ (by omega) (by omega)]; exact d2 t ht
  · rw [gset_at, if_neg (by omega), if_neg (by omega), e _ _ (by omega) (by omega)]; exact d3 t ht
  · rw [gset_at]
    by_cases z : b' = b ∧ m' = m
    · rw [if_pos ⟨rfl, by rw [z.1, z.2]⟩, z.1, z.2]; exact eb
    · rw [if_neg (by omega), if_neg (by omega), e _ _ (by omega) (by omega)]; exact d4 b' m' hb' hm'
  · rw [gset_at, if_neg (by omega), if_neg (by omega), e _ _ (by unfold oD; omega) (by unfold oD; omega)]; exact d5 o' m' ho' hm'
  · rw [gset_at, if_neg (by omega), if_pos ⟨rfl, rfl⟩, xI_sI, if_pos ⟨rfl, rfl⟩]
    exact (bI_t (Or.inr hz)).symm
theorem ct_Put_spread {o : Nat} (q : Gc p h0 h g) (hw : WF p) (ho : (o : Int) < nO p) (hk : ok p o = 5) (k : ∀ h', Gc p h0 h' (gfk p o g) → Ψ none h') : Ev l D Y_Put_spread d kc ks 0 [some (vr (oD o)), some (vr 20)] [] h Ψ := by
  have w2 := hw.2.1
  have wo := hw.2.2.2.2.2.2 o ho
  have ab := wo.2.2.1 (by omega) (by omega)
  have bb := wo.2.2.2.1 hk
  obtain ⟨a, ha⟩ : ∃ a : Nat, oA p o = (a : Int) := ⟨(oA p o).toNat, by omega⟩
  obtain ⟨m, hm⟩ : ∃ m : Nat, oB p o = (m : Int) := ⟨(oB p o).toNat, by omega⟩
  have q2 := q.2.1
  have eg : gfk p o g = gs (gw g (g 122 (48 * a + m) = 0)) 122 (48 * a + m) 1 := by unfold gfk; rw [cG_f (by omega), cG_f (by omega), cG_f (by omega), cG_f (by omega), cG_t hk, ha, hm, Int.toNat_natCast, Int.toNat_natCast]
  have ek : xK h (oD o) = 9 := (q2.okk o ho).trans (by unfold okd; rw [if_neg (by omega), if_neg (by omega), if_neg (by omega), if_neg (by omega), if_pos hk])
  have e4 : xI h (oD o) 4 = (a : Int) := (q2.og o ho (Or.inl hk)).trans ha
  have e5 : xR h (oD o) 5 = mA m := (q2.omr o ho hk).trans (by rw [hm, Int.toNat_natCast])
  rw [ha] at ab
  rw [hm] at bb
  obtain ⟨b1, b2, b3⟩ := GS_bg q2.sh (show a < 4 by omega)
  rw [eg] at k
  apply g_Put_spread_0 q2.sh
  rw [e4, e5, q2.mn m bb.2, Int.toNat_natCast, Int.toNat_natCast, b1, b2, b3, q.2.2.1.2.2.2.1 a m (by omega) (by omega)]
  refine ⟨ek, by omega, by omega, ek, q2.mkk m bb.2, rfl, by omega, by omega, fun c => k h (q.same (by omega) c), fun c => ⟨ek, by omega, by omega, ek, q2.mkk m bb.2, rfl, by omega, by omega, by omega, fun h1 e1 h2 e2 => k h2 ?_⟩⟩
  rw [e2, e1]
  exact q.set3 hw (by omega) (by omega) c
theorem ct_Out_spread {o : Nat} (q : Gc p h0 h g) (hw : WF p) (ho : (o : Int) < nO p) (hk : ok p o = 6) (k : ∀ h', Gc p h0 h' (gfk p o g) → Ψ none h') : Ev l D Y_Out_spread (d + 1) kc ks 0 [some (vr (oD o)), some (vr 20), none] [] h Ψ := by
  have w2 := hw.2.1
  have ab := (hw.2.2.2.2.2.2 o ho).2.2.1 (by omega) (by omega)
  obtain ⟨a, ha⟩ : ∃ a : Nat, oA p o = (a : Int) := ⟨(oA p o).toNat, by omega⟩
  have eg : gfk p o g = gou o a (nM p).toNat 0 g := by unfold gfk; rw [cG_f (by omega), cG_f (by omega), cG_f (by omega), cG_f (by omega), cG_f (by omega), cG_t hk, ha, Int.toNat_natCast]
  rw [eg] at k
  rw [ha] at ab
  apply g_Out_spread_0 q.2.1.sh
  have key : ∀ (n i : Nat) (h' : Hp) (g' : Pg), i + n = (nM p).toNat → Gc p h0 h' g' → gou o a n i g' = gou o a (nM p).toNat 0 g → Ev l D Y_Out_spread (d + 1) kc ks 2 [some (vr (oD o)), some (vr 20), some (vi (i : Int))] [] h' Ψ := by
    intro n
    induction n with
    | zero =>
      intro i h' g' hi r1 eg2
      apply g_Out_spread_2 r1.2.1.sh
      rw [r1.2.1.cm]
      refine ⟨fun _ => k h' ?_, fun c => by omega⟩
      rw [← eg2]; exact r1
    | succ n ih =>
      intro i h' g' hi r1 eg2
      have q2 := r1.2.1
      have ek : xK h' (oD o) = 10 := (q2.okk o ho).trans (by unfold okd; rw [if_neg (by omega), if_neg (by omega), if_neg (by omega), if_neg (by omega), if_neg (by omega), if_pos hk])
      have e4 : xI h' (oD o) 4 = (a : Int) := (q2.og o ho (Or.inr hk)).trans ha
      obtain ⟨b1, b2, b3⟩ := GS_bg q2.sh (show a < 4 by omega)
      have nx : ∀ h3 g3, Gc p h0 h3 g3 → cG (g' 122 (48 * a + i) = 0) g' (gcall g' o i) = g3 → Ev l D Y_Out_spread (d + 1) kc ks 2 [some (vr (oD o)), some (vr 20), some (vi ((i + 1 : Nat) : Int))] [] h3 Ψ := fun h3 g3 r3 e3 => ih (i + 1) h3 g3 (by omega) r3 (by rw [← e3]; exact eg2)
      apply g_Out_spread_2 q2.sh
      rw [q2.cm, e4, Int.toNat_natCast, Int.toNat_natCast, b1, b2, b3, r1.2.2.1.2.2.2.1 a i (by omega) (by omega), wr_s (show i < 1000000 by omega), mtc_Out, q2.mr i (by omega), en_Op_call]
      refine ⟨fun c => by omega, fun _ => ⟨ek, by omega, by omega, rfl, by omega, by omega, fun c => nx h' g' r1 (cG_t c), fun c => ⟨by omega, by omega, ek, ct_Op_call r1 hw ho (by omega) (fun h3 r3 => ⟨r3.2.1.sh, nx h3 _ r3 (cG_f c)⟩)⟩⟩⟩
  exact key (nM p).toNat 0 h g (by omega) q rfl
theorem ct_Any_tells {o m : Nat} (q : CS h p) (hw : WF p) (ho : (o : Int) < nO p) (hm : (m : Int) < nM p) (hk : ok p o = 7) (k : Ψ (some (vi (bI (tel p (oB p o) m)))) h) : Ev l D Y_Any_tells (d + 1) kc ks 0 [some (vr (oD o)), some (vr (mA m))] [] h Ψ := by
  have ek : xK h (oD o) = 11 := (q.okk o ho).trans (by unfold okd; rw [if_neg (by omega), if_neg (by omega), if_neg (by omega), if_neg (by omega), if_neg (by omega), if_neg (by omega)])
  have es := q.ms m hm
  have ws := (hw.2.2.2.2.1 m hm).2.2.1
  apply g_Any_tells_0 q.sh
  rw [q.mm m hm, q.oy o ho hk]
  refine ⟨q.mkk m hm, ek, fun c => ?_, fun c => ⟨q.mkk m hm, q.sc _ (by omega) (by omega), ct_isNamed ⟨q.sh, fun c2 => ?_, fun c2 => ?_⟩⟩⟩
  · rw [bI_f (fun z => c z.1)] at k; exact k
  · rw [bI_0] at c2
    rw [bI_f (fun z => c2 (by have := z.2; omega))] at k; exact k
  · rw [bI_n] at c2
    rw [bI_t ⟨c, by omega⟩] at k; exact k
theorem ct_Any_spread {o : Nat} (q : Gc p h0 h g) (hw : WF p) (ho : (o : Int) < nO p) (hk : ok p o = 7) (k : ∀ h', Gc p h0 h' (gfk p o g) → Ψ none h') : Ev l D Y_Any_spread (d + 2) kc ks 0 [some (vr (oD o)), some (vr 20), none] [] h Ψ := by
  have w2 := hw.2.1
  have eg : gfk p o g = gan p o (oB p o) (nM p).toNat 0 g := by unfold gfk; rw [cG_f (by omega), cG_f (by omega), cG_f (by omega), cG_f (by omega), cG_f (by omega), cG_f (by omega)]
  rw [eg] at k
  apply g_Any_spread_0 q.2.1.sh
  have key : ∀ (n i : Nat) (h' : Hp) (g' : Pg), i + n = (nM p).toNat → Gc p h0 h' g' → gan p o (oB p o) n i g' = gan p o (oB p o) (nM p).toNat 0 g → Ev l D Y_Any_spread (d + 2) kc ks 2 [some (vr (oD o)), some (vr 20), some (vi (i : Int))] [] h' Ψ := by
    intro n
    induction n with
    | zero =>
      intro i h' g' hi r1 eg2
      apply g_Any_spread_2 r1.2.1.sh
      rw [r1.2.1.cm]
      refine ⟨fun _ => k h' ?_, fun c => by omega⟩
      rw [← eg2]; exact r1
    | succ n ih =>
      intro i h' g' hi r1 eg2
      have q2 := r1.2.1
      have ek : xK h' (oD o) = 11 := (q2.okk o ho).trans (by unfold okd; rw [if_neg (by omega), if_neg (by omega), if_neg (by omega), if_neg (by omega), if_neg (by omega), if_neg (by omega)])
      have nx : ∀ h3 g3, Gc p h0 h3 g3 → cG (tel p (oB p o) i) (gcall g' o i) g' = g3 → Ev l D Y_Any_spread (d + 2) kc ks 2 [some (vr (oD o)), some (vr 20), some (vi ((i + 1 : Nat) : Int))] [] h3 Ψ := fun h3 g3 r3 e3 => ih (i + 1) h3 g3 (by omega) r3 (by rw [← e3]; exact eg2)
      apply g_Any_spread_2 q2.sh
      rw [q2.cm, Int.toNat_natCast, q2.mr i (by omega), wr_s (show i < 1000000 by omega)]
      refine ⟨fun c => by omega, fun _ => ⟨by omega, by omega, ek, ct_Any_tells q2 hw ho (by omega) hk ⟨q2.sh, fun c => nx h' g' r1 (cG_f (bI_0.mp c)), fun c => ⟨by omega, by omega, ek, ?_⟩⟩⟩⟩
      rw [mtc_Any, q2.mr i (by omega), en_Op_call]
      exact ct_Op_call r1 hw ho (by omega) (fun h3 r3 => ⟨r3.2.1.sh, nx h3 _ r3 (cG_t (bI_n.mp c))⟩)
  exact key (nM p).toNat 0 h g (by omega) q rfl
end CSQ
