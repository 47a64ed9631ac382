/-! the component: spread of Static, Call -/
section CSR
variable {l : Launch} {D : DD} {d kc ks : Nat} {h h0 : Hp} {Ψ : Option AV → Hp → Prop} {p g : Pg}
noncomputable def tld (p : Pg) (o : Nat) : Int := cI (¬ fnd p (oA p o).toNat (oB p o) = -1 ∧ so p (fnd p (oA p o).toNat (oB p o)).toNat = 2) (fnd p (oA p o).toNat (oB p o)) (-1)
theorem ct_Static_told {o : Nat} (q : CS h p) (hw : WF p) (ho : (o : Int) < nO p) (hk : ok p o = 3) (k : ∀ h', fx A205 B206 h h' → Ψ (some (vr (mrf (tld p o)))) h') : Ev l D Y_Static_told (d + 5) kc ks 0 [some (vr (oD o)), some (vr 20), none] [] h Ψ := by
  have wo := hw.2.2.2.2.2.2 o ho
  have ab := wo.2.1 (by omega)
  have bb := wo.2.2.2.2 (Or.inl (by omega))
  obtain ⟨a, ha⟩ : ∃ a : Nat, oA p o = (a : Int) := ⟨(oA p o).toNat, by omega⟩
  obtain ⟨x, hx⟩ : ∃ x : Nat, oB p o = (x : Int) := ⟨(oB p o).toNat, by omega⟩
  have ek : xK h (oD o) = 8 := (q.okk o ho).trans (by unfold okd; rw [if_neg (by omega), if_neg (by omega), if_neg (by omega), if_pos hk])
  have ea : xR h (oD o) 4 = tA a := (q.oar o ho (by omega)).trans (by rw [ha, Int.toNat_natCast])
  have ex : xI h (oD o) 5 = (x : Int) := (q.obr o ho (by omega) (by omega)).trans hx
  rw [ha] at ab
  rw [hx] at bb
  unfold tld at k
  rw [ha, hx, Int.toNat_natCast] at k
  have fb := fnd_bd hw a x
  apply g_Static_told_0 q.sh
  rw [ea, ex]
  refine ⟨ek, ek, ct_G_find q hw ab.2 (by omega) (fun h1 f1 => ⟨(CS_lv hw f1 q).sh, fun c => ?_, fun c => ?_⟩)⟩
  · rw [mrf_0 (by omega)] at c
    have z := k h1 f1
    rw [cI_f (fun y => y.1 c)] at z
    exact z
  · rw [mrf_0 (by omega)] at c
    have q1 := CS_lv hw f1 q
    obtain ⟨m, hm⟩ : ∃ m : Nat, fnd p a x = (m : Int) := ⟨(fnd p a x).toNat, by omega⟩
    have z := k h1 f1
    rw [hm, Int.toNat_natCast] at z
    have em : mrf (fnd p a x) = mA m := by rw [mrf_s c, hm, Int.toNat_natCast]
    have es := q1.ms m (by omega)
    rw [em]
    refine ⟨q1.mkk m (by omega), fun c2 => ?_, fun c2 => ?_⟩
    · rw [cI_f (fun y => by have := y.2; omega)] at z; exact z
    · rw [cI_t ⟨by omega, by omega⟩, mrf_s (by omega), Int.toNat_natCast] at z; exact z
theorem ct_Static_spread {o : Nat} (q : Gc p h0 h g) (hw : WF p) (ho : (o : Int) < nO p) (hk : ok p o = 3) (k : ∀ h', Gc p h0 h' (gfk p o g) → Ψ none h') : Ev l D Y_Static_spread (d + 6) kc ks 0 [some (vr (oD o)), some (vr 20), none] [] h Ψ := by
  have fb := fnd_bd hw (oA p o).toNat (oB p o)
  have ek : ∀ {h' : Hp}, CS h' p → xK h' (oD o) = 8 := fun z => (z.okk o ho).trans (by unfold okd; rw [if_neg (by omega), if_neg (by omega), if_neg (by omega), if_pos hk])
  unfold gfk at k
  rw [cG_f (show ¬ ok p o = 0 by omega), cG_f (show ¬ (ok p o = 1 ∨ ok p o = 4) by omega), cG_f (show ¬ ok p o = 2 by omega), cG_t hk] at k
  apply g_Static_spread_0 q.2.1.sh
  refine ⟨ek q.2.1, ct_Static_told q.2.1 hw ho hk (fun h1 f1 => ?_)⟩
  have r1 := q.lv hw f1
  rcases Classical.em (¬ fnd p (oA p o).toNat (oB p o) = -1 ∧ so p (fnd p (oA p o).toNat (oB p o)).toNat = 2) with c | c
  · have et : tld p o = fnd p (oA p o).toNat (oB p o) := cI_t c
    have c1 := c.1
    obtain ⟨m, hm⟩ : ∃ m : Nat, fnd p (oA p o).toNat (oB p o) = (m : Int) := ⟨(fnd p (oA p o).toNat (oB p o)).toNat, by omega⟩
    have wt := (hw.2.2.2.2.1 m (by omega)).1
    obtain ⟨b, hb⟩ : ∃ b : Nat, ty p m = (b : Int) := ⟨(ty p m).toNat, by omega⟩
    have em : mrf (tld p o) = mA m := by rw [et, mrf_s c1, hm, Int.toNat_natCast]
    rw [cG_t c, hm, Int.toNat_natCast, hb, Int.toNat_natCast] at k
    rw [hb] at wt
    rw [em]
    refine ⟨r1.2.1.sh, fun z => absurd z (by unfold mA; omega), fun _ => ⟨ek r1.2.1, ?_⟩⟩
    rw [mtc_Static, en_Op_call]
    refine ct_Op_call r1 hw ho (by omega) (fun h2 r2 => ⟨r2.2.1.sh, r2.2.1.mkk m (by omega), ?_⟩)
    rw [r2.2.1.mt m (by omega), hb, Int.toNat_natCast]
    exact ct_G_begin r2 hw ho wt.2 (fun h3 r3 => ⟨r3.2.1.sh, k h3 r3⟩)
  · have et : tld p o = -1 := cI_f c
    rw [cG_f c] at k
    rw [et]
    refine ⟨r1.2.1.sh, fun _ => k h1 ?_, fun z => absurd rfl z⟩
    exact r1.eqv (fun b j z => by unfold gflt; rw [gs_at, if_neg (by omega)])
end CSR
