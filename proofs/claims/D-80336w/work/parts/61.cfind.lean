/-! the component: find, choose -/
theorem CS_fx {A B : Nat → Nat → Prop} {h h' : Hp} {p : Pg} (hw : WF p) (f : fx A B h h') (hA : ∀ a k, A a k → ¬ cst a k) (hB : ∀ a k, B a k → ¬ csr a k) (q : CS h p) : CS h' p := by
  have w1 := hw.1
  have w2 := hw.2.1
  have w3 := hw.2.2.1
  have r : ∀ a k, csr a k → xR h' a k = xR h a k := fun a k z => f.2.2.1 a k (fun y => hB a k y z)
  have i : ∀ a k, cst a k → xI h' a k = xI h a k := fun a k z => f.2.1 a k (fun y => hA a k y z)
  refine ⟨GS_fx f hB q.sh
    , by rw [i _ _ (by unfold cst; first | omega | (unfold tA; omega) | (unfold mA; omega) | (unfold oD; omega))]; exact q.ct
    , by rw [i _ _ (by unfold cst; first | omega | (unfold tA; omega) | (unfold mA; omega) | (unfold oD; omega))]; exact q.cm
    , by rw [i _ _ (by unfold cst; first | omega | (unfold tA; omega) | (unfold mA; omega) | (unfold oD; omega))]; exact q.co
    , fun i h0 h1 => by rw [f.K]; exact q.kc i h0 h1
    , fun i h0 h1 => by rw [f.K]; exact q.sc i h0 h1
    , fun t h0 => by rw [r _ _ (by unfold csr; first | omega | (unfold tA; omega) | (unfold mA; omega) | (unfold oD; omega))]; exact q.trr t h0
    , fun t h0 => by rw [f.K]; exact q.tk t h0
    , fun t h0 => by rw [i _ _ (by unfold cst; first | omega | (unfold tA; omega) | (unfold mA; omega) | (unfold oD; omega))]; exact q.tn t h0
    , fun t h0 => by rw [r _ _ (by unfold csr; first | omega | (unfold tA; omega) | (unfold mA; omega) | (unfold oD; omega))]; exact q.tkd t h0
    , fun t h0 => by rw [r _ _ (by unfold csr; first | omega | (unfold tA; omega) | (unfold mA; omega) | (unfold oD; omega))]; exact q.tup t h0
    , fun t h0 => by rw [r _ _ (by unfold csr; first | omega | (unfold tA; omega) | (unfold mA; omega) | (unfold oD; omega))]; exact q.tf t h0
    , fun t h0 => by rw [f.K]; exact q.tfk t h0
    , fun t h0 => by rw [f.N]; exact q.tfn t h0
    , fun t h0 => by rw [i _ _ (by unfold cst; first | omega | (unfold tA; omega) | (unfold mA; omega) | (unfold oD; omega))]; exact q.tfm t h0
    , fun t i h0 h1 => by rw [r _ _ (by unfold csr; first | omega | (unfold tA; omega) | (unfold mA; omega) | (unfold oD; omega))]; exact q.tfo t i h0 h1
    , fun t h0 => by rw [r _ _ (by unfold csr; first | omega | (unfold tA; omega) | (unfold mA; omega) | (unfold oD; omega))]; exact q.tu t h0
    , fun t h0 => by rw [f.K]; exact q.tuk t h0
    , fun t h0 => by rw [f.N]; exact q.tun t h0
    , fun t u h0 h1 => by rw [i _ _ (by unfold cst; first | omega | (unfold tA; omega) | (unfold mA; omega) | (unfold oD; omega))]; exact q.tuu t u h0 h1
    , fun t h0 => by rw [r _ _ (by unfold csr; first | omega | (unfold tA; omega) | (unfold mA; omega) | (unfold oD; omega))]; exact q.tm t h0
    , fun t h0 => by rw [f.K]; exact q.tmk t h0
    , fun t h0 => by rw [f.N]; exact q.tmn t h0
    , fun t x h0 h1 => by rw [r _ _ (by unfold csr; first | omega | (unfold tA; omega) | (unfold mA; omega) | (unfold oD; omega))]; exact q.tmm t x h0 h1
    , fun t h0 => by rw [r _ _ (by unfold csr; first | omega | (unfold tA; omega) | (unfold mA; omega) | (unfold oD; omega))]; exact q.ts t h0
    , fun m h0 => by rw [r _ _ (by unfold csr; first | omega | (unfold tA; omega) | (unfold mA; omega) | (unfold oD; omega))]; exact q.mr m h0
    , fun m h0 => by rw [f.K]; exact q.mkk m h0
    , fun m h0 => by rw [i _ _ (by unfold cst; first | omega | (unfold tA; omega) | (unfold mA; omega) | (unfold oD; omega))]; exact q.mn m h0
    , fun m h0 => by rw [r _ _ (by unfold csr; first | omega | (unfold tA; omega) | (unfold mA; omega) | (unfold oD; omega))]; exact q.mt m h0
    , fun m h0 => by rw [i _ _ (by unfold cst; first | omega | (unfold tA; omega) | (unfold mA; omega) | (unfold oD; omega))]; exact q.mm m h0
    , fun m h0 => by rw [r _ _ (by unfold csr; first | omega | (unfold tA; omega) | (unfold mA; omega) | (unfold oD; omega))]; exact q.ms m h0
    , fun m h0 => by rw [r _ _ (by unfold csr; first | omega | (unfold tA; omega) | (unfold mA; omega) | (unfold oD; omega))]; exact q.mo m h0
    , fun m h0 => by rw [f.K]; exact q.mok m h0
    , fun m h0 => by rw [f.N]; exact q.mon m h0
    , fun m h0 => by rw [i _ _ (by unfold cst; first | omega | (unfold tA; omega) | (unfold mA; omega) | (unfold oD; omega))]; exact q.mc m h0
    , fun m h0 => by rw [i _ _ (by unfold cst; first | omega | (unfold tA; omega) | (unfold mA; omega) | (unfold oD; omega))]; exact q.mrt m h0
    , fun m i h0 h1 => by rw [r _ _ (by unfold csr; first | omega | (unfold tA; omega) | (unfold mA; omega) | (unfold oD; omega))]; exact q.mop m i h0 h1
    , fun o h0 => by rw [f.K]; exact q.okk o h0
    , fun o h0 => by rw [r _ _ (by unfold csr; first | omega | (unfold tA; omega) | (unfold mA; omega) | (unfold oD; omega))]; exact q.oc o h0
    , fun o h0 => by rw [f.K]; exact q.ock o h0
    , fun o h0 => by rw [f.N]; exact q.ocn o h0
    , fun o h0 => by rw [r _ _ (by unfold csr; first | omega | (unfold tA; omega) | (unfold mA; omega) | (unfold oD; omega))]; exact q.of o h0
    , fun o h0 => by rw [f.K]; exact q.ofk o h0
    , fun o h0 => by rw [f.N]; exact q.ofn o h0
    , fun o h0 h1 => by rw [r _ _ (by unfold csr; first | omega | (unfold tA; omega) | (unfold mA; omega) | (unfold oD; omega))]; exact q.oar o h0 h1
    , fun o h0 h1 h2 => by rw [i _ _ (by unfold cst; first | omega | (unfold tA; omega) | (unfold mA; omega) | (unfold oD; omega))]; exact q.obr o h0 h1 h2
    , fun o h0 h1 => by rw [i _ _ (by unfold cst; first | omega | (unfold tA; omega) | (unfold mA; omega) | (unfold oD; omega))]; exact q.og o h0 h1
    , fun o h0 h1 => by rw [r _ _ (by unfold csr; first | omega | (unfold tA; omega) | (unfold mA; omega) | (unfold oD; omega))]; exact q.omr o h0 h1
    , fun o h0 h1 => by rw [i _ _ (by unfold cst; first | omega | (unfold tA; omega) | (unfold mA; omega) | (unfold oD; omega))]; exact q.oy o h0 h1⟩
theorem mrf_0 {v : Int} (hv : -1 ≤ v) : mrf v = 0 ↔ v = -1 := by
  unfold mrf mA
  by_cases e : v = -1
  · rw [if_pos e]; exact ⟨fun _ => e, fun _ => rfl⟩
  · rw [if_neg e]; omega
theorem mrf_s {v : Int} (h : ¬ v = -1) : mrf v = mA v.toNat := if_neg h
/-- own member of a name -/
theorem own_is {p : Pg} {t x : Int} {m : Nat} (h : own p t x = (m : Int)) : (m : Int) < nM p ∧ ty p m = t ∧ nm p m = x := by
  rcases fst_spec (fun m => ty p m = t ∧ nm p m = x) (nM p).toNat 0 with ⟨h1, _⟩ | ⟨j, h1, h2, h3, _, h5⟩
  · have : own p t x = -1 := h1
    omega
  · have e : own p t x = (j : Int) := h5
    have : j = m := by omega
    subst this
    exact ⟨by omega, h3⟩
theorem own_eq {p : Pg} (hw : WF p) {m : Nat} (hm : (m : Int) < nM p) : own p (ty p m) (nm p m) = (m : Int) := by
  rcases fst_spec (fun m' => ty p m' = ty p m ∧ nm p m' = nm p m) (nM p).toNat 0 with ⟨h1, h2⟩ | ⟨j, h1, h2, h3, _, h5⟩
  · exact absurd ⟨rfl, rfl⟩ (h2 m (Nat.zero_le _) (by omega))
  · have e : own p (ty p m) (nm p m) = (j : Int) := h5
    rw [e, hw.2.2.2.2.2.1 j m (by omega) hm h3.1 h3.2]
/-- a type's own open member of a name, in a face above t -/
def mnt (p : Pg) (t u : Nat) (x : Int) : Prop := ¬ own p u x = -1 ∧ cd p t x (own p u x).toNat
section CF
variable {l : Launch} {D : DD} {d kc ks : Nat} {h h0 : Hp} {Ψ : Option AV → Hp → Prop} {p g : Pg}
theorem tA_inj {t u : Nat} : tA t = tA u ↔ t = u := by unfold tA; omega
theorem ct_isMeant {t u x : Nat} (q : CS h p) (hw : WF p) (ht : (t : Int) < nT p) (hu : (u : Int) < nT p) (hx : x < 10) (k : Ψ (some (vi (bI (mnt p t u x)))) h) : Ev l D Y_G_isMeant (d + 1) kc ks 0 [some (vr (tA t)), some (vr (tA u)), some (vi (x : Int))] [] h Ψ := by
  have w2 := hw.2.1
  have ob := own_bd hw (u : Int) (x : Int)
  have no : ¬ mnt p t u x → Ψ (some (vi 0)) h := fun z => by rw [bI_f z] at k; exact k
  apply g_G_isMeant_0 q.sh
  -- what mnt says when there is one
  have key : ∀ m : Nat, own p u x = (m : Int) → (mnt p t u x ↔ (¬ u = t ∧ kd p u = 2 ∧ (so p m = 0 ∨ so p m = 1) ∧ U p t u)) := by
    intro m e
    obtain ⟨m1, m2, m3⟩ := own_is e
    unfold mnt cd av
    rw [e, Int.toNat_natCast, m2, Int.toNat_natCast]
    constructor
    · rintro ⟨_, _, _, ⟨_, a, b, c⟩, e⟩; exact ⟨a, b, e, c⟩
    · rintro ⟨a, b, c, d⟩; exact ⟨by omega, m1, m3, ⟨hu, a, b, d⟩, c⟩
  refine ⟨fun c => no ?_, fun c => ⟨q.tk u hu, ct_isClass q hu ⟨q.sh, fun c2 => no ?_, fun c2 => ?_⟩⟩⟩
  · rintro ⟨z, z2⟩
    obtain ⟨m, hm⟩ : ∃ m : Nat, own p u x = (m : Int) := ⟨(own p u x).toNat, by omega⟩
    exact ((key m hm).mp ⟨z, z2⟩).1 (tA_inj.mp c)
  · rintro ⟨z, z2⟩
    obtain ⟨m, hm⟩ : ∃ m : Nat, own p u x = (m : Int) := ⟨(own p u x).toNat, by omega⟩
    exact (bI_n.mp c2) ((key m hm).mp ⟨z, z2⟩).2.1
  rw [q.tm u hu, q.tmn u hu, Int.toNat_natCast, q.tmm u x hu hx, q.tmk u hu]
  refine ⟨q.tk u hu, by omega, by omega, by omega, fun c3 => no ?_, fun c3 => ⟨q.tk u hu, by omega, by omega, by omega, ?_⟩⟩
  · rw [mrf_0 (by omega)] at c3
    exact fun z => z.1 c3
  · rw [mrf_0 (by omega)] at c3
    obtain ⟨m, hm⟩ : ∃ m : Nat, own p u x = (m : Int) := ⟨(own p u x).toNat, by omega⟩
    obtain ⟨m1, m2, m3⟩ := own_is hm
    have es := q.ms m m1
    have ws := (hw.2.2.2.2.1 m m1).2.2.1
    rw [bI_0] at c2
    have ck : kd p u = 2 := Classical.not_not.mp c2
    have em : mrf (own p u x) = mA m := by rw [mrf_s c3, hm, Int.toNat_natCast]
    rw [em]
    refine ⟨q.mkk m m1, q.sc _ (by omega) (by omega), ct_isOpen ⟨q.sh, fun c4 => no ?_, fun c4 => ⟨q.tk t ht, ct_isUnder q hw ht hu ⟨q.sh, fun c5 => no ?_, fun c5 => ?_⟩⟩⟩⟩
    · rw [bI_0] at c4
      rw [key m hm]
      rintro ⟨_, _, a, _⟩
      omega
    · rw [bI_0] at c5
      rw [key m hm]
      rintro ⟨_, _, _, a⟩
      exact c5 a
    · rw [bI_n] at c4 c5
      rw [bI_t ((key m hm).mpr ⟨fun z => c (by rw [z]), ck, by omega, c5⟩)] at k
      exact k
end CF
