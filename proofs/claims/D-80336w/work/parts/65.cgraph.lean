/-! the component: the graph -/
def b01 (g : Pg) : Prop := ∀ a k, (119 ≤ a ∧ a ≤ 123) ∨ (a = 100 ∧ k = 17) → g a k = 0 ∨ g a k = 1
def Cd (p : Pg) (h : Hp) (g : Pg) : Prop := (∀ m : Nat, (m : Int) < nM p → xI h (mA m) 7 = g 119 m) ∧ (∀ t : Nat, t < 16 → xI h 23 t = g 120 t) ∧ (∀ t : Nat, t < 16 → xI h 24 t = g 121 t) ∧ (∀ b m : Nat, b < 4 → m < 48 → xI h (26 + b) m = g 122 (48 * b + m)) ∧ (∀ o m : Nat, (o : Int) < nO p → m < 48 → xI h (oD o + 1) m = g 123 (48 * o + m)) ∧ xI h 20 8 = g 100 17
def cdy (a k : Nat) : Prop := (300 ≤ a ∧ a < 396 ∧ k = 7) ∨ a = 23 ∨ a = 24 ∨ (26 ≤ a ∧ a ≤ 29) ∨ (400 ≤ a ∧ (a - 400) % 3 = 1) ∨ (a = 20 ∧ (k = 8 ∨ k = 5))
theorem cdy_cst {a k : Nat} (q : cdy a k) : ¬ cst a k := by unfold cdy at q; unfold cst; omega
def Gc (p : Pg) (h0 h : Hp) (g : Pg) : Prop := fx cdy B206 h0 h ∧ CS h p ∧ Cd p h g ∧ b01 g
theorem b01_set {g : Pg} {b : Prop} {a k : Nat} (q : b01 g) : b01 (gs (gw g b) a k 1) := by
  intro c j h
  rw [gset_at]
  by_cases e : c = a ∧ j = k
  · rw [if_pos e]; exact Or.inr rfl
  · rw [if_neg e]
    by_cases e2 : c = 100 ∧ j = 17
    · rw [if_pos e2]; exact bI_01 _
    · rw [if_neg e2]; exact q c j h
theorem b01_call {g : Pg} {o m : Nat} (q : b01 g) : b01 (gcall g o m) := b01_set (b01_set q)
theorem gcall_at {g : Pg} {o m : Nat} (c j : Nat) : gcall g o m c j = if c = 119 ∧ j = m then 1 else if c = 100 ∧ j = 17 then bI (¬ bI (¬ g 100 17 = 0 ∨ g 123 (48 * o + m) = 0) = 0 ∨ g 119 m = 0) else if c = 123 ∧ j = 48 * o + m then 1 else g c j := by
  unfold gcall greach
  rw [gset_at]
  by_cases e : c = 119 ∧ j = m
  · rw [if_pos e, if_pos e]
  · rw [if_neg e, if_neg e]
    have e1 : gs (gw g (g 123 (48 * o + m) = 0)) 123 (48 * o + m) 1 100 17 = bI (¬ g 100 17 = 0 ∨ g 123 (48 * o + m) = 0) := by rw [gset_at, if_neg (by omega), if_pos ⟨rfl, rfl⟩]
    have e2 : gs (gw g (g 123 (48 * o + m) = 0)) 123 (48 * o + m) 1 119 m = g 119 m := by rw [gset_at, if_neg (by omega), if_neg (by omega)]
    rw [e1, e2]
    by_cases e3 : c = 100 ∧ j = 17
    · rw [if_pos e3, if_pos e3]
    · rw [if_neg e3, if_neg e3, gset_at]
      by_cases e4 : c = 123 ∧ j = 48 * o + m
      · rw [if_pos e4, if_pos e4]
      · rw [if_neg e4, if_neg e4, if_neg e3]
section CG
variable {l : Launch} {D : DD} {d kc ks : Nat} {h h0 : Hp} {Ψ : Option AV → Hp → Prop} {p g : Pg}
theorem Gc.lv {h' : Hp} (hw : WF p) (q : Gc p h0 h g) (f : fx A205 B206 h h') : Gc p h0 h' g := by
  obtain ⟨q1, q2, ⟨d1, d2, d3, d4, d5, d6⟩, q4⟩ := q
  have e : ∀ a k, ¬ (a = 20 ∧ k = 5) → xI h' a k = xI h a k := f.2.1
  refine ⟨q1.tr (f.mono (fun a k z => by have z' : a = 20 ∧ k = 5 := z; unfold cdy; omega) (fun _ _ z => z)), CS_lv hw f q2, ⟨fun m hm => ?_, fun t ht => ?_, fun t ht => ?_, fun b m hb hm => ?_, fun o m ho hm => ?_, ?_⟩, q4⟩
  · rw [e _ _ (by omega)]; exact d1 m hm
  · rw [e _ _ (by omega)]; exact d2 t ht
  · rw [e _ _ (by omega)]; exact d3 t ht
  · rw [e _ _ (by omega)]; exact d4 b m hb hm
  · rw [e _ _ (by unfold oD; omega)]; exact d5 o m ho hm
  · rw [e _ _ (by omega)]; exact d6
theorem opk_ok (k : Int) : opk (okd k) = true := by
  unfold okd
  by_cases e0 : k = 0
  · rw [if_pos e0]; rfl
  rw [if_neg e0]
  by_cases e1 : k = 1 ∨ k = 4
  · rw [if_pos e1]; rfl
  rw [if_neg e1]
  by_cases e2 : k = 2
  · rw [if_pos e2]; rfl
  rw [if_neg e2]
  by_cases e3 : k = 3
  · rw [if_pos e3]; rfl
  rw [if_neg e3]
  by_cases e5 : k = 5
  · rw [if_pos e5]; rfl
  rw [if_neg e5]
  by_cases e6 : k = 6
  · rw [if_pos e6]; rfl
  rw [if_neg e6]; rfl
theorem ct_Op_call {o m : Nat} (q : Gc p h0 h g) (hw : WF p) (ho : (o : Int) < nO p) (hm : (m : Int) < nM p) (k : ∀ h', Gc p h0 h' (gcall g o m) → Ψ none h') : Ev l D Y_Op_call d kc ks 0 [some (vr (oD o)), some (vr 20), some (vr (mA m))] [] h Ψ := by
  have w2 := hw.2.1
  have w3 := hw.2.2.1
  obtain ⟨q1, q2, ⟨d1, d2, d3, d4, d5, d6⟩, q4⟩ := q
  have v17 := q4 100 17 (Or.inr ⟨rfl, rfl⟩)
  have v119 := q4 119 m (Or.inl (by omega))
  have v123 := q4 123 (48 * o + m) (Or.inl (by omega))
  have set : (g 123 (48 * o + m) = 0 ∨ g 119 m = 0) → ∀ h1 h2 h3 : Hp, h1 = sI h (oD o + 1) m 1 → h2 = sI h1 (mA m) 7 1 → h3 = sI h2 20 8 1 → Ψ none h3 := by
    intro c h1 h2 h3 e1 e2 e3
    subst e3; subst e2; subst e1
    have f : fx cdy B206 h (sI (sI (sI h (oD o + 1) m 1) (mA m) 7 1) 20 8 1) := ((fx.rf.put (by unfold cdy oD; omega)).put (by unfold cdy mA; omega)).put (by unfold cdy; omega)
    refine k _ ⟨q1.tr f, CS_fx hw f (fun _ _ => cdy_cst) (fun a k z => by have z' : a = 20 ∧ k = 6 := z; unfold csr; omega) q2, ⟨fun m' hm' => ?_, fun t ht => ?_, fun t ht => ?_, fun b m' hb hm' => ?_, fun o' m' ho' hm' => ?_, ?_⟩, b01_call q4⟩
    · rw [gcall_at, xI_sI, if_neg (by unfold mA; omega), xI_sI]
      by_cases e : m' = m
      · rw [if_pos ⟨by rw [e], rfl⟩, if_pos ⟨rfl, e⟩]
      · rw [if_neg (fun z => e (mA_inj.mp z.1)), if_neg (fun z => e z.2), if_neg (by omega), if_neg (by omega), xI_sI, if_neg (by unfold mA oD; omega)]
        exact d1 m' hm'
    · rw [gcall_at, if_neg (by omega), if_neg (by omega), if_neg (by omega), xI_sI, if_neg (by omega), xI_sI, if_neg (by unfold mA; omega), xI_sI, if_neg (by unfold oD; omega)]
      exact d2 t ht
    · rw [gcall_at, if_neg (by omega), if_neg (by omega), if_neg (by omega), xI_sI, if_neg (by omega), xI_sI, if_neg (by unfold mA; omega), xI_sI, if_neg (by unfold oD; omega)]
      exact d3 t ht
    · rw [gcall_at, if_neg (by omega), if_neg (by omega), if_neg (by omega), xI_sI, if_neg (by omega), xI_sI, if_neg (by unfold mA; omega), xI_sI, if_neg (by unfold oD; omega)]
      exact d4 b m' hb hm'
    · rw [gcall_at, if_neg (by omega), if_neg (by omega), xI_sI, if_neg (by unfold oD; omega), xI_sI, if_neg (by unfold mA oD; omega), xI_sI]
      by_cases e : o' = o ∧ m' = m
      · rw [if_pos ⟨by rw [e.1], e.2⟩, if_pos ⟨rfl, by rw [e.1, e.2]⟩]
      · rw [if_neg (fun z => e ⟨by have := z.1; unfold oD at this; omega, z.2⟩), if_neg (fun z => e (by have := z.2; omega))]
        exact d5 o' m' ho' hm'
    · rw [gcall_at, if_neg (by omega), if_pos ⟨rfl, rfl⟩, xI_sI, if_pos ⟨rfl, rfl⟩]
      refine (bI_t ?_).symm
      rcases c with c | c
      · exact Or.inl (by rw [bI_t (Or.inr c)]; decide)
      · exact Or.inr c
  apply g_Op_call_0 q2.sh
  have e2 := q2.oc o ho
  have en := q2.mn m hm
  rw [q2.okk o ho, e2, en, Int.toNat_natCast, q2.ocn o ho, d5 o m ho (by omega), d1 m hm]
  refine ⟨opk_ok _, q2.mkk m hm, q2.ock o ho, by omega, by omega, fun c => ⟨opk_ok _, q2.mkk m hm, q2.ock o ho, by unfold oD; omega, by omega, by omega, fun h1 e1 => ⟨?_, by unfold mA; omega, fun h2 e2 h3 e3 => set (Or.inl c) h1 h2 h3 e1 e2 e3⟩⟩, fun c => ⟨q2.mkk m hm, fun c2 => k h ?_, fun c2 => ⟨opk_ok _, q2.mkk m hm, q2.ock o ho, by unfold oD; omega, by omega, by omega, fun h1 e1 => ⟨?_, by unfold mA; omega, fun h2 e2 h3 e3 => set (Or.inr c2) h1 h2 h3 e1 e2 e3⟩⟩⟩⟩
  · rw [e1]; exact q2.mkk m hm
  · have z119 : g 119 m = 1 := by omega
    have z123 : g 123 (48 * o + m) = 1 := by omega
    have same : ∀ a j, (119 ≤ a ∧ a ≤ 123) ∨ (a = 100 ∧ j = 17) → gcall g o m a j = g a j := by
      intro a j hj
      rw [gcall_at]
      by_cases e : a = 119 ∧ j = m
      · rw [if_pos e, e.1, e.2, z119]
      rw [if_neg e]
      by_cases e3 : a = 100 ∧ j = 17
      · rw [if_pos e3, e3.1, e3.2]
        rcases v17 with v | v
        · rw [v, bI_f (fun z => z.elim (fun y => y (bI_f (fun x => x.elim (fun w => w rfl) c))) c2)]
        · rw [v, bI_t (Or.inl (by rw [bI_t (Or.inl (by decide))]; decide))]
      rw [if_neg e3]
      by_cases e4 : a = 123 ∧ j = 48 * o + m
      · rw [if_pos e4, e4.1, e4.2, z123]
      · rw [if_neg e4]
    refine ⟨q1, q2, ⟨fun m' hm' => ?_, fun t ht => ?_, fun t ht => ?_, fun b m' hb hm' => ?_, fun o' m' ho' hm' => ?_, ?_⟩, b01_call q4⟩
    · rw [same _ _ (by omega)]; exact d1 m' hm'
    · rw [same _ _ (by omega)]; exact d2 t ht
    · rw [same _ _ (by omega)]; exact d3 t ht
    · rw [same _ _ (by omega)]; exact d4 b m' hb hm'
    · rw [same _ _ (by omega)]; exact d5 o' m' ho' hm'
    · rw [same _ _ (by omega)]; exact d6
  · rw [e1]; exact q2.mkk m hm
end CG
