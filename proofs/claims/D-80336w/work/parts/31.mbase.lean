/-! the model: its fixed shape, its static data, small methods -/
theorem MS_sI {h : Hp} {a k : Nat} {x : Int} (hM : MS h) : MS (sI h a k x) := hM
theorem MS_sm {A : Nat → Nat → Prop} {h h' : Hp} (q : sm A h h') (hM : MS h) : MS h' := by
  unfold MS at hM ⊢
  simp only [q.K, q.N, q.R]
  exact hM
/-- places of the static data -/
def sta (a k : Nat) : Bool := (a == 100 && (k == 0 || k == 5 || k == 12)) || (decide (102 ≤ a) && decide (a ≤ 105)) || (decide (107 ≤ a) && decide (a ≤ 112)) || (decide (114 ≤ a) && decide (a ≤ 116))
theorem sta_iff {a k : Nat} : sta a k = true ↔ (a = 100 ∧ (k = 0 ∨ k = 5 ∨ k = 12)) ∨ (102 ≤ a ∧ a ≤ 105) ∨ (107 ≤ a ∧ a ≤ 112) ∨ (114 ≤ a ∧ a ≤ 116) := by
  simp only [sta, Bool.or_eq_true, Bool.and_eq_true, beq_iff_eq, decide_eq_true_eq]
  omega
abbrev Pg : Type := Nat → Nat → Int
def SD (h : Hp) (p : Pg) : Prop := ∀ a k, sta a k = true → xI h a k = p a k
abbrev nT (p : Pg) : Int := p 100 0
abbrev kd (p : Pg) (t : Nat) : Int := p 102 t
abbrev up (p : Pg) (t : Nat) : Int := p 103 t
abbrev fm (p : Pg) (t : Nat) : Int := p 104 t
abbrev fo (p : Pg) (i : Nat) : Int := p 105 i
abbrev nM (p : Pg) : Int := p 100 5
abbrev ty (p : Pg) (m : Nat) : Int := p 107 m
abbrev nm (p : Pg) (m : Nat) : Int := p 108 m
abbrev so (p : Pg) (m : Nat) : Int := p 109 m
abbrev rt (p : Pg) (m : Nat) : Int := p 110 m
abbrev om (p : Pg) (m : Nat) : Int := p 111 m
abbrev oa (p : Pg) (i : Nat) : Int := p 112 i
abbrev nO (p : Pg) : Int := p 100 12
abbrev ok (p : Pg) (o : Nat) : Int := p 114 o
abbrev oA (p : Pg) (o : Nat) : Int := p 115 o
abbrev oB (p : Pg) (o : Nat) : Int := p 116 o
theorem SD.nT {h : Hp} {p : Pg} (hs : SD h p) : xI h 100 0 = nT p := hs 100 0 rfl
theorem SD.nM {h : Hp} {p : Pg} (hs : SD h p) : xI h 100 5 = nM p := hs 100 5 rfl
theorem SD.nO {h : Hp} {p : Pg} (hs : SD h p) : xI h 100 12 = nO p := hs 100 12 rfl
theorem SD.kd {h : Hp} {p : Pg} (hs : SD h p) (i : Nat) : xI h 102 i = kd p i := hs 102 i rfl
theorem SD.up {h : Hp} {p : Pg} (hs : SD h p) (i : Nat) : xI h 103 i = up p i := hs 103 i rfl
theorem SD.fm {h : Hp} {p : Pg} (hs : SD h p) (i : Nat) : xI h 104 i = fm p i := hs 104 i rfl
theorem SD.fo {h : Hp} {p : Pg} (hs : SD h p) (i : Nat) : xI h 105 i = fo p i := hs 105 i rfl
theorem SD.ty {h : Hp} {p : Pg} (hs : SD h p) (i : Nat) : xI h 107 i = ty p i := hs 107 i rfl
theorem SD.nm {h : Hp} {p : Pg} (hs : SD h p) (i : Nat) : xI h 108 i = nm p i := hs 108 i rfl
theorem SD.so {h : Hp} {p : Pg} (hs : SD h p) (i : Nat) : xI h 109 i = so p i := hs 109 i rfl
theorem SD.rt {h : Hp} {p : Pg} (hs : SD h p) (i : Nat) : xI h 110 i = rt p i := hs 110 i rfl
theorem SD.om {h : Hp} {p : Pg} (hs : SD h p) (i : Nat) : xI h 111 i = om p i := hs 111 i rfl
theorem SD.oa {h : Hp} {p : Pg} (hs : SD h p) (i : Nat) : xI h 112 i = oa p i := hs 112 i rfl
theorem SD.ok {h : Hp} {p : Pg} (hs : SD h p) (i : Nat) : xI h 114 i = ok p i := hs 114 i rfl
theorem SD.oA {h : Hp} {p : Pg} (hs : SD h p) (i : Nat) : xI h 115 i = oA p i := hs 115 i rfl
theorem SD.oB {h : Hp} {p : Pg} (hs : SD h p) (i : Nat) : xI h 116 i = oB p i := hs 116 i rfl
theorem SD_sm {A : Nat → Nat → Prop} {h h' : Hp} {p : Pg} (q : sm A h h') (hA : ∀ a k, A a k → ¬ sta a k = true) (hs : SD h p) : SD h' p := fun a k hk => (q.2.2 a k (fun z => hA a k z hk)).trans (hs a k hk)
/-- what the checks keep true of the data -/
def WF (p : Pg) : Prop :=
  (0 ≤ nT p ∧ nT p ≤ 16) ∧ (0 ≤ nM p ∧ nM p ≤ 48) ∧ (0 ≤ nO p ∧ nO p ≤ 160) ∧
  (∀ t : Nat, (t : Int) < nT p → (0 ≤ kd p t ∧ kd p t ≤ 2) ∧ (-1 ≤ up p t ∧ up p t < t) ∧ (kd p t = 2 → up p t = -1) ∧ (0 ≤ fm p t ∧ fm p t ≤ 3) ∧ ∀ i : Nat, (i : Int) < fm p t → 0 ≤ fo p (3 * t + i) ∧ fo p (3 * t + i) < t ∧ kd p (fo p (3 * t + i)).toNat = 2) ∧
  (∀ m : Nat, (m : Int) < nM p → (0 ≤ ty p m ∧ ty p m < nT p) ∧ (-1 ≤ nm p m ∧ nm p m ≤ 9) ∧ (0 ≤ so p m ∧ so p m ≤ 4) ∧ (so p m = 4 ↔ nm p m = -1) ∧ (rt p m = 0 ∨ rt p m = 1) ∧ (0 ≤ om p m ∧ om p m ≤ 24) ∧ ∀ i : Nat, (i : Int) < om p m → 0 ≤ oa p (24 * m + i) ∧ oa p (24 * m + i) < nO p) ∧
  (∀ m m' : Nat, (m : Int) < nM p → (m' : Int) < nM p → ty p m = ty p m' → nm p m = nm p m' → m = m') ∧
  (∀ o : Nat, (o : Int) < nO p → (0 ≤ ok p o ∧ ok p o ≤ 7) ∧ (ok p o ≤ 4 → 0 ≤ oA p o ∧ oA p o < nT p) ∧ (5 ≤ ok p o → ok p o ≤ 6 → 0 ≤ oA p o ∧ oA p o ≤ 3) ∧ (ok p o = 5 → 0 ≤ oB p o ∧ oB p o < nM p) ∧ ((1 ≤ ok p o ∧ ok p o ≤ 4) ∨ ok p o = 7 → 0 ≤ oB p o ∧ oB p o ≤ 9))
/-- own member of a type, by name -/
noncomputable def own (p : Pg) (t x : Int) : Int := fst (fun m => ty p m = t ∧ nm p m = x) (nM p).toNat 0
section MB
variable {l : Launch} {D : DD} {d kc ks : Nat} {h : Hp} {Ψ : Option AV → Hp → Prop} {p : Pg}
theorem ct_M_in {x a b : Int} (hM : MS h) (k : Ψ (some (vi (bI (a ≤ x ∧ x ≤ b)))) h) : Ev l D Y_M_in d kc ks 0 [some (vi x), some (vi a), some (vi b)] [] h Ψ := by
  apply m_M_in_0 hM
  refine ⟨fun h1 => ?_, fun h1 => ⟨fun h2 => ?_, fun h2 => ?_⟩⟩
  · rw [bI_f (by omega)] at k; exact k
  · rw [bI_f (by omega)] at k; exact k
  · rw [bI_t (by omega)] at k; exact k
theorem ct_M_isType {x : Int} (hM : MS h) (hs : SD h p) (hw : WF p) (k : Ψ (some (vi (bI (0 ≤ x ∧ x < nT p)))) h) : Ev l D Y_M_isType (d + 1) kc ks 0 [some (vr 100), some (vi x)] [] h Ψ := by
  apply m_M_isType_0 hM
  refine ct_M_in hM ⟨hM, bI_01 _, ?_⟩
  have e := (hs).nT
  have w := hw.1
  rw [e, wr_eq (by omega) (by omega), bI_c (show (0 ≤ x ∧ x ≤ nT p - 1) ↔ (0 ≤ x ∧ x < nT p) by omega)]
  exact k
theorem ct_M_isMember {x : Int} (hM : MS h) (hs : SD h p) (hw : WF p) (k : Ψ (some (vi (bI (0 ≤ x ∧ x < nM p)))) h) : Ev l D Y_M_isMember (d + 1) kc ks 0 [some (vr 100), some (vi x)] [] h Ψ := by
  apply m_M_isMember_0 hM
  refine ct_M_in hM ⟨hM, bI_01 _, ?_⟩
  have e := (hs).nM
  have w := hw.2.1
  rw [e, wr_eq (by omega) (by omega), bI_c (show (0 ≤ x ∧ x ≤ nM p - 1) ↔ (0 ≤ x ∧ x < nM p) by omega)]
  exact k
theorem lp_M_ownOf {t x : Int} (hM : MS h) (hs : SD h p) (hw : WF p) : ∀ (n m : Nat), m + n = (nM p).toNat → Ψ (some (vi (fst (fun m => ty p m = t ∧ nm p m = x) n m))) h → Ev l D Y_M_ownOf d kc ks 2 [some (vr 100), some (vi t), some (vi x), some (vi (m : Int))] [] h Ψ := by
  have w := hw.2.1
  have e := (hs).nM
  intro n
  induction n with
  | zero =>
    intro m hm k
    apply m_M_ownOf_2 hM
    exact ⟨fun _ => k, fun c => by rw [e] at c; omega⟩
  | succ n ih =>
    intro m hm k
    apply m_M_ownOf_2 hM
    have e1 := (hs).ty m
    have e2 := (hs).nm m
    simp only [e, e1, e2, Int.toNat_natCast, wr_s (show m < 1000000 by omega)]
    unfold fst at k
    refine ⟨fun c => by omega, fun c => ⟨by omega, by omega, fun c1 => ?_, fun c1 => ⟨by omega, by omega, fun c2 => ?_, fun c2 => ?_⟩⟩⟩
    · rw [cI_f (fun q => c1 q.1)] at k
      exact ih (m + 1) (by omega) k
    · rw [cI_f (fun q => c2 q.2)] at k
      exact ih (m + 1) (by omega) k
    · rw [cI_t ⟨c1, c2⟩] at k
      exact k
theorem ct_M_ownOf {t x : Int} (hM : MS h) (hs : SD h p) (hw : WF p) (k : Ψ (some (vi (own p t x))) h) : Ev l D Y_M_ownOf d kc ks 0 [some (vr 100), some (vi t), some (vi x), none] [] h Ψ := by
  apply m_M_ownOf_0 hM
  exact lp_M_ownOf hM hs hw _ 0 (by omega) k
theorem ct_M_canBeCalled {x : Int} (hM : MS h) (k : Ψ (some (vi (bI (x = 0 ∨ x = 2 ∨ x = 3)))) h) : Ev l D Y_M_canBeCalled d kc ks 0 [some (vi x)] [] h Ψ := by
  apply m_M_canBeCalled_0 hM
  by_cases h0 : x = 0 ∨ x = 2 ∨ x = 3
  · rw [bI_t h0] at k
    exact ⟨fun _ => k, fun _ => ⟨fun _ => k, fun _ => ⟨fun _ => by omega, fun _ => k⟩⟩⟩
  · rw [bI_f h0] at k
    exact ⟨fun _ => by omega, fun _ => ⟨fun _ => by omega, fun _ => ⟨fun _ => k, fun _ => by omega⟩⟩⟩
end MB
