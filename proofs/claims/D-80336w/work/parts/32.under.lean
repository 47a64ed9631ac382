/-! what is under what: the closure, and the model's table of it -/
def eg (p : Pg) (v u : Nat) : Prop := up p v = (u : Int) ∨ ∃ i : Nat, (i : Int) < fm p v ∧ fo p (3 * v + i) = (u : Int)
def pth (p : Pg) : Nat → Nat → Nat → Prop
  | 0, t, u => t = u
  | n + 1, t, u => ∃ v, pth p n t v ∧ eg p v u
def U (p : Pg) (t u : Nat) : Prop := ∃ n, pth p n t u
theorem U.rf {p : Pg} {t : Nat} : U p t t := ⟨0, rfl⟩
theorem U.snoc {p : Pg} {t v u : Nat} (q : U p t v) (e : eg p v u) : U p t u := by
  obtain ⟨n, h⟩ := q
  exact ⟨n + 1, v, h, e⟩
theorem U.last {p : Pg} {t u : Nat} (q : U p t u) : t = u ∨ ∃ v, U p t v ∧ eg p v u := by
  obtain ⟨n, h⟩ := q
  cases n with
  | zero => exact Or.inl h
  | succ n => obtain ⟨v, h1, h2⟩ := h; exact Or.inr ⟨v, ⟨n, h1⟩, h2⟩
theorem U.tr {p : Pg} {t v u : Nat} (q : U p t v) (r : U p v u) : U p t u := by
  obtain ⟨n, h⟩ := r
  induction n generalizing u with
  | zero => rw [show v = u from h] at q; exact q
  | succ n ih => obtain ⟨w, h1, h2⟩ := h; exact (ih h1).snoc h2
theorem eg_lt {p : Pg} {v u : Nat} (hw : WF p) (hv : (v : Int) < nT p) (e : eg p v u) : u < v := by
  obtain ⟨-, h2, -, -, h5⟩ := hw.2.2.2.1 v hv
  rcases e with e | ⟨i, h, e⟩
  · omega
  · have := (h5 i h).2.1; omega
theorem U.le {p : Pg} {t u : Nat} (hw : WF p) (ht : (t : Int) < nT p) (q : U p t u) : u ≤ t := by
  obtain ⟨n, h⟩ := q
  induction n generalizing u with
  | zero => exact Nat.le_of_eq (show t = u from h).symm
  | succ n ih =>
    obtain ⟨v, h1, h2⟩ := h
    have h3 := ih h1
    have := eg_lt hw (by omega) h2
    omega
theorem pre_sI {h : Hp} {a k : Nat} {x : Int} {f : Nat → Int} (q : ∀ u, u < k → xI h a u = f u) (hx : x = f k) : ∀ u, u < k + 1 → xI (sI h a k x) a u = f u := by
  intro u hu
  rw [xI_sI]
  by_cases e : u = k
  · rw [if_pos ⟨rfl, e⟩, e]; exact hx
  · rw [if_neg (fun z => e z.2)]; exact q u (by omega)
section UN
variable {l : Launch} {D : DD} {d kc ks : Nat} {h : Hp} {Ψ : Option AV → Hp → Prop} {p : Pg}
/-- marks behind the row k: what is found by edges from k on, and by the first edges of k -/
def mk1 (p : Pg) (t k : Nat) (u : Nat) : Prop := u = t ∨ ∃ v, k ≤ v ∧ U p t v ∧ eg p v u
def mk2 (p : Pg) (t k i : Nat) (u : Nat) : Prop := mk1 p t (k + 1) u ∨ (U p t k ∧ (up p k = (u : Int) ∨ ∃ j : Nat, j < i ∧ fo p (3 * k + j) = (u : Int)))
theorem mk1_self {p : Pg} {t k : Nat} (hw : WF p) (ht : (t : Int) < nT p) (_hk : k ≤ t) : mk1 p t (k + 1) k ↔ U p t k := by
  constructor
  · rintro (e | ⟨v, _, h2, h3⟩)
    · rw [e]; exact U.rf
    · exact h2.snoc h3
  · intro q
    rcases q.last with e | ⟨v, h1, h2⟩
    · exact Or.inl e.symm
    · have h3 := h1.le hw ht
      have h4 := eg_lt hw (by omega) h2
      exact Or.inr ⟨v, by omega, h1, h2⟩
theorem mk2_self {p : Pg} {t k i : Nat} (hw : WF p) (ht : (t : Int) < nT p) (hk : k ≤ t) : mk2 p t k i k ↔ U p t k := by
  unfold mk2
  rw [mk1_self hw ht hk]
  exact ⟨fun q => q.elim id (fun z => z.1), Or.inl⟩
theorem mk1_step {p : Pg} {t k u : Nat} : mk1 p t k u ↔ mk1 p t (k + 1) u ∨ (U p t k ∧ eg p k u) := by
  constructor
  · rintro (e | ⟨v, h1, h2, h3⟩)
    · exact Or.inl (Or.inl e)
    · rcases Nat.eq_or_lt_of_le h1 with e | e
      · subst e; exact Or.inr ⟨h2, h3⟩
      · exact Or.inl (Or.inr ⟨v, e, h2, h3⟩)
  · rintro ((e | ⟨v, h1, h2, h3⟩) | ⟨h2, h3⟩)
    · exact Or.inl e
    · exact Or.inr ⟨v, by omega, h2, h3⟩
    · exact Or.inr ⟨k, Nat.le_refl _, h2, h3⟩
theorem mk2_done {p : Pg} {t k : Nat} (hf : 0 ≤ fm p k) (u : Nat) : mk2 p t k (fm p k).toNat u ↔ mk1 p t k u := by
  rw [mk1_step]
  unfold mk2 eg
  refine or_congr Iff.rfl (and_congr Iff.rfl (or_congr Iff.rfl ?_))
  constructor
  · rintro ⟨j, h1, h2⟩; exact ⟨j, by omega, h2⟩
  · rintro ⟨j, h1, h2⟩; exact ⟨j, by omega, h2⟩
theorem mk2_off {p : Pg} {t k i : Nat} (hn : ¬ U p t k) (u : Nat) : mk2 p t k i u ↔ mk1 p t k u := by
  rw [mk1_step]
  unfold mk2
  exact or_congr Iff.rfl ⟨fun q => absurd q.1 hn, fun q => absurd q.1 hn⟩
abbrev A125 : Nat → Nat → Prop := fun a _ => a = 125
theorem sD125 {h h' : Hp} (q : sm A125 h h') (hs : SD h p) : SD h' p := SD_sm q (fun a k e z => by have := sta_iff.mp z; have e' : a = 125 := e; omega) hs
theorem lp_M_lookUp_69 {t k : Nat} {h0 : Hp} (hM : MS h0) (hs : SD h0 p) (hw : WF p) (ht : (t : Int) < nT p) (hk : k ≤ t)
    (hx : ∀ h', sm A125 h0 h' → (∀ u, u < 16 → xI h' 125 u = bI (mk1 p t k u)) → Ev l D Y_M_lookUp d kc ks 32 [some (vr 100), some (vi (t : Int)), some (vi ((k : Int) - 1)), none] [] h' Ψ) :
    ∀ (i : Nat) (h : Hp), i ≤ (fm p k).toNat → (sm A125 h0 h ∧ ∀ u, u < 16 → xI h 125 u = bI (mk2 p t k i u)) → Ev l D Y_M_lookUp d kc ks 69 [some (vr 100), some (vi (t : Int)), some (vi (k : Int)), some (vi (i : Int))] [] h Ψ := by
  obtain ⟨k1, k2, k3, k4, k5⟩ := hw.2.2.2.1 k (by omega)
  have w1 := hw.1
  have ew : wr ((k : Int) + (-1 : Int)) = (k : Int) - 1 := by rw [wr_eq (by omega) (by omega)]; omega
  refine lup _ _ ?_ ?_
  · rintro h ⟨q1, q2⟩
    apply m_M_lookUp_69 (MS_sm q1 hM)
    have e1 := (sD125 q1 hs).fm k
    simp only [Int.toNat_natCast, e1, ew]
    exact ⟨by omega, by omega, fun _ => hx h q1 (fun u hu => by rw [q2 u hu]; exact bI_c (mk2_done k4.1 u)), fun c => by omega⟩
  · rintro i h hi ⟨q1, q2⟩ ih
    apply m_M_lookUp_69 (MS_sm q1 hM)
    have hs' := sD125 q1 hs
    have e1 := (hs').fm k
    have ei : wr (wr ((3 : Int) * (k : Int)) + (i : Int)) = ((3 * k + i : Nat) : Int) := by rw [wr_eq (x := 3 * (k : Int)) (by omega) (by omega), wr_eq (by omega) (by omega)]; omega
    have e2 := (hs').fo (3 * k + i)
    obtain ⟨f1, f2, f3⟩ := k5 i (by omega)
    simp only [Int.toNat_natCast, e1, ew, ei, e2, wr_s (show i < 1000000 by omega)]
    refine ⟨by omega, by omega, fun c => by omega, fun c => ⟨by omega, by omega, fun c1 => ?_, fun c1 => ⟨by omega, by omega, by omega, by omega, fun h1 eh => ?_⟩⟩⟩
    · rw [q2 k (by omega), bI_0, mk2_self hw ht hk] at c1
      exact hx h q1 (fun u hu => by rw [q2 u hu]; exact bI_c (mk2_off c1 u))
    · rw [q2 k (by omega), bI_n, mk2_self hw ht hk] at c1
      subst eh
      refine ih _ ⟨q1.put rfl, fun u hu => ?_⟩
      rw [xI_sI]
      by_cases e : u = (fo p (3 * k + i)).toNat
      · rw [if_pos ⟨rfl, e⟩, bI_t]
        exact Or.inr ⟨c1, Or.inr ⟨i, by omega, by omega⟩⟩
      · rw [if_neg (fun z => e z.2), q2 u hu]
        refine bI_c (or_congr Iff.rfl (and_congr Iff.rfl (or_congr Iff.rfl ?_)))
        constructor
        · rintro ⟨j, j1, j2⟩; exact ⟨j, by omega, j2⟩
        · rintro ⟨j, j1, j2⟩
          rcases Nat.eq_or_lt_of_le (Nat.le_of_lt_succ j1) with z | z
          · subst z; omega
          · exact ⟨j, z, j2⟩
theorem lp_M_lookUp_32 {t : Nat} {h0 : Hp} (hM : MS h0) (hs : SD h0 p) (hw : WF p) (ht : (t : Int) < nT p)
    (hx : ∀ h', sm A125 h0 h' → (∀ u, u < 16 → xI h' 125 u = bI (U p t u)) → Ψ none h') :
    ∀ (k : Nat) (h : Hp), (k ≤ t + 1 ∧ sm A125 h0 h ∧ ∀ u, u < 16 → xI h 125 u = bI (mk1 p t k u)) → Ev l D Y_M_lookUp d kc ks 32 [some (vr 100), some (vi (t : Int)), some (vi ((k : Int) - 1)), none] [] h Ψ := by
  have w1 := hw.1
  refine ldn _ _ ?_ ?_
  · rintro h ⟨-, q1, q2⟩
    apply m_M_lookUp_32 (MS_sm q1 hM)
    refine ⟨fun _ => hx h q1 (fun u hu => ?_), fun c => by omega⟩
    rw [q2 u hu]
    refine bI_c ⟨?_, fun q => ?_⟩
    · rintro (e | ⟨v, _, h2, h3⟩)
      · rw [e]; exact U.rf
      · exact h2.snoc h3
    · rcases q.last with e | ⟨v, h1, h2⟩
      · exact Or.inl e.symm
      · exact Or.inr ⟨v, Nat.zero_le _, h1, h2⟩
  · rintro k h ⟨hk, q1, q2⟩ ih
    obtain ⟨k1, k2, k3, k4, k5⟩ := hw.2.2.2.1 k (by omega)
    rw [show (((k + 1 : Nat) : Int) - 1) = (k : Int) by omega]
    apply m_M_lookUp_32 (MS_sm q1 hM)
    have e1 := (sD125 q1 hs).up k
    have hgo := lp_M_lookUp_69 (l := l) (D := D) (d := d) (kc := kc) (ks := ks) (Ψ := Ψ) hM hs hw ht (show k ≤ t by omega) (fun h' g1 g2 => ih h' ⟨by omega, g1, g2⟩)
    have hz : (0 : Int) = ((0 : Nat) : Int) := rfl
    simp only [Int.toNat_natCast, e1]
    rw [hz]
    have m0 : ∀ u, mk2 p t k 0 u ↔ mk1 p t (k + 1) u ∨ (U p t k ∧ up p k = (u : Int)) := fun u => or_congr Iff.rfl (and_congr Iff.rfl ⟨fun q => q.elim id (fun ⟨j, z, _⟩ => by omega), Or.inl⟩)
    refine ⟨fun c => by omega, fun c => ⟨by omega, by omega, fun c1 => ?_, fun c1 => ⟨by omega, by omega, fun c2 => ?_, fun c2 => ⟨by omega, by omega, by omega, by omega, fun h1 eh => ?_⟩⟩⟩⟩
    · refine hgo 0 h (Nat.zero_le _) ⟨q1, fun u hu => ?_⟩
      have c3 : ¬ U p t k := by
        have c4 : bI (mk1 p t (k + 1) k) = 0 := by rw [← q2 k (by omega)]; exact c1
        rw [bI_0, mk1_self hw ht (by omega)] at c4; exact c4
      rw [q2 u hu, bI_c (m0 u)]
      exact bI_c ⟨Or.inl, fun q => q.elim id (fun z => absurd z.1 c3)⟩
    · refine hgo 0 h (Nat.zero_le _) ⟨q1, fun u hu => ?_⟩
      rw [q2 u hu, bI_c (m0 u)]
      exact bI_c ⟨Or.inl, fun q => q.elim id (fun z => by omega)⟩
    · subst eh
      have c3 : U p t k := by
        have c4 : ¬ bI (mk1 p t (k + 1) k) = 0 := by rw [← q2 k (by omega)]; exact c1
        rw [bI_n, mk1_self hw ht (by omega)] at c4; exact c4
      refine hgo 0 _ (Nat.zero_le _) ⟨q1.put rfl, fun u hu => ?_⟩
      rw [xI_sI, bI_c (m0 u)]
      by_cases e : u = (up p k).toNat
      · rw [if_pos ⟨rfl, e⟩, bI_t]
        exact Or.inr ⟨c3, by omega⟩
      · rw [if_neg (fun z => e z.2), q2 u hu]
        exact bI_c ⟨Or.inl, fun q => q.elim id (fun z => by omega)⟩
theorem ct_M_lookUp {t : Nat} (hM : MS h) (hs : SD h p) (hw : WF p) (ht : (t : Int) < nT p)
    (k : ∀ h', sm A125 h h' → (∀ u, u < 16 → xI h' 125 u = bI (U p t u)) → Ψ none h') : Ev l D Y_M_lookUp d kc ks 0 [some (vr 100), some (vi (t : Int)), none, none] [] h Ψ := by
  have w1 := hw.1
  apply m_M_lookUp_0 hM
  have key : ∀ (i : Nat) (h' : Hp), i ≤ 16 → (sm A125 h h' ∧ ∀ u, u < i → xI h' 125 u = bI (u = t)) → Ev l D Y_M_lookUp d kc ks 2 [some (vr 100), some (vi (t : Int)), some (vi (i : Int)), none] [] h' Ψ := by
    refine lup _ _ ?_ ?_
    · rintro h' ⟨q1, q2⟩
      apply m_M_lookUp_2 (MS_sm q1 hM)
      refine ⟨fun _ => ?_, fun c => by omega⟩
      have := lp_M_lookUp_32 (l := l) (D := D) (d := d) (kc := kc) (ks := ks) hM hs hw ht k (t + 1) h' ⟨Nat.le_refl _, q1, fun u hu => by
        rw [q2 u hu]
        refine bI_c ⟨Or.inl, ?_⟩
        rintro (e | ⟨v, h1, h2, h3⟩)
        · exact e
        · have := h2.le hw ht; omega⟩
      rw [show ((t + 1 : Nat) : Int) - 1 = (t : Int) by omega] at this
      exact this
    · rintro i h' hi ⟨q1, q2⟩ ih
      apply m_M_lookUp_2 (MS_sm q1 hM)
      simp only [Int.toNat_natCast, wr_s (show i < 1000000 by omega)]
      refine ⟨fun c => by omega, fun c => ⟨fun c1 => ⟨by omega, by omega, fun h1 eh => ?_⟩, fun c1 => ⟨by omega, by omega, fun h1 eh => ?_⟩⟩⟩
      · subst eh
        exact ih _ ⟨q1.put rfl, pre_sI q2 (bI_f (by omega)).symm⟩
      · subst eh
        exact ih _ ⟨q1.put rfl, pre_sI q2 (bI_t (by omega)).symm⟩
  exact key 0 h (Nat.zero_le _) ⟨sm.rf, fun u hu => by omega⟩
/-- the table of what is under what: laid, or not yet -/
def Lz (h : Hp) (p : Pg) : Prop := (xI h 100 26 = 0 ∨ xI h 100 26 = 1) ∧ (¬ xI h 100 26 = 0 → ∀ t u : Nat, (t : Int) < nT p → u < 16 → xI h 126 (16 * t + u) = bI (U p t u))
def scr (a k : Nat) : Prop := a = 125 ∨ a = 126 ∨ a = 128 ∨ a = 129 ∨ a = 130 ∨ (a = 100 ∧ k = 26)
def Mok (p : Pg) (h : Hp) : Prop := MS h ∧ SD h p ∧ WF p ∧ Lz h p
def Sc (p : Pg) (h h' : Hp) : Prop := sm scr h h' ∧ Mok p h'
theorem scr_sta {a k : Nat} (q : scr a k) : ¬ sta a k = true := by
  intro z
  have := sta_iff.mp z
  unfold scr at q
  omega
def scU (a k : Nat) : Prop := a = 125 ∨ a = 126 ∨ (a = 100 ∧ k = 26)
theorem scU_sta {a k : Nat} (q : scU a k) : ¬ sta a k = true := by
  intro z
  have := sta_iff.mp z
  unfold scU at q
  omega
theorem scU_scr {a k : Nat} (q : scU a k) : scr a k := by unfold scU at q; unfold scr; omega
theorem Sc.rf (hm : Mok p h) : Sc p h h := ⟨sm.rf, hm⟩
theorem Sc.tr {h h1 h2 : Hp} (q : Sc p h h1) (r : Sc p h1 h2) : Sc p h h2 := ⟨q.1.tr r.1, r.2⟩
theorem ct_M_isUnder {t u : Nat} (hm : Mok p h) (ht : (t : Int) < nT p) (hu : u < 16) (k : ∀ h', sm scU h h' → Mok p h' → Ψ (some (vi (bI (U p t u)))) h') : Ev l D Y_M_isUnder (d + 1) kc ks 0 [some (vr 100), some (vi (t : Int)), some (vi (u : Int)), none, none] [] h Ψ := by
  obtain ⟨hM, hs, hw, hz⟩ := hm
  have w1 := hw.1
  have ix : ∀ a b : Nat, a ≤ 16 → b < 16 → wr (wr ((16 : Int) * (a : Int)) + (b : Int)) = ((16 * a + b : Nat) : Int) := fun a b ha hb => by rw [wr_eq (x := 16 * (a : Int)) (by omega) (by omega), wr_eq (by omega) (by omega)]; omega
  apply m_M_isUnder_0 hM
  simp only [ix t u (by omega) hu, Int.toNat_natCast]
  refine ⟨fun c => ?_, fun c h1 eh => ?_⟩
  · rw [hz.2 c t u ht hu]
    exact ⟨by omega, by omega, bI_01 _, k h sm.rf ⟨hM, hs, hw, hz⟩⟩
  · have key : ∀ (i : Nat) (h' : Hp), i ≤ (nT p).toNat → (sm scU h h' ∧ xI h' 100 26 = 1 ∧ ∀ a b : Nat, a < i → b < 16 → xI h' 126 (16 * a + b) = bI (U p a b)) → Ev l D Y_M_isUnder (d + 1) kc ks 14 [some (vr 100), some (vi (t : Int)), some (vi (u : Int)), some (vi (i : Int)), none] [] h' Ψ := by
      refine lup _ _ ?_ ?_
      · rintro h' ⟨q1, q2, q3⟩
        have hs' := SD_sm q1 (fun _ _ => scU_sta) hs
        apply m_M_isUnder_14 (MS_sm q1 hM)
        rw [(hs').nT]
        simp only [ix t u (by omega) hu, Int.toNat_natCast]
        refine ⟨fun _ => ?_, fun c => by omega⟩
        rw [q3 t u (by omega) hu]
        exact ⟨by omega, by omega, bI_01 _, k h' q1 ⟨MS_sm q1 hM, hs', hw, Or.inr q2, fun _ a b ha hb => q3 a b (by omega) hb⟩⟩
      · rintro i h' hi ⟨q1, q2, q3⟩ ih
        have hs' := SD_sm q1 (fun _ _ => scU_sta) hs
        apply m_M_isUnder_14 (MS_sm q1 hM)
        rw [(hs').nT]
        refine ⟨fun c => by omega, fun _ => ct_M_lookUp (MS_sm q1 hM) hs' hw (by omega) (fun h2 g1 g2 => ⟨MS_sm g1 (MS_sm q1 hM), ?_⟩)⟩
        have g1' : sm scU h h2 := q1.tr (g1.mono (fun _ _ e => Or.inl e))
        have g3 : xI h2 100 26 = 1 := (g1.2.2 100 26 (show ¬ (100 : Nat) = 125 by decide)).trans q2
        have g4 : ∀ a b : Nat, a < i → b < 16 → xI h2 126 (16 * a + b) = bI (U p a b) := fun a b ha hb => (g1.2.2 126 _ (show ¬ (126 : Nat) = 125 by decide)).trans (q3 a b ha hb)
        have inner : ∀ (j : Nat) (h3 : Hp), j ≤ 16 → (sm scU h h3 ∧ xI h3 100 26 = 1 ∧ (∀ u, u < 16 → xI h3 125 u = bI (U p i u)) ∧ (∀ a b : Nat, a < i → b < 16 → xI h3 126 (16 * a + b) = bI (U p a b)) ∧ ∀ b : Nat, b < j → xI h3 126 (16 * i + b) = bI (U p i b)) → Ev l D Y_M_isUnder (d + 1) kc ks 30 [some (vr 100), some (vi (t : Int)), some (vi (u : Int)), some (vi (i : Int)), some (vi (j : Int))] [] h3 Ψ := by
          refine lup _ _ ?_ ?_
          · rintro h3 ⟨r1, r2, r3, r4, r5⟩
            apply m_M_isUnder_30 (MS_sm r1 hM)
            rw [wr_s (show i < 1000000 by omega)]
            refine ⟨fun _ => ih h3 ⟨r1, r2, fun a b ha hb => ?_⟩, fun c => by omega⟩
            rcases Nat.eq_or_lt_of_le (Nat.le_of_lt_succ ha) with z | z
            · subst z; exact r5 b hb
            · exact r4 a b z hb
          · rintro j h3 hj ⟨r1, r2, r3, r4, r5⟩ ih2
            apply m_M_isUnder_30 (MS_sm r1 hM)
            simp only [ix i j (by omega) hj, Int.toNat_natCast, wr_s (show j < 1000000 by omega)]
            refine ⟨fun c => by omega, fun _ => ⟨by omega, by omega, by omega, by omega, by rw [r3 j hj]; exact bI_01 _, fun h4 eh4 => ?_⟩⟩
            subst eh4
            refine ih2 _ ⟨r1.put (Or.inr (Or.inl rfl)), r2, fun v hv => (by rw [xI_sI, if_neg (by omega)]; exact r3 v hv), fun a b ha hb => (by rw [xI_sI, if_neg (by omega)]; exact r4 a b ha hb), fun b hb => ?_⟩
            rw [xI_sI]
            by_cases e : b = j
            · rw [if_pos ⟨rfl, by omega⟩, e]; exact r3 j hj
            · rw [if_neg (by omega)]; exact r5 b (by omega)
        exact inner 0 h2 (Nat.zero_le _) ⟨g1', g3, g2, g4, fun b hb => by omega⟩
    subst eh
    exact key 0 _ (Nat.zero_le _) ⟨sm.rf.put (by unfold scU; omega), (by rw [xI_sI, if_pos ⟨rfl, rfl⟩]), fun a b ha => by omega⟩
end UN
