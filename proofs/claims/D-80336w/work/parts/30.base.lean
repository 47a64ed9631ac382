/-! pure words: truth as a number, first and count, what stays the same -/
noncomputable def cI (c : Prop) (a b : Int) : Int := @ite Int c (Classical.propDecidable c) a b
theorem cI_t {c : Prop} {a b : Int} (h : c) : cI c a b = a := if_pos h
theorem cI_f {c : Prop} {a b : Int} (h : ¬ c) : cI c a b = b := if_neg h
noncomputable def bI (c : Prop) : Int := cI c 1 0
theorem bI_t {c : Prop} (h : c) : bI c = 1 := cI_t h
theorem bI_f {c : Prop} (h : ¬ c) : bI c = 0 := cI_f h
theorem bI_01 (c : Prop) : bI c = 0 ∨ bI c = 1 := by
  rcases Classical.em c with h | h
  · exact Or.inr (bI_t h)
  · exact Or.inl (bI_f h)
theorem bI_0 {c : Prop} : bI c = 0 ↔ ¬ c := by
  rcases Classical.em c with h | h
  · rw [bI_t h]; exact ⟨fun q => absurd q (by decide), fun q => absurd h q⟩
  · rw [bI_f h]; exact ⟨fun _ => h, fun _ => rfl⟩
theorem bI_1 {c : Prop} : bI c = 1 ↔ c := by
  rcases Classical.em c with h | h
  · rw [bI_t h]; exact ⟨fun _ => h, fun _ => rfl⟩
  · rw [bI_f h]; exact ⟨fun q => absurd q (by decide), fun q => absurd q h⟩
theorem bI_n {c : Prop} : ¬ bI c = 0 ↔ c := by rw [bI_0]; exact Classical.not_not
theorem bI_c {c e : Prop} (q : c ↔ e) : bI c = bI e := by rw [propext q]
theorem wr_s {k : Nat} (hk : k < 1000000) : wr ((k : Int) + 1) = ((k + 1 : Nat) : Int) := by rw [wr_eq (by omega) (by omega)]; omega
/-- the first place from m on, among n, with Q; -1: none -/
noncomputable def fst (Q : Nat → Prop) : Nat → Nat → Int
  | 0, _ => -1
  | n + 1, m => cI (Q m) m (fst Q n (m + 1))
theorem fst_spec (Q : Nat → Prop) : ∀ (n m : Nat), (fst Q n m = -1 ∧ ∀ j, m ≤ j → j < m + n → ¬ Q j) ∨ ∃ j : Nat, m ≤ j ∧ j < m + n ∧ Q j ∧ (∀ i, m ≤ i → i < j → ¬ Q i) ∧ fst Q n m = (j : Int)
  | 0, m => Or.inl ⟨rfl, fun j h1 h2 => by omega⟩
  | n + 1, m => by
    unfold fst
    rcases Classical.em (Q m) with h | h
    · exact Or.inr ⟨m, Nat.le_refl _, by omega, h, fun i h1 h2 => by omega, cI_t h⟩
    · rw [cI_f h]
      rcases fst_spec Q n (m + 1) with ⟨h1, h2⟩ | ⟨j, h1, h2, h3, h4, h5⟩
      · refine Or.inl ⟨h1, fun j g1 g2 => ?_⟩
        rcases Nat.eq_or_lt_of_le g1 with e | e
        · rw [← e]; exact h
        · exact h2 j (by omega) (by omega)
      · refine Or.inr ⟨j, by omega, by omega, h3, fun i g1 g2 => ?_, h5⟩
        rcases Nat.eq_or_lt_of_le g1 with e | e
        · rw [← e]; exact h
        · exact h4 i (by omega) g2
theorem fst_congr {Q Q' : Nat → Prop} : ∀ (n m : Nat), (∀ j, m ≤ j → j < m + n → (Q j ↔ Q' j)) → fst Q n m = fst Q' n m
  | 0, m, _ => rfl
  | n + 1, m, h => by
    unfold fst
    rw [fst_congr n (m + 1) (fun j h1 h2 => h j (by omega) (by omega)), propext (h m (Nat.le_refl _) (by omega))]
/-- how many -/
noncomputable def cnt (Q : Nat → Prop) : Nat → Nat → Int
  | 0, _ => 0
  | n + 1, m => bI (Q m) + cnt Q n (m + 1)
theorem cnt_le (Q : Nat → Prop) : ∀ (n m : Nat), 0 ≤ cnt Q n m ∧ cnt Q n m ≤ n
  | 0, m => ⟨Int.le_refl _, Int.le_refl _⟩
  | n + 1, m => by
    have h1 := cnt_le Q n (m + 1)
    unfold cnt
    rcases bI_01 (Q m) with h | h <;> rw [h] <;> omega
theorem cnt_snoc (Q : Nat → Prop) : ∀ (n m : Nat), cnt Q (n + 1) m = cnt Q n m + bI (Q (m + n))
  | 0, m => by unfold cnt; unfold cnt; simp
  | n + 1, m => by
    have h1 := cnt_snoc Q n (m + 1)
    rw [cnt, h1, show cnt Q (n + 1) m = bI (Q m) + cnt Q n (m + 1) from rfl, show m + 1 + n = m + (n + 1) by omega]
    omega
theorem cnt_congr {Q Q' : Nat → Prop} : ∀ (n m : Nat), (∀ j, m ≤ j → j < m + n → (Q j ↔ Q' j)) → cnt Q n m = cnt Q' n m
  | 0, m, _ => rfl
  | n + 1, m, h => by
    unfold cnt
    rw [cnt_congr n (m + 1) (fun j h1 h2 => h j (by omega) (by omega)), propext (h m (Nat.le_refl _) (by omega))]
theorem cnt_0 (Q : Nat → Prop) : ∀ (n m : Nat), cnt Q n m = 0 ↔ ∀ j, m ≤ j → j < m + n → ¬ Q j
  | 0, m => ⟨fun _ j h1 h2 => by omega, fun _ => rfl⟩
  | n + 1, m => by
    have h1 := cnt_0 Q n (m + 1)
    have h2 := cnt_le Q n (m + 1)
    unfold cnt
    rcases Classical.em (Q m) with h | h
    · rw [bI_t h]
      exact ⟨fun q => by omega, fun q => absurd h (q m (Nat.le_refl _) (by omega))⟩
    · rw [bI_f h, Int.zero_add, h1]
      refine ⟨fun q j g1 g2 => ?_, fun q j g1 g2 => q j (by omega) (by omega)⟩
      rcases Nat.eq_or_lt_of_le g1 with e | e
      · rw [← e]; exact h
      · exact q j (by omega) (by omega)
theorem cnt_1 (Q : Nat → Prop) : ∀ (n m : Nat), cnt Q n m = 1 ↔ ∃ j, m ≤ j ∧ j < m + n ∧ Q j ∧ ∀ i, m ≤ i → i < m + n → Q i → i = j
  | 0, m => ⟨fun q => absurd q (by show ¬ (0 : Int) = 1; decide), fun ⟨j, h1, h2, _⟩ => by omega⟩
  | n + 1, m => by
    have h1 := cnt_1 Q n (m + 1)
    have h0 := cnt_0 Q n (m + 1)
    unfold cnt
    rcases Classical.em (Q m) with h | h
    · rw [bI_t h]
      refine ⟨fun q => ⟨m, Nat.le_refl _, by omega, h, fun i g1 g2 g3 => ?_⟩, fun ⟨j, g1, g2, g3, g4⟩ => ?_⟩
      · rcases Nat.eq_or_lt_of_le g1 with e | e
        · exact e.symm
        · exact absurd g3 (h0.mp (by omega) i (by omega) (by omega))
      · have e := g4 m (Nat.le_refl _) (by omega) h
        have : cnt Q n (m + 1) = 0 := h0.mpr (fun i k1 k2 k3 => by have := g4 i (by omega) (by omega) k3; omega)
        omega
    · rw [bI_f h, Int.zero_add, h1]
      refine ⟨fun ⟨j, g1, g2, g3, g4⟩ => ⟨j, by omega, by omega, g3, fun i k1 k2 k3 => ?_⟩, fun ⟨j, g1, g2, g3, g4⟩ => ⟨j, ?_, by omega, g3, fun i k1 k2 k3 => g4 i (by omega) (by omega) k3⟩⟩
      · rcases Nat.eq_or_lt_of_le k1 with e | e
        · exact absurd (e ▸ k3) h
        · exact g4 i (by omega) (by omega) k3
      · rcases Nat.eq_or_lt_of_le g1 with e | e
        · exact absurd (e ▸ g3) h
        · omega
/-- heaps that are the same but for whole numbers at places of A -/
def sm (A : Nat → Nat → Prop) (h h' : Hp) : Prop := h'.1 = h.1 ∧ h'.2.2 = h.2.2 ∧ ∀ a k, ¬ A a k → xI h' a k = xI h a k
theorem sm.rf {A : Nat → Nat → Prop} {h : Hp} : sm A h h := ⟨rfl, rfl, fun _ _ _ => rfl⟩
theorem sm.tr {A : Nat → Nat → Prop} {h h1 h2 : Hp} (q : sm A h h1) (r : sm A h1 h2) : sm A h h2 := ⟨r.1.trans q.1, r.2.1.trans q.2.1, fun a k hn => (r.2.2 a k hn).trans (q.2.2 a k hn)⟩
theorem sm.mono {A B : Nat → Nat → Prop} {h h1 : Hp} (q : sm A h h1) (hAB : ∀ a k, A a k → B a k) : sm B h h1 := ⟨q.1, q.2.1, fun a k hn => q.2.2 a k (fun z => hn (hAB a k z))⟩
theorem sm.put {A : Nat → Nat → Prop} {h h1 : Hp} {a k : Nat} {x : Int} (q : sm A h h1) (hA : A a k) : sm A h (sI h1 a k x) := ⟨q.1, q.2.1, fun b j hn => by rw [xI_sI, if_neg (fun z => hn (by rw [z.1, z.2]; exact hA))]; exact q.2.2 b j hn⟩
theorem sm.K {A : Nat → Nat → Prop} {h h1 : Hp} (q : sm A h h1) (a : Nat) : xK h1 a = xK h a := by unfold xK; rw [q.1]
theorem sm.N {A : Nat → Nat → Prop} {h h1 : Hp} (q : sm A h h1) (a : Nat) : xN h1 a = xN h a := by unfold xN; rw [q.1]
theorem sm.R {A : Nat → Nat → Prop} {h h1 : Hp} (q : sm A h h1) (a k : Nat) : xR h1 a k = xR h a k := by unfold xR; rw [q.2.1]
theorem sm.L {A : Nat → Nat → Prop} {h h1 : Hp} (q : sm A h h1) (a k : Nat) : xL h1 a k = xL h a k := by unfold xL; rw [q.2.1]
/-- a loop that counts up to n -/
theorem lup {n : Nat} (E : Nat → Hp → Prop) (I : Nat → Hp → Prop) (fin : ∀ h, I n h → E n h) (stp : ∀ k h, k < n → I k h → (∀ h', I (k + 1) h' → E (k + 1) h') → E k h) : ∀ k h, k ≤ n → I k h → E k h := by
  have key : ∀ (j k : Nat) (h : Hp), k + j = n → I k h → E k h := by
    intro j
    induction j with
    | zero => intro k h e i; obtain rfl : k = n := by omega
              exact fin h i
    | succ j ih => intro k h e i; exact stp k h (by omega) i (fun h' i' => ih (k + 1) h' (by omega) i')
  intro k h hk i
  exact key (n - k) k h (by omega) i
/-- a loop that counts down to 0: E (k + 1) is at index k, E 0 behind the last -/
theorem ldn (E : Nat → Hp → Prop) (I : Nat → Hp → Prop) (fin : ∀ h, I 0 h → E 0 h) (stp : ∀ k h, I (k + 1) h → (∀ h', I k h' → E k h') → E (k + 1) h) : ∀ k h, I k h → E k h := by
  intro k
  induction k with
  | zero => exact fin
  | succ k ih => intro h i; exact stp k h i ih
