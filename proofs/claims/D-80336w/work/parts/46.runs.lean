/-! runs: a machine with a row of things to be done -/
noncomputable def dnx : Int64 → Int64 := Classical.choose (⟨fun x => (x * (6364136223846793005 : Int64)) + (1442695040888963407 : Int64), rfl⟩ : ∃ f : Int64 → Int64, f = fun x => (x * (6364136223846793005 : Int64)) + (1442695040888963407 : Int64))
theorem dnx_eq (x : Int64) : dnx x = (x * (6364136223846793005 : Int64)) + (1442695040888963407 : Int64) := congrFun (Classical.choose_spec (⟨fun x => (x * (6364136223846793005 : Int64)) + (1442695040888963407 : Int64), rfl⟩ : ∃ f : Int64 → Int64, f = fun x => (x * (6364136223846793005 : Int64)) + (1442695040888963407 : Int64))) x
def dwx (x : Int64) (n : Int) : Int := ((((x).toUInt64 >>> ((Int32.ofInt (33)).toInt64.toUInt64 &&& Int64.toUInt64 63)).toInt64) - (((x).toUInt64 >>> ((Int32.ofInt (33)).toInt64.toUInt64 &&& Int64.toUInt64 63)).toInt64) / ((Int32.ofInt n).toInt64) * ((Int32.ofInt n).toInt64)).toInt32.toInt
noncomputable def dw : Int64 → Int → Int := Classical.choose (⟨dwx, rfl⟩ : ∃ f : Int64 → Int → Int, f = dwx)
theorem dw_eq (x : Int64) (n : Int) : dw x n = dwx x n := congrFun (congrFun (Classical.choose_spec (⟨dwx, rfl⟩ : ∃ f : Int64 → Int → Int, f = dwx)) x) n
theorem dw_n {n : Int} (h1 : 1 ≤ n) (h2 : n ≤ 1000) : ((Int32.ofInt n).toInt64).toInt = n := by
  rw [Int32.toInt_toInt64, Int32.toInt_ofInt]
  exact Int.bmod_eq_of_le (by show -(((4294967296 : Nat) : Int) / 2) ≤ n; omega) (by show n < (((4294967296 : Nat) : Int) + 1) / 2; omega)
theorem dw_nz {n : Int} (h1 : 1 ≤ n) (h2 : n ≤ 1000) : ¬ (Int32.ofInt n).toInt64 = 0 := by
  intro e
  have := dw_n h1 h2
  rw [e] at this
  have z : (0 : Int64).toInt = 0 := by decide
  omega
theorem dw_bd {x : Int64} {n : Int} (h1 : 1 ≤ n) (h2 : n ≤ 1000) : 0 ≤ dw x n ∧ dw x n < n := by
  have hs : (Int32.ofInt (33)).toInt64.toUInt64 &&& Int64.toUInt64 63 = 33 := by decide
  have hv : ∃ v : Int, 0 ≤ v ∧ v < 2147483648 ∧ ((x.toUInt64 >>> 33).toInt64).toInt = v := by
    refine ⟨((x.toUInt64 >>> 33).toNat : Int), by omega, ?_, ?_⟩
    · rw [UInt64.toNat_shiftRight]
      have := x.toUInt64.toNat_lt
      have h : x.toUInt64.toNat >>> ((33 : UInt64).toNat % 64) = x.toUInt64.toNat / 2 ^ 33 := Nat.shiftRight_eq_div_pow _ _
      omega
    · have h : (x.toUInt64 >>> 33).toNat < 2147483648 := by
        rw [UInt64.toNat_shiftRight]
        have := x.toUInt64.toNat_lt
        have h : x.toUInt64.toNat >>> ((33 : UInt64).toNat % 64) = x.toUInt64.toNat / 2 ^ 33 := Nat.shiftRight_eq_div_pow _ _
        omega
      show ((x.toUInt64 >>> 33).toBitVec).toInt = _
      rw [BitVec.toInt_eq_toNat_of_lt]
      · rfl
      · show 2 * (x.toUInt64 >>> 33).toNat < 2 ^ 64
        omega
  obtain ⟨v, v1, v2, v3⟩ := hv
  have hn := dw_n h1 h2
  rw [dw_eq]
  unfold dwx
  rw [hs, Int64.toInt_toInt32, Int64.toInt_sub, Int64.toInt_mul, Int64.toInt_div, v3, hn]
  have hq : v.tdiv n = v / n := Int.tdiv_eq_ediv_of_nonneg v1
  have q0 : 0 ≤ v / n := Int.ediv_nonneg v1 (by omega)
  have q1 : v / n ≤ v := Int.ediv_le_self _ v1
  have q2 : v / n * n ≤ v := Int.ediv_mul_le _ (by omega)
  have q3 : v % n = v - v / n * n := by have := Int.emod_add_mul_ediv v n; rw [Int.mul_comm] at this; omega
  have q4 : 0 ≤ v % n := Int.emod_nonneg _ (by omega)
  have q5 : v % n < n := Int.emod_lt_of_pos _ (by omega)
  have q6 : 0 ≤ v / n * n := Int.mul_nonneg q0 (by omega)
  rw [hq, Int.bmod_eq_of_le (n := v / n) (by omega) (by omega), Int.bmod_eq_of_le (n := v / n * n) (by omega) (by omega), Int.bmod_eq_of_le (n := v - v / n * n) (by omega) (by omega), Int.bmod_eq_of_le (n := v - v / n * n) (by omega) (by omega)]
  omega
noncomputable def cA {α : Type} (c : Prop) (a b : α) : α := @ite α c (Classical.propDecidable c) a b
theorem cA_t {α : Type} {c : Prop} {a b : α} (h : c) : cA c a b = a := if_pos h
theorem cA_f {α : Type} {c : Prop} {a b : α} (h : ¬ c) : cA c a b = b := if_neg h
/-- kind (0 a member with its next op, 1 a member to be run, 2 a type to be begun, 3 an object to come), what, next op, by which op -/
abbrev Tk : Type := Nat × Nat × Nat × Int
abbrev Rst : Type := Pg × Int64
def rs (s : Rst) (a k : Nat) (x : Int) : Rst := (gs s.1 a k x, s.2)
noncomputable def rx (s : Rst) : Rst := (s.1, dnx s.2)
noncomputable def one (t : Int) (o : Nat) : List Tk := cA (0 ≤ t) [(1, t.toNat, 0, (o : Int))] []
def cpl (p : Pg) (s : Rst) (a i : Nat) : Prop := U p (s.1 147 i).toNat a
noncomputable def oCall (p : Pg) (o : Nat) (s : Rst) : List Tk × Rst :=
  cA (cnt (cpl p s (oA p o).toNat) (s.1 100 47).toNat 0 = 0) ([], s)
    (one (chf p (s.1 147 (nth (cpl p s (oA p o).toNat) (dw (rx s).2 (cnt (cpl p s (oA p o).toNat) (s.1 100 47).toNat 0)) (s.1 100 47).toNat 0 0).toNat).toNat (oA p o).toNat (oB p o)) o, rx s)
def tel (p : Pg) (b : Int) (m : Nat) : Prop := nm p m = b ∧ (so p m = 0 ∨ so p m = 2 ∨ so p m = 3)
noncomputable def oAny (p : Pg) (o : Nat) (s : Rst) : List Tk × Rst :=
  cA (cnt (tel p (oB p o)) (nM p).toNat 0 = 0) ([], s) (one (nth (tel p (oB p o)) (dw (rx s).2 (cnt (tel p (oB p o)) (nM p).toNat 0)) (nM p).toNat 0 0) o, rx s)
def hasB (s : Rst) (a : Nat) (b : Int) : Prop := ∃ i : Nat, (i : Int) < s.1 150 a ∧ s.1 149 (48 * a + i) = b
noncomputable def oPut (s : Rst) (a : Nat) (b : Int) : Rst := cA (hasB s a b) s (rs (rs s 149 (48 * a + (s.1 150 a).toNat) b) 150 a (s.1 150 a + 1))
noncomputable def oOut (o a : Nat) (s : Rst) : List Tk × Rst := cA (s.1 150 a ≤ 0) ([], s) (one (s.1 149 (48 * a + (dw (rx s).2 (s.1 150 a)).toNat)) o, rx s)
noncomputable def opr (p : Pg) (o : Nat) (s : Rst) : List Tk × Rst :=
  cA (ok p o = 0) ([(2, (oA p o).toNat, 0, (o : Int)), (3, (oA p o).toNat, 0, (o : Int))], s)
  (cA (ok p o = 1 ∨ ok p o = 4) (oCall p o s)
  (cA (ok p o = 2) (one (chf p (oA p o).toNat (oA p o).toNat (oB p o)) o, s)
  (cA (ok p o = 3) (cA (¬ fnd p (oA p o).toNat (oB p o) = -1 ∧ so p (fnd p (oA p o).toNat (oB p o)).toNat = 2) ([(2, (ty p (fnd p (oA p o).toNat (oB p o)).toNat).toNat, 0, (o : Int)), (1, (fnd p (oA p o).toNat (oB p o)).toNat, 0, (o : Int))], s) ([], s))
  (cA (ok p o = 5) ([], oPut s (oA p o).toNat (oB p o))
  (cA (ok p o = 6) (oOut o (oA p o).toNat s) (oAny p o s))))))
noncomputable def bgf (p : Pg) (t : Nat) (y : Int) : Nat → Nat → List Tk
  | 0, _ => []
  | n + 1, k => cA (U p t k ∧ kd p k = 2 ∧ hpl p k) [(2, k, 0, y)] [] ++ bgf p t y n (k + 1)
noncomputable def bg0 (p : Pg) (t : Nat) (y : Int) : List Tk := cA (own p t (-1) = -1) [] [(1, (own p t (-1)).toNat, 0, y)]
noncomputable def bgs (p : Pg) (t : Nat) (y : Int) : List Tk := cA (kd p t = 2) (bg0 p t y) (cA (up p t = -1) [] [(2, (up p t).toNat, 0, y)] ++ (bgf p t y (nT p).toNat 0 ++ bg0 p t y))
noncomputable def fr1 (p : Pg) (m i : Nat) (s : Rst) : List Tk × Rst := cA (dw (rx s).2 4 = 0) ([], rx s) (opr p (oa p (24 * m + i)).toNat (rx s))
noncomputable def act (p : Pg) (T : Tk) (s : Rst) : List Tk × Rst :=
  cA (T.1 = 0) (cA ((T.2.2.1 : Int) = om p T.2.1) ([], rs s 100 40 (s.1 100 40 - 1)) ((fr1 p T.2.1 T.2.2.1 s).1 ++ [(0, T.2.1, T.2.2.1 + 1, -1)], (fr1 p T.2.1 T.2.2.1 s).2))
  (cA (T.1 = 1) (cA (s.1 100 40 = 12 ∨ s.1 100 39 = 300) ([], rs (rs s 100 43 (bI (¬ s.1 100 43 = 0 ∧ ¬ gF p 119 T.2.1 = 0 ∧ (T.2.2.2 = -1 ∨ ¬ gF p 123 (48 * T.2.2.2.toNat + T.2.1) = 0)))) 100 41 (wr (s.1 100 41 + 1)))
    ([(0, T.2.1, 0, -1)], rs (rs (rs (rs (rs s 100 43 (bI (¬ s.1 100 43 = 0 ∧ ¬ gF p 119 T.2.1 = 0 ∧ (T.2.2.2 = -1 ∨ ¬ gF p 123 (48 * T.2.2.2.toNat + T.2.1) = 0)))) 100 39 (s.1 100 39 + 1)) 100 40 (s.1 100 40 + 1)) 145 T.2.1 1) 100 42 T.2.1))
  (cA (T.1 = 2) (cA (¬ s.1 146 T.2.1 = 0) ([], s) (bgs p T.2.1 T.2.2.2, rs (rs s 146 T.2.1 1) 100 43 (bI (¬ s.1 100 43 = 0 ∧ ¬ gF p 121 T.2.1 = 0))))
    (cA (20 ≤ s.1 100 47) ([], rs s 100 43 (bI (¬ s.1 100 43 = 0 ∧ ¬ gF p 120 T.2.1 = 0))) ([], rs (rs (rs s 100 43 (bI (¬ s.1 100 43 = 0 ∧ ¬ gF p 120 T.2.1 = 0))) 147 (s.1 100 47).toNat T.2.1) 100 47 (s.1 100 47 + 1)))))
def Mc (p : Pg) : Nat → List Tk → Rst → Rst → Prop
  | 0, K, s, r => K = [] ∧ r = s
  | n + 1, K, s, r => ∃ T K', K = T :: K' ∧ Mc p n ((act p T s).1 ++ K') (act p T s).2 r
/-- what is right of a thing, and of a state -/
def tv (p : Pg) (T : Tk) : Prop := (T.1 = 0 ∧ (T.2.1 : Int) < nM p ∧ (T.2.2.1 : Int) ≤ om p T.2.1) ∨ (T.1 = 1 ∧ (T.2.1 : Int) < nM p ∧ -1 ≤ T.2.2.2 ∧ T.2.2.2 < nO p) ∨ (T.1 = 2 ∧ (T.2.1 : Int) < nT p ∧ 0 ≤ T.2.2.2 ∧ T.2.2.2 < nO p) ∨ (T.1 = 3 ∧ (T.2.1 : Int) < nT p)
def Rv (p : Pg) (s : Rst) : Prop := (0 ≤ s.1 100 39 ∧ s.1 100 39 ≤ 300) ∧ (0 ≤ s.1 100 40 ∧ s.1 100 40 ≤ 12) ∧ (s.1 100 43 = 0 ∨ s.1 100 43 = 1) ∧ (0 ≤ s.1 100 47 ∧ s.1 100 47 ≤ 20) ∧ (∀ i : Nat, (i : Int) < s.1 100 47 → 0 ≤ s.1 147 i ∧ s.1 147 i < nT p) ∧ (∀ a : Nat, a < 4 → 0 ≤ s.1 150 a ∧ cnt (fun m => hasB s a m) (nM p).toNat 0 = s.1 150 a ∧ ∀ i : Nat, (i : Int) < s.1 150 a → 0 ≤ s.1 149 (48 * a + i) ∧ s.1 149 (48 * a + i) < nM p)
/-- how many frames, how many others -/
def nfr : List Tk → Nat
  | [] => 0
  | T :: K => (if T.1 = 0 then 1 else 0) + nfr K
noncomputable def nbg (s : Rst) : Int := cnt (fun t => ¬ s.1 146 t = 0) 16 0
/-- the row stays short -/
def SI : Int → List Tk → Prop
  | _, [] => True
  | b, T :: K => ((T :: K).length : Int) ≤ 3 * nfr (T :: K) + 1 + 18 * b ∧ SI b K
theorem SI_mono {b b' : Int} (h : b ≤ b') : ∀ (K : List Tk), SI b K → SI b' K
  | [], _ => trivial
  | _ :: K, q => ⟨by have := q.1; omega, SI_mono h K q.2⟩
theorem nfr_app : ∀ (A B : List Tk), nfr (A ++ B) = nfr A + nfr B
  | [], B => by simp [nfr]
  | T :: A, B => by
    show (if T.1 = 0 then 1 else 0) + nfr (A ++ B) = _
    rw [nfr_app A B]
    show _ = (if T.1 = 0 then 1 else 0) + nfr A + nfr B
    omega
theorem SI_app {b : Int} : ∀ (A B : List Tk), SI b B → ((A.length + B.length : Nat) : Int) ≤ 3 * nfr B + 1 + 18 * b → SI b (A ++ B)
  | [], B, q, _ => q
  | T :: A, B, q, h => by
    refine ⟨?_, SI_app A B q (by simp only [List.length_cons] at h; omega)⟩
    show ((T :: (A ++ B)).length : Int) ≤ 3 * nfr (T :: (A ++ B)) + 1 + 18 * b
    have e : nfr (T :: (A ++ B)) = (if T.1 = 0 then 1 else 0) + (nfr A + nfr B) := by rw [← nfr_app]; rfl
    rw [e]
    simp only [List.length_cons, List.length_append] at h ⊢
    omega
theorem SI_len {b : Int} : ∀ (K : List Tk), SI b K → 0 ≤ b → (K.length : Int) ≤ 3 * nfr K + 1 + 18 * b
  | [], _, hb => by show ((0 : Nat) : Int) ≤ _; omega
  | _ :: _, q, _ => q.1
/-- the whole of what is kept -/
def Kv (p : Pg) (K : List Tk) (s : Rst) : Prop := Rv p s ∧ (∀ T, T ∈ K → tv p T) ∧ s.1 100 40 = nfr K ∧ SI (nbg s) K
theorem rs_at {s : Rst} {a k : Nat} {x : Int} (b j : Nat) : (rs s a k x).1 b j = if b = a ∧ j = k then x else s.1 b j := rfl
