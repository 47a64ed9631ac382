/-! the component: how its heap holds the data -/
def tA (t : Nat) : Nat := 200 + 4 * t
def mA (m : Nat) : Nat := 300 + 2 * m
def oD (o : Nat) : Nat := 400 + 3 * o
def trf (v : Int) : Nat := if v = -1 then 0 else tA v.toNat
def mrf (v : Int) : Nat := if v = -1 then 0 else mA v.toNat
def okd (k : Int) : Nat := if k = 0 then 5 else if k = 1 ∨ k = 4 then 6 else if k = 2 then 7 else if k = 3 then 8 else if k = 5 then 9 else if k = 6 then 10 else 11
def CS (h : Hp) (p : Pg) : Prop :=
  (GS h) ∧
  (xI h 20 1 = nT p) ∧
  (xI h 20 3 = nM p) ∧
  (xI h 20 4 = nO p) ∧
  (∀ i : Nat, 1 ≤ i → i ≤ 3 → xK h i = 30) ∧
  (∀ i : Nat, 4 ≤ i → i ≤ 8 → xK h i = 31) ∧
  (∀ t : Nat, (t : Int) < nT p → xR h 21 t = tA t) ∧
  (∀ t : Nat, (t : Int) < nT p → xK h (tA t) = 3) ∧
  (∀ t : Nat, (t : Int) < nT p → xI h (tA t) 0 = (t : Int)) ∧
  (∀ t : Nat, (t : Int) < nT p → ((xR h (tA t) 1 : Nat) : Int) = 1 + kd p t) ∧
  (∀ t : Nat, (t : Int) < nT p → xR h (tA t) 2 = trf (up p t)) ∧
  (∀ t : Nat, (t : Int) < nT p → xR h (tA t) 3 = tA t + 1) ∧
  (∀ t : Nat, (t : Int) < nT p → xK h (tA t + 1) = 22) ∧
  (∀ t : Nat, (t : Int) < nT p → xN h (tA t + 1) = 3) ∧
  (∀ t : Nat, (t : Int) < nT p → xI h (tA t) 4 = fm p t) ∧
  (∀ t i : Nat, (t : Int) < nT p → (i : Int) < fm p t → xR h (tA t + 1) i = tA (fo p (3 * t + i)).toNat) ∧
  (∀ t : Nat, (t : Int) < nT p → xR h (tA t) 5 = tA t + 2) ∧
  (∀ t : Nat, (t : Int) < nT p → xK h (tA t + 2) = 21) ∧
  (∀ t : Nat, (t : Int) < nT p → xN h (tA t + 2) = 16) ∧
  (∀ t u : Nat, (t : Int) < nT p → u < 16 → xI h (tA t + 2) u = bI (U p t u)) ∧
  (∀ t : Nat, (t : Int) < nT p → xR h (tA t) 6 = tA t + 3) ∧
  (∀ t : Nat, (t : Int) < nT p → xK h (tA t + 3) = 23) ∧
  (∀ t : Nat, (t : Int) < nT p → xN h (tA t + 3) = 10) ∧
  (∀ t x : Nat, (t : Int) < nT p → x < 10 → xR h (tA t + 3) x = mrf (own p t x)) ∧
  (∀ t : Nat, (t : Int) < nT p → xR h (tA t) 7 = mrf (own p t (-1))) ∧
  (∀ m : Nat, (m : Int) < nM p → xR h 22 m = mA m) ∧
  (∀ m : Nat, (m : Int) < nM p → xK h (mA m) = 4) ∧
  (∀ m : Nat, (m : Int) < nM p → xI h (mA m) 0 = (m : Int)) ∧
  (∀ m : Nat, (m : Int) < nM p → xR h (mA m) 1 = tA (ty p m).toNat) ∧
  (∀ m : Nat, (m : Int) < nM p → xI h (mA m) 2 = nm p m) ∧
  (∀ m : Nat, (m : Int) < nM p → ((xR h (mA m) 3 : Nat) : Int) = 4 + so p m) ∧
  (∀ m : Nat, (m : Int) < nM p → xR h (mA m) 4 = mA m + 1) ∧
  (∀ m : Nat, (m : Int) < nM p → xK h (mA m + 1) = 24) ∧
  (∀ m : Nat, (m : Int) < nM p → xN h (mA m + 1) = 24) ∧
  (∀ m : Nat, (m : Int) < nM p → xI h (mA m) 5 = om p m) ∧
  (∀ m : Nat, (m : Int) < nM p → xI h (mA m) 6 = rt p m) ∧
  (∀ m i : Nat, (m : Int) < nM p → (i : Int) < om p m → xR h (mA m + 1) i = oD (oa p (24 * m + i)).toNat) ∧
  (∀ o : Nat, (o : Int) < nO p → xK h (oD o) = okd (ok p o)) ∧
  (∀ o : Nat, (o : Int) < nO p → xR h (oD o) 2 = oD o + 1) ∧
  (∀ o : Nat, (o : Int) < nO p → xK h (oD o + 1) = 21) ∧
  (∀ o : Nat, (o : Int) < nO p → xN h (oD o + 1) = 48) ∧
  (∀ o : Nat, (o : Int) < nO p → xR h (oD o) 3 = oD o + 2) ∧
  (∀ o : Nat, (o : Int) < nO p → xK h (oD o + 2) = 20) ∧
  (∀ o : Nat, (o : Int) < nO p → xN h (oD o + 2) = 4) ∧
  (∀ o : Nat, (o : Int) < nO p → ok p o ≤ 4 → xR h (oD o) 4 = tA (oA p o).toNat) ∧
  (∀ o : Nat, (o : Int) < nO p → 1 ≤ ok p o → ok p o ≤ 4 → xI h (oD o) 5 = oB p o) ∧
  (∀ o : Nat, (o : Int) < nO p → (ok p o = 5 ∨ ok p o = 6) → xI h (oD o) 4 = oA p o) ∧
  (∀ o : Nat, (o : Int) < nO p → ok p o = 5 → xR h (oD o) 5 = mA (oB p o).toNat) ∧
  (∀ o : Nat, (o : Int) < nO p → ok p o = 7 → xI h (oD o) 4 = oB p o)
theorem CS.sh {h : Hp} {p : Pg} (q : CS h p) : GS h := q.1
theorem CS.ct {h : Hp} {p : Pg} (q : CS h p) : xI h 20 1 = nT p := q.2.1
theorem CS.cm {h : Hp} {p : Pg} (q : CS h p) : xI h 20 3 = nM p := q.2.2.1
theorem CS.co {h : Hp} {p : Pg} (q : CS h p) : xI h 20 4 = nO p := q.2.2.2.1
theorem CS.kc {h : Hp} {p : Pg} (q : CS h p) : ∀ i : Nat, 1 ≤ i → i ≤ 3 → xK h i = 30 := q.2.2.2.2.1
theorem CS.sc {h : Hp} {p : Pg} (q : CS h p) : ∀ i : Nat, 4 ≤ i → i ≤ 8 → xK h i = 31 := q.2.2.2.2.2.1
theorem CS.trr {h : Hp} {p : Pg} (q : CS h p) : ∀ t : Nat, (t : Int) < nT p → xR h 21 t = tA t := q.2.2.2.2.2.2.1
theorem CS.tk {h : Hp} {p : Pg} (q : CS h p) : ∀ t : Nat, (t : Int) < nT p → xK h (tA t) = 3 := q.2.2.2.2.2.2.2.1
theorem CS.tn {h : Hp} {p : Pg} (q : CS h p) : ∀ t : Nat, (t : Int) < nT p → xI h (tA t) 0 = (t : Int) := q.2.2.2.2.2.2.2.2.1
theorem CS.tkd {h : Hp} {p : Pg} (q : CS h p) : ∀ t : Nat, (t : Int) < nT p → ((xR h (tA t) 1 : Nat) : Int) = 1 + kd p t := q.2.2.2.2.2.2.2.2.2.1
theorem CS.tup {h : Hp} {p : Pg} (q : CS h p) : ∀ t : Nat, (t : Int) < nT p → xR h (tA t) 2 = trf (up p t) := q.2.2.2.2.2.2.2.2.2.2.1
theorem CS.tf {h : Hp} {p : Pg} (q : CS h p) : ∀ t : Nat, (t : Int) < nT p → xR h (tA t) 3 = tA t + 1 := q.2.2.2.2.2.2.2.2.2.2.2.1
theorem CS.tfk {h : Hp} {p : Pg} (q : CS h p) : ∀ t : Nat, (t : Int) < nT p → xK h (tA t + 1) = 22 := q.2.2.2.2.2.2.2.2.2.2.2.2.1
theorem CS.tfn {h : Hp} {p : Pg} (q : CS h p) : ∀ t : Nat, (t : Int) < nT p → xN h (tA t + 1) = 3 := q.2.2.2.2.2.2.2.2.2.2.2.2.2.1
theorem CS.tfm {h : Hp} {p : Pg} (q : CS h p) : ∀ t : Nat, (t : Int) < nT p → xI h (tA t) 4 = fm p t := q.2.2.2.2.2.2.2.2.2.2.2.2.2.2.1
theorem CS.tfo {h : Hp} {p : Pg} (q : CS h p) : ∀ t i : Nat, (t : Int) < nT p → (i : Int) < fm p t → xR h (tA t + 1) i = tA (fo p (3 * t + i)).toNat := q.2.2.2.2.2.2.2.2.2.2.2.2.2.2.2.1
theorem CS.tu {h : Hp} {p : Pg} (q : CS h p) : ∀ t : Nat, (t : Int) < nT p → xR h (tA t) 5 = tA t + 2 := q.2.2.2.2.2.2.2.2.2.2.2.2.2.2.2.2.1
theorem CS.tuk {h : Hp} {p : Pg} (q : CS h p) : ∀ t : Nat, (t : Int) < nT p → xK h (tA t + 2) = 21 := q.2.2.2.2.2.2.2.2.2.2.2.2.2.2.2.2.2.1
theorem CS.tun {h : Hp} {p : Pg} (q : CS h p) : ∀ t : Nat, (t : Int) < nT p → xN h (tA t + 2) = 16 := q.2.2.2.2.2.2.2.2.2.2.2.2.2.2.2.2.2.2.1
theorem CS.tuu {h : Hp} {p : Pg} (q : CS h p) : ∀ t u : Nat, (t : Int) < nT p → u < 16 → xI h (tA t + 2) u = bI (U p t u) := q.2.2.2.2.2.2.2.2.2.2.2.2.2.2.2.2.2.2.2.1
theorem CS.tm {h : Hp} {p : Pg} (q : CS h p) : ∀ t : Nat, (t : Int) < nT p → xR h (tA t) 6 = tA t + 3 := q.2.2.2.2.2.2.2.2.2.2.2.2.2.2.2.2.2.2.2.2.1
theorem CS.tmk {h : Hp} {p : Pg} (q : CS h p) : ∀ t : Nat, (t : Int) < nT p → xK h (tA t + 3) = 23 := q.2.2.2.2.2.2.2.2.2.2.2.2.2.2.2.2.2.2.2.2.2.1
theorem CS.tmn {h : Hp} {p : Pg} (q : CS h p) : ∀ t : Nat, (t : Int) < nT p → xN h (tA t + 3) = 10 := q.2.2.2.2.2.2.2.2.2.2.2.2.2.2.2.2.2.2.2.2.2.2.1
theorem CS.tmm {h : Hp} {p : Pg} (q : CS h p) : ∀ t x : Nat, (t : Int) < nT p → x < 10 → xR h (tA t + 3) x = mrf (own p t x) := q.2.2.2.2.2.2.2.2.2.2.2.2.2.2.2.2.2.2.2.2.2.2.2.1
theorem CS.ts {h : Hp} {p : Pg} (q : CS h p) : ∀ t : Nat, (t : Int) < nT p → xR h (tA t) 7 = mrf (own p t (-1)) := q.2.2.2.2.2.2.2.2.2.2.2.2.2.2.2.2.2.2.2.2.2.2.2.2.1
theorem CS.mr {h : Hp} {p : Pg} (q : CS h p) : ∀ m : Nat, (m : Int) < nM p → xR h 22 m = mA m := q.2.2.2.2.2.2.2.2.2.2.2.2.2.2.2.2.2.2.2.2.2.2.2.2.2.1
theorem CS.mkk {h : Hp} {p : Pg} (q : CS h p) : ∀ m : Nat, (m : Int) < nM p → xK h (mA m) = 4 := q.2.2.2.2.2.2.2.2.2.2.2.2.2.2.2.2.2.2.2.2.2.2.2.2.2.2.1
theorem CS.mn {h : Hp} {p : Pg} (q : CS h p) : ∀ m : Nat, (m : Int) < nM p → xI h (mA m) 0 = (m : Int) := q.2.2.2.2.2.2.2.2.2.2.2.2.2.2.2.2.2.2.2.2.2.2.2.2.2.2.2.1
theorem CS.mt {h : Hp} {p : Pg} (q : CS h p) : ∀ m : Nat, (m : Int) < nM p → xR h (mA m) 1 = tA (ty p m).toNat := q.2.2.2.2.2.2.2.2.2.2.2.2.2.2.2.2.2.2.2.2.2.2.2.2.2.2.2.2.1
theorem CS.mm {h : Hp} {p : Pg} (q : CS h p) : ∀ m : Nat, (m : Int) < nM p → xI h (mA m) 2 = nm p m := q.2.2.2.2.2.2.2.2.2.2.2.2.2.2.2.2.2.2.2.2.2.2.2.2.2.2.2.2.2.1
theorem CS.ms {h : Hp} {p : Pg} (q : CS h p) : ∀ m : Nat, (m : Int) < nM p → ((xR h (mA m) 3 : Nat) : Int) = 4 + so p m := q.2.2.2.2.2.2.2.2.2.2.2.2.2.2.2.2.2.2.2.2.2.2.2.2.2.2.2.2.2.2.1
theorem CS.mo {h : Hp} {p : Pg} (q : CS h p) : ∀ m : Nat, (m : Int) < nM p → xR h (mA m) 4 = mA m + 1 := q.2.2.2.2.2.2.2.2.2.2.2.2.2.2.2.2.2.2.2.2.2.2.2.2.2.2.2.2.2.2.2.1
theorem CS.mok {h : Hp} {p : Pg} (q : CS h p) : ∀ m : Nat, (m : Int) < nM p → xK h (mA m + 1) = 24 := q.2.2.2.2.2.2.2.2.2.2.2.2.2.2.2.2.2.2.2.2.2.2.2.2.2.2.2.2.2.2.2.2.1
theorem CS.mon {h : Hp} {p : Pg} (q : CS h p) : ∀ m : Nat, (m : Int) < nM p → xN h (mA m + 1) = 24 := q.2.2.2.2.2.2.2.2.2.2.2.2.2.2.2.2.2.2.2.2.2.2.2.2.2.2.2.2.2.2.2.2.2.1
theorem CS.mc {h : Hp} {p : Pg} (q : CS h p) : ∀ m : Nat, (m : Int) < nM p → xI h (mA m) 5 = om p m := q.2.2.2.2.2.2.2.2.2.2.2.2.2.2.2.2.2.2.2.2.2.2.2.2.2.2.2.2.2.2.2.2.2.2.1
theorem CS.mrt {h : Hp} {p : Pg} (q : CS h p) : ∀ m : Nat, (m : Int) < nM p → xI h (mA m) 6 = rt p m := q.2.2.2.2.2.2.2.2.2.2.2.2.2.2.2.2.2.2.2.2.2.2.2.2.2.2.2.2.2.2.2.2.2.2.2.1
theorem CS.mop {h : Hp} {p : Pg} (q : CS h p) : ∀ m i : Nat, (m : Int) < nM p → (i : Int) < om p m → xR h (mA m + 1) i = oD (oa p (24 * m + i)).toNat := q.2.2.2.2.2.2.2.2.2.2.2.2.2.2.2.2.2.2.2.2.2.2.2.2.2.2.2.2.2.2.2.2.2.2.2.2.1
theorem CS.okk {h : Hp} {p : Pg} (q : CS h p) : ∀ o : Nat, (o : Int) < nO p → xK h (oD o) = okd (ok p o) := q.2.2.2.2.2.2.2.2.2.2.2.2.2.2.2.2.2.2.2.2.2.2.2.2.2.2.2.2.2.2.2.2.2.2.2.2.2.1
theorem CS.oc {h : Hp} {p : Pg} (q : CS h p) : ∀ o : Nat, (o : Int) < nO p → xR h (oD o) 2 = oD o + 1 := q.2.2.2.2.2.2.2.2.2.2.2.2.2.2.2.2.2.2.2.2.2.2.2.2.2.2.2.2.2.2.2.2.2.2.2.2.2.2.1
theorem CS.ock {h : Hp} {p : Pg} (q : CS h p) : ∀ o : Nat, (o : Int) < nO p → xK h (oD o + 1) = 21 := q.2.2.2.2.2.2.2.2.2.2.2.2.2.2.2.2.2.2.2.2.2.2.2.2.2.2.2.2.2.2.2.2.2.2.2.2.2.2.2.1
theorem CS.ocn {h : Hp} {p : Pg} (q : CS h p) : ∀ o : Nat, (o : Int) < nO p → xN h (oD o + 1) = 48 := q.2.2.2.2.2.2.2.2.2.2.2.2.2.2.2.2.2.2.2.2.2.2.2.2.2.2.2.2.2.2.2.2.2.2.2.2.2.2.2.2.1
theorem CS.of {h : Hp} {p : Pg} (q : CS h p) : ∀ o : Nat, (o : Int) < nO p → xR h (oD o) 3 = oD o + 2 := q.2.2.2.2.2.2.2.2.2.2.2.2.2.2.2.2.2.2.2.2.2.2.2.2.2.2.2.2.2.2.2.2.2.2.2.2.2.2.2.2.2.1
theorem CS.ofk {h : Hp} {p : Pg} (q : CS h p) : ∀ o : Nat, (o : Int) < nO p → xK h (oD o + 2) = 20 := q.2.2.2.2.2.2.2.2.2.2.2.2.2.2.2.2.2.2.2.2.2.2.2.2.2.2.2.2.2.2.2.2.2.2.2.2.2.2.2.2.2.2.1
theorem CS.ofn {h : Hp} {p : Pg} (q : CS h p) : ∀ o : Nat, (o : Int) < nO p → xN h (oD o + 2) = 4 := q.2.2.2.2.2.2.2.2.2.2.2.2.2.2.2.2.2.2.2.2.2.2.2.2.2.2.2.2.2.2.2.2.2.2.2.2.2.2.2.2.2.2.2.1
theorem CS.oar {h : Hp} {p : Pg} (q : CS h p) : ∀ o : Nat, (o : Int) < nO p → ok p o ≤ 4 → xR h (oD o) 4 = tA (oA p o).toNat := q.2.2.2.2.2.2.2.2.2.2.2.2.2.2.2.2.2.2.2.2.2.2.2.2.2.2.2.2.2.2.2.2.2.2.2.2.2.2.2.2.2.2.2.2.1
theorem CS.obr {h : Hp} {p : Pg} (q : CS h p) : ∀ o : Nat, (o : Int) < nO p → 1 ≤ ok p o → ok p o ≤ 4 → xI h (oD o) 5 = oB p o := q.2.2.2.2.2.2.2.2.2.2.2.2.2.2.2.2.2.2.2.2.2.2.2.2.2.2.2.2.2.2.2.2.2.2.2.2.2.2.2.2.2.2.2.2.2.1
theorem CS.og {h : Hp} {p : Pg} (q : CS h p) : ∀ o : Nat, (o : Int) < nO p → (ok p o = 5 ∨ ok p o = 6) → xI h (oD o) 4 = oA p o := q.2.2.2.2.2.2.2.2.2.2.2.2.2.2.2.2.2.2.2.2.2.2.2.2.2.2.2.2.2.2.2.2.2.2.2.2.2.2.2.2.2.2.2.2.2.2.1
theorem CS.omr {h : Hp} {p : Pg} (q : CS h p) : ∀ o : Nat, (o : Int) < nO p → ok p o = 5 → xR h (oD o) 5 = mA (oB p o).toNat := q.2.2.2.2.2.2.2.2.2.2.2.2.2.2.2.2.2.2.2.2.2.2.2.2.2.2.2.2.2.2.2.2.2.2.2.2.2.2.2.2.2.2.2.2.2.2.2.1
theorem CS.oy {h : Hp} {p : Pg} (q : CS h p) : ∀ o : Nat, (o : Int) < nO p → ok p o = 7 → xI h (oD o) 4 = oB p o := q.2.2.2.2.2.2.2.2.2.2.2.2.2.2.2.2.2.2.2.2.2.2.2.2.2.2.2.2.2.2.2.2.2.2.2.2.2.2.2.2.2.2.2.2.2.2.2.2
/-- places of ints, of refs that CS looks at -/
def cst (a k : Nat) : Prop := (a = 20 ∧ (k = 1 ∨ k = 3 ∨ k = 4)) ∨ (200 ≤ a ∧ a < 264) ∨ (300 ≤ a ∧ a < 396 ∧ ¬ k = 7) ∨ (400 ≤ a ∧ (a - 400) % 3 = 0)
def csr (a k : Nat) : Prop := ¬ (a = 20 ∧ k = 6) ∧ ¬ a = 81 ∧ ¬ a = 83 ∧ ¬ (a = 80 ∧ k = 0)
/-- the same but at ints of A, refs of B -/
def fx (A B : Nat → Nat → Prop) (h h' : Hp) : Prop := h'.1 = h.1 ∧ (∀ a k, ¬ A a k → xI h' a k = xI h a k) ∧ (∀ a k, ¬ B a k → xR h' a k = xR h a k) ∧ ∀ a k, xL h' a k = xL h a k
theorem fx.rf {A B : Nat → Nat → Prop} {h : Hp} : fx A B h h := ⟨rfl, fun _ _ _ => rfl, fun _ _ _ => rfl, fun _ _ => rfl⟩
theorem fx.tr {A B : Nat → Nat → Prop} {h h1 h2 : Hp} (q : fx A B h h1) (r : fx A B h1 h2) : fx A B h h2 := ⟨r.1.trans q.1, fun a k z => (r.2.1 a k z).trans (q.2.1 a k z), fun a k z => (r.2.2.1 a k z).trans (q.2.2.1 a k z), fun a k => (r.2.2.2 a k).trans (q.2.2.2 a k)⟩
theorem fx.mono {A B A' B' : Nat → Nat → Prop} {h h1 : Hp} (q : fx A B h h1) (hA : ∀ a k, A a k → A' a k) (hB : ∀ a k, B a k → B' a k) : fx A' B' h h1 := ⟨q.1, fun a k z => q.2.1 a k (fun y => z (hA a k y)), fun a k z => q.2.2.1 a k (fun y => z (hB a k y)), q.2.2.2⟩
theorem fx.put {A B : Nat → Nat → Prop} {h h1 : Hp} {a k : Nat} {x : Int} (q : fx A B h h1) (hA : A a k) : fx A B h (sI h1 a k x) := ⟨q.1, fun b j z => by rw [xI_sI, if_neg (fun y => z (by rw [y.1, y.2]; exact hA))]; exact q.2.1 b j z, q.2.2.1, q.2.2.2⟩
theorem fx.putR {A B : Nat → Nat → Prop} {h h1 : Hp} {a k x : Nat} (q : fx A B h h1) (hB : B a k) : fx A B h (sR h1 a k x) := ⟨q.1, q.2.1, fun b j z => by rw [xR_sR, if_neg (fun y => z (by rw [y.1, y.2]; exact hB))]; exact q.2.2.1 b j z, q.2.2.2⟩
theorem fx.K {A B : Nat → Nat → Prop} {h h1 : Hp} (q : fx A B h h1) (a : Nat) : xK h1 a = xK h a := by unfold xK; rw [q.1]
theorem fx.N {A B : Nat → Nat → Prop} {h h1 : Hp} (q : fx A B h h1) (a : Nat) : xN h1 a = xN h a := by unfold xN; rw [q.1]
section CB
variable {l : Launch} {D : DD} {d kc ks : Nat} {h h0 : Hp} {Ψ : Option AV → Hp → Prop} {p g : Pg}
theorem GS_fx {A B : Nat → Nat → Prop} {h h' : Hp} (q : fx A B h h') (hB : ∀ a k, B a k → ¬ csr a k) (c : GS h) : GS h' := by
  have r : ∀ a k, csr a k → xR h' a k = xR h a k := fun a k z => q.2.2.1 a k (fun y => hB a k y z)
  unfold GS at c ⊢
  simp only [q.K, q.N]
  rw [r 20 0 (by unfold csr; omega), r 20 2 (by unfold csr; omega), r 20 9 (by unfold csr; omega), r 20 10 (by unfold csr; omega), r 20 11 (by unfold csr; omega), r 20 12 (by unfold csr; omega), r 20 13 (by unfold csr; omega), r 20 14 (by unfold csr; omega), r 80 2 (by unfold csr; omega), r 80 4 (by unfold csr; omega), r 80 5 (by unfold csr; omega), r 80 6 (by unfold csr; omega), r 80 7 (by unfold csr; omega)]
  have e25 : ∀ b, xR h' 25 b = xR h 25 b := fun b => r 25 b (by unfold csr; omega)
  have e30 : ∀ b, xR h' 30 b = xR h 30 b := fun b => r 30 b (by unfold csr; omega)
  simp only [e25, e30]
  exact c
theorem ct_isOpen {x : Nat} (k : Ψ (some (vi (bI (x = 4 ∨ x = 5)))) h) : Ev l D Y_Sort_isOpen d kc ks 0 [some (vr x)] [] h Ψ := by
  apply s_Sort_isOpen_0
  refine ⟨fun c => ?_, fun c => ⟨fun c2 => ?_, fun c2 => ?_⟩⟩
  · rw [bI_t (Or.inl c)] at k; exact k
  · rw [bI_f (by omega)] at k; exact k
  · rw [bI_t (Or.inr c2)] at k; exact k
theorem ct_isNamed {x : Nat} (k : Ψ (some (vi (bI (x = 4 ∨ x = 6 ∨ x = 7)))) h) : Ev l D Y_Sort_isNamed d kc ks 0 [some (vr x)] [] h Ψ := by
  apply s_Sort_isNamed_0
  refine ⟨fun c => ?_, fun c => ⟨fun c2 => ?_, fun c2 => ⟨fun c3 => ?_, fun c3 => ?_⟩⟩⟩
  · rw [bI_t (Or.inl c)] at k; exact k
  · rw [bI_t (Or.inr (Or.inl c2))] at k; exact k
  · rw [bI_f (by omega)] at k; exact k
  · rw [bI_t (Or.inr (Or.inr c3))] at k; exact k
theorem ct_isClass {t : Nat} (q : CS h p) (ht : (t : Int) < nT p) (k : Ψ (some (vi (bI (¬ kd p t = 2)))) h) : Ev l D Y_Type_isClass d kc ks 0 [some (vr (tA t))] [] h Ψ := by
  apply s_Type_isClass_0
  have e := q.tkd t ht
  refine ⟨q.tk t ht, fun c => ?_, fun c => ?_⟩
  · rw [bI_f (by omega)] at k; exact k
  · rw [bI_t (by omega)] at k; exact k
theorem ct_isUnder {t u : Nat} (q : CS h p) (hw : WF p) (ht : (t : Int) < nT p) (hu : (u : Int) < nT p) (k : Ψ (some (vi (bI (U p t u)))) h) : Ev l D Y_Type_isUnder d kc ks 0 [some (vr (tA t)), some (vr (tA u))] [] h Ψ := by
  have w1 := hw.1
  apply s_Type_isUnder_0
  rw [q.tu t ht, q.tn u hu, Int.toNat_natCast, q.tuu t u ht (by omega), q.tun t ht]
  exact ⟨q.tk t ht, q.tk u hu, q.tuk t ht, by omega, by omega, bI_01 _, k⟩
theorem ct_within {x a b : Int} (hM : GS h) (k : Ψ (some (vi (bI (a ≤ x ∧ x ≤ b)))) h) : Ev l D Y_G_within d kc ks 0 [some (vi x), some (vi a), some (vi b)] [] h Ψ := by
  apply g_G_within_0 hM
  refine ⟨fun c => ?_, fun c => ⟨fun c2 => ?_, fun c2 => ?_⟩⟩
  · rw [bI_f (by omega)] at k; exact k
  · rw [bI_f (by omega)] at k; exact k
  · rw [bI_t (by omega)] at k; exact k
theorem ct_G_isType {x : Int} (q : CS h p) (hw : WF p) (k : Ψ (some (vi (bI (0 ≤ x ∧ x < nT p)))) h) : Ev l D Y_G_isType (d + 1) kc ks 0 [some (vr 20), some (vi x)] [] h Ψ := by
  have w := hw.1
  apply g_G_isType_0 q.sh
  refine ct_within q.sh ⟨q.sh, bI_01 _, ?_⟩
  rw [q.ct, wr_eq (by omega) (by omega), bI_c (show (0 ≤ x ∧ x ≤ nT p - 1) ↔ (0 ≤ x ∧ x < nT p) by omega)]
  exact k
theorem ct_G_isMember {x : Int} (q : CS h p) (hw : WF p) (k : Ψ (some (vi (bI (0 ≤ x ∧ x < nM p)))) h) : Ev l D Y_G_isMember (d + 1) kc ks 0 [some (vr 20), some (vi x)] [] h Ψ := by
  have w := hw.2.1
  apply g_G_isMember_0 q.sh
  refine ct_within q.sh ⟨q.sh, bI_01 _, ?_⟩
  rw [q.cm, wr_eq (by omega) (by omega), bI_c (show (0 ≤ x ∧ x ≤ nM p - 1) ↔ (0 ≤ x ∧ x < nM p) by omega)]
  exact k
end CB
