/-! core: abstract heap and values, what they stand for, the judgement Ev (weakest precondition of the rest of a method) -/
abbrev AV : Type := Int ⊕ (Nat ⊕ Int64)
abbrev vi (x : Int) : AV := Sum.inl x
abbrev vr (a : Nat) : AV := Sum.inr (Sum.inl a)
abbrev vl (x : Int64) : AV := Sum.inr (Sum.inr x)
abbrev Hp : Type := (Nat → Nat × Nat) × (Nat → Nat → Int) × (Nat → Nat → Nat) × (Nat → Nat → Int64)
def xK (h : Hp) (a : Nat) : Nat := (h.1 a).1
def xN (h : Hp) (a : Nat) : Nat := (h.1 a).2
def xI (h : Hp) (a k : Nat) : Int := h.2.1 a k
def xR (h : Hp) (a k : Nat) : Nat := h.2.2.1 a k
def xL (h : Hp) (a k : Nat) : Int64 := h.2.2.2 a k
def sI (h : Hp) (a k : Nat) (x : Int) : Hp := (h.1, fun b j => if b = a ∧ j = k then x else h.2.1 b j, h.2.2)
def sR (h : Hp) (a k : Nat) (x : Nat) : Hp := (h.1, h.2.1, fun b j => if b = a ∧ j = k then x else h.2.2.1 b j, h.2.2.2)
def sL (h : Hp) (a k : Nat) (x : Int64) : Hp := (h.1, h.2.1, h.2.2.1, fun b j => if b = a ∧ j = k then x else h.2.2.2 b j)
def nw (h : Hp) (a kd n : Nat) : Hp := (fun b => if b = a then (kd, n) else h.1 b, fun b j => if b = a then 0 else h.2.1 b j, fun b j => if b = a then 0 else h.2.2.1 b j, fun b j => if b = a then 0 else h.2.2.2 b j)
theorem xI_sI (h : Hp) (a k : Nat) (x : Int) (b j : Nat) : xI (sI h a k x) b j = if b = a ∧ j = k then x else xI h b j := rfl
theorem xR_sI (h : Hp) (a k : Nat) (x : Int) (b j : Nat) : xR (sI h a k x) b j = xR h b j := rfl
theorem xL_sI (h : Hp) (a k : Nat) (x : Int) (b j : Nat) : xL (sI h a k x) b j = xL h b j := rfl
theorem xK_sI (h : Hp) (a k : Nat) (x : Int) (b : Nat) : xK (sI h a k x) b = xK h b := rfl
theorem xN_sI (h : Hp) (a k : Nat) (x : Int) (b : Nat) : xN (sI h a k x) b = xN h b := rfl
theorem xI_sR (h : Hp) (a k : Nat) (x : Nat) (b j : Nat) : xI (sR h a k x) b j = xI h b j := rfl
theorem xR_sR (h : Hp) (a k : Nat) (x : Nat) (b j : Nat) : xR (sR h a k x) b j = if b = a ∧ j = k then x else xR h b j := rfl
theorem xL_sR (h : Hp) (a k : Nat) (x : Nat) (b j : Nat) : xL (sR h a k x) b j = xL h b j := rfl
theorem xK_sR (h : Hp) (a k : Nat) (x : Nat) (b : Nat) : xK (sR h a k x) b = xK h b := rfl
theorem xN_sR (h : Hp) (a k : Nat) (x : Nat) (b : Nat) : xN (sR h a k x) b = xN h b := rfl
theorem xI_sL (h : Hp) (a k : Nat) (x : Int64) (b j : Nat) : xI (sL h a k x) b j = xI h b j := rfl
theorem xR_sL (h : Hp) (a k : Nat) (x : Int64) (b j : Nat) : xR (sL h a k x) b j = xR h b j := rfl
theorem xL_sL (h : Hp) (a k : Nat) (x : Int64) (b j : Nat) : xL (sL h a k x) b j = if b = a ∧ j = k then x else xL h b j := rfl
theorem xK_sL (h : Hp) (a k : Nat) (x : Int64) (b : Nat) : xK (sL h a k x) b = xK h b := rfl
theorem xN_sL (h : Hp) (a k : Nat) (x : Int64) (b : Nat) : xN (sL h a k x) b = xN h b := rfl
theorem xI_nw (h : Hp) (a kd n b j : Nat) : xI (nw h a kd n) b j = if b = a then 0 else xI h b j := rfl
theorem xR_nw (h : Hp) (a kd n b j : Nat) : xR (nw h a kd n) b j = if b = a then 0 else xR h b j := rfl
theorem xL_nw (h : Hp) (a kd n b j : Nat) : xL (nw h a kd n) b j = if b = a then 0 else xL h b j := rfl
theorem xK_nw (h : Hp) (a kd n b : Nat) : xK (nw h a kd n) b = if b = a then kd else xK h b := by
  unfold xK nw; by_cases e : b = a <;> simp [e]
theorem xN_nw (h : Hp) (a kd n b : Nat) : xN (nw h a kd n) b = if b = a then n else xN h b := by
  unfold xN nw; by_cases e : b = a <;> simp [e]
-- numbers
def inR (x : Int) : Prop := -2147483648 ≤ x ∧ x ≤ 2147483647
def wr (x : Int) : Int := (Int32.ofInt x).toInt
theorem inR_toInt (y : Int32) : inR y.toInt := by
  have h1 := Int32.le_toInt y
  have h2 := Int32.toInt_lt y
  exact ⟨by omega, by omega⟩
theorem wr_in (x : Int) : inR (wr x) := inR_toInt _
theorem ofInt_wr (x : Int) : Int32.ofInt (wr x) = Int32.ofInt x := Int32.ofInt_toInt _
theorem toI_of {x : Int} (h : inR x) : (Int32.ofInt x).toInt = x := Int32.toInt_ofInt_of_le (by have := h.1; omega) (by have := h.2; omega)
theorem wr_eq {x : Int} (h1 : -2147483648 ≤ x) (h2 : x ≤ 2147483647) : wr x = x := toI_of ⟨h1, h2⟩
theorem ofInt_le {x y : Int} (hx : inR x) (hy : inR y) : Int32.ofInt x ≤ Int32.ofInt y ↔ x ≤ y := by rw [Int32.le_iff_toInt_le, toI_of hx, toI_of hy]
theorem ofInt_lt {x y : Int} (hx : inR x) (hy : inR y) : Int32.ofInt x < Int32.ofInt y ↔ x < y := by rw [Int32.lt_iff_toInt_lt, toI_of hx, toI_of hy]
theorem ofInt_eq {x y : Int} (hx : inR x) (hy : inR y) : Int32.ofInt x = Int32.ofInt y ↔ x = y := by rw [← Int32.toInt_inj, toI_of hx, toI_of hy]
theorem ofInt_clamp {x : Int} (h : inR x) : (Int32.ofInt x).toNatClampNeg = x.toNat := by
  show (Int32.ofInt x).toInt.toNat = _
  rw [toI_of h]
theorem inR_0 : inR 0 := by constructor <;> omega
theorem ofInt_zero : Int32.ofInt 0 = 0 := by decide
-- values
def ro (ρ : Nat → Nat) (a : Nat) : Option Nat := if a = 0 then none else some (ρ a)
def cv (ρ : Nat → Nat) : AV → Value
  | .inl x => .int (Int32.ofInt x)
  | .inr (.inl a) => va_rf (ro ρ a)
  | .inr (.inr x) => .long x
def wfv (h : Hp) : AV → Prop
  | .inl x => inR x
  | .inr (.inl a) => a = 0 ∨ xK h a ≠ 0
  | .inr (.inr _) => True
def c1 : AV → Bool
  | .inr (.inr _) => false
  | _ => true
theorem cv_c1 {ρ : Nat → Nat} {v : AV} (h : c1 v = true) : (cv ρ v).category = 1 := by
  obtain x | a | x := v
  · rfl
  · show (va_rf (ro ρ a)).category = 1
    unfold ro; split <;> rfl
  · cases h
theorem ro_ne {ρ : Nat → Nat} {a : Nat} (h : a ≠ 0) : ro ρ a = some (ρ a) := if_neg h
theorem cv_ref {ρ : Nat → Nat} {a : Nat} (h : a ≠ 0) : cv ρ (vr a) = .ref (ρ a) := by
  show va_rf (ro ρ a) = _; rw [ro_ne h]; rfl
def sv (ρ : Nat → Nat) (h : Hp) (a k : Nat) : FieldType → Value
  | .long => .long (xL h a k)
  | .object _ => va_rf (ro ρ (xR h a k))
  | .array _ => va_rf (ro ρ (xR h a k))
  | _ => .int (Int32.ofInt (xI h a k))
abbrev DD : Type := (Nat → ClassId) × (Nat → Nat → Nat) × (Nat → ClassId)
def rA (kd : Nat) : Bool := kd == 22 || kd == 23 || kd == 24 || kd == 26 || kd == 27
/-- what the tables say, by class -/
def Kn (D : DD) (U : State) : Prop :=
  (∀ kd, 1 ≤ kd → kd ≤ 12 → u_Kn U (cn kd) (cF kd) (cNf kd) (D.1 kd) (D.2.1 kd)) ∧ (∀ kd, kd = 30 ∨ kd = 31 → U.vm.findClass (cn kd) = some (D.1 kd)) ∧ ∀ kd, rA kd = true → va_RA U (D.2.2 kd) (.object (cn kd))
theorem Kn.moved {D : DD} {u U : State} (hvm : u.vm.Alike U.vm) (h : Kn D u) : Kn D U :=
  ⟨fun kd h1 h2 => u_Kn_moved hvm (h.1 kd h1 h2), fun kd hk => by rw [hvm.findClass]; exact h.2.1 kd hk, fun kd hk => (h.2.2 kd hk).moved hvm⟩
/-- the cell of an abstract address -/
def cAt (D : DD) (ρ : Nat → Nat) (h : Hp) (U : State) (H : Heap) (a : Nat) : Prop :=
  ∃ cell : Cell, H[ρ a]? = some cell ∧
    ((1 ≤ xK h a ∧ xK h a ≤ 12 ∧ cell.cls = D.1 (xK h a) ∧ cell.vm = .none ∧ ∀ k, k < cNf (xK h a) → cell.slots[D.2.1 (xK h a) k]? = some (sv ρ h a k (cT (xK h a) k))) ∨
     (20 ≤ xK h a ∧ xK h a < 29 ∧ cell.vm ≠ .unknown ∧ U.isArrayOf cell (eT (xK h a)) ∧ cell.slots.size = xN h a ∧ xN h a < 2147483648 ∧ (∀ i : Nat, i < xN h a → cell.slots[i]? = some (sv ρ h a i (eT (xK h a)))) ∧ (rA (xK h a) = true → cell.cls = D.2.2 (xK h a))) ∨
     ((xK h a = 30 ∨ xK h a = 31) ∧ cell.vm.isStatics = false ∧ cell.cls = D.1 (xK h a)))
theorem cAt.moved {D : DD} {ρ : Nat → Nat} {h : Hp} {u U : State} {H : Heap} {a : Nat} (hvm : u.vm.Alike U.vm) (q : cAt D ρ h u H a) : cAt D ρ h U H a := by
  obtain ⟨cell, h1, h2 | ⟨g1, g2, g3, g4, g5⟩ | h2⟩ := q
  · exact ⟨cell, h1, Or.inl h2⟩
  · exact ⟨cell, h1, Or.inr (Or.inl ⟨g1, g2, g3, State.isArrayOf_alike hvm g4, g5⟩)⟩
  · exact ⟨cell, h1, Or.inr (Or.inr h2)⟩
theorem cAt.lt {D : DD} {ρ : Nat → Nat} {h : Hp} {U : State} {H : Heap} {a : Nat} (q : cAt D ρ h U H a) : ρ a < H.size := by
  obtain ⟨cell, h1, -⟩ := q
  exact (Array.getElem?_eq_some_iff.mp h1).1
/-- same kind, same fields, same place: the same cell -/
theorem cAt.kept {D : DD} {ρ ρ' : Nat → Nat} {h h' : Hp} {U : State} {H H' : Heap} {a : Nat} (q : cAt D ρ h U H a) (e : ρ' a = ρ a) (hH : H'[ρ a]? = H[ρ a]?) (hK : xK h' a = xK h a) (hN : xN h' a = xN h a) (hv : ∀ k ty, sv ρ' h' a k ty = sv ρ h a k ty) : cAt D ρ' h' U H' a := by
  obtain ⟨cell, h1, h2⟩ := q
  refine ⟨cell, by rw [e, hH]; exact h1, ?_⟩
  rw [hK, hN]
  simp only [hv]
  exact h2
def Rep (D : DD) (ρ : Nat → Nat) (h : Hp) (U : State) (H : Heap) : Prop :=
  xK h 0 = 0 ∧ (∀ a, xK h a ≠ 0 → cAt D ρ h U H a) ∧ (∀ a b, xK h a ≠ 0 → xK h b ≠ 0 → ρ a = ρ b → a = b) ∧ (∀ a k, inR (xI h a k)) ∧ ∀ a k, xR h a k = 0 ∨ xK h (xR h a k) ≠ 0
theorem Rep.moved {D : DD} {ρ : Nat → Nat} {h : Hp} {u U : State} {H : Heap} (hvm : u.vm.Alike U.vm) (q : Rep D ρ h u H) : Rep D ρ h U H := ⟨q.1, fun a ha => (q.2.1 a ha).moved hvm, q.2.2⟩
theorem Rep.ne0 {D : DD} {ρ : Nat → Nat} {h : Hp} {U : State} {H : Heap} {a : Nat} (q : Rep D ρ h U H) (ha : xK h a ≠ 0) : a ≠ 0 := fun e => ha (by rw [e]; exact q.1)
/-- the constants: class, name, descriptor, abstract address -/
def stats : List (String × String × String × Nat) := [("CallGraphs$Kind", "CLASS", "LCallGraphs$Kind;", 1), ("CallGraphs$Kind", "ABSTRACT", "LCallGraphs$Kind;", 2), ("CallGraphs$Kind", "FACE", "LCallGraphs$Kind;", 3), ("CallGraphs$Sort", "PLAIN", "LCallGraphs$Sort;", 4), ("CallGraphs$Sort", "NO_BODY", "LCallGraphs$Sort;", 5), ("CallGraphs$Sort", "STATIC", "LCallGraphs$Sort;", 6), ("CallGraphs$Sort", "PRIVATE", "LCallGraphs$Sort;", 7), ("CallGraphs$Sort", "START", "LCallGraphs$Sort;", 8), ("CallGraphs$Kind", "$VALUES", "[LCallGraphs$Kind;", 9), ("CallGraphs$Sort", "$VALUES", "[LCallGraphs$Sort;", 10)]
def nst : Cond → Bool
  | .fieldLinkNest _ _ _ _ _ _ => true
  | .methodLinkNest _ _ _ _ => true
  | .declares _ => true
  | .castable _ _ => true
  | .arrayOver (.object _) => true
  | .arrayOver (.array _) => true
  | _ => false
def Nw (U : State) : Prop := ∀ w ∈ lw_tbl, nst w = true → va_Nw w U
theorem ao2_moved {t : FieldType} {u U : State} (hvm : u.vm.Alike U.vm) (h : va_Nw (.arrayOver (.array t)) u) : va_Nw (.arrayOver (.array t)) U := by
  obtain ⟨comp, c, k, h1, h2, h3, h4, h5⟩ := arrayOverA_spec h
  obtain ⟨k', hk', he⟩ := hvm.2.2 _ _ h3
  have hi : (U.vm.classes.findIdx? fun (x : Class) => match x.kind with | .array component _ => component == comp | _ => false) = some c := by
    rw [hvm.findIdx?_eq _ (fun _ => rfl)]; exact h2
  have hkind : k'.kind = .array comp (.array t) := by rw [he]; exact h4
  have f1 : U.vm.findClass (FieldType.array t).toString = some comp := by rw [hvm.findClass]; exact h1
  have f2 : U.vm.findClass ("[" ++ (FieldType.array t).toString) = some c := by rw [hvm.findClass]; exact h5
  unfold va_Nw Cond.before Cond.holds
  simp only [Cond.value]
  rw [f1, Option.bind_some]
  refine (congrArg (fun o : Option Nat => (o.bind (fun c => (U.vm.classes[c]?).map fun (k : Class) => match k.kind with | .array _ ty => decide (ty = FieldType.array t) && decide (U.vm.findClass ("[" ++ (FieldType.array t).toString) = some c) | _ => false) == some true)) hi).trans ?_
  simp [hk', hkind, f2]
theorem nw_move {w : Cond} (hn : nst w = true) {s U : State} (hW : s.WarmedH U.vm) (h : va_Nw w s) : va_Nw w U := by
  cases w with
  | fieldLinkNest a b c d e f => exact va_Nw.warmF hW h
  | methodLinkNest a b c d => exact va_Nw.warmM hW h
  | declares x => exact va_Nw.warmD hW h
  | castable a b => exact va_Nw.warmC hW h
  | arrayOver t =>
    cases t with
    | object C => exact va_AO.moved hW.alike h
    | array t => exact ao2_moved hW.alike h
    | _ => cases hn
  | _ => cases hn
theorem nw_same {w : Cond} (hn : nst w = true) {s U : State} (hvm : s.vm = U.vm) (h : va_Nw w s) : va_Nw w U := by
  cases w with
  | fieldLinkNest a b c d e f => exact va_Nw.same rfl hvm h
  | methodLinkNest a b c d => exact va_Nw.same rfl hvm h
  | declares x => exact va_Nw.same rfl hvm h
  | castable a b => exact va_Nw.same rfl hvm h
  | arrayOver t =>
    cases t with
    | object C => exact va_AO.moved (by rw [hvm]; exact Vm.Alike.refl _) h
    | array t => exact ao2_moved (by rw [hvm]; exact Vm.Alike.refl _) h
    | _ => cases hn
  | _ => cases hn
theorem Nw.warm {s U : State} (hW : s.WarmedH U.vm) (h : Nw s) : Nw U := fun w hw hn => nw_move hn hW (h w hw hn)
theorem Nw.same {s U : State} (hvm : s.vm = U.vm) (h : Nw s) : Nw U := fun w hw hn => nw_same hn hvm (h w hw hn)
def Cx (Y : Meth) (p : Program) (s : State) (m : MethodId) (args : Array Value) (meth : Method) (c : Code) : Prop :=
  p.tables.exec = Jvm.exec ∧ c.code = Y.2.1 ∧ meth.sig.returnType = Y.2.2.2 ∧ c.maxLocals = Y.2.2.1 ∧ s.vm.findClass Y.1.cls = some m.cls ∧ (∀ w ∈ gws, w.before args s = true) ∧ meth.locks = false ∧ meth.name = Y.1.name ∧ Nw s
/-- the world of a frame whose method began at s -/
def Wd (D : DD) (ρ : Nat → Nat) (h : Hp) (s : State) (H : Heap) (A : Nat → Prop) (locs : List Loc) : Prop :=
  Kn D s ∧ Rep D ρ h s H ∧ va_S A s.heap H locs ∧ (∀ q, s.heap.size ≤ q → A q) ∧ (∀ a, 16 ≤ a → xK h a ≠ 0 → A (ρ a)) ∧ ∀ q ∈ stats, va_Z q.1 q.2.1 q.2.2.1 (.ref (ρ q.2.2.2)) A s s.heap ∧ xK h q.2.2.2 ≠ 0
def LV (ρ : Nat → Nat) (L : List (Option AV)) (nL : Nat) (ls : Array Slot) : Prop := ls.size = nL ∧ lv_wf ls ∧ ∀ (i : Nat) (v : AV), L[i]? = some (some v) → ls[i]? = some (.val (cv ρ v))
def agr (h : Hp) (ρ : Nat → Nat) (h' : Hp) (ρ' : Nat → Nat) : Prop := ∀ a, xK h a ≠ 0 → xK h' a = xK h a ∧ xN h' a = xN h a ∧ ρ' a = ρ a
theorem agr.rf {h : Hp} {ρ : Nat → Nat} : agr h ρ h ρ := fun _ _ => ⟨rfl, rfl, rfl⟩
theorem agr.tr {h h1 h2 : Hp} {ρ ρ1 ρ2 : Nat → Nat} (q : agr h ρ h1 ρ1) (r : agr h1 ρ1 h2 ρ2) : agr h ρ h2 ρ2 := by
  intro a ha
  obtain ⟨e1, e2, e3⟩ := q a ha
  obtain ⟨f1, f2, f3⟩ := r a (by rw [e1]; exact ha)
  exact ⟨f1.trans e1, f2.trans e2, f3.trans e3⟩
theorem agr.cv {h h1 : Hp} {ρ ρ1 : Nat → Nat} (q : agr h ρ h1 ρ1) {v : AV} (hv : wfv h v) : cv ρ1 v = cv ρ v := by
  obtain x | a | x := v
  · rfl
  · show va_rf (ro ρ1 a) = va_rf (ro ρ a)
    rcases hv with hv | hv
    · subst hv; rfl
    · have := (q a hv).2.2
      unfold ro; rw [this]
  · rfl
theorem agr.wfv {h h1 : Hp} {ρ ρ1 : Nat → Nat} (q : agr h ρ h1 ρ1) {v : AV} (hv : wfv h v) : wfv h1 v := by
  obtain x | a | x := v
  · exact hv
  · rcases hv with hv | hv
    · exact Or.inl hv
    · exact Or.inr (by rw [(q a hv).1]; exact hv)
  · trivial
def RetI (Y : Meth) (pc : Nat) : Option AV → Prop
  | none => Y.2.2.2 = none ∧ decode Y.2.1 pc = .ok (.return_, 1)
  | some (.inl x) => decode Y.2.1 pc = .ok (.ireturn, 1) ∧ (Y.2.2.2 = some .int ∨ (Y.2.2.2 = some .boolean ∧ (x = 0 ∨ x = 1)))
  | some (.inr (.inl _)) => decode Y.2.1 pc = .ok (.areturn, 1) ∧ ∃ rt, Y.2.2.2 = some rt ∧ ((∃ n, rt = .object n) ∨ ∃ t, rt = .array t)
  | some (.inr (.inr _)) => False
def Cf (D : DD) (Y : Meth) (d kc ks : Nat) (L : List (Option AV)) (st : List AV) (h : Hp) (p : Program) (R : Room) (s : State) (m : MethodId) (args : Array Value) (meth : Method) (c : Code) (A : Nat → Prop) (ρ : Nat → Nat) (H : Heap) (locs : List Loc) (cells slots : Nat) (ls : Array Slot) : Prop :=
  Cx Y p s m args meth c ∧ (d ≤ R.frames ∧ 40 * d ≤ R.locals) ∧ (cells + kc ≤ R.cells ∧ slots + ks ≤ R.slots) ∧ Wd D ρ h s H A locs ∧ LV ρ L Y.2.2.1 ls ∧ (∀ (i : Nat) (v : AV), L[i]? = some (some v) → wfv h v) ∧ ∀ v ∈ st, wfv h v
def Rt (l : Launch) (D : DD) (Y : Meth) (p : Program) (e : Env) (R : Room) (s : State) (m : MethodId) (args : Array Value) (below : List Frame) (meth : Method) (c : Code) (Q : State → Prop) (A : Nat → Prop) (h : Hp) (ρ : Nat → Nat) (mxc mxs : Nat) (Φ : Option AV → Hp → Prop) : Prop :=
  ∀ (v : Option AV) (h' : Hp) (ρ' : Nat → Nat) (H' : Heap) (locs' : List Loc) (cells' slots' pc' : Nat) (ls' : Array Slot), Wd D ρ' h' s H' A locs' → agr h ρ h' ρ' → (∀ u, v = some u → wfv h' u) → cells' ≤ mxc → slots' ≤ mxs → Φ v h' → RetI Y pc' v → W p l e R s m args below meth c H' locs' cells' slots' Q (F0 m pc' ls' (v.toList.map (cv ρ')))
/-- from pc with locals L, stack st, heap h the method comes to its return, and there Φ holds; d frames, kc cells, ks slots suffice -/
def Ev (l : Launch) (D : DD) (Y : Meth) (d kc ks pc : Nat) (L : List (Option AV)) (st : List AV) (h : Hp) (Φ : Option AV → Hp → Prop) : Prop :=
  ∀ (p : Program) (e : Env) (R : Room) (s : State) (m : MethodId) (args : Array Value) (below : List Frame) (meth : Method) (c : Code) (Q : State → Prop) (A : Nat → Prop) (ρ : Nat → Nat) (H : Heap) (locs : List Loc) (cells slots : Nat) (ls : Array Slot),
    Cf D Y d kc ks L st h p R s m args meth c A ρ H locs cells slots ls → Rt l D Y p e R s m args below meth c Q A h ρ (cells + kc) (slots + ks) Φ →
      W p l e R s m args below meth c H locs cells slots Q (F0 m pc ls (st.map (cv ρ)))
theorem Ev.mono {l : Launch} {D : DD} {Y : Meth} {d kc ks pc : Nat} {L : List (Option AV)} {st : List AV} {h : Hp} {Φ Ψ : Option AV → Hp → Prop} (q : Ev l D Y d kc ks pc L st h Φ) (hi : ∀ v h', Φ v h' → Ψ v h') : Ev l D Y d kc ks pc L st h Ψ :=
  fun p e R s m args below meth c Q A ρ H locs cells slots ls hC hR => q p e R s m args below meth c Q A ρ H locs cells slots ls hC (fun v h' ρ' H' locs' cells' slots' pc' ls' a1 a2 a3 a4 a5 a6 a7 => hR v h' ρ' H' locs' cells' slots' pc' ls' a1 a2 a3 a4 a5 (hi v h' a6) a7)
/-- more room is as good -/
theorem Ev.wid {l : Launch} {D : DD} {Y : Meth} {d d' kc kc' ks ks' pc : Nat} {L : List (Option AV)} {st : List AV} {h : Hp} {Φ : Option AV → Hp → Prop} (q : Ev l D Y d kc ks pc L st h Φ) (hd : d ≤ d') (hc : kc ≤ kc') (hs : ks ≤ ks') : Ev l D Y d' kc' ks' pc L st h Φ := by
  intro p e R s m args below meth c Q A ρ H locs cells slots ls hC hR
  obtain ⟨h1, ⟨h2, h2'⟩, ⟨h3, h3'⟩, h4⟩ := hC
  exact q p e R s m args below meth c Q A ρ H locs cells slots ls ⟨h1, ⟨by omega, by omega⟩, ⟨by omega, by omega⟩, h4⟩ (fun v h' ρ' H' locs' cells' slots' pc' ls' a1 a2 a3 a4 a5 a6 a7 => hR v h' ρ' H' locs' cells' slots' pc' ls' a1 a2 a3 (by omega) (by omega) a6 a7)
/-- a step that leaves heap and rooms as they are -/
theorem Ev.go {l : Launch} {D : DD} {Y : Meth} {d kc ks pc pc' : Nat} {L L' : List (Option AV)} {st st' : List AV} {h : Hp} {Φ : Option AV → Hp → Prop}
    (stp : ∀ (p : Program) (e : Env) (R : Room) (s : State) (m : MethodId) (args : Array Value) (below : List Frame) (meth : Method) (c : Code) (Q : State → Prop) (A : Nat → Prop) (ρ : Nat → Nat) (H : Heap) (locs : List Loc) (cells slots : Nat) (ls : Array Slot), Cf D Y d kc ks L st h p R s m args meth c A ρ H locs cells slots ls → (∀ ls', LV ρ L' Y.2.2.1 ls' → W p l e R s m args below meth c H locs cells slots Q (F0 m pc' ls' (st'.map (cv ρ)))) → W p l e R s m args below meth c H locs cells slots Q (F0 m pc ls (st.map (cv ρ))))
    (hw : (∀ (i : Nat) (v : AV), L[i]? = some (some v) → wfv h v) → (∀ v ∈ st, wfv h v) → (∀ a k, inR (xI h a k)) → (∀ (i : Nat) (v : AV), L'[i]? = some (some v) → wfv h v) ∧ ∀ v ∈ st', wfv h v)
    (k : Ev l D Y d kc ks pc' L' st' h Φ) : Ev l D Y d kc ks pc L st h Φ := by
  intro p e R s m args below meth c Q A ρ H locs cells slots ls hC hR
  refine stp p e R s m args below meth c Q A ρ H locs cells slots ls hC (fun ls' hl' => ?_)
  obtain ⟨h1, h2, h3, h4, h5, h6, h7⟩ := hC
  obtain ⟨w1, w2⟩ := hw h6 h7 h4.2.1.2.2.2.1
  exact k p e R s m args below meth c Q A ρ H locs cells slots ls' ⟨h1, h2, h3, h4, hl', w1, w2⟩ hR
