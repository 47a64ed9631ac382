/-! an array of arrays is made: an own law, for two dimensions -/
section MN
variable {p : Program} {l : Launch} {e : Env} {R : Room} {s : State} {m : MethodId} {args : Array Value} {below : List Frame} {meth : Method} {c : Code} {H : Heap} {locs : List Loc} {cells slots : Nat} {Q : State → Prop}
/-- i rows are there -/
def mnR (p : Program) (l : Launch) (e : Env) (R : Room) (s : State) (m : MethodId) (args : Array Value) (below : List Frame) (meth : Method) (c : Code) (locs : List Loc) (cells slots : Nat) (B : State) (cA comp : ClassId) (N M : Nat) (dv : Value) (i : Nat) (U : State) : Prop :=
  Stand p l e R s m args below meth c U (locs ++ (List.range i).map (fun j => (⟨B.heap.size, j⟩ : Loc))) (cells + 1 + i) (slots + N + i * M) ∧ U.vm = B.vm ∧ U.heap.size = B.heap.size + 1 + i ∧
  (∃ cell : Cell, U.heap[B.heap.size]? = some cell ∧ cell.cls = cA ∧ cell.vm = .none ∧ cell.slots.size = N ∧ ∀ j : Nat, j < N → cell.slots[j]? = some (if j < i then .ref (B.heap.size + 1 + j) else .null)) ∧
  (∀ j : Nat, j < i → U.heap[B.heap.size + 1 + j]? = some ({ cls := comp, slots := Array.replicate M dv, vm := .none } : Cell)) ∧ ∀ q : Nat, q < B.heap.size → U.heap[q]? = B.heap[q]?
theorem mnR_0 {B : State} {cA comp : ClassId} {N M : Nat} {dv : Value} (X : Stand p l e R s m args below meth c B locs cells slots) : mnR p l e R s m args below meth c locs cells slots B cA comp N M dv 0 (B.pushCell ({ cls := cA, slots := Array.replicate N .null } : Cell)) := by
  have X1 := X.pushed ({ cls := cA, slots := Array.replicate N .null } : Cell)
  refine ⟨?_, rfl, ?_, ⟨({ cls := cA, slots := Array.replicate N .null } : Cell), State.heap_pushCell_size _ _, rfl, rfl, by simp, fun j hj => ?_⟩, fun j hj => absurd hj (Nat.not_lt_zero _), fun q hq => State.heap_pushCell_of_lt _ _ hq⟩
  · simpa using X1
  · simp
  · rw [if_neg (Nat.not_lt_zero _)]
    simp [hj]
theorem mnR_s {B U : State} {cA comp : ClassId} {N M i : Nat} {dv : Value} (q : mnR p l e R s m args below meth c locs cells slots B cA comp N M dv i U) (hi : i < N) : ∃ cell : Cell, U.heap[B.heap.size]? = some cell ∧ cell.cls = cA ∧ cell.vm = .none ∧ cell.slots.size = N ∧
    mnR p l e R s m args below meth c locs cells slots B cA comp N M dv (i + 1) ((U.pushCell ({ cls := comp, slots := Array.replicate M dv } : Cell)).setCell B.heap.size (cell.setSlot i (.ref U.heap.size))) := by
  obtain ⟨X, v, z, ⟨cell, c1, c2, c3, c4, c5⟩, r, o⟩ := q
  have lt : B.heap.size < U.heap.size := by omega
  have c1' : (U.pushCell ({ cls := comp, slots := Array.replicate M dv } : Cell)).heap[B.heap.size]? = some cell := (State.heap_pushCell_of_lt _ _ lt).trans c1
  have X2 := (X.pushed ({ cls := comp, slots := Array.replicate M dv } : Cell)).stored c1' i (.ref U.heap.size)
  refine ⟨cell, c1, c2, c3, c4, ?_, ?_, ?_, ⟨_, State.heap_setCell_self c1', ?_, ?_, ?_, fun j hj => ?_⟩, fun j hj => ?_, fun q hq => ?_⟩
  · have e1 : (locs ++ (List.range (i + 1)).map (fun j => (⟨B.heap.size, j⟩ : Loc))) = (locs ++ (List.range i).map (fun j => (⟨B.heap.size, j⟩ : Loc))) ++ [⟨B.heap.size, i⟩] := by
      rw [List.range_succ, List.map_append, ← List.append_assoc]; rfl
    have e2 : (Array.replicate M dv).size = M := by simp
    have e3 : slots + N + (i + 1) * M = slots + N + i * M + M := by rw [Nat.succ_mul]; omega
    rw [e1, e3, show cells + 1 + (i + 1) = cells + 1 + i + 1 by omega]
    simpa [e2] using X2
  · exact v
  · simp [State.setCell, z]
    omega
  · simp [Cell.setSlot, c2]
  · simp [Cell.setSlot, c3]
  · simp [Cell.setSlot, c4]
  · simp only [Cell.setSlot, Array.getElem?_setIfInBounds]
    by_cases ej : i = j
    · subst ej
      rw [if_pos rfl, c4, if_pos hi, if_pos (by omega), z]
    · rw [if_neg ej, c5 j hj]
      by_cases jl : j < i
      · rw [if_pos jl, if_pos (by omega)]
      · rw [if_neg jl, if_neg (by omega)]
  · rw [State.heap_setCell_other (show B.heap.size ≠ B.heap.size + 1 + j by omega)]
    by_cases ej : j = i
    · subst ej
      rw [← z]
      exact State.heap_pushCell_size _ _
    · rw [State.heap_pushCell_of_lt _ _ (show B.heap.size + 1 + j < U.heap.size by omega)]
      exact r j (by omega)
  · rw [State.heap_setCell_other (show B.heap.size ≠ q by omega), State.heap_pushCell_of_lt _ _ (show q < U.heap.size by omega)]
    exact o q hq
/-- the state with i rows -/
def mnU (B : State) (cA comp : ClassId) (N M : Nat) (dv : Value) : Nat → State
  | 0 => B.pushCell ({ cls := cA, slots := Array.replicate N .null } : Cell)
  | i + 1 => match (mnU B cA comp N M dv i).heap[B.heap.size]? with
    | some z0 => ((mnU B cA comp N M dv i).pushCell ({ cls := comp, slots := Array.replicate M dv } : Cell)).setCell B.heap.size (z0.setSlot i (.ref (mnU B cA comp N M dv i).heap.size))
    | none => B
theorem mnU_s {B : State} {cA comp : ClassId} {N M i : Nat} {dv : Value} {cell : Cell} (h : (mnU B cA comp N M dv i).heap[B.heap.size]? = some cell) : mnU B cA comp N M dv (i + 1) = ((mnU B cA comp N M dv i).pushCell ({ cls := comp, slots := Array.replicate M dv } : Cell)).setCell B.heap.size (cell.setSlot i (.ref (mnU B cA comp N M dv i).heap.size)) := by
  rw [mnU, h]
theorem mnU_ok {B : State} {cA comp : ClassId} {N M : Nat} {dv : Value} (X : Stand p l e R s m args below meth c B locs cells slots) : ∀ i : Nat, i ≤ N → mnR p l e R s m args below meth c locs cells slots B cA comp N M dv i (mnU B cA comp N M dv i)
  | 0, _ => mnR_0 X
  | i + 1, hi => by
    obtain ⟨cell, c1, _, _, _, z⟩ := mnR_s (mnU_ok X i (by omega)) (show i < N by omega)
    rw [mnU_s c1]
    exact z
theorem mn_make {E : CtlPost} {d : Bool} {acts : List Action} {B : State} {f : JFrame} {cA comp cc : ClassId} {kA kC : Class} {ty : FieldType} {n k : Int32} {Qw : Addr → Pre} (X : Stand p l e R s m args below meth c B locs cells slots)
    (hkA : B.vm.classes[cA]? = some kA) (hA : kA.kind = .array comp (.array ty)) (hkC : B.vm.classes[comp]? = some kC) (hC : kC.kind = .array cc ty) (hn : ¬ n < 0) (hk : ¬ k < 0) (hb1 : n.toNatClampNeg ≤ 100000) (hb2 : k.toNatClampNeg ≤ 100000) (hcb : componentBytes ty ≤ 8) (hdf : fits ty (defaultValue ty) = true)
    (hcells : cells + (1 + n.toNatClampNeg) ≤ R.cells) (hslots : slots + (n.toNatClampNeg + n.toNatClampNeg * k.toNatClampNeg) ≤ R.slots)
    (hq : ∀ d' acts', Qw B.heap.size d' acts' ((mnU B cA comp n.toNatClampNeg k.toNatClampNeg (defaultValue ty) n.toNatClampNeg).setTop f)) : wp (multianewarray.make cA [n, k]) Qw E e d acts (B.setTop f) := by
  have lim : ∀ x : Nat, x ≤ 100000 → ¬ x > e.platform.arrayLengthLimit := fun x hx => by rw [Launch.admits_arrayLengthLimit X.admits]; omega
  have hp : ∀ x y : Nat, x ≤ 100000 → y ≤ 8 → ¬ x * y > e.platform.maxHeapBytes := fun x y hx hy => by
    have := Nat.mul_le_mul hx hy
    rw [Launch.admits_maxHeapBytes X.admits]; omega
  have none' : ([k].find? (· < 0)) = none := by simp [hk]
  obtain ⟨m1, m2⟩ := X.roomAbove (show cells + 1 ≤ R.cells by omega) (show slots + n.toNatClampNeg ≤ R.slots by have := Nat.zero_le (n.toNatClampNeg * k.toNatClampNeg); omega)
  rw [multianewarray.make]
  simp only [wp_bind', W.ite, hn, if_false, wp_pure', W.theClass, State.vm_setTop, hkA, hA, Option.some.injEq, exists_eq_left']
  refine W.newArray_of (k := kA) (comp := comp) (type := .array ty) hkA hA (lim _ hb1) (hp _ 4 hb1 (by omega)) ?_ ?_ rfl (fun acts1 => ?_)
  · exact m1
  · exact m2
  simp only [none']
  rw [ite_self, wp_bind', Std.Legacy.Range.forIn_eq_forIn_range']
  have sz : ([:n.toNatClampNeg] : Std.Legacy.Range).size = n.toNatClampNeg := by simp [Std.Legacy.Range.size]
  rw [sz]
  refine wp_forIn_inv (fun rest s' => ∃ i, i ≤ n.toNatClampNeg ∧ rest = List.range' i (n.toNatClampNeg - i) ∧ s' = State.setTop (mnU B cA comp n.toNatClampNeg k.toNatClampNeg (defaultValue ty) i) f) _ _ ⟨0, Nat.zero_le _, rfl, rfl⟩ ?_ ?_
  · rintro x rest s' d' acts' Q' ⟨i, hi, hl, rfl⟩ hnext
    have hU := mnU_ok (cA := cA) (comp := comp) (N := n.toNatClampNeg) (M := k.toNatClampNeg) (dv := defaultValue ty) X i hi
    have lt : i < n.toNatClampNeg := by
      rcases Nat.lt_or_ge i n.toNatClampNeg with h | h
      · exact h
      · rw [show n.toNatClampNeg - i = 0 by omega] at hl; cases hl
    rw [show n.toNatClampNeg - i = (n.toNatClampNeg - (i + 1)) + 1 by omega, List.range'_succ] at hl
    obtain ⟨e1, e2⟩ := List.cons.inj hl
    subst e1
    obtain ⟨cell, c1, c2, c3, c4, nx⟩ := mnR_s hU lt
    have nx2 := mnU_s c1
    generalize mnU B cA comp n.toNatClampNeg k.toNatClampNeg (defaultValue ty) x = U at hU c1 nx nx2 hnext ⊢
    have mul : x * k.toNatClampNeg + k.toNatClampNeg ≤ n.toNatClampNeg * k.toNatClampNeg := by
      have := Nat.mul_le_mul_right k.toNatClampNeg (show x + 1 ≤ n.toNatClampNeg from lt)
      rw [Nat.succ_mul] at this; exact this
    obtain ⟨m3, m4⟩ := hU.1.roomAbove (show cells + 1 + x + 1 ≤ R.cells by omega) (show slots + n.toNatClampNeg + x * k.toNatClampNeg + k.toNatClampNeg ≤ R.slots by omega)
    have kC' : U.vm.classes[comp]? = some kC := by rw [hU.2.1]; exact hkC
    have kA' : U.vm.classes[cA]? = some kA := by rw [hU.2.1]; exact hkA
    simp only [wp_bind']
    rw [multianewarray.make]
    simp only [wp_bind', W.ite, hk, if_false, wp_pure', W.theClass, State.vm_setTop, kC', hC, Option.some.injEq, exists_eq_left']
    refine W.newArray_of (k := kC) (comp := cc) (type := ty) kC' hC (lim _ hb2) (hp _ _ hb2 hcb) m3 m4 hdf (fun acts2 => ?_)
    have ltU : B.heap.size < U.heap.size := by rw [hU.2.2.1]; omega
    simp only [wp_bind', W.writeLoc, wp_pure']
    refine ⟨cell, (State.heap_pushCell_of_lt _ _ ltU).trans c1, by rw [c3]; simp, by rw [c4]; exact lt, ?_, hnext _ _ _ ⟨x + 1, lt, e2, by rw [nx2]; rfl⟩⟩
    rw [c2, c3]
    simp [State.fitsSlot, State.slotType?, kA', hA]
    rfl
  · rintro s' d' acts' ⟨i, hi, hl, rfl⟩
    have ei : i = n.toNatClampNeg := by
      rcases Nat.lt_or_ge i n.toNatClampNeg with h | h
      · rw [show n.toNatClampNeg - i = (n.toNatClampNeg - (i + 1)) + 1 by omega, List.range'_succ] at hl; cases hl
      · omega
    subst ei
    simp only [wp_pure']
    exact hq _ _
theorem mn_W {cc : ByteArray} (hexec : p.tables.exec = Jvm.exec) (hb : c.code = cc) {own : String} {index : Nat} {ty : FieldType} (hown : s.vm.findClass own = some m.cls) (hclink : (Cond.classLink own index ("[" ++ (FieldType.array ty).toString)).before args s = true) (hover : (Cond.arrayOver (.array ty)).before args s = true) (harr : (Cond.arrayClass ty).before args s = true)
    {g : JFrame} (hg : g.method = m) (hdg : decode cc g.pc = .ok (.multianewarray index 2, 4)) {n k : Int32} {rest : List Value} (hstack : g.stack = .int k :: .int n :: rest) (hn : ¬ n < 0) (hk : ¬ k < 0) (hb1 : n.toNatClampNeg ≤ 100000) (hb2 : k.toNatClampNeg ≤ 100000) (hcb : componentBytes ty ≤ 8) (hdf : fits ty (defaultValue ty) = true)
    (hcells : cells + (1 + n.toNatClampNeg) ≤ R.cells) (hslots : slots + (n.toNatClampNeg + n.toNatClampNeg * k.toNatClampNeg) ≤ R.slots)
    (kk : ∀ (H' : Heap) (cell : Cell) (comp : ClassId), H'.size = H.size + 1 + n.toNatClampNeg → H'[H.size]? = some cell → cell.vm = .none → cell.slots.size = n.toNatClampNeg → (∀ j : Nat, j < n.toNatClampNeg → cell.slots[j]? = some (.ref (H.size + 1 + j))) → s.isArrayOf cell (.array ty) → (∀ j : Nat, j < n.toNatClampNeg → H'[H.size + 1 + j]? = some ({ cls := comp, slots := Array.replicate k.toNatClampNeg (defaultValue ty), vm := .none } : Cell)) → s.isArrayOf ({ cls := comp, slots := Array.replicate k.toNatClampNeg (defaultValue ty), vm := .none } : Cell) ty → (∀ q : Nat, q < H.size → H'[q]? = H[q]?) →
      W p l e R s m args below meth c H' (locs ++ (List.range n.toNatClampNeg).map (fun j => (⟨H.size, j⟩ : Loc))) (cells + 1 + n.toNatClampNeg) (slots + n.toNatClampNeg + n.toNatClampNeg * k.toNatClampNeg) Q { g with pc := g.pc + 4, stack := .ref H.size :: rest }) : W p l e R s m args below meth c H locs cells slots Q g := by
  intro T hT X
  subst hT; subst hb; subst hg
  have hpl : e.platform.magicAccessors = ({} : Platform).magicAccessors := by rw [X.admits.platform]
  obtain ⟨comp, cA, kA, hcomp, -, hkA, hkindA, hnameA⟩ := arrayOverA_spec hover
  obtain ⟨comp2, kC, cc, hcomp2, hkC, hkindC⟩ := Cond.arrayClass_spec harr
  cases hcomp2.symm.trans hcomp
  obtain ⟨c0, hfc0, hcl⟩ := Cond.classLink_spec hown hclink e.platform hpl
  cases hnameA.symm.trans hfc0
  obtain ⟨hg₁, hwarm₁, hready₁⟩ := State.classEntry (e := e) X.warmed hcl
  generalize T.vm.noted g.method.cls index (.cls cA) = vm₁ at hg₁ hwarm₁ hready₁
  have hal : s.vm.Alike vm₁ := hwarm₁.alike
  obtain ⟨kA₁, hkA₁, heA⟩ := hal.2.2 _ _ hkA
  obtain ⟨kC₁, hkC₁, heC⟩ := hal.2.2 _ _ hkC
  have kA2 : kA₁.kind = .array comp (.array ty) := by rw [heA]; exact hkindA
  have kC2 : kC₁.kind = .array cc ty := by rw [heC]; exact hkindC
  have X₁ := X.noted hwarm₁
  have ok := mnU_ok (cA := cA) (comp := comp) (N := n.toNatClampNeg) (M := k.toNatClampNeg) (dv := defaultValue ty) X₁ n.toNatClampNeg (Nat.le_refl _)
  obtain ⟨XF, -, z, ⟨cell, c1, c2, c3, c4, c5⟩, r, o⟩ := ok
  have eS : (T.setVm vm₁).heap.size = T.heap.size := rfl
  rw [eS] at z c1 r
  simp only [eS] at XF c5 o
  obtain ⟨t, a1, b1⟩ := kk _ cell comp z c1 c3 c4 (fun j hj => by rw [c5 j hj, if_pos hj]) ⟨(fun k h => by rw [c3] at h; cases h), kA, by rw [c2]; exact hkA, comp, hkindA⟩ r ⟨(fun k h => by cases h), kC, hkC, cc, hkindC⟩ o _ rfl XF
  refine ⟨t, ?_, b1⟩
  jvm_step X.here [hexec, hdg]
  simp only [multianewarray.sem, wp_bind', W.resolveClassAt_links (State.method?_setTop g X.here.top) hg₁]
  rw [W.popN, if_neg (by decide)]
  refine ⟨g, State.topJava?_setTop' (s := T.setVm vm₁) g X.here.top, [.int n, .int k], rest, rfl, hstack, ?_⟩
  simp only [List.mapM_cons, List.mapM_nil, wp_bind', wp_pure']
  have eT' : ((T.setTop g).setVm vm₁).setTop { g with stack := rest } = (T.setVm vm₁).setTop { g with stack := rest } := by
    show ((T.setVm vm₁).setTop g).setTop _ = _
    rw [State.setTop_setTop]
  rw [eT']
  refine mn_make (kA := kA₁) (kC := kC₁) (cc := cc) X₁ hkA₁ kA2 hkC₁ kC2 hn hk hb1 hb2 hcb hdf hcells hslots (fun d' acts' => ?_)
  simp only [wp_bind', W.mark, W.pushRef, State.topJava?_setTop' _ XF.here.top, Option.some.injEq, exists_eq_left', State.setTop_setTop, State.heap_setTop]
  intro acts
  simp [jvm, XF.here.top]
  exact a1
end MN
/-- a block of rows: an array of n references at b, its rows behind it -/
def grid (h : Hp) (b n m : Nat) : Hp := (fun a => if a = b then (25, n) else if b < a ∧ a ≤ b + n then (21, m) else h.1 a, fun a j => if b ≤ a ∧ a ≤ b + n then 0 else h.2.1 a j, fun a j => if a = b then (if j < n then b + 1 + j else 0) else if b < a ∧ a ≤ b + n then 0 else h.2.2.1 a j, fun a j => if b ≤ a ∧ a ≤ b + n then 0 else h.2.2.2 a j)
theorem xK_grid (h : Hp) (b n m a : Nat) : xK (grid h b n m) a = if a = b then 25 else if b < a ∧ a ≤ b + n then 21 else xK h a := by
  unfold xK grid
  by_cases e : a = b
  · simp [e]
  · by_cases e2 : b < a ∧ a ≤ b + n <;> simp [e, e2]
theorem xN_grid (h : Hp) (b n m a : Nat) : xN (grid h b n m) a = if a = b then n else if b < a ∧ a ≤ b + n then m else xN h a := by
  unfold xN grid
  by_cases e : a = b
  · simp [e]
  · by_cases e2 : b < a ∧ a ≤ b + n <;> simp [e, e2]
theorem xI_grid (h : Hp) (b n m a j : Nat) : xI (grid h b n m) a j = if b ≤ a ∧ a ≤ b + n then 0 else xI h a j := rfl
theorem xR_grid (h : Hp) (b n m a j : Nat) : xR (grid h b n m) a j = if a = b then (if j < n then b + 1 + j else 0) else if b < a ∧ a ≤ b + n then 0 else xR h a j := rfl
theorem xL_grid (h : Hp) (b n m a j : Nat) : xL (grid h b n m) a j = if b ≤ a ∧ a ≤ b + n then 0 else xL h a j := rfl
theorem Wd_grid {D : DD} {ρ : Nat → Nat} {h : Hp} {s : State} {H H' : Heap} {A : Nat → Prop} {locs : List Loc} {b n m : Nat} {cell : Cell} {comp : ClassId} (w : Wd D ρ h s H A locs) (hb : 16 ≤ b) (hf : ∀ j, j ≤ n → xK h (b + j) = 0) (hn : n < 2147483648) (hm : m < 2147483648) (z : H'.size = H.size + 1 + n) (c1 : H'[H.size]? = some cell) (c2 : cell.vm = .none) (c3 : cell.slots.size = n) (c4 : ∀ j : Nat, j < n → cell.slots[j]? = some (.ref (H.size + 1 + j))) (c5 : s.isArrayOf cell (.array .boolean)) (r : ∀ j : Nat, j < n → H'[H.size + 1 + j]? = some ({ cls := comp, slots := Array.replicate m (defaultValue .boolean), vm := .none } : Cell)) (r2 : s.isArrayOf ({ cls := comp, slots := Array.replicate m (defaultValue .boolean), vm := .none } : Cell) .boolean) (oq : ∀ q : Nat, q < H.size → H'[q]? = H[q]?) : Wd D (fun a => if b ≤ a ∧ a ≤ b + n then H.size + (a - b) else ρ a) (grid h b n m) s H' A (locs ++ (List.range n).map (fun j => (⟨H.size, j⟩ : Loc))) ∧ agr h ρ (grid h b n m) (fun a => if b ≤ a ∧ a ≤ b + n then H.size + (a - b) else ρ a) := by
  obtain ⟨w1, ⟨r1, rr2, r3, r4, r5⟩, w3, w4, w5, w6⟩ := w
  generalize hρ : (fun a => if b ≤ a ∧ a ≤ b + n then H.size + (a - b) else ρ a) = ρ'
  have ne : ∀ a, xK h a ≠ 0 → ¬ (b ≤ a ∧ a ≤ b + n) := fun a ha e => ha (by have := hf (a - b) (by omega); rwa [show b + (a - b) = a by omega] at this)
  have eρ : ∀ a, ¬ (b ≤ a ∧ a ≤ b + n) → ρ' a = ρ a := fun a ha => by rw [← hρ]; exact if_neg ha
  have eρn : ∀ a, (b ≤ a ∧ a ≤ b + n) → ρ' a = H.size + (a - b) := fun a ha => by rw [← hρ]; exact if_pos ha
  have kO : ∀ a, ¬ (b ≤ a ∧ a ≤ b + n) → xK (grid h b n m) a = xK h a := fun a ha => by rw [xK_grid, if_neg (by omega), if_neg (by omega)]
  have nO' : ∀ a, ¬ (b ≤ a ∧ a ≤ b + n) → xN (grid h b n m) a = xN h a := fun a ha => by rw [xN_grid, if_neg (by omega), if_neg (by omega)]
  have ag : agr h ρ (grid h b n m) ρ' := fun a ha => ⟨kO a (ne a ha), nO' a (ne a ha), eρ a (ne a ha)⟩
  have hsv : ∀ a, ¬ (b ≤ a ∧ a ≤ b + n) → ∀ j ty, sv ρ' (grid h b n m) a j ty = sv ρ h a j ty := by
    intro a ha j ty
    have eR : xR (grid h b n m) a j = xR h a j := by rw [xR_grid, if_neg (by omega), if_neg (by omega)]
    have hr : ro ρ' (xR h a j) = ro ρ (xR h a j) := by
      unfold ro
      rcases r5 a j with h0 | h0
      · rw [h0]; rfl
      · rw [eρ _ (ne _ h0)]
    have eI : xI (grid h b n m) a j = xI h a j := by rw [xI_grid, if_neg ha]
    have eL : xL (grid h b n m) a j = xL h a j := by rw [xL_grid, if_neg ha]
    cases ty <;> simp [sv, eI, eR, eL, hr]
  have lt : ∀ a, xK h a ≠ 0 → ρ a < H.size := fun a ha => (rr2 a ha).lt
  have knd : ∀ a, xK (grid h b n m) a ≠ 0 → ¬ (b ≤ a ∧ a ≤ b + n) → xK h a ≠ 0 := fun a ha hn => by rw [kO a hn] at ha; exact ha
  refine ⟨⟨w1, ⟨by rw [kO 0 (by omega)]; exact r1, fun a ha => ?_, fun a a' ha ha' e => ?_, fun a k => ?_, fun a k => ?_⟩, ⟨by rw [z]; have := w3.1; omega, fun q h1 h2 => (oq q (Nat.lt_of_lt_of_le h1 w3.1)).trans (w3.2.1 q h1 h2), fun x hx => ?_⟩, w4, fun a h1 h2 => ?_, fun q hq => ?_⟩, ag⟩
  · by_cases e : b ≤ a ∧ a ≤ b + n
    · by_cases eb : a = b
      · subst eb
        have eK : xK (grid h a n m) a = 25 := by rw [xK_grid, if_pos rfl]
        have eN : xN (grid h a n m) a = n := by rw [xN_grid, if_pos rfl]
        refine ⟨cell, by rw [eρn a e, Nat.sub_self, Nat.add_zero]; exact c1, Or.inr (Or.inl ?_)⟩
        rw [eK, eN]
        refine ⟨by omega, by omega, (by rw [c2]; exact fun q => by cases q), c5, c3, hn, fun i hi => ?_, fun q => absurd q (by decide)⟩
        rw [c4 i hi]
        show _ = some (va_rf (ro ρ' (xR (grid h a n m) a i)))
        rw [xR_grid, if_pos rfl, if_pos hi]
        unfold ro
        rw [if_neg (by omega), eρn _ (by omega), show a + 1 + i - a = 1 + i by omega, ← Nat.add_assoc]; rfl
      · obtain ⟨j, hj⟩ : ∃ j, a = b + 1 + j := ⟨a - b - 1, by omega⟩
        have eK : xK (grid h b n m) a = 21 := by rw [xK_grid, if_neg eb, if_pos (by omega)]
        have eN : xN (grid h b n m) a = m := by rw [xN_grid, if_neg eb, if_pos (by omega)]
        refine ⟨_, by rw [eρn a e, show H.size + (a - b) = H.size + 1 + j by omega]; exact r j (by omega), Or.inr (Or.inl ?_)⟩
        rw [eK, eN]
        refine ⟨by omega, by omega, (fun q => by cases q), r2, by simp, hm, fun i hi => ?_, fun q => absurd q (by decide)⟩
        show (Array.replicate m (defaultValue .boolean))[i]? = some (.int (Int32.ofInt (xI (grid h b n m) a i)))
        rw [xI_grid, if_pos e]
        simp [hi]
        rfl
    · exact (rr2 a (knd a ha e)).kept (eρ a e) (oq _ (lt a (knd a ha e))) (kO a e) (nO' a e) (hsv a e)
  · by_cases e1 : b ≤ a ∧ a ≤ b + n
    · by_cases e2 : b ≤ a' ∧ a' ≤ b + n
      · rw [eρn a e1, eρn a' e2] at e; omega
      · rw [eρn a e1, eρ a' e2] at e
        have := lt a' (knd a' ha' e2); omega
    · by_cases e2 : b ≤ a' ∧ a' ≤ b + n
      · rw [eρ a e1, eρn a' e2] at e
        have := lt a (knd a ha e1); omega
      · rw [eρ a e1, eρ a' e2] at e
        exact r3 a a' (knd a ha e1) (knd a' ha' e2) e
  · rw [xI_grid]; split
    · exact inR_0
    · exact r4 a k
  · rw [xR_grid]
    by_cases eb : a = b
    · rw [if_pos eb]
      by_cases ek : k < n
      · rw [if_pos ek]; exact Or.inr (by rw [xK_grid, if_neg (by omega), if_pos (by omega)]; decide)
      · rw [if_neg ek]; exact Or.inl rfl
    · rw [if_neg eb]
      by_cases e2 : b < a ∧ a ≤ b + n
      · rw [if_pos e2]; exact Or.inl rfl
      · rw [if_neg e2]
        rcases r5 a k with h0 | h0
        · exact Or.inl h0
        · exact Or.inr (by rw [kO _ (ne _ h0)]; exact h0)
  · rcases List.mem_append.mp hx with hx | hx
    · exact w3.2.2 x hx
    · obtain ⟨j, -, rfl⟩ := List.mem_map.mp hx
      exact w4 _ w3.1
  · by_cases e : b ≤ a ∧ a ≤ b + n
    · rw [eρn a e]; exact w4 _ (by have := w3.1; omega)
    · rw [eρ a e]; exact w5 a h1 (knd a h2 e)
  · obtain ⟨z1, z2⟩ := w6 q hq
    exact ⟨by rw [eρ _ (ne _ z2)]; exact z1, by rw [kO _ (ne _ z2)]; exact z2⟩
theorem ao_bool : Cond.arrayOver (.array .boolean) ∈ lw_tbl := lw1 31 rfl
theorem a_mna {l : Launch} {D : DD} {Y : Meth} {d kc ks kc' ks' pc idx : Nat} {L : List (Option AV)} {st : List AV} {h : Hp} {Φ : Option AV → Hp → Prop} {n m : Int} (b : Nat) (hd : decode Y.2.1 pc = .ok (.multianewarray idx 2, 4)) (hw : Cond.classLink Y.1.cls idx "[[Z" ∈ gws) (hn : 0 ≤ n ∧ n ≤ 1000) (hm : 0 ≤ m ∧ m ≤ 1000) (h1 : kc' + (1 + n.toNat) ≤ kc) (h2 : ks' + (n.toNat + n.toNat * m.toNat) ≤ ks) (hb : 16 ≤ b) (hf : ∀ j, j ≤ n.toNat → xK h (b + j) = 0) (k1 : Ev l D Y d kc' ks' (pc + 4) L (vr b :: st) (grid h b n.toNat m.toNat) Φ) : Ev l D Y d kc ks pc L (vi m :: vi n :: st) h Φ := by
  intro p e R s m' args below meth c Q A ρ H locs cells slots ls hC hR
  have w := hC.2.2.2.1
  have x6 := hC.1.2.2.2.2.2.1
  have hi1 : inR m := wfh hC.2.2.2.2.2.2
  have hi2 : inR n := wfh (wft hC.2.2.2.2.2.2)
  have hov : (Cond.arrayOver (.array .boolean)).before args s = true := hC.1.2.2.2.2.2.2.2.2 _ ao_bool rfl
  have e1 := ofInt_clamp hi1
  have e2 := ofInt_clamp hi2
  rw [List.map_cons, List.map_cons]
  have r1 := hC.2.2.1.1
  have r2 := hC.2.2.1.2
  refine mn_W (n := Int32.ofInt n) (k := Int32.ofInt m) (ty := .boolean) hC.1.1 hC.1.2.1 hC.1.2.2.2.2.1 (x6 _ hw) hov (x6 _ ac_boolean) rfl hd rfl (fun q => by have := (ofInt_lt hi2 inR_0).mp q; omega) (fun q => by have := (ofInt_lt hi1 inR_0).mp q; omega) (by rw [e2]; omega) (by rw [e1]; omega) (by decide) rfl (by rw [e2]; omega) (by rw [e1, e2]; omega) (fun H' cell comp z c1 c2 c3 c4 c5 r q2 o => ?_)
  rw [e2] at z c3 c4 r ⊢
  rw [e1] at r q2 ⊢
  obtain ⟨W1, ag⟩ := Wd_grid w hb hf (by omega) (by omega) z c1 c2 c3 c4 c5 r q2 o
  have hst := wft (wft hC.2.2.2.2.2.2)
  have es : (Value.ref H.size :: st.map (cv ρ)) = (vr b :: st).map (cv (fun a => if b ≤ a ∧ a ≤ b + n.toNat then H.size + (a - b) else ρ a)) := by
    rw [List.map_cons, cv_ref (show b ≠ 0 by omega), map_agr ag hst]
    simp
  show W p l e R s m' args below meth c H' _ _ _ Q (F0 m' (pc + 4) ls (Value.ref H.size :: st.map (cv ρ)))
  rw [es]
  exact k1 p e R s m' args below meth c Q A _ H' _ _ _ ls (hC.to W1 ag (by omega) (by omega) (wfR (Or.inr (by rw [xK_grid, if_pos rfl]; decide)) (fun v hv => ag.wfv (hst v hv)))) (hR.to ag (by omega) (by omega))
