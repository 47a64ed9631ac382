/-! an array of arrays is made: an own law, for two dimensions -/
section MN
variable {p : Program} {l : Launch} {e : Env} {R : Room} {s : State} {m : MethodId} {args : Array Value} {below : List Frame} {meth : Method} {c : Code} {H : Heap} {locs : List Loc} {cells slots : Nat} {Q : State → Prop}
/-- i rows are there -/
def mnR (p : Program) (l : Launch) (e : Env) (R : Room) (s : State) (m : MethodId) (args : Array Value) (below : List Frame) (meth : Method) (c : Code) (locs : List Loc) (cells slots : Nat) (B : State) (cA comp : ClassId) (N M : Nat) (dv : Value) (i : Nat) (U : State) : Prop :=
  Stand p l e R s m args below meth c U (locs ++ (List.range i).map (fun j => (⟨B.heap.size, j⟩ : Loc))) (cells + 1 + i) (slots + N + i * M) ∧ U.vm = B.vm ∧ U.heap.size = B.heap.size + 1 + i ∧
  (∃ cell : Cell, U.heap[B.heap.size]? = some cell ∧ cell.cls = cA ∧ cell.vm = .none ∧ cell.slots.size = N ∧ ∀ j : Nat, j < N → cell.slots[j]? = some (if j < i then .ref (B.heap.size + 1 + j) else .null)) ∧
  (∀ j : Nat, j < i → U.heap[B.heap.size + 1 + j]? = some ({ cls := comp, slots := Array.replicate M dv, vm := .none } : Cell)) ∧ ∀ q : Nat, q < B.heap.size → U.heap[q]? = B.heap[q]?
theorem mnR_0 {B : State} {cA comp : ClassId} {N M : Nat} {dv : Value} (X : Stand p l e R s m args below meth c B locs cells slots) : mnR p l e R s m args below meth c locs cells slots B cA comp N M dv 0 (B.pushCell ({ cls := cA, slots := Array.replicate N .null } : Cell)) := by
  have X1 := X.pushed ({ cls := cA, slots := Array.replicate N .null } : Cell)
  refine ⟨?_, rfl, ?_, ⟨({ cls := cA, slots := Array.replicate N .null } : Cell), State.heap_pushCell_size _ _, rfl, rfl, by simp, fun j hj => ?_⟩, fun j hj => absurd hj (Nat.not_lt_zero _), fun q hq => State.heap_pushCell_of_lt _ _ hq⟩
  · simpa using X1
  · simp
  · rw [if_neg (Nat.not_lt_zero _)]
    simp [hj]
theorem mnR_s {B U : State} {cA comp : ClassId} {N M i : Nat} {dv : Value} (q : mnR p l e R s m args below meth c locs cells slots B cA comp N M dv i U) (hi : i < N) : ∃ cell : Cell, U.heap[B.heap.size]? = some cell ∧ cell.cls = cA ∧ cell.vm = .none ∧ cell.slots.size = N ∧
    mnR p l e R s m args below meth c locs cells slots B cA comp N M dv (i + 1) ((U.pushCell ({ cls := comp, slots := Array.replicate M dv } : Cell)).setCell B.heap.size (cell.setSlot i (.ref U.heap.size))) := by
  obtain ⟨X, v, z, ⟨cell, c1, c2, c3, c4, c5⟩, r, o⟩ := q
  have lt : B.heap.size < U.heap.size := by omega
  have c1' : (U.pushCell ({ cls := comp, slots := Array.replicate M dv } : Cell)).heap[B.heap.size]? = some cell := (State.heap_pushCell_of_lt _ _ lt).trans c1
  have X2 := (X.pushed ({ cls := comp, slots := Array.replicate M dv } : Cell)).stored c1' i (.ref U.heap.size)
  refine ⟨cell, c1, c2, c3, c4, ?_, ?_, ?_, ⟨_, State.heap_setCell_self c1', ?_, ?_, ?_, fun j hj => ?_⟩, fun j hj => ?_, fun q hq => ?_⟩
  · have e1 : (locs ++ (List.range (i + 1)).map (fun j => (⟨B.heap.size, j⟩ : Loc))) = (locs ++ (List.range i).map (fun j => (⟨B.heap.size, j⟩ : Loc))) ++ [⟨B.heap.size, i⟩] := by
      rw [List.range_succ, List.map_append, ← List.append_assoc]; rfl
    have e2 : (Array.replicate M dv).size = M := by simp
    have e3 : slots + N + (i + 1) * M = slots + N + i * M + M := by rw [Nat.succ_mul]; omega
    rw [e1, e3, show cells + 1 + (i + 1) = cells + 1 + i + 1 by omega]
    simpa [e2] using X2
  · exact v
  · simp [State.setCell, z]
    omega
  · simp [Cell.setSlot, c2]
  · simp [Cell.setSlot, c3]
  · simp [Cell.setSlot, c4]
  · simp only [Cell.setSlot, Array.getElem?_setIfInBounds]
    by_cases ej : i = j
    · subst ej
      rw [if_pos rfl, c4, if_pos hi, if_pos (by omega), z]
    · rw [if_neg ej, c5 j hj]
      by_cases jl : j < i
      · rw [if_pos jl, if_pos (by omega)]
      · rw [if_neg jl, if_neg (by omega)]
  · rw [State.heap_setCell_other (show B.heap.size ≠ B.heap.size + 1 + j by omega)]
    by_cases ej : j = i
    · subst ej
      rw [← z]
      exact State.heap_pushCell_size _ _
    · rw [State.heap_pushCell_of_lt _ _ (show B.heap.size + 1 + j < U.heap.size by omega)]
      exact r j (by omega)
  · rw [State.heap_setCell_other (show B.heap.size ≠ q by omega), State.heap_pushCell_of_lt _ _ (show q < U.heap.size by omega)]
    exact o q hq
theorem mn_make {E : CtlPost} {d : Bool} {acts : List Action} {B : State} {f : JFrame} {cA comp cc : ClassId} {kA kC : Class} {ty : FieldType} {n k : Int32} {Qw : Addr → Pre} (X : Stand p l e R s m args below meth c B locs cells slots)
    (hkA : B.vm.classes[cA]? = some kA) (hA : kA.kind = .array comp (.array ty)) (hkC : B.vm.classes[comp]? = some kC) (hC : kC.kind = .array cc ty) (hn : ¬ n < 0) (hk : ¬ k < 0) (hb1 : n.toNatClampNeg ≤ 100000) (hb2 : k.toNatClampNeg ≤ 100000) (hcb : componentBytes ty ≤ 8) (hdf : fits ty (defaultValue ty) = true)
    (hcells : cells + (1 + n.toNatClampNeg) ≤ R.cells) (hslots : slots + (n.toNatClampNeg + n.toNatClampNeg * k.toNatClampNeg) ≤ R.slots)
    (hq : ∀ d' acts' U, mnR p l e R s m args below meth c locs cells slots B cA comp n.toNatClampNeg k.toNatClampNeg (defaultValue ty) n.toNatClampNeg U → Qw B.heap.size d' acts' (U.setTop f)) : wp (multianewarray.make cA [n, k]) Qw E e d acts (B.setTop f) := by
  have lim : ∀ x : Nat, x ≤ 100000 → ¬ x > e.platform.arrayLengthLimit := fun x hx => by rw [Launch.admits_arrayLengthLimit X.admits]; omega
  have hp : ∀ x y : Nat, x ≤ 100000 → y ≤ 8 → ¬ x * y > e.platform.maxHeapBytes := fun x y hx hy => by
    have := Nat.mul_le_mul hx hy
    rw [Launch.admits_maxHeapBytes X.admits]; omega
  have none' : ([k].find? (· < 0)) = none := by simp [hk]
  obtain ⟨m1, m2⟩ := X.roomAbove (show cells + 1 ≤ R.cells by omega) (show slots + n.toNatClampNeg ≤ R.slots by have := Nat.zero_le (n.toNatClampNeg * k.toNatClampNeg); omega)
  rw [multianewarray.make]
  simp only [wp_bind', W.ite, hn, if_false, wp_pure', W.theClass, State.vm_setTop, hkA, hA, Option.some.injEq, exists_eq_left']
  refine W.newArray_of (k := kA) (comp := comp) (type := .array ty) hkA hA (lim _ hb1) (hp _ 4 hb1 (by omega)) ?_ ?_ rfl (fun acts1 => ?_)
  · exact m1
  · exact m2
  simp only [none']
  rw [ite_self, wp_bind', Std.Legacy.Range.forIn_eq_forIn_range']
  have sz : ([:n.toNatClampNeg] : Std.Legacy.Range).size = n.toNatClampNeg := by simp [Std.Legacy.Range.size]
  rw [sz]
  refine wp_forIn_inv (fun rest s' => ∃ i U, i ≤ n.toNatClampNeg ∧ rest = List.range' i (n.toNatClampNeg - i) ∧ s' = State.setTop U f ∧ mnR p l e R s m args below meth c locs cells slots B cA comp n.toNatClampNeg k.toNatClampNeg (defaultValue ty) i U) _ _ ⟨0, _, Nat.zero_le _, rfl, rfl, mnR_0 X⟩ ?_ ?_
  · rintro x rest s' d' acts' Q' ⟨i, U, hi, hl, rfl, hU⟩ hnext
    have lt : i < n.toNatClampNeg := by
      rcases Nat.lt_or_ge i n.toNatClampNeg with h | h
      · exact h
      · rw [show n.toNatClampNeg - i = 0 by omega] at hl; cases hl
    rw [show n.toNatClampNeg - i = (n.toNatClampNeg - (i + 1)) + 1 by omega, List.range'_succ] at hl
    obtain ⟨e1, e2⟩ := List.cons.inj hl
    subst e1
    obtain ⟨cell, c1, c2, c3, c4, nx⟩ := mnR_s hU lt
    have mul : x * k.toNatClampNeg + k.toNatClampNeg ≤ n.toNatClampNeg * k.toNatClampNeg := by
      have := Nat.mul_le_mul_right k.toNatClampNeg (show x + 1 ≤ n.toNatClampNeg from lt)
      rw [Nat.succ_mul] at this; exact this
    obtain ⟨m3, m4⟩ := hU.1.roomAbove (show cells + 1 + x + 1 ≤ R.cells by omega) (show slots + n.toNatClampNeg + x * k.toNatClampNeg + k.toNatClampNeg ≤ R.slots by omega)
    have kC' : U.vm.classes[comp]? = some kC := by rw [hU.2.1]; exact hkC
    have kA' : U.vm.classes[cA]? = some kA := by rw [hU.2.1]; exact hkA
    simp only [wp_bind']
    rw [multianewarray.make]
    simp only [wp_bind', W.ite, hk, if_false, wp_pure', W.theClass, State.vm_setTop, kC', hC, Option.some.injEq, exists_eq_left']
    refine W.newArray_of (k := kC) (comp := cc) (type := ty) kC' hC (lim _ hb2) (hp _ _ hb2 hcb) m3 m4 hdf (fun acts2 => ?_)
    have ltU : B.heap.size < U.heap.size := by rw [hU.2.2.1]; omega
    simp only [wp_bind', W.writeLoc, wp_pure']
    refine ⟨cell, (State.heap_pushCell_of_lt _ _ ltU).trans c1, by rw [c3]; simp, by rw [c4]; exact lt, ?_, hnext _ _ _ ⟨x + 1, _, lt, e2, rfl, nx⟩⟩
    rw [c2, c3]
    simp [State.fitsSlot, State.slotType?, kA', hA]
    rfl
  · rintro s' d' acts' ⟨i, U, hi, hl, rfl, hU⟩
    have ei : i = n.toNatClampNeg := by
      rcases Nat.lt_or_ge i n.toNatClampNeg with h | h
      · rw [show n.toNatClampNeg - i = (n.toNatClampNeg - (i + 1)) + 1 by omega, List.range'_succ] at hl; cases hl
      · omega
    subst ei
    simp only [wp_pure']
    exact hq _ _ U hU
end MN
