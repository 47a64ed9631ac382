/-! rules: instructions that leave the heap as it is -/
def cL (ρ : Nat → Nat) (L : List (Option AV)) : List (Nat × Value) := (List.range L.length).filterMap (fun j => match L[j]? with | some (some w) => some (j, cv ρ w) | _ => none)
theorem cL_mem {ρ : Nat → Nat} {L : List (Option AV)} {j : Nat} {w : AV} (h : L[j]? = some (some w)) : (j, cv ρ w) ∈ cL ρ L := by
  refine List.mem_filterMap.mpr ⟨j, List.mem_range.mpr (List.getElem?_eq_some_iff.mp h).1, ?_⟩
  rw [h]
theorem LV.has {ρ : Nat → Nat} {L : List (Option AV)} {nL : Nat} {ls : Array Slot} (h : LV ρ L nL ls) : lv_has ls nL (cL ρ L) := by
  refine ⟨h.1, h.2.1, fun q hq => ?_⟩
  obtain ⟨j, -, hj⟩ := List.mem_filterMap.mp hq
  split at hj
  · next w e => cases hj; exact h.2.2 j w e
  · cases hj
def nlg (L : List (Option AV)) : Nat → Bool
  | 0 => true
  | j + 1 => match L[j]? with | some (some (.inr (.inr _))) => false | _ => true
theorem LV.of {ρ : Nat → Nat} {L : List (Option AV)} {nL i : Nat} {ls : Array Slot} {v : AV} (h : lv_has ls nL ((i, cv ρ v) :: (cL ρ L).filter (fun q => !(q.1 == i) && !(q.1 + 1 == i && q.2.category == 2)))) (hp : nlg L i = true) : LV ρ (L.set i (some v)) nL ls := by
  refine ⟨h.1, h.2.1, fun j w hj => ?_⟩
  by_cases e : j = i
  · subst e
    have hl : j < L.length := by
      have := (List.getElem?_eq_some_iff.mp hj).1
      rwa [List.length_set] at this
    rw [List.getElem?_set_self hl] at hj
    cases hj
    exact h.2.2 _ List.mem_cons_self
  · rw [List.getElem?_set_ne (Ne.symm e)] at hj
    refine h.2.2 (j, cv ρ w) (List.mem_cons_of_mem _ (List.mem_filter.mpr ⟨cL_mem hj, ?_⟩))
    by_cases e2 : j + 1 = i
    · subst e2
      have hw : c1 w = true := by
        simp only [nlg, hj] at hp
        obtain x | a | x := w
        · rfl
        · rfl
        · cases hp
      have := cv_c1 (ρ := ρ) hw
      simp [this]
    · simp [e, e2]
theorem set_wf {h : Hp} {L L' : List (Option AV)} {i : Nat} {v : AV} (hL : L.set i (some v) = L') (hv : wfv h v) (w1 : ∀ (i : Nat) (v : AV), L[i]? = some (some v) → wfv h v) : ∀ (i : Nat) (v : AV), L'[i]? = some (some v) → wfv h v := by
  intro j w hj
  subst hL
  by_cases e : j = i
  · subst e
    have hl : j < L.length := by
      have := (List.getElem?_eq_some_iff.mp hj).1
      rwa [List.length_set] at this
    rw [List.getElem?_set_self hl] at hj
    cases hj
    exact hv
  · rw [List.getElem?_set_ne (Ne.symm e)] at hj
    exact w1 j w hj
theorem wf2 {h : Hp} {v : AV} {st : List AV} (hv : wfv h v) (w : ∀ u ∈ st, wfv h u) : ∀ u ∈ v :: st, wfv h u := by
  intro u hu
  rcases List.mem_cons.mp hu with rfl | hu
  · exact hv
  · exact w u hu
theorem wfI {h : Hp} {x : Int} {st : List AV} (hx : inR x) (w : ∀ u ∈ st, wfv h u) : ∀ u ∈ vi x :: st, wfv h u := wf2 (v := vi x) hx w
theorem wfL {h : Hp} {x : Int64} {st : List AV} (w : ∀ u ∈ st, wfv h u) : ∀ u ∈ vl x :: st, wfv h u := wf2 (v := vl x) trivial w
theorem wfR {h : Hp} {x : Nat} {st : List AV} (hx : x = 0 ∨ xK h x ≠ 0) (w : ∀ u ∈ st, wfv h u) : ∀ u ∈ vr x :: st, wfv h u := wf2 (v := vr x) hx w
theorem wfh {h : Hp} {v : AV} {st : List AV} (w : ∀ u ∈ v :: st, wfv h u) : wfv h v := w v List.mem_cons_self
theorem wft {h : Hp} {v : AV} {st : List AV} (w : ∀ u ∈ v :: st, wfv h u) : ∀ u ∈ st, wfv h u := fun u hu => w u (List.mem_cons_of_mem _ hu)
def iandV (x y : Int) : Int := (Int32.ofInt x &&& Int32.ofInt y).toInt
def iorV (x y : Int) : Int := (Int32.ofInt x ||| Int32.ofInt y).toInt
section RU
variable {l : Launch} {D : DD} {Y : Meth} {d kc ks pc : Nat} {L L' : List (Option AV)} {st : List AV} {h : Hp} {Φ : Option AV → Hp → Prop}
theorem a_iconst {n : Int} (hd : decode Y.2.1 pc = .ok (.iconst n, 1)) (hn : inR n) (k : Ev l D Y d kc ks (pc + 1) L (vi n :: st) h Φ) : Ev l D Y d kc ks pc L st h Φ := by
  refine Ev.go ?_ (fun w1 w2 _ => ⟨w1, wfI hn w2⟩) k
  intro p e R s m args below meth c Q A ρ H locs cells slots ls hC kk
  exact lv_iconst hC.1.1 hC.1.2.1 hd rfl (kk ls hC.2.2.2.2.1)
theorem a_bipush {n : Int} (hd : decode Y.2.1 pc = .ok (.bipush n, 2)) (hn : inR n) (he : (Int8.ofInt n).toInt32 = Int32.ofInt n) (k : Ev l D Y d kc ks (pc + 2) L (vi n :: st) h Φ) : Ev l D Y d kc ks pc L st h Φ := by
  refine Ev.go ?_ (fun w1 w2 _ => ⟨w1, wfI hn w2⟩) k
  intro p e R s m args below meth c Q A ρ H locs cells slots ls hC kk
  exact lv_bipush hC.1.1 hC.1.2.1 hd he (kk ls hC.2.2.2.2.1)
theorem a_sipush {n : Int} (hd : decode Y.2.1 pc = .ok (.sipush n, 3)) (hn : inR n) (he : (Int16.ofInt n).toInt32 = Int32.ofInt n) (k : Ev l D Y d kc ks (pc + 3) L (vi n :: st) h Φ) : Ev l D Y d kc ks pc L st h Φ := by
  refine Ev.go ?_ (fun w1 w2 _ => ⟨w1, wfI hn w2⟩) k
  intro p e R s m args below meth c Q A ρ H locs cells slots ls hC kk
  exact lv_sipush hC.1.1 hC.1.2.1 hd he (kk ls hC.2.2.2.2.1)
theorem a_null (hd : decode Y.2.1 pc = .ok (.aconst_null, 1)) (k : Ev l D Y d kc ks (pc + 1) L (vr 0 :: st) h Φ) : Ev l D Y d kc ks pc L st h Φ := by
  refine Ev.go ?_ (fun w1 w2 _ => ⟨w1, wfR (Or.inl rfl) w2⟩) k
  intro p e R s m args below meth c Q A ρ H locs cells slots ls hC kk
  exact lv_null hC.1.1 hC.1.2.1 hd (kk ls hC.2.2.2.2.1)
theorem a_ldc2 {index : Nat} {v : Int64} (hd : decode Y.2.1 pc = .ok (.ldc2_w index, 3)) (hw : Cond.constantLong Y.1.cls index v ∈ gws) (k : Ev l D Y d kc ks (pc + 3) L (vl v :: st) h Φ) : Ev l D Y d kc ks pc L st h Φ := by
  refine Ev.go ?_ (fun w1 w2 _ => ⟨w1, wfL w2⟩) k
  intro p e R s m args below meth c Q A ρ H locs cells slots ls hC kk
  exact lv_ldc2 hC.1.1 hC.1.2.1 hC.1.2.2.2.2.1 (hC.1.2.2.2.2.2.1 _ hw) hd (kk ls hC.2.2.2.2.1)
theorem a_iload_n {i : Fin 4} {x : Int} (hd : decode Y.2.1 pc = .ok (.iload_n i, 1)) (hl : L[(i : Nat)]? = some (some (vi x))) (k : Ev l D Y d kc ks (pc + 1) L (vi x :: st) h Φ) : Ev l D Y d kc ks pc L st h Φ := by
  refine Ev.go ?_ (fun w1 w2 _ => ⟨w1, wf2 (w1 _ _ hl) w2⟩) k
  intro p e R s m args below meth c Q A ρ H locs cells slots ls hC kk
  exact lv_iload_n hC.1.1 hC.1.2.1 hd rfl (hC.2.2.2.2.1.2.2 _ _ hl) (kk ls hC.2.2.2.2.1)
theorem a_iload {i : Nat} {x : Int} (hd : decode Y.2.1 pc = .ok (.iload i, 2)) (hl : L[i]? = some (some (vi x))) (k : Ev l D Y d kc ks (pc + 2) L (vi x :: st) h Φ) : Ev l D Y d kc ks pc L st h Φ := by
  refine Ev.go ?_ (fun w1 w2 _ => ⟨w1, wf2 (w1 _ _ hl) w2⟩) k
  intro p e R s m args below meth c Q A ρ H locs cells slots ls hC kk
  exact lv_iload hC.1.1 hC.1.2.1 hd (hC.2.2.2.2.1.2.2 _ _ hl) (kk ls hC.2.2.2.2.1)
theorem a_lload_n {i : Fin 4} {x : Int64} (hd : decode Y.2.1 pc = .ok (.lload_n i, 1)) (hl : L[(i : Nat)]? = some (some (vl x))) (k : Ev l D Y d kc ks (pc + 1) L (vl x :: st) h Φ) : Ev l D Y d kc ks pc L st h Φ := by
  refine Ev.go ?_ (fun w1 w2 _ => ⟨w1, wf2 (w1 _ _ hl) w2⟩) k
  intro p e R s m args below meth c Q A ρ H locs cells slots ls hC kk
  exact lv_lload_n hC.1.1 hC.1.2.1 hd rfl (hC.2.2.2.2.1.2.2 _ _ hl) (kk ls hC.2.2.2.2.1)
theorem a_aload_n {i : Fin 4} {a : Nat} (hd : decode Y.2.1 pc = .ok (.aload_n i, 1)) (hl : L[(i : Nat)]? = some (some (vr a))) (k : Ev l D Y d kc ks (pc + 1) L (vr a :: st) h Φ) : Ev l D Y d kc ks pc L st h Φ := by
  refine Ev.go ?_ (fun w1 w2 _ => ⟨w1, wf2 (w1 _ _ hl) w2⟩) k
  intro p e R s m args below meth c Q A ρ H locs cells slots ls hC kk
  have e1 := hC.2.2.2.2.1.2.2 _ _ hl
  have k1 := kk ls hC.2.2.2.2.1
  rw [List.map_cons] at k1
  by_cases ha : a = 0
  · subst ha; exact lv_aload_nN hC.1.1 hC.1.2.1 hd rfl e1 k1
  · rw [cv_ref ha] at e1 k1; exact lv_aload_n hC.1.1 hC.1.2.1 hd rfl e1 k1
theorem a_aload {i a : Nat} (hd : decode Y.2.1 pc = .ok (.aload i, 2)) (hl : L[i]? = some (some (vr a))) (k : Ev l D Y d kc ks (pc + 2) L (vr a :: st) h Φ) : Ev l D Y d kc ks pc L st h Φ := by
  refine Ev.go ?_ (fun w1 w2 _ => ⟨w1, wf2 (w1 _ _ hl) w2⟩) k
  intro p e R s m args below meth c Q A ρ H locs cells slots ls hC kk
  have e1 := hC.2.2.2.2.1.2.2 _ _ hl
  have k1 := kk ls hC.2.2.2.2.1
  rw [List.map_cons] at k1
  by_cases ha : a = 0
  · subst ha; exact lv_aloadN hC.1.1 hC.1.2.1 hd e1 k1
  · rw [cv_ref ha] at e1 k1; exact lv_aload hC.1.1 hC.1.2.1 hd e1 k1
theorem a_istore_n {i : Fin 4} {x : Int} (hd : decode Y.2.1 pc = .ok (.istore_n i, 1)) (hn : (i : Nat) < Y.2.2.1) (hp : nlg L i = true) (hL : L.set i (some (vi x)) = L') (k : Ev l D Y d kc ks (pc + 1) L' st h Φ) : Ev l D Y d kc ks pc L (vi x :: st) h Φ := by
  refine Ev.go ?_ (fun w1 w2 _ => ⟨set_wf hL (wfh w2) w1, wft w2⟩) k
  intro p e R s m args below meth c Q A ρ H locs cells slots ls hC kk
  exact lv_istore_n hC.1.1 hC.1.2.1 hd rfl hC.2.2.2.2.1.has hn rfl (fun ls' hl' => kk ls' (hL ▸ LV.of (v := vi x) hl' hp))
theorem a_istore {i : Nat} {x : Int} (hd : decode Y.2.1 pc = .ok (.istore i, 2)) (hn : i < Y.2.2.1) (hp : nlg L i = true) (hL : L.set i (some (vi x)) = L') (k : Ev l D Y d kc ks (pc + 2) L' st h Φ) : Ev l D Y d kc ks pc L (vi x :: st) h Φ := by
  refine Ev.go ?_ (fun w1 w2 _ => ⟨set_wf hL (wfh w2) w1, wft w2⟩) k
  intro p e R s m args below meth c Q A ρ H locs cells slots ls hC kk
  exact lv_istore hC.1.1 hC.1.2.1 hd hC.2.2.2.2.1.has hn rfl (fun ls' hl' => kk ls' (hL ▸ LV.of (v := vi x) hl' hp))
theorem a_astore_n {i : Fin 4} {a : Nat} (hd : decode Y.2.1 pc = .ok (.astore_n i, 1)) (hn : (i : Nat) < Y.2.2.1) (hp : nlg L i = true) (hL : L.set i (some (vr a)) = L') (k : Ev l D Y d kc ks (pc + 1) L' st h Φ) : Ev l D Y d kc ks pc L (vr a :: st) h Φ := by
  refine Ev.go ?_ (fun w1 w2 _ => ⟨set_wf hL (wfh w2) w1, wft w2⟩) k
  intro p e R s m args below meth c Q A ρ H locs cells slots ls hC kk
  rw [List.map_cons]
  have kk' : ∀ ls' : Array Slot, lv_has ls' Y.2.2.1 ((↑i, cv ρ (vr a)) :: (cL ρ L).filter (fun q => !(q.1 == ↑i) && !(q.1 + 1 == ↑i && q.2.category == 2))) → W p l e R s m args below meth c H locs cells slots Q (F0 m (pc + 1) ls' (st.map (cv ρ))) := fun ls' hl' => kk ls' (hL ▸ LV.of (v := vr a) hl' hp)
  by_cases ha : a = 0
  · subst ha; exact lv_astore_nN hC.1.1 hC.1.2.1 hd rfl hC.2.2.2.2.1.has hn rfl kk'
  · rw [cv_ref ha] at kk' ⊢; exact lv_astore_n hC.1.1 hC.1.2.1 hd rfl hC.2.2.2.2.1.has hn rfl kk'
theorem a_astore {i a : Nat} (hd : decode Y.2.1 pc = .ok (.astore i, 2)) (hn : i < Y.2.2.1) (hp : nlg L i = true) (hL : L.set i (some (vr a)) = L') (k : Ev l D Y d kc ks (pc + 2) L' st h Φ) : Ev l D Y d kc ks pc L (vr a :: st) h Φ := by
  refine Ev.go ?_ (fun w1 w2 _ => ⟨set_wf hL (wfh w2) w1, wft w2⟩) k
  intro p e R s m args below meth c Q A ρ H locs cells slots ls hC kk
  rw [List.map_cons]
  have kk' : ∀ ls' : Array Slot, lv_has ls' Y.2.2.1 ((i, cv ρ (vr a)) :: (cL ρ L).filter (fun q => !(q.1 == i) && !(q.1 + 1 == i && q.2.category == 2))) → W p l e R s m args below meth c H locs cells slots Q (F0 m (pc + 2) ls' (st.map (cv ρ))) := fun ls' hl' => kk ls' (hL ▸ LV.of (v := vr a) hl' hp)
  by_cases ha : a = 0
  · subst ha; exact lv_astoreN hC.1.1 hC.1.2.1 hd hC.2.2.2.2.1.has hn rfl kk'
  · rw [cv_ref ha] at kk' ⊢; exact lv_astore hC.1.1 hC.1.2.1 hd hC.2.2.2.2.1.has hn rfl kk'
theorem a_iinc {i : Nat} {n x : Int} (hd : decode Y.2.1 pc = .ok (.iinc i n, 3)) (hl : L[i]? = some (some (vi x))) (hn : i < Y.2.2.1) (hp : nlg L i = true) (hL : L.set i (some (vi (wr (x + n)))) = L') (k : Ev l D Y d kc ks (pc + 3) L' st h Φ) : Ev l D Y d kc ks pc L st h Φ := by
  refine Ev.go ?_ (fun w1 w2 _ => ⟨set_wf hL (wr_in _) w1, w2⟩) k
  intro p e R s m args below meth c Q A ρ H locs cells slots ls hC kk
  obtain ⟨j, hj⟩ := List.getElem?_of_mem (cL_mem (ρ := ρ) hl)
  refine lv_iinc (v := Int32.ofInt (wr (x + n))) hC.1.1 hC.1.2.1 hd hC.2.2.2.2.1.has hj (by rw [ofInt_wr, Int32.ofInt_add]) hn rfl (fun ls' hl' => kk ls' (hL ▸ LV.of (v := vi (wr (x + n))) hl' hp))
theorem a_iadd {x y : Int} (hd : decode Y.2.1 pc = .ok (.iadd, 1)) (k : Ev l D Y d kc ks (pc + 1) L (vi (wr (x + y)) :: st) h Φ) : Ev l D Y d kc ks pc L (vi y :: vi x :: st) h Φ := by
  refine Ev.go ?_ (fun w1 w2 _ => ⟨w1, wfI (wr_in _) (wft (wft w2))⟩) k
  intro p e R s m args below meth c Q A ρ H locs cells slots ls hC kk
  have k1 := kk ls hC.2.2.2.2.1
  refine lv_iadd hC.1.1 hC.1.2.1 hd ?_
  rw [← Int32.ofInt_add, ← ofInt_wr]
  exact k1
theorem a_isub {x y : Int} (hd : decode Y.2.1 pc = .ok (.isub, 1)) (k : Ev l D Y d kc ks (pc + 1) L (vi (wr (x - y)) :: st) h Φ) : Ev l D Y d kc ks pc L (vi y :: vi x :: st) h Φ := by
  refine Ev.go ?_ (fun w1 w2 _ => ⟨w1, wfI (wr_in _) (wft (wft w2))⟩) k
  intro p e R s m args below meth c Q A ρ H locs cells slots ls hC kk
  have k1 := kk ls hC.2.2.2.2.1
  refine lv_isub hC.1.1 hC.1.2.1 hd ?_
  rw [← Int32.ofInt_sub, ← ofInt_wr]
  exact k1
theorem a_imul {x y : Int} (hd : decode Y.2.1 pc = .ok (.imul, 1)) (k : Ev l D Y d kc ks (pc + 1) L (vi (wr (x * y)) :: st) h Φ) : Ev l D Y d kc ks pc L (vi y :: vi x :: st) h Φ := by
  refine Ev.go ?_ (fun w1 w2 _ => ⟨w1, wfI (wr_in _) (wft (wft w2))⟩) k
  intro p e R s m args below meth c Q A ρ H locs cells slots ls hC kk
  have k1 := kk ls hC.2.2.2.2.1
  refine lv_imul hC.1.1 hC.1.2.1 hd ?_
  rw [← Int32.ofInt_mul, ← ofInt_wr]
  exact k1
theorem a_ineg {x : Int} (hd : decode Y.2.1 pc = .ok (.ineg, 1)) (k : Ev l D Y d kc ks (pc + 1) L (vi (wr (-x)) :: st) h Φ) : Ev l D Y d kc ks pc L (vi x :: st) h Φ := by
  refine Ev.go ?_ (fun w1 w2 _ => ⟨w1, wfI (wr_in _) (wft w2)⟩) k
  intro p e R s m args below meth c Q A ρ H locs cells slots ls hC kk
  have k1 := kk ls hC.2.2.2.2.1
  refine lv_ineg hC.1.1 hC.1.2.1 hd ?_
  rw [← Int32.ofInt_neg, ← ofInt_wr]
  exact k1
theorem a_iand {x y : Int} (hd : decode Y.2.1 pc = .ok (.iand, 1)) (k : Ev l D Y d kc ks (pc + 1) L (vi (iandV x y) :: st) h Φ) : Ev l D Y d kc ks pc L (vi y :: vi x :: st) h Φ := by
  refine Ev.go ?_ (fun w1 w2 _ => ⟨w1, wfI (inR_toInt _) (wft (wft w2))⟩) k
  intro p e R s m args below meth c Q A ρ H locs cells slots ls hC kk
  have k1 := kk ls hC.2.2.2.2.1
  refine lv_iand hC.1.1 hC.1.2.1 hd ?_
  have e1 : Value.int (Int32.ofInt x &&& Int32.ofInt y) = cv ρ (vi (iandV x y)) := by show _ = Value.int (Int32.ofInt _); unfold iandV; rw [Int32.ofInt_toInt]
  rw [e1]
  exact k1
theorem a_ior {x y : Int} (hd : decode Y.2.1 pc = .ok (.ior, 1)) (k : Ev l D Y d kc ks (pc + 1) L (vi (iorV x y) :: st) h Φ) : Ev l D Y d kc ks pc L (vi y :: vi x :: st) h Φ := by
  refine Ev.go ?_ (fun w1 w2 _ => ⟨w1, wfI (inR_toInt _) (wft (wft w2))⟩) k
  intro p e R s m args below meth c Q A ρ H locs cells slots ls hC kk
  have k1 := kk ls hC.2.2.2.2.1
  refine lv_ior hC.1.1 hC.1.2.1 hd ?_
  have e1 : Value.int (Int32.ofInt x ||| Int32.ofInt y) = cv ρ (vi (iorV x y)) := by show _ = Value.int (Int32.ofInt _); unfold iorV; rw [Int32.ofInt_toInt]
  rw [e1]
  exact k1
theorem a_i2l {x : Int} (hd : decode Y.2.1 pc = .ok (.i2l, 1)) (k : Ev l D Y d kc ks (pc + 1) L (vl (Int32.ofInt x).toInt64 :: st) h Φ) : Ev l D Y d kc ks pc L (vi x :: st) h Φ := by
  refine Ev.go ?_ (fun w1 w2 _ => ⟨w1, wfL (wft w2)⟩) k
  intro p e R s m args below meth c Q A ρ H locs cells slots ls hC kk
  exact lv_i2l hC.1.1 hC.1.2.1 hd rfl (kk ls hC.2.2.2.2.1)
theorem a_l2i {x : Int64} (hd : decode Y.2.1 pc = .ok (.l2i, 1)) (k : Ev l D Y d kc ks (pc + 1) L (vi x.toInt32.toInt :: st) h Φ) : Ev l D Y d kc ks pc L (vl x :: st) h Φ := by
  refine Ev.go ?_ (fun w1 w2 _ => ⟨w1, wfI (inR_toInt _) (wft w2)⟩) k
  intro p e R s m args below meth c Q A ρ H locs cells slots ls hC kk
  exact lv_l2i hC.1.1 hC.1.2.1 hd (by rw [Int32.ofInt_toInt]) (kk ls hC.2.2.2.2.1)
theorem a_ladd {x y : Int64} (hd : decode Y.2.1 pc = .ok (.ladd, 1)) (k : Ev l D Y d kc ks (pc + 1) L (vl (x + y) :: st) h Φ) : Ev l D Y d kc ks pc L (vl y :: vl x :: st) h Φ := by
  refine Ev.go ?_ (fun w1 w2 _ => ⟨w1, wfL (wft (wft w2))⟩) k
  intro p e R s m args below meth c Q A ρ H locs cells slots ls hC kk
  exact lv_ladd hC.1.1 hC.1.2.1 hd (kk ls hC.2.2.2.2.1)
theorem a_lmul {x y : Int64} (hd : decode Y.2.1 pc = .ok (.lmul, 1)) (k : Ev l D Y d kc ks (pc + 1) L (vl (x * y) :: st) h Φ) : Ev l D Y d kc ks pc L (vl y :: vl x :: st) h Φ := by
  refine Ev.go ?_ (fun w1 w2 _ => ⟨w1, wfL (wft (wft w2))⟩) k
  intro p e R s m args below meth c Q A ρ H locs cells slots ls hC kk
  exact lv_lmul hC.1.1 hC.1.2.1 hd (kk ls hC.2.2.2.2.1)
theorem a_land {x y : Int64} (hd : decode Y.2.1 pc = .ok (.land, 1)) (k : Ev l D Y d kc ks (pc + 1) L (vl (x &&& y) :: st) h Φ) : Ev l D Y d kc ks pc L (vl y :: vl x :: st) h Φ := by
  refine Ev.go ?_ (fun w1 w2 _ => ⟨w1, wfL (wft (wft w2))⟩) k
  intro p e R s m args below meth c Q A ρ H locs cells slots ls hC kk
  exact lv_land hC.1.1 hC.1.2.1 hd (kk ls hC.2.2.2.2.1)
theorem a_lor {x y : Int64} (hd : decode Y.2.1 pc = .ok (.lor, 1)) (k : Ev l D Y d kc ks (pc + 1) L (vl (x ||| y) :: st) h Φ) : Ev l D Y d kc ks pc L (vl y :: vl x :: st) h Φ := by
  refine Ev.go ?_ (fun w1 w2 _ => ⟨w1, wfL (wft (wft w2))⟩) k
  intro p e R s m args below meth c Q A ρ H locs cells slots ls hC kk
  exact lv_lor hC.1.1 hC.1.2.1 hd (kk ls hC.2.2.2.2.1)
theorem a_lrem {x y : Int64} (hd : decode Y.2.1 pc = .ok (.lrem, 1)) (hne : ¬ y = 0) (k : Ev l D Y d kc ks (pc + 1) L (vl (x - x / y * y) :: st) h Φ) : Ev l D Y d kc ks pc L (vl y :: vl x :: st) h Φ := by
  refine Ev.go ?_ (fun w1 w2 _ => ⟨w1, wfL (wft (wft w2))⟩) k
  intro p e R s m args below meth c Q A ρ H locs cells slots ls hC kk
  exact lv_lrem hC.1.1 hC.1.2.1 hd hne (kk ls hC.2.2.2.2.1)
theorem a_lushr {x : Int64} {y : Int} (hd : decode Y.2.1 pc = .ok (.lushr, 1)) (k : Ev l D Y d kc ks (pc + 1) L (vl (x.toUInt64 >>> ((Int32.ofInt y).toInt64.toUInt64 &&& Int64.toUInt64 63)).toInt64 :: st) h Φ) : Ev l D Y d kc ks pc L (vi y :: vl x :: st) h Φ := by
  refine Ev.go ?_ (fun w1 w2 _ => ⟨w1, wfL (wft (wft w2))⟩) k
  intro p e R s m args below meth c Q A ρ H locs cells slots ls hC kk
  exact lv_lushr hC.1.1 hC.1.2.1 hd rfl (kk ls hC.2.2.2.2.1)
theorem a_lshl {x : Int64} {y : Int} (hd : decode Y.2.1 pc = .ok (.lshl, 1)) (k : Ev l D Y d kc ks (pc + 1) L (vl (x <<< ((Int32.ofInt y).toInt64 &&& 63)) :: st) h Φ) : Ev l D Y d kc ks pc L (vi y :: vl x :: st) h Φ := by
  refine Ev.go ?_ (fun w1 w2 _ => ⟨w1, wfL (wft (wft w2))⟩) k
  intro p e R s m args below meth c Q A ρ H locs cells slots ls hC kk
  exact lv_lshl hC.1.1 hC.1.2.1 hd rfl (kk ls hC.2.2.2.2.1)
theorem a_dup {v : AV} (hd : decode Y.2.1 pc = .ok (.dup, 1)) (h1 : c1 v = true) (k : Ev l D Y d kc ks (pc + 1) L (v :: v :: st) h Φ) : Ev l D Y d kc ks pc L (v :: st) h Φ := by
  refine Ev.go ?_ (fun w1 w2 _ => ⟨w1, wf2 (wfh w2) w2⟩) k
  intro p e R s m args below meth c Q A ρ H locs cells slots ls hC kk
  exact lv_dup hC.1.1 hC.1.2.1 hd (cv_c1 h1) (kk ls hC.2.2.2.2.1)
theorem a_dup_x1 {v u : AV} (hd : decode Y.2.1 pc = .ok (.dup_x1, 1)) (h1 : c1 v = true) (h2 : c1 u = true) (k : Ev l D Y d kc ks (pc + 1) L (v :: u :: v :: st) h Φ) : Ev l D Y d kc ks pc L (v :: u :: st) h Φ := by
  refine Ev.go ?_ (fun w1 w2 _ => ⟨w1, wf2 (wfh w2) (wf2 (wfh (wft w2)) (wf2 (wfh w2) (wft (wft w2))))⟩) k
  intro p e R s m args below meth c Q A ρ H locs cells slots ls hC kk
  exact lv_dup_x1 hC.1.1 hC.1.2.1 hd (cv_c1 h1) (cv_c1 h2) (kk ls hC.2.2.2.2.1)
theorem a_dup_x2 {v u w : AV} (hd : decode Y.2.1 pc = .ok (.dup_x2, 1)) (h1 : c1 v = true) (h2 : c1 u = true) (h3 : c1 w = true) (k : Ev l D Y d kc ks (pc + 1) L (v :: u :: w :: v :: st) h Φ) : Ev l D Y d kc ks pc L (v :: u :: w :: st) h Φ := by
  refine Ev.go ?_ (fun w1 w2 _ => ⟨w1, wf2 (wfh w2) (wf2 (wfh (wft w2)) (wf2 (wfh (wft (wft w2))) (wf2 (wfh w2) (wft (wft (wft w2))))))⟩) k
  intro p e R s m args below meth c Q A ρ H locs cells slots ls hC kk
  exact lv_dup_x2 hC.1.1 hC.1.2.1 hd (cv_c1 h1) (cv_c1 h2) (cv_c1 h3) (kk ls hC.2.2.2.2.1)
theorem a_dup2 {v u : AV} (hd : decode Y.2.1 pc = .ok (.dup2, 1)) (h1 : c1 v = true) (h2 : c1 u = true) (k : Ev l D Y d kc ks (pc + 1) L (v :: u :: v :: u :: st) h Φ) : Ev l D Y d kc ks pc L (v :: u :: st) h Φ := by
  refine Ev.go ?_ (fun w1 w2 _ => ⟨w1, wf2 (wfh w2) (wf2 (wfh (wft w2)) w2)⟩) k
  intro p e R s m args below meth c Q A ρ H locs cells slots ls hC kk
  exact lv_dup2_11 hC.1.1 hC.1.2.1 hd (cv_c1 h1) (cv_c1 h2) (kk ls hC.2.2.2.2.1)
theorem a_goto {off : Int} {tgt : Nat} (hd : decode Y.2.1 pc = .ok (.goto off, 3)) (ht : (pc : Int) + off = (tgt : Int)) (k : Ev l D Y d kc ks tgt L st h Φ) : Ev l D Y d kc ks pc L st h Φ := by
  refine Ev.go ?_ (fun w1 w2 _ => ⟨w1, w2⟩) k
  intro p e R s m args below meth c Q A ρ H locs cells slots ls hC kk
  exact lv_goto hC.1.1 hC.1.2.1 hd ht (kk ls hC.2.2.2.2.1)
end RU
