/-! calls: a callee's Ev at its entry is its contract; the caller's rest is its post -/
theorem good_spec {w : Cond} (h : good w = true) : (w.onTables && w.keeps) = true ∨ ∃ ty, w = .arrayClass ty := by
  unfold good at h
  rw [Bool.or_eq_true] at h
  rcases h with h | h
  · exact Or.inl h
  · refine Or.inr ?_
    cases w with
    | arrayClass ty => exact ⟨ty, rfl⟩
    | _ => cases h
def mws (Y : Meth) : List Cond := Cond.code Y.1 Y.2.1 Y.2.2.1 Y.2.2.2 :: gws
theorem mws_good {Y : Meth} (hc : Cond.code Y.1 Y.2.1 Y.2.2.1 Y.2.2.2 ∈ gws) : GoodIn gws (mws Y) := by
  intro w hw
  have hg : w ∈ gws := by
    rcases List.mem_cons.mp hw with rfl | h
    · exact hc
    · exact h
  exact ⟨hg, good_spec (List.mem_filter.mp hg).2⟩
def flA (as : List AV) : List (Option AV) := as.flatMap (fun v => cond (c1 v) [some v] [some v, none])
def enL (n : Nat) (as : List AV) : List (Option AV) := flA as ++ List.replicate (n - (flA as).length) none
theorem cat_c1 {ρ : Nat → Nat} {v : AV} : (cv ρ v).category = 2 ↔ c1 v = false := by
  obtain x | a | x := v
  · exact ⟨(fun h => by cases h), (fun h => by cases h)⟩
  · have := cv_c1 (ρ := ρ) (v := vr a) rfl
    exact ⟨(fun h => by rw [this] at h; cases h), (fun h => by cases h)⟩
  · exact ⟨fun _ => rfl, fun _ => rfl⟩
theorem flA_len {ρ : Nat → Nat} (as : List AV) : (lg_sl (as.map (cv ρ))).length = (flA as).length := by
  induction as with
  | nil => rfl
  | cons v t ih =>
    have e1 : lg_sl ((v :: t).map (cv ρ)) = (if (cv ρ v).category = 2 then [.val (cv ρ v), .second] else [.val (cv ρ v)]) ++ lg_sl (t.map (cv ρ)) := by
      simp [lg_sl]
    have e2 : flA (v :: t) = cond (c1 v) [some v] [some v, none] ++ flA t := by simp [flA]
    rw [e1, e2, List.length_append, List.length_append, ih]
    cases hc : c1 v with
    | true => rw [if_neg (fun q => by rw [cat_c1.mp q] at hc; cases hc)]; rfl
    | false => rw [if_pos (cat_c1.mpr hc)]; rfl
theorem flA_args {ρ : Nat → Nat} : ∀ (as : List AV) (k i : Nat) (v : AV), (flA as)[i]? = some (some v) → (k + i, cv ρ v) ∈ lv_args k (as.map (cv ρ)) := by
  intro as
  induction as with
  | nil => intro k i v h; simp [flA] at h
  | cons w t ih =>
    intro k i v h
    have e2 : flA (w :: t) = cond (c1 w) [some w] [some w, none] ++ flA t := by simp [flA]
    rw [e2] at h
    rw [List.map_cons]
    unfold lv_args
    cases hc : c1 w with
    | true =>
      rw [if_neg (fun q => by rw [cat_c1.mp q] at hc; cases hc)]
      rw [hc] at h
      cases i with
      | zero => simp at h; subst h; exact List.mem_cons_self
      | succ i =>
        have h' : (flA t)[i]? = some (some v) := by simpa using h
        refine List.mem_cons_of_mem _ ?_
        have := ih (k + 1) i v h'
        rwa [show k + 1 + i = k + (i + 1) by omega] at this
    | false =>
      rw [if_pos (cat_c1.mpr hc)]
      rw [hc] at h
      match i, h with
      | 0, h => simp at h; subst h; exact List.mem_cons_self
      | 1, h => simp at h
      | i + 2, h =>
        have h' : (flA t)[i]? = some (some v) := by simpa using h
        refine List.mem_cons_of_mem _ ?_
        have := ih (k + 2) i v h'
        rwa [show k + 2 + i = k + (i + 2) by omega] at this
theorem enL_get {n i : Nat} {as : List AV} {v : AV} (h : (enL n as)[i]? = some (some v)) : (flA as)[i]? = some (some v) := by
  unfold enL at h
  by_cases hl : i < (flA as).length
  · rwa [List.getElem?_append_left hl] at h
  · rw [List.getElem?_append_right (by omega), List.getElem?_replicate] at h
    split at h <;> cases h
theorem flA_mem {as : List AV} {i : Nat} {v : AV} (h : (flA as)[i]? = some (some v)) : v ∈ as := by
  have hm := List.mem_of_getElem? h
  obtain ⟨w, hw, hv⟩ := List.mem_flatMap.mp hm
  cases hc : c1 w with
  | true => rw [hc] at hv; simp at hv; rw [hv]; exact hw
  | false => rw [hc] at hv; simp at hv; rw [hv]; exact hw
def fr (h : Hp) (ρ : Nat → Nat) (sz : Nat) : Nat → Prop := fun q => (∃ a, 16 ≤ a ∧ xK h a ≠ 0 ∧ q = ρ a) ∨ sz ≤ q
def PcE (D : DD) (as : List AV) (h : Hp) (ρ : Nat → Nat) (sz : Nat) : Array Value → State → Prop := fun v U => v = (as.map (cv ρ)).toArray ∧ U.heap.size = sz ∧ Wd D ρ h U U.heap (fr h ρ sz) [] ∧ Nw U ∧ ∀ v ∈ as, wfv h v
def QcE (D : DD) (h : Hp) (ρ : Nat → Nat) (sz : Nat) (Ψ : Option AV → Hp → Prop) : Array Value → State → Outcome → State → Prop := fun _ st oc t =>
  ∃ (v : Option AV) (h' : Hp) (ρ' : Nat → Nat), oc = .returned (v.map (cv ρ')) ∧ (Rep D ρ' h' t t.heap ∧ ∀ a, 16 ≤ a → xK h' a ≠ 0 → fr h ρ sz (ρ' a)) ∧ agr h ρ h' ρ' ∧ (∀ u, v = some u → wfv h' u) ∧ Ψ v h' ∧ va_F (fr h ρ sz) st t
set_option maxHeartbeats 4000000 in
theorem Ev.met {l : Launch} {D : DD} {Y : Meth} {d kc ks : Nat} {as : List AV} {h : Hp} {Ψ : Option AV → Hp → Prop} (ρ : Nat → Nat) (sz : Nat) (hE : Ev l D Y d kc ks 0 (enL Y.2.2.1 as) [] h Ψ) (hpl : plainFor Y.1 = true) (hfl : (flA as).length ≤ Y.2.2.1) :
    Met l Y.1 (mws Y) ({ frames := d, cells := kc, slots := ks, locals := 40 * d } : Jvm.Room) (PcE D as h ρ sz) (QcE D h ρ sz Ψ) kc ks (fr h ρ sz) := by
  refine va_MetF (cc := Y.2.1) (maxL := Y.2.2.1) (ret := Y.2.2.2) hpl rfl ?_
  intro p e s m args below meth c s₁ B hml hv
  obtain ⟨rfl, hsz, hw, hN, hwf⟩ := hv
  have hts := atoms_spec (ws := mws Y) B.pre
  have hown : s.vm.findClass Y.1.cls = some m.cls := findClass_of_methodNamed B.named
  have hnm : meth.name = Y.1.name := (name_of_methodNamed B.named B.method).1
  have hlocks := B.notSynchronized
  have hx := B.exec
  have hb := B.bytes
  have hr := B.returns
  have hl := lv_entry (as.map (cv ρ)) (n := Y.2.2.1) (by rw [flA_len]; exact hfl)
  rw [lg_entry_eq]
  generalize (lg_sl (as.map (cv ρ)) ++ List.replicate (Y.2.2.1 - (lg_sl (as.map (cv ρ))).length) Slot.unset).toArray = ls at hl ⊢
  have hLV : LV ρ (enL Y.2.2.1 as) Y.2.2.1 ls := ⟨hl.1, hl.2.1, fun i v hi => by
    have := hl.2.2 _ (flA_args (ρ := ρ) as 0 i v (enL_get hi))
    simpa using this⟩
  refine hE p e _ s m _ below meth c _ (fr h ρ sz) ρ s.heap [] 0 0 ls ⟨⟨hx, hb, hr, hml, hown, fun w hw => hts w (List.mem_cons_of_mem _ hw), hlocks, hnm, hN⟩, ⟨Nat.le_refl _, Nat.le_refl _⟩, ⟨by show 0 + kc ≤ kc; omega, by show 0 + ks ≤ ks; omega⟩, hw, hLV, fun i v hi => hwf v (flA_mem (enL_get hi)), fun v hv => by cases hv⟩ ?_
  intro v h' ρ' H' locs' cells' slots' pc' ls' a1 a2 a3 a4 a5 a6 a7
  have hQ : ∀ t : State, t.heap = H' → s.WarmedH t.vm → QcE D h ρ sz Ψ (as.map (cv ρ)).toArray s (.returned (v.map (cv ρ'))) t := fun t ht hW => ⟨v, h', ρ', rfl, ⟨by rw [ht]; exact a1.2.1.moved hW.alike, fun a h1 h2 => a1.2.2.2.2.1 a h1 h2⟩, a2, a3, a6, a1.2.2.1.F ht⟩
  have hf : ∀ q ∈ locs', fr h ρ sz q.base := a1.2.2.1.2.2
  refine W.widen (k := kc) (n := ks) (by omega) (by omega) ?_
  match v, a7, hQ with
  | none, a7, hQ => exact W.vret hx hb (hr.trans a7.1) hQ hf a7.2 hlocks
  | some (.inl x), a7, hQ =>
    rcases a7.2 with hi | ⟨hi, hx01⟩
    · exact W.iret hx hb (hr.trans hi) hQ hf a7.1 hlocks
    · exact W.zret hx hb (hr.trans hi) (fit_bool hx01).1 hQ hf a7.1 hlocks
  | some (.inr (.inl a)), a7, hQ =>
    obtain ⟨hdg, rt, hrt, ht⟩ := a7
    exact W.aret hx hb (hr.trans hrt) ht (va_rf_or _) hQ hf hdg hlocks
theorem PcE.blind {D : DD} {as : List AV} {h : Hp} {ρ : Nat → Nat} {sz : Nat} : FrameBlind (PcE D as h ρ sz) := by
  intro a U g mk q
  obtain ⟨q1, q2, ⟨w1, w2, w3, w4, w5, w6⟩, q4, q5⟩ := q
  have al : U.vm.Alike (U.calling g mk a).vm := Vm.Alike.refl U.vm
  exact ⟨q1, q2, ⟨w1.moved al, w2.moved al, w3, w4, w5, fun x hx => ⟨(w6 x hx).1.moved al, (w6 x hx).2⟩⟩, Nw.same (s := U) (U := U.calling g mk a) rfl q4, q5⟩
section CG
variable {l : Launch} {D : DD} {Y Y' : Meth} {d d' kc ks pc kc1 ks1 kc2 ks2 : Nat} {L L0 : List (Option AV)} {st as : List AV} {h : Hp} {Φ : Option AV → Hp → Prop}
variable {p : Program} {e : Env} {R : Room} {s : State} {m : MethodId} {args : Array Value} {below : List Frame} {meth : Method} {c : Code} {Q : State → Prop} {A : Nat → Prop} {ρ : Nat → Nat} {H : Heap} {locs : List Loc} {cells slots : Nat} {ls : Array Slot}
theorem pre_at {st0 : List AV} (hC : Cf D Y d kc ks L st0 h p R s m args meth c A ρ H locs cells slots ls) (ha : ∀ v ∈ as, wfv h v) : ∀ U : State, U.heap = H → s.WarmedH U.vm → PcE D as h ρ H.size (as.map (cv ρ)).toArray U := by
  intro U hU hW
  obtain ⟨w1, w2, w3, w4, w5, w6⟩ := hC.2.2.2.1
  refine ⟨rfl, by rw [hU], ⟨w1.moved hW.alike, by rw [hU]; exact w2.moved hW.alike, ⟨Nat.le_refl _, fun _ _ _ => rfl, fun _ h => by cases h⟩, fun q hq => Or.inr (by rw [← hU]; exact hq), fun a h1 h2 => Or.inl ⟨a, h1, h2, rfl⟩, fun q hq => ⟨?_, (w6 q hq).2⟩⟩, hC.1.2.2.2.2.2.2.2.2.warm hW, ha⟩
  have z := (w6 q hq).1
  have z1 : va_Z q.1 q.2.1 q.2.2.1 (.ref (ρ q.2.2.2)) A s H := z.kept (fun a h1 h2 => w3.2.1 a h1 h2)
  obtain ⟨cf, kf, fi, f, a, cell, i1, i2, i3, i4, i5, i6, i7, i8⟩ := z1.moved (U := U) hW.alike
  refine ⟨cf, kf, fi, f, a, cell, i1, i2, i3, i4, by rw [hU]; exact i5, i6, i7, fun q => ?_⟩
  rcases q with ⟨b, b1, b2, b3⟩ | q
  · exact i8 (by rw [b3]; exact w5 b b1 b2)
  · have := (Array.getElem?_eq_some_iff.mp i5).1; omega
theorem call_go {st0 : List AV} {stk : List Value} {av : Array Value} (hC : Cf D Y d kc ks L st0 h p R s m args meth c A ρ H locs cells slots ls) (hR : Rt l D Y p e R s m args below meth c Q A h ρ (cells + kc) (slots + ks) Φ) (hst : ∀ v ∈ st, wfv h v) (h1 : kc1 + kc2 ≤ kc) (h2 : ks1 + ks2 ≤ ks)
    (hr : va_Run p l e R s m args below meth c H locs cells slots kc1 ks1 (F0 m pc ls stk) (st.map (cv ρ)) (QcE D h ρ H.size (fun v h' => Ev l D Y d kc2 ks2 (pc + 3) L (v.toList ++ st) h' Φ) av) (fr h ρ H.size)) : W p l e R s m args below meth c H locs cells slots Q (F0 m pc ls stk) := by
  intro T hT X
  obtain ⟨v, st₀, t, T', L', h0, X', hL, e1, e2, hq, stp⟩ := hr T hT X
  obtain ⟨u, h', ρ', hv, ⟨hRep, hfr⟩, ag, hwf, hΨ, hF⟩ := hq
  have hv' : v = u.map (cv ρ') := by injection hv
  subst hv'
  have al : s.vm.Alike t.vm := by rw [← e2]; exact X'.warmed.alike
  obtain ⟨w1, w2, w3, w4, w5, w6⟩ := hC.2.2.2.1
  have hfA : ∀ q, fr h ρ H.size q → A q := by
    intro q hq
    rcases hq with ⟨b, b1, b2, b3⟩ | hq
    · rw [b3]; exact w5 b b1 b2
    · exact w4 q (Nat.le_trans w3.1 hq)
  have hFs : H.size ≤ t.heap.size := by have := hF.1; rw [h0] at this; exact this
  have hW' : Wd D ρ' h' s t.heap A (locs ++ L') := by
    refine ⟨w1, hRep.moved al.symm, ⟨Nat.le_trans w3.1 hFs, fun q q1 q2 => ?_, fun q hq => ?_⟩, w4, fun a a1 a2 => hfA _ (hfr a a1 a2), fun q hq => ?_⟩
    · have h3 := hF.2 q (by rw [h0]; exact Nat.lt_of_lt_of_le q1 w3.1) (fun z => q2 (hfA q z))
      rw [h0] at h3
      rw [h3]; exact w3.2.1 q q1 q2
    · rcases List.mem_append.mp hq with g | g
      · exact w3.2.2 q g
      · exact hfA _ (hL q g)
    · obtain ⟨z1, z2⟩ := w6 q hq
      exact ⟨by rw [(ag _ z2).2.2]; exact z1, by rw [(ag _ z2).1]; exact z2⟩
  have hst' : ∀ x ∈ u.toList ++ st, wfv h' x := by
    intro x hx
    rcases List.mem_append.mp hx with g | g
    · cases u with
      | none => cases g
      | some y => simp at g; rw [g]; exact hwf y rfl
    · exact ag.wfv (hst x g)
  have hWW := hΨ p e R s m args below meth c Q A ρ' t.heap (locs ++ L') (cells + kc1) (slots + ks1) ls (hC.to hW' ag (by omega) (by omega) hst') (hR.to ag (by omega) (by omega))
  obtain ⟨t2, a1, b1⟩ := hWW T' e1 X'
  refine ⟨t2, stp t2 ?_, b1⟩
  have es : (u.map (cv ρ')).toList ++ st.map (cv ρ) = (u.toList ++ st).map (cv ρ') := by
    rw [List.map_append, map_agr ag hst]
    cases u <;> rfl
  show Steps p.tables e below (T'.setTop { (F0 m pc ls stk) with pc := pc + 3, stack := (u.map (cv ρ')).toList ++ st.map (cv ρ) }) t2
  rw [es]
  exact a1
theorem rc_at {b kd : Nat} (w : Wd D ρ h s H A locs) (hb : xK h b = kd) (hk : (1 ≤ kd ∧ kd ≤ 12) ∨ kd = 30 ∨ kd = 31) : ∃ cellB : Cell, H[ρ b]? = some cellB ∧ cellB.vm.isStatics = false ∧ s.vm.findClass (cn kd) = some cellB.cls := by
  subst hb
  rcases hk with ⟨k1, k2⟩ | hk
  · obtain ⟨cell, q1, q2, q3, -⟩ := ob_at w k1 k2
    exact ⟨cell, q1, by rw [q3]; rfl, by rw [q2]; exact (w.1.1 _ k1 k2).2.1⟩
  · obtain ⟨cell, q1, ⟨g1, g2, -⟩ | ⟨g1, g2, -⟩ | ⟨-, q2, q3⟩⟩ := w.2.1.2.1 b (by omega)
    · omega
    · omega
    · exact ⟨cell, q1, q2, by rw [q3]; exact w.1.2.1 _ hk⟩
end CG
def st8 (st : List AV) : Bool := decide ((st.map (fun v => cond (c1 v) 1 2)).sum ≤ 8)
theorem st8_of {ρ : Nat → Nat} {st : List AV} (h : st8 st = true) : ((st.map (cv ρ)).map fun v => v.category).sum ≤ 8 := by
  have e : ((st.map (cv ρ)).map fun v => v.category) = st.map (fun v => cond (c1 v) 1 2) := by
    rw [List.map_map]
    refine List.map_congr_left fun v _ => ?_
    show (cv ρ v).category = _
    cases hc : c1 v with
    | true => exact cv_c1 hc
    | false => exact cat_c1.mpr hc
  rw [e]
  exact of_decide_eq_true h
def MLv (own : String) (idx : Nat) (Y : Meth) (n : Nat) : Prop := Cond.methodLink own idx Y.1 ∈ gws ∧ Cond.instanceMethod Y.1 ∈ gws ∧ Cond.selects Y.1.cls Y.1 Y.1 ∈ gws ∧ Cond.initialized Y.1.cls ∈ gws ∧ Cond.code Y.1 Y.2.1 Y.2.2.1 Y.2.2.2 ∈ gws ∧ (Y.1.cls ≠ "java/lang/invoke/MethodHandle" ∧ Y.1.cls ≠ "java/lang/invoke/VarHandle" ∧ (parseMethodDescriptor Y.1.desc).map (fun d => d.parameters.length) = some n) ∧ plainFor Y.1 = true ∧ Y.2.2.1 ≤ 20
def MLn (own : String) (idx : Nat) (Y : Meth) (n : Nat) : Prop := Cond.methodLinkNest own idx Y.1 "CallGraphs" ∈ lw_tbl ∧ Cond.instanceMethod Y.1 ∈ gws ∧ Cond.selects Y.1.cls Y.1 Y.1 ∈ gws ∧ Cond.initialized Y.1.cls ∈ gws ∧ Cond.code Y.1 Y.2.1 Y.2.2.1 Y.2.2.2 ∈ gws ∧ (Y.1.cls ≠ "java/lang/invoke/MethodHandle" ∧ Y.1.cls ≠ "java/lang/invoke/VarHandle" ∧ (parseMethodDescriptor Y.1.desc).map (fun d => d.parameters.length) = some n) ∧ plainFor Y.1 = true ∧ Y.2.2.1 ≤ 20
def MLs (own : String) (idx : Nat) (Y : Meth) (n : Nat) : Prop := Cond.methodLink own idx Y.1 ∈ gws ∧ Cond.static Y.1 ∈ gws ∧ Cond.initialized Y.1.cls ∈ gws ∧ Cond.code Y.1 Y.2.1 Y.2.2.1 Y.2.2.2 ∈ gws ∧ (Y.1.cls ≠ "java/lang/invoke/MethodHandle" ∧ Y.1.cls ≠ "java/lang/invoke/VarHandle" ∧ (parseMethodDescriptor Y.1.desc).map (fun d => d.parameters.length) = some n) ∧ plainFor Y.1 = true ∧ Y.2.2.1 ≤ 20
def MLi (own : String) (idx : Nat) (Y : Meth) (n : Nat) : Prop := Cond.methodLink own idx Y.1 ∈ gws ∧ Cond.instanceMethod Y.1 ∈ gws ∧ Y.1.name = "<init>" ∧ Cond.initialized Y.1.cls ∈ gws ∧ Cond.code Y.1 Y.2.1 Y.2.2.1 Y.2.2.2 ∈ gws ∧ (Y.1.cls ≠ "java/lang/invoke/MethodHandle" ∧ Y.1.cls ≠ "java/lang/invoke/VarHandle" ∧ (parseMethodDescriptor Y.1.desc).map (fun d => d.parameters.length) = some n) ∧ plainFor Y.1 = true ∧ Y.2.2.1 ≤ 20 ∧ Y.2.2.2 = none
def MLj (own : String) (idx : Nat) (Y : Meth) (n : Nat) : Prop := Cond.methodLinkNest own idx Y.1 "CallGraphs" ∈ lw_tbl ∧ Cond.instanceMethod Y.1 ∈ gws ∧ Y.1.name = "<init>" ∧ Cond.initialized Y.1.cls ∈ gws ∧ Cond.code Y.1 Y.2.1 Y.2.2.1 Y.2.2.2 ∈ gws ∧ (Y.1.cls ≠ "java/lang/invoke/MethodHandle" ∧ Y.1.cls ≠ "java/lang/invoke/VarHandle" ∧ (parseMethodDescriptor Y.1.desc).map (fun d => d.parameters.length) = some n) ∧ plainFor Y.1 = true ∧ Y.2.2.1 ≤ 20 ∧ Y.2.2.2 = none
section CR
variable {l : Launch} {D : DD} {Y Y' : Meth} {d d' kc ks pc kc1 ks1 kc2 ks2 idx n kd b : Nat} {L L0 : List (Option AV)} {st as : List AV} {h : Hp} {Φ : Option AV → Hp → Prop}
theorem st_split {as st : List AV} {ρ : Nat → Nat} {b : Nat} : (as.reverse ++ vr b :: st).map (cv ρ) = (as.map (cv ρ)).reverse ++ cv ρ (vr b) :: st.map (cv ρ) := by
  rw [List.map_append, List.map_reverse, List.map_cons]
theorem wf_split {as st : List AV} {b : Nat} (w : ∀ v ∈ as.reverse ++ vr b :: st, wfv h v) : (∀ v ∈ vr b :: as, wfv h v) ∧ ∀ v ∈ st, wfv h v := by
  refine ⟨fun v hv => ?_, fun v hv => w v (List.mem_append_right _ (List.mem_cons_of_mem _ hv))⟩
  rcases List.mem_cons.mp hv with e | g
  · rw [e]; exact w _ (List.mem_append_right _ List.mem_cons_self)
  · exact w v (List.mem_append_left _ (List.mem_reverse.mpr g))
theorem a_callV (M : MLv Y.1.cls idx Y' n) (hd : decode Y.2.1 pc = .ok (.invokevirtual idx, 3)) (hn : as.length = n) (h8 : st8 st = true) (hfl : (flA (vr b :: as)).length ≤ Y'.2.2.1) (hc : cn kd = Y'.1.cls ∧ ((1 ≤ kd ∧ kd ≤ 12) ∨ kd = 30 ∨ kd = 31)) (hL0 : enL Y'.2.2.1 (vr b :: as) = L0) (hdd : d' + 1 ≤ d) (h1 : kc1 + kc2 ≤ kc) (h2 : ks1 + ks2 ≤ ks) (hk : xK h b = kd)
    (k1 : Ev l D Y' d' kc1 ks1 0 L0 [] h (fun v h' => Ev l D Y d kc2 ks2 (pc + 3) L (v.toList ++ st) h' Φ)) : Ev l D Y d kc ks pc L (as.reverse ++ vr b :: st) h Φ := by
  intro p e R s m args below meth c Q A ρ H locs cells slots ls hC hR
  obtain ⟨m1, m2, m3, m4, m5, m6, m7, m8⟩ := M
  obtain ⟨x1, x2, x3, x4, x5, x6, x7⟩ := hC.1
  obtain ⟨wa, wst⟩ := wf_split hC.2.2.2.2.2.2
  subst hL0
  have hb0 : b ≠ 0 := hC.2.2.2.1.2.1.ne0 (by omega)
  rw [st_split, cv_ref hb0]
  refine call_go (st := st) hC hR wst h1 h2 (va_runV (As := as.map (cv ρ)) (rest := st.map (cv ρ)) (b := ρ b) (Ts := gws) (own := Y.1.cls) (nL := Y.2.2.1) (C := Y'.1.cls) ⟨x1, x2, x4, x5, x6⟩ (k1.met ρ H.size m7 hfl) ⟨callB_of (ws' := gws) n x6 (mws_good m5) rfl rfl rfl (x6 _ m4) (x6 _ m1) m6 ⟨by show d' + 1 ≤ R.frames; have := hC.2.1.1; omega, by show 8 + (Y'.2.2.1 + 11) + 40 * d' ≤ R.locals; have := hC.2.1.2; omega⟩, x6 _ m2, x6 _ m3⟩ ⟨PcE.blind, ?_, fun U hU hW => ?_⟩ rfl (by rw [List.length_map]; exact hn) hC.2.2.2.2.1.1 rfl (lv_room (st8_of h8)) hd ⟨by have := hC.2.2.1.1; omega, by have := hC.2.2.1.2; omega⟩)
  · rw [← hc.1]; exact rc_at hC.2.2.2.1 hk hc.2
  · have := pre_at hC wa U hU hW
    rw [List.map_cons, cv_ref hb0] at this
    exact this
theorem a_callN (M : MLn Y.1.cls idx Y' n) (hd : decode Y.2.1 pc = .ok (.invokevirtual idx, 3)) (hn : as.length = n) (h8 : st8 st = true) (hfl : (flA (vr b :: as)).length ≤ Y'.2.2.1) (hc : cn kd = Y'.1.cls ∧ ((1 ≤ kd ∧ kd ≤ 12) ∨ kd = 30 ∨ kd = 31)) (hL0 : enL Y'.2.2.1 (vr b :: as) = L0) (hdd : d' + 1 ≤ d) (h1 : kc1 + kc2 ≤ kc) (h2 : ks1 + ks2 ≤ ks) (hk : xK h b = kd)
    (k1 : Ev l D Y' d' kc1 ks1 0 L0 [] h (fun v h' => Ev l D Y d kc2 ks2 (pc + 3) L (v.toList ++ st) h' Φ)) : Ev l D Y d kc ks pc L (as.reverse ++ vr b :: st) h Φ := by
  intro p e R s m args below meth c Q A ρ H locs cells slots ls hC hR
  obtain ⟨m1, m2, m3, m4, m5, m6, m7, m8⟩ := M
  obtain ⟨x1, x2, x3, x4, x5, x6, x7, x8, x9⟩ := hC.1
  obtain ⟨wa, wst⟩ := wf_split hC.2.2.2.2.2.2
  subst hL0
  have hb0 : b ≠ 0 := hC.2.2.2.1.2.1.ne0 (by omega)
  rw [st_split, cv_ref hb0]
  refine call_go (st := st) hC hR wst h1 h2 (va_runVN (As := as.map (cv ρ)) (rest := st.map (cv ρ)) (b := ρ b) (Ts := gws) (own := Y.1.cls) (nL := Y.2.2.1) (C := Y'.1.cls) ⟨x1, x2, x4, x5, x6⟩ (k1.met ρ H.size m7 hfl) ⟨va_cnB (ws' := gws) n x6 (mws_good m5) rfl rfl rfl (x9 _ m1 rfl) (x6 _ m4) m6 ⟨by show d' + 1 ≤ R.frames; have := hC.2.1.1; omega, by show 8 + (Y'.2.2.1 + 11) + 40 * d' ≤ R.locals; have := hC.2.1.2; omega⟩, x6 _ m2, x6 _ m3⟩ ⟨PcE.blind, ?_, fun U hU hW => ?_⟩ rfl (by rw [List.length_map]; exact hn) hC.2.2.2.2.1.1 rfl (lv_room (st8_of h8)) hd ⟨by have := hC.2.2.1.1; omega, by have := hC.2.2.1.2; omega⟩)
  · rw [← hc.1]; exact rc_at hC.2.2.2.1 hk hc.2
  · have := pre_at hC wa U hU hW
    rw [List.map_cons, cv_ref hb0] at this
    exact this
theorem a_callI (M : MLi Y.1.cls idx Y' n) (hd : decode Y.2.1 pc = .ok (.invokespecial idx, 3)) (hn : as.length = n) (h8 : st8 st = true) (hfl : (flA (vr b :: as)).length ≤ Y'.2.2.1) (hL0 : enL Y'.2.2.1 (vr b :: as) = L0) (hdd : d' + 1 ≤ d) (h1 : kc1 + kc2 ≤ kc) (h2 : ks1 + ks2 ≤ ks) (hk : xK h b ≠ 0)
    (k1 : Ev l D Y' d' kc1 ks1 0 L0 [] h (fun v h' => Ev l D Y d kc2 ks2 (pc + 3) L (v.toList ++ st) h' Φ)) : Ev l D Y d kc ks pc L (as.reverse ++ vr b :: st) h Φ := by
  intro p e R s m args below meth c Q A ρ H locs cells slots ls hC hR
  obtain ⟨m1, m2, m3, m4, m5, m6, m7, m8, m9⟩ := M
  obtain ⟨x1, x2, x3, x4, x5, x6, x7⟩ := hC.1
  obtain ⟨wa, wst⟩ := wf_split hC.2.2.2.2.2.2
  subst hL0
  have hb0 : b ≠ 0 := hC.2.2.2.1.2.1.ne0 hk
  rw [st_split, cv_ref hb0]
  have hB := callB_of (ws' := gws) (rm := ({ frames := d', cells := kc1, slots := ks1, locals := 40 * d' } : Jvm.Room)) (R := R) (args := args) (ret := Y'.2.2.2) n x6 (mws_good m5) rfl rfl rfl (x6 _ m4) (x6 _ m1) m6 ⟨by show d' + 1 ≤ R.frames; have := hC.2.1.1; omega, by show 8 + (Y'.2.2.1 + 11) + 40 * d' ≤ R.locals; have := hC.2.1.2; omega⟩
  rw [m9] at hB
  refine call_go (st := st) hC hR wst h1 h2 (va_runI (As := as.map (cv ρ)) (rest := st.map (cv ρ)) (b := ρ b) (Ts := gws) (own := Y.1.cls) (nL := Y.2.2.1) ⟨x1, x2, x4, x5, x6⟩ (k1.met ρ H.size m7 hfl) ⟨hB, m3, x6 _ m2⟩ ⟨PcE.blind, fun U hU hW => ?_⟩ rfl (by rw [List.length_map]; exact hn) hC.2.2.2.2.1.1 rfl (lv_room (st8_of h8)) hd ⟨by have := hC.2.2.1.1; omega, by have := hC.2.2.1.2; omega⟩)
  have := pre_at hC wa U hU hW
  rw [List.map_cons, cv_ref hb0] at this
  exact this
theorem a_callJ (M : MLj Y.1.cls idx Y' n) (hd : decode Y.2.1 pc = .ok (.invokespecial idx, 3)) (hn : as.length = n) (h8 : st8 st = true) (hfl : (flA (vr b :: as)).length ≤ Y'.2.2.1) (hL0 : enL Y'.2.2.1 (vr b :: as) = L0) (hdd : d' + 1 ≤ d) (h1 : kc1 + kc2 ≤ kc) (h2 : ks1 + ks2 ≤ ks) (hk : xK h b ≠ 0)
    (k1 : Ev l D Y' d' kc1 ks1 0 L0 [] h (fun v h' => Ev l D Y d kc2 ks2 (pc + 3) L (v.toList ++ st) h' Φ)) : Ev l D Y d kc ks pc L (as.reverse ++ vr b :: st) h Φ := by
  intro p e R s m args below meth c Q A ρ H locs cells slots ls hC hR
  obtain ⟨m1, m2, m3, m4, m5, m6, m7, m8, m9⟩ := M
  obtain ⟨x1, x2, x3, x4, x5, x6, x7, x8, x9⟩ := hC.1
  obtain ⟨wa, wst⟩ := wf_split hC.2.2.2.2.2.2
  subst hL0
  have hb0 : b ≠ 0 := hC.2.2.2.1.2.1.ne0 hk
  rw [st_split, cv_ref hb0]
  have hB := va_cnB (ws' := gws) (rm := ({ frames := d', cells := kc1, slots := ks1, locals := 40 * d' } : Jvm.Room)) (R := R) (args := args) (ret := Y'.2.2.2) n x6 (mws_good m5) rfl rfl rfl (x9 _ m1 rfl) (x6 _ m4) m6 ⟨by show d' + 1 ≤ R.frames; have := hC.2.1.1; omega, by show 8 + (Y'.2.2.1 + 11) + 40 * d' ≤ R.locals; have := hC.2.1.2; omega⟩
  rw [m9] at hB
  refine call_go (st := st) hC hR wst h1 h2 (va_runIN (As := as.map (cv ρ)) (rest := st.map (cv ρ)) (b := ρ b) (Ts := gws) (own := Y.1.cls) (nL := Y.2.2.1) ⟨x1, x2, x4, x5, x6⟩ (k1.met ρ H.size m7 hfl) ⟨hB, m3, x6 _ m2⟩ ⟨PcE.blind, fun U hU hW => ?_⟩ rfl (by rw [List.length_map]; exact hn) hC.2.2.2.2.1.1 rfl (lv_room (st8_of h8)) hd ⟨by have := hC.2.2.1.1; omega, by have := hC.2.2.1.2; omega⟩)
  have := pre_at hC wa U hU hW
  rw [List.map_cons, cv_ref hb0] at this
  exact this
theorem a_callS (M : MLs Y.1.cls idx Y' n) (hd : decode Y.2.1 pc = .ok (.invokestatic idx, 3)) (hn : as.length = n) (h8 : st8 st = true) (hfl : (flA as).length ≤ Y'.2.2.1) (hL0 : enL Y'.2.2.1 as = L0) (hdd : d' + 1 ≤ d) (h1 : kc1 + kc2 ≤ kc) (h2 : ks1 + ks2 ≤ ks)
    (k1 : Ev l D Y' d' kc1 ks1 0 L0 [] h (fun v h' => Ev l D Y d kc2 ks2 (pc + 3) L (v.toList ++ st) h' Φ)) : Ev l D Y d kc ks pc L (as.reverse ++ st) h Φ := by
  intro p e R s m args below meth c Q A ρ H locs cells slots ls hC hR
  obtain ⟨m1, m2, m3, m4, m5, m6, m7⟩ := M
  obtain ⟨x1, x2, x3, x4, x5, x6, x7⟩ := hC.1
  have wa : ∀ v ∈ as, wfv h v := fun v hv => hC.2.2.2.2.2.2 v (List.mem_append_left _ (List.mem_reverse.mpr hv))
  have wst : ∀ v ∈ st, wfv h v := fun v hv => hC.2.2.2.2.2.2 v (List.mem_append_right _ hv)
  subst hL0
  rw [List.map_append, List.map_reverse]
  exact call_go (st := st) hC hR wst h1 h2 (va_runS (As := as.map (cv ρ)) (rest := st.map (cv ρ)) (Ts := gws) (own := Y.1.cls) (nL := Y.2.2.1) ⟨x1, x2, x4, x5, x6⟩ (k1.met ρ H.size m6 hfl) ⟨callB_of (ws' := gws) n x6 (mws_good m4) rfl rfl rfl (x6 _ m3) (x6 _ m1) m5 ⟨by show d' + 1 ≤ R.frames; have := hC.2.1.1; omega, by show 8 + (Y'.2.2.1 + 11) + 40 * d' ≤ R.locals; have := hC.2.1.2; omega⟩, x6 _ m2⟩ ⟨PcE.blind, fun U hU hW => pre_at hC wa U hU hW⟩ rfl (by rw [List.length_map]; exact hn) hC.2.2.2.2.1.1 rfl (lv_room (st8_of h8)) hd ⟨by have := hC.2.2.1.1; omega, by have := hC.2.2.1.2; omega⟩)
end CR
