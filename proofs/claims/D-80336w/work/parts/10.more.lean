/-! more rules: calls that the receiver's class selects, Object's constructor, clone and cast of arrays -/
def MLu (own : String) (idx : Nat) (x : MethodName) (owner : String) (n : Nat) : Prop := Cond.methodLink own idx x ∈ gws ∧ Cond.sameMethod x.cls owner x.name x.desc ∈ gws ∧ (Cond.declares ⟨owner, x.name, x.desc⟩ ∈ lw_tbl ∨ ∃ b0 m0 r0, Cond.instanceMethod ⟨owner, x.name, x.desc⟩ ∈ gws ∧ Cond.code ⟨owner, x.name, x.desc⟩ b0 m0 r0 ∈ gws) ∧ (owner ≠ "java/lang/invoke/MethodHandle" ∧ owner ≠ "java/lang/invoke/VarHandle" ∧ (parseMethodDescriptor x.desc).map (fun d => d.parameters.length) = some n)
def MLt (x : MethodName) (kd : Nat) (Y : Meth) : Prop := (1 ≤ kd ∧ kd ≤ 12) ∧ Cond.selects (cn kd) x Y.1 ∈ gws ∧ Cond.instanceMethod Y.1 ∈ gws ∧ Cond.initialized Y.1.cls ∈ gws ∧ Cond.code Y.1 Y.2.1 Y.2.2.1 Y.2.2.2 ∈ gws ∧ plainFor Y.1 = true ∧ Y.2.2.1 ≤ 20
section CU
variable {l : Launch} {D : DD} {Y : Meth} {d d' kc ks pc kc1 ks1 kc2 ks2 idx n b : Nat} {L L0 : List (Option AV)} {st as : List AV} {h : Hp} {Φ : Option AV → Hp → Prop}
theorem a_callU {x : MethodName} {owner : String} {S : Nat → Bool} {Yf : Nat → Meth} (M : MLu Y.1.cls idx x owner n) (t : ∀ kd, S kd = true → MLt x kd (Yf kd)) (hd : decode Y.2.1 pc = .ok (.invokevirtual idx, 3)) (hn : as.length = n) (h8 : st8 st = true) (hfl : (flA (vr b :: as)).length ≤ (Yf (xK h b)).2.2.1) (hL0 : enL (Yf (xK h b)).2.2.1 (vr b :: as) = L0) (hdd : d' + 1 ≤ d) (h1 : kc1 + kc2 ≤ kc) (h2 : ks1 + ks2 ≤ ks) (hk : S (xK h b) = true)
    (k1 : Ev l D (Yf (xK h b)) d' kc1 ks1 0 L0 [] h (fun v h' => Ev l D Y d kc2 ks2 (pc + 3) L (v.toList ++ st) h' Φ)) : Ev l D Y d kc ks pc L (as.reverse ++ vr b :: st) h Φ := by
  intro p e R s m args below meth c Q A ρ H locs cells slots ls hC hR
  obtain ⟨m1, m2, m3, m6⟩ := M
  obtain ⟨t0, t1, t2, t3, t4, t5, t6⟩ := t _ hk
  generalize hY' : Yf (xK h b) = Y' at *
  obtain ⟨x1, x2, x3, x4, x5, x6, x7, x8, x9⟩ := hC.1
  obtain ⟨wa, wst⟩ := wf_split hC.2.2.2.2.2.2
  subst hL0
  have hb0 : b ≠ 0 := hC.2.2.2.1.2.1.ne0 (by omega)
  have hDl : va_Decl s ⟨owner, x.name, x.desc⟩ := by
    rcases m3 with g | ⟨b0, m0, r0, g1, g2⟩
    · exact va_Decl.abs (x9 _ g rfl)
    · exact va_Decl.of (x6 _ g1) (x6 _ g2)
  rw [st_split, cv_ref hb0]
  have hG : GoodIn gws (mws Y') := mws_good t4
  refine call_go (st := st) hC hR wst h1 h2 (va_runU (As := as.map (cv ρ)) (rest := st.map (cv ρ)) (b := ρ b) (Ts := gws) (own := Y.1.cls) (nL := Y.2.2.1) (C := cn (xK h b)) (x := x) (y := Y'.1) (owner := owner) (bytes := Y'.2.1) (maxL := Y'.2.2.1) (ret := Y'.2.2.2) (n := n) ⟨x1, x2, x4, x5, x6⟩ (k1.met ρ H.size t5 hfl)
    ⟨⟨rfl, rfl, by show d' + 1 ≤ R.frames; have := hC.2.1.1; omega, by show 8 + (Y'.2.2.1 + 11) + 40 * d' ≤ R.locals; have := hC.2.1.2; omega, pay_in x6 hG, List.mem_cons_self⟩, x6 _ t4, x6 _ t3, ⟨m6.1, m6.2.1⟩, fun sig hs => ?_, x6 _ m1, x6 _ m2, hDl, x6 _ t1, x6 _ t2⟩ ⟨PcE.blind, rc_at hC.2.2.2.1 rfl (Or.inl t0), fun U hU hW => ?_⟩ rfl (by rw [List.length_map]; exact hn) hC.2.2.2.2.1.1 rfl (lv_room (st8_of h8)) hd ⟨by have := hC.2.2.1.1; omega, by have := hC.2.2.1.2; omega⟩)
  · have h9 := m6.2.2
    rw [hs] at h9
    exact (Option.some.inj h9).symm
  · have := pre_at hC wa U hU hW
    rw [List.map_cons, cv_ref hb0] at this
    exact this
theorem a_objInit (hd : decode Y.2.1 pc = .ok (.invokespecial idx, 3)) (hw : Cond.methodLink Y.1.cls idx Lib.objectInit ∈ gws) (hi : Cond.instanceMethod Lib.objectInit ∈ gws) (hcd : Cond.code Lib.objectInit ⟨#[0xb1]⟩ 1 none ∈ gws) (h8 : st8 st = true) (hdd : 1 ≤ d) (hk : xK h b ≠ 0) (k1 : Ev l D Y d kc ks (pc + 3) L st h Φ) : Ev l D Y d kc ks pc L (vr b :: st) h Φ := by
  intro p e R s m args below meth c Q A ρ H locs cells slots ls hC hR
  obtain ⟨x1, x2, x3, x4, x5, x6, x7⟩ := hC.1
  rw [List.map_cons, cv_ref (hC.2.2.2.1.2.1.ne0 hk)]
  have h9 := st8_of (ρ := ρ) h8
  exact W.objInit x1 x2 x5 (x6 _ hw) (x6 _ hi) (x6 _ hcd) rfl (by rw [x4]; exact hC.2.2.2.2.1.1) rfl hd (by have := hC.2.1.1; omega) (by show 2 * 0 + _ + 12 ≤ _; have := hC.2.1.2; omega) (k1 p e R s m args below meth c Q A ρ H locs cells slots ls (hC.to hC.2.2.2.1 agr.rf (Nat.le_refl _) (Nat.le_refl _) (wft hC.2.2.2.2.2.2)) hR)
end CU
/-- the heap with a new cell b that holds what a holds -/
def cp (h : Hp) (b a : Nat) : Hp := (fun c => if c = b then h.1 a else h.1 c, fun c j => if c = b then h.2.1 a j else h.2.1 c j, fun c j => if c = b then h.2.2.1 a j else h.2.2.1 c j, fun c j => if c = b then h.2.2.2 a j else h.2.2.2 c j)
theorem xI_cp (h : Hp) (b a c j : Nat) : xI (cp h b a) c j = if c = b then xI h a j else xI h c j := rfl
theorem xR_cp (h : Hp) (b a c j : Nat) : xR (cp h b a) c j = if c = b then xR h a j else xR h c j := rfl
theorem xL_cp (h : Hp) (b a c j : Nat) : xL (cp h b a) c j = if c = b then xL h a j else xL h c j := rfl
theorem xK_cp (h : Hp) (b a c : Nat) : xK (cp h b a) c = if c = b then xK h a else xK h c := by
  unfold xK cp; by_cases e : c = b <;> simp [e]
theorem xN_cp (h : Hp) (b a c : Nat) : xN (cp h b a) c = if c = b then xN h a else xN h c := by
  unfold xN cp; by_cases e : c = b <;> simp [e]
theorem Wd.cp {D : DD} {ρ ρ' : Nat → Nat} {h : Hp} {s : State} {H H' : Heap} {A : Nat → Prop} {locs : List Loc} {a b : Nat} (w : Wd D ρ h s H A locs) (hb : 16 ≤ b) (hk : xK h b = 0) (hka : xK h a ≠ 0) (er : ρ' = fun c => if c = b then H.size else ρ c) (z : H'.size = H.size + 1) (oq : ∀ q : Nat, q < H.size → H'[q]? = H[q]?) (ca : cAt D ρ' (cp h b a) s H' b) : Wd D ρ' (cp h b a) s H' A locs ∧ agr h ρ (cp h b a) ρ' := by
  obtain ⟨w1, ⟨r1, r2, r3, r4, r5⟩, w3, w4, w5, w6⟩ := w
  have ne : ∀ c, xK h c ≠ 0 → c ≠ b := fun c hc e => hc (by rw [e]; exact hk)
  have eρ : ∀ c, xK h c ≠ 0 → ρ' c = ρ c := fun c hc => by rw [er]; exact if_neg (ne c hc)
  have eρb : ρ' b = H.size := by rw [er]; exact if_pos rfl
  have ag : agr h ρ (Jvm.Pilot.CCallGraphsLaw_law_r8265_6b1925.cp h b a) ρ' := fun c hc => ⟨by rw [xK_cp, if_neg (ne c hc)], by rw [xN_cp, if_neg (ne c hc)], eρ c hc⟩
  have e0 : (0 : Nat) ≠ b := by omega
  have hro : ∀ c j, ro ρ' (xR h c j) = ro ρ (xR h c j) := by
    intro c j
    unfold ro
    rcases r5 c j with h0 | h0
    · rw [h0]; rfl
    · rw [eρ _ h0]
  have hsv : ∀ c, c ≠ b → ∀ j ty, sv ρ' (Jvm.Pilot.CCallGraphsLaw_law_r8265_6b1925.cp h b a) c j ty = sv ρ h c j ty := by
    intro c hc j ty
    cases ty <;> simp [sv, xI_cp, xR_cp, xL_cp, hc, hro]
  refine ⟨⟨w1, ⟨by rw [xK_cp, if_neg e0]; exact r1, fun c hc => ?_, fun c e hc he hce => ?_, fun c k => ?_, fun c k => ?_⟩, ⟨by rw [z]; exact Nat.le_trans w3.1 (Nat.le_succ _), fun q h1 h2 => (oq q (Nat.lt_of_lt_of_le h1 w3.1)).trans (w3.2.1 q h1 h2), w3.2.2⟩, w4, fun c h1 h2 => ?_, fun q hq => ?_⟩, ag⟩
  · by_cases e : c = b
    · rw [e]; exact ca
    · have hc' : xK h c ≠ 0 := by rw [xK_cp, if_neg e] at hc; exact hc
      exact (r2 c hc').kept (eρ c hc') (oq _ (r2 c hc').lt) (ag c hc').1 (ag c hc').2.1 (hsv c e)
  · have lt : ∀ c, xK h c ≠ 0 → ρ c < H.size := fun c hc => (r2 c hc).lt
    by_cases ec : c = b
    · by_cases ee : e = b
      · rw [ec, ee]
      · rw [xK_cp, if_neg ee] at he
        rw [ec, eρb, eρ e he] at hce
        have := lt e he; omega
    · rw [xK_cp, if_neg ec] at hc
      by_cases ee : e = b
      · rw [ee, eρb, eρ c hc] at hce
        have := lt c hc; omega
      · rw [xK_cp, if_neg ee] at he
        rw [eρ c hc, eρ e he] at hce
        exact r3 c e hc he hce
  · rw [xI_cp]; split
    · exact r4 a k
    · exact r4 c k
  · rw [xR_cp]
    have key : ∀ x, (x = 0 ∨ xK h x ≠ 0) → (x = 0 ∨ xK (Jvm.Pilot.CCallGraphsLaw_law_r8265_6b1925.cp h b a) x ≠ 0) := fun x hx => by
      rcases hx with h0 | h0
      · exact Or.inl h0
      · exact Or.inr (by rw [(ag _ h0).1]; exact h0)
    split
    · exact key _ (r5 a k)
    · exact key _ (r5 c k)
  · by_cases e : c = b
    · rw [e, eρb]; exact w4 _ w3.1
    · rw [xK_cp, if_neg e] at h2
      rw [eρ c h2]; exact w5 c h1 h2
  · obtain ⟨z1, z2⟩ := w6 q hq
    exact ⟨by rw [eρ _ z2]; exact z1, by rw [(ag _ z2).1]; exact z2⟩
theorem kn_name {D : DD} {s : State} {kd : Nat} (hK : Kn D s) (hr : rA kd = true) : s.vm.findClass ("[" ++ (FieldType.object (cn kd)).toString) = some (D.2.2 kd) := by
  obtain ⟨kA, comp, -, -, -, h4⟩ := hK.2.2 kd hr
  exact h4
section CC
variable {l : Launch} {D : DD} {Y : Meth} {d kc ks pc kc' ks' idx : Nat} {L : List (Option AV)} {st : List AV} {h : Hp} {Φ : Option AV → Hp → Prop}
set_option maxHeartbeats 4000000 in
theorem a_clone {kd a : Nat} {ad : String} (b : Nat) (hd : decode Y.2.1 pc = .ok (.invokevirtual idx, 3)) (hkd : kd = 26 ∨ kd = 27) (had : "[" ++ (FieldType.object (cn kd)).toString = ad) (m1 : Cond.methodLink Y.1.cls idx ⟨ad, "clone", "()Ljava/lang/Object;"⟩ ∈ gws) (m2 : Cond.sameMethod ad "java/lang/Object" "clone" "()Ljava/lang/Object;" ∈ gws) (m3 : Cond.native ⟨"java/lang/Object", "clone", "()Ljava/lang/Object;"⟩ ∈ gws) (m4 : Cond.instanceMethod ⟨"java/lang/Object", "clone", "()Ljava/lang/Object;"⟩ ∈ gws) (m5 : Cond.selects ad ⟨ad, "clone", "()Ljava/lang/Object;"⟩ ⟨"java/lang/Object", "clone", "()Ljava/lang/Object;"⟩ ∈ gws) (m6 : Cond.castable ad "java/lang/Cloneable" ∈ lw_tbl)
    (h8 : st8 st = true) (hdd : 1 ≤ d) (h1 : kc' + 1 ≤ kc) (h2 : ks' + xN h a ≤ ks) (hk : xK h a = kd) (hb : 16 ≤ b) (hkb : xK h b = 0) (k1 : Ev l D Y d kc' ks' (pc + 3) L (vr b :: st) (cp h b a) Φ) : Ev l D Y d kc ks pc L (vr a :: st) h Φ := by
  intro p e R s m args below meth c Q A ρ H locs cells slots ls hC hR
  obtain ⟨x1, x2, x3, x4, x5, x6, x7, x8, x9⟩ := hC.1
  have w := hC.2.2.2.1
  have hra : rA (xK h a) = true := by rw [hk]; rcases hkd with rfl | rfl <;> rfl
  obtain ⟨cell, q1, q2, q3, q4, q5, q6, q7⟩ := ar_at w (a := a) (by omega) (by omega)
  have hnm : s.vm.findClass ad = some cell.cls := by rw [q7 hra, ← had, ← hk]; exact kn_name w.1 hra
  have het : ∃ C, eT (xK h a) = .object C := by rw [hk]; rcases hkd with rfl | rfl <;> exact ⟨_, rfl⟩
  obtain ⟨C, heC⟩ := het
  obtain ⟨c0, t0', f1, f2, f3⟩ := Cond.castable_spec (va_Nw.use (A := args) rfl (x9 _ m6 rfl))
  cases hnm.symm.trans f1
  have h9 := st8_of (ρ := ρ) h8
  rw [List.map_cons, cv_ref (w.2.1.ne0 (a := a) (by omega))]
  intro T hT X
  have hcellT : T.heap[ρ a]? = some cell := by rw [hT]; exact q1
  obtain ⟨hobj, kA, hkA, comp, hkind⟩ := State.isArrayOf_alike X.warmed.alike q3
  have q3' := q3
  obtain ⟨-, kS, hkS, compS, hkindS⟩ := q3'
  obtain ⟨vm', X', stp⟩ := X.cloneArray x1 x5 (x6 _ m1) (x6 _ m2) (x6 _ m3) (x6 _ m4) (x6 _ m5) (a := ρ a) (cell := cell) hcellT q3.1 q2 hnm f2 f3
    (fun i v hv => by
      have hlt : i < xN h a := by rw [← q4]; exact k2_hasslot hv
      have hv2 := q6 i hlt
      rw [hv, heC] at hv2
      have hv3 : v = va_rf (ro ρ (xR h a i)) := Option.some.inj hv2
      have hf := (fit_ref (ty := eT (xK h a)) (Or.inl ⟨C, heC⟩) (ro ρ (xR h a i))).2
      rw [← hv3] at hf
      simpa [State.fitsSlot, State.slotType?, hkA, hkind] using hf)
    (g := F0 m pc ls (.ref (ρ a) :: st.map (cv ρ))) rfl (by rw [x4]; exact hC.2.2.2.2.1.1) rfl (by rw [x2]; exact hd) (by have := hC.2.1.1; omega) (by show 2 * 0 + _ + 14 ≤ _; have := hC.2.1.2; omega) (by have := hC.2.2.1.1; omega) (by rw [q4]; have := hC.2.2.1.2; omega) (hloader := Vm.clonesLoader_of_array hkS hkindS)
  rw [q4] at X'
  generalize hH1 : H.push ({ cls := cell.cls, slots := cell.slots } : Cell) = H1
  have z1 : H1.size = H.size + 1 := by rw [← hH1, Array.size_push]
  have e1 : H1[H.size]? = some ({ cls := cell.cls, slots := cell.slots } : Cell) := by rw [← hH1, Array.getElem?_push_size]
  have o1 : ∀ q : Nat, q < H.size → H1[q]? = H[q]? := fun q hq => by rw [← hH1, Array.getElem?_push, if_neg (Nat.ne_of_lt hq)]
  have hka : xK h a ≠ 0 := by omega
  have eK : xK (cp h b a) b = xK h a := by rw [xK_cp, if_pos rfl]
  have eN : xN (cp h b a) b = xN h a := by rw [xN_cp, if_pos rfl]
  obtain ⟨ρ', hρ'⟩ : ∃ ρ' : Nat → Nat, ρ' = fun c => if c = b then H.size else ρ c := ⟨_, rfl⟩
  have eb : ρ' b = H.size := by rw [hρ']; exact if_pos rfl
  have eo : ∀ c, c ≠ b → ρ' c = ρ c := fun c hc => by rw [hρ']; exact if_neg hc
  have ca : cAt D ρ' (cp h b a) s H1 b := by
    refine ⟨({ cls := cell.cls, slots := cell.slots } : Cell), by rw [eb]; exact e1, Or.inr (Or.inl ?_)⟩
    rw [eK, eN]
    refine ⟨by omega, by omega, (fun q : VmData.none = VmData.unknown => by cases q), ⟨(fun k (h : VmData.none = VmData.statics k) => by cases h), kS, hkS, compS, hkindS⟩, q4, q5, fun i hi => ?_, fun _ => q7 hra⟩
    have hq := q6 i hi
    rw [heC] at hq ⊢
    show cell.slots[i]? = _
    rw [hq]
    show some (va_rf (ro ρ (xR h a i))) = some (va_rf (ro ρ' (xR (cp h b a) b i)))
    rw [xR_cp, if_pos rfl]
    unfold ro
    rcases w.2.1.2.2.2.2 a i with h0 | h0
    · rw [h0]; rfl
    · rw [eo _ (fun q => h0 (by rw [q]; exact hkb))]
  obtain ⟨W1, ag⟩ := Wd.cp (H' := H1) w hb hkb hka hρ' z1 o1 ca
  have est : (Value.ref H.size :: st.map (cv ρ)) = (vr b :: st).map (cv ρ') := by
    rw [List.map_cons, cv_ref (show b ≠ 0 by omega), map_agr ag (wft hC.2.2.2.2.2.2), eb]
  have k2 := k1 p e R s m args below meth c Q A ρ' H1 locs (cells + 1) (slots + xN h a) ls (hC.to W1 ag (by omega) (by omega) (wfR (Or.inr (by rw [eK]; exact hka)) (fun v hv => ag.wfv (wft hC.2.2.2.2.2.2 v hv)))) (hR.to ag (by omega) (by omega))
  rw [← est] at k2
  obtain ⟨t, b1, b2⟩ := k2 ((T.setVm vm').pushCell { cls := cell.cls, slots := cell.slots }) (by rw [← hH1, ← hT]; rfl) X'
  refine ⟨t, stp t ?_, b2⟩
  rw [hT]
  exact b1
theorem a_castA {kd a : Nat} {ad : String} (hd : decode Y.2.1 pc = .ok (.checkcast idx, 3)) (hkd : kd = 26 ∨ kd = 27) (had : "[" ++ (FieldType.object (cn kd)).toString = ad) (m1 : Cond.classLink Y.1.cls idx ad ∈ gws) (hk : xK h a = kd) (k1 : Ev l D Y d kc ks (pc + 3) L (vr a :: st) h Φ) : Ev l D Y d kc ks pc L (vr a :: st) h Φ := by
  intro p e R s m args below meth c Q A ρ H locs cells slots ls hC hR
  obtain ⟨x1, x2, x3, x4, x5, x6, x7, x8, x9⟩ := hC.1
  have w := hC.2.2.2.1
  have hra : rA (xK h a) = true := by rw [hk]; rcases hkd with rfl | rfl <;> rfl
  obtain ⟨cell, q1, q2, q3, q4, q5, q6, q7⟩ := ar_at w (a := a) (by omega) (by omega)
  have hnm : s.vm.findClass ad = some cell.cls := by rw [q7 hra, ← had, ← hk]; exact kn_name w.1 hra
  have k2 := k1 p e R s m args below meth c Q A ρ H locs cells slots ls (hC.to w agr.rf (Nat.le_refl _) (Nat.le_refl _) hC.2.2.2.2.2.2) hR
  rw [List.map_cons, cv_ref (w.2.1.ne0 (a := a) (by omega))] at k2 ⊢
  intro T hT X
  have hst : cell.vm.isStatics = false := by
    cases hv : cell.vm with
    | statics k => exact absurd hv (q3.1 k)
    | _ => rfl
  obtain ⟨vm', X', stp⟩ := X.checkcastYes x1 x5 (x6 _ m1) (by rw [hT]; exact q1) hst hnm (va_asg _ _) (g := F0 m pc ls (.ref (ρ a) :: st.map (cv ρ))) rfl rfl (by rw [x2]; exact hd)
  obtain ⟨t, a1, b1⟩ := k2 (T.setVm vm') hT X'
  exact ⟨t, stp t a1, b1⟩
end CC
