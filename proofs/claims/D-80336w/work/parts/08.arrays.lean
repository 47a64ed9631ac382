/-! rules: arrays, new objects, constants -/
theorem ix_in {i : Int} {n : Nat} (hi : inR i) (h0 : 0 ≤ i) (h1 : i < n) : ¬ (Int32.ofInt i < 0 ∨ n ≤ (Int32.ofInt i).toNatClampNeg) := by
  rw [ofInt_clamp hi]
  intro q
  rcases q with q | q
  · have := (ofInt_lt hi inR_0).mp q; omega
  · omega
def sto : Nat → Nat → Bool
  | 22, k => k == 3
  | 23, k => k == 4
  | 24, k => opk k
  | _, _ => false
theorem cast_mem {kd : Nat} (h : opk kd = true) : Cond.castable (cn kd) "CallGraphs$Op" ∈ lw_tbl := by
  rcases opk_cases h with rfl | rfl | rfl | rfl | rfl | rfl | rfl <;> decide +kernel
def okt : FieldType → Bool
  | .float => false
  | .double => false
  | _ => true
theorem okt_all {kd : Nat} (h1 : 1 ≤ kd) (h2 : kd ≤ 12) : ∀ k, k < cNf kd → okt (cT kd k) = true := by
  rcases (show kd = 1 ∨ kd = 2 ∨ kd = 3 ∨ kd = 4 ∨ kd = 5 ∨ kd = 6 ∨ kd = 7 ∨ kd = 8 ∨ kd = 9 ∨ kd = 10 ∨ kd = 11 ∨ kd = 12 by omega) with rfl | rfl | rfl | rfl | rfl | rfl | rfl | rfl | rfl | rfl | rfl | rfl <;> decide +kernel
theorem dv_sv {ρ : Nat → Nat} {h : Hp} {a kd n k : Nat} {ty : FieldType} (ho : okt ty = true) : defaultValue ty = sv ρ (nw h a kd n) a k ty := by
  have e1 : xI (nw h a kd n) a k = 0 := by rw [xI_nw, if_pos rfl]
  have e2 : xR (nw h a kd n) a k = 0 := by rw [xR_nw, if_pos rfl]
  have e3 : xL (nw h a kd n) a k = 0 := by rw [xL_nw, if_pos rfl]
  cases ty with
  | float => exact absurd ho (by decide)
  | double => exact absurd ho (by decide)
  | long => show _ = Value.long (xL _ a k); rw [e3]; rfl
  | object c => show _ = va_rf (ro ρ (xR _ a k)); rw [e2]; rfl
  | array c => show _ = va_rf (ro ρ (xR _ a k)); rw [e2]; rfl
  | int => show _ = Value.int (Int32.ofInt (xI _ a k)); rw [e1]; rfl
  | boolean => show _ = Value.int (Int32.ofInt (xI _ a k)); rw [e1]; rfl
  | byte => show _ = Value.int (Int32.ofInt (xI _ a k)); rw [e1]; rfl
  | char => show _ = Value.int (Int32.ofInt (xI _ a k)); rw [e1]; rfl
  | short => show _ = Value.int (Int32.ofInt (xI _ a k)); rw [e1]; rfl
section AR
variable {l : Launch} {D : DD} {Y : Meth} {d kc ks pc : Nat} {L : List (Option AV)} {st : List AV} {h : Hp} {Φ : Option AV → Hp → Prop}
theorem ar_at {s : State} {A : Nat → Prop} {ρ : Nat → Nat} {H : Heap} {locs : List Loc} {a : Nat} (w : Wd D ρ h s H A locs) (k1 : 20 ≤ xK h a) (k2 : xK h a < 29) : ∃ cell : Cell, H[ρ a]? = some cell ∧ cell.vm ≠ .unknown ∧ s.isArrayOf cell (eT (xK h a)) ∧ cell.slots.size = xN h a ∧ xN h a < 2147483648 ∧ (∀ i : Nat, i < xN h a → cell.slots[i]? = some (sv ρ h a i (eT (xK h a)))) ∧ (rA (xK h a) = true → cell.cls = D.2.2 (xK h a)) := by
  obtain ⟨cell, q1, ⟨g1, g2, -⟩ | ⟨-, -, q2⟩ | ⟨g1, -⟩⟩ := w.2.1.2.1 a (by omega)
  · omega
  · exact ⟨cell, q1, q2⟩
  · omega
theorem wd_ast {s : State} {A : Nat → Prop} {ρ : Nat → Nat} {H H' : Heap} {locs : List Loc} {a i : Nat} {h' : Hp} {v : Value} {cell : Cell} (w : Wd D ρ h s H A locs) (ha : 16 ≤ a) (k1 : 20 ≤ xK h a) (k2 : xK h a < 29) (hi : i < xN h a) (eK : ∀ b, xK h' b = xK h b) (eN : ∀ b, xN h' b = xN h b) (ev : ∀ b, b ≠ a → ∀ j ty, sv ρ h' b j ty = sv ρ h b j ty) (es : ∀ j, sv ρ h' a j (eT (xK h a)) = updV (fun j => sv ρ h a j (eT (xK h a))) i v j) (hI : ∀ b k, inR (xI h' b k)) (hR : ∀ b k, xR h' b k = 0 ∨ xK h' (xR h' b k) ≠ 0)
    (q2 : cell.vm ≠ .unknown ∧ s.isArrayOf cell (eT (xK h a)) ∧ cell.slots.size = xN h a ∧ xN h a < 2147483648 ∧ (∀ i : Nat, i < xN h a → cell.slots[i]? = some (sv ρ h a i (eT (xK h a)))) ∧ (rA (xK h a) = true → cell.cls = D.2.2 (xK h a))) (e1 : H'[ρ a]? = some (cell.setSlot i v)) (e2 : H'.size = H.size) (e3 : ∀ q, q ≠ ρ a → H'[q]? = H[q]?) : Wd D ρ h' s H' A (locs ++ [⟨ρ a, i⟩]) := by
  refine w.upd ha (by omega) eK eN ev e2 e3 ⟨_, e1, Or.inr (Or.inl ?_)⟩ hI hR
  rw [eK, eN]
  obtain ⟨p1, p2, p3, p4, p5, p6⟩ := q2
  refine ⟨k1, k2, p1, p2, by rw [k2_slotsz]; exact p3, p4, fun j hj => ?_, p6⟩
  rw [es j]
  exact t_set (N := xN h a) (iS := fun i => i) (V := fun j => sv ρ h a j (eT (xK h a))) p5 (fun _ _ _ _ z => z) hi v j hj
theorem a_alen {a : Nat} (hd : decode Y.2.1 pc = .ok (.arraylength, 1)) (hk : 20 ≤ xK h a ∧ xK h a < 29) (k1 : Ev l D Y d kc ks (pc + 1) L (vi (xN h a) :: st) h Φ) : Ev l D Y d kc ks pc L (vr a :: st) h Φ := by
  intro p e R s m args below meth c Q A ρ H locs cells slots ls hC hR
  obtain ⟨cell, q1, q2, q3, q4, q5, q6⟩ := ar_at hC.2.2.2.1 hk.1 hk.2
  rw [List.map_cons, cv_ref (hC.2.2.2.1.2.1.ne0 (by omega))]
  exact W.alen (n := Int32.ofInt (xN h a)) hC.1.1 hC.1.2.1 q1 q3 (by rw [q4]; rfl) rfl rfl hd (k1 p e R s m args below meth c Q A ρ H locs cells slots ls (hC.to hC.2.2.2.1 agr.rf (Nat.le_refl _) (Nat.le_refl _) (wfI (show inR _ from ⟨by omega, by omega⟩) (wft hC.2.2.2.2.2.2))) hR)
theorem a_iald {a : Nat} {i : Int} (hd : decode Y.2.1 pc = .ok (.iaload, 1)) (hk : xK h a = 20 ∨ xK h a = 28) (h0 : 0 ≤ i) (h1 : i < xN h a) (k1 : Ev l D Y d kc ks (pc + 1) L (vi (xI h a i.toNat) :: st) h Φ) : Ev l D Y d kc ks pc L (vi i :: vr a :: st) h Φ := by
  intro p e R s m args below meth c Q A ρ H locs cells slots ls hC hR
  have hi : inR i := wfh hC.2.2.2.2.2.2
  obtain ⟨cell, q1, q2, q3, q4, q5, q6, -⟩ := ar_at hC.2.2.2.1 (a := a) (by omega) (by omega)
  rw [List.map_cons, List.map_cons, cv_ref (hC.2.2.2.1.2.1.ne0 (by omega))]
  have eT1 : eT (xK h a) = .int := by rcases hk with e | e <;> rw [e] <;> rfl
  rw [eT1] at q3 q6
  exact W.iald hC.1.1 hC.1.2.1 q1 q3 q2 (by rw [q4]; exact ix_in hi h0 h1) (by rw [ofInt_clamp hi]; exact q6 _ (by omega)) rfl rfl hd (k1 p e R s m args below meth c Q A ρ H locs cells slots ls (hC.to hC.2.2.2.1 agr.rf (Nat.le_refl _) (Nat.le_refl _) (wfI (hC.2.2.2.1.2.1.2.2.2.1 _ _) (wft (wft hC.2.2.2.2.2.2)))) hR)
theorem a_zald {a : Nat} {i : Int} (hd : decode Y.2.1 pc = .ok (.baload, 1)) (hk : xK h a = 21) (h0 : 0 ≤ i) (h1 : i < xN h a) (k1 : Ev l D Y d kc ks (pc + 1) L (vi (xI h a i.toNat) :: st) h Φ) : Ev l D Y d kc ks pc L (vi i :: vr a :: st) h Φ := by
  intro p e R s m args below meth c Q A ρ H locs cells slots ls hC hR
  have hi : inR i := wfh hC.2.2.2.2.2.2
  obtain ⟨cell, q1, q2, q3, q4, q5, q6, -⟩ := ar_at hC.2.2.2.1 (a := a) (by omega) (by omega)
  rw [List.map_cons, List.map_cons, cv_ref (hC.2.2.2.1.2.1.ne0 (by omega))]
  have eT1 : eT (xK h a) = .boolean := by rw [hk]; rfl
  rw [eT1] at q3 q6
  exact W.zald hC.1.1 hC.1.2.1 q1 q3 q2 (by rw [q4]; exact ix_in hi h0 h1) (by rw [ofInt_clamp hi]; exact q6 _ (by omega)) rfl rfl hd (k1 p e R s m args below meth c Q A ρ H locs cells slots ls (hC.to hC.2.2.2.1 agr.rf (Nat.le_refl _) (Nat.le_refl _) (wfI (hC.2.2.2.1.2.1.2.2.2.1 _ _) (wft (wft hC.2.2.2.2.2.2)))) hR)
theorem a_aald {a : Nat} {i : Int} (hd : decode Y.2.1 pc = .ok (.aaload, 1)) (hk : 22 ≤ xK h a ∧ xK h a ≤ 27) (h0 : 0 ≤ i) (h1 : i < xN h a) (k1 : Ev l D Y d kc ks (pc + 1) L (vr (xR h a i.toNat) :: st) h Φ) : Ev l D Y d kc ks pc L (vi i :: vr a :: st) h Φ := by
  intro p e R s m args below meth c Q A ρ H locs cells slots ls hC hR
  have hi : inR i := wfh hC.2.2.2.2.2.2
  obtain ⟨cell, q1, q2, q3, q4, q5, q6, -⟩ := ar_at hC.2.2.2.1 (a := a) (by omega) (by omega)
  rw [List.map_cons, List.map_cons, cv_ref (hC.2.2.2.1.2.1.ne0 (by omega))]
  have eT1 : (eT (xK h a)).isReference = true ∧ ∀ j, sv ρ h a j (eT (xK h a)) = va_rf (ro ρ (xR h a j)) := by
    rcases (show xK h a = 22 ∨ xK h a = 23 ∨ xK h a = 24 ∨ xK h a = 25 ∨ xK h a = 26 ∨ xK h a = 27 by omega) with e | e | e | e | e | e <;> rw [e] <;> exact ⟨rfl, fun _ => rfl⟩
  exact W.aald hC.1.1 hC.1.2.1 q1 q3 eT1.1 q2 (by rw [q4]; exact ix_in hi h0 h1) (by rw [ofInt_clamp hi]; exact (q6 _ (by omega)).trans (congrArg some (eT1.2 _))) rfl rfl hd (k1 p e R s m args below meth c Q A ρ H locs cells slots ls (hC.to hC.2.2.2.1 agr.rf (Nat.le_refl _) (Nat.le_refl _) (wfR (hC.2.2.2.1.2.1.2.2.2.2 _ _) (wft (wft hC.2.2.2.2.2.2)))) hR)
theorem a_iast {a : Nat} {i x : Int} (hd : decode Y.2.1 pc = .ok (.iastore, 1)) (hk : xK h a = 20) (ha : 16 ≤ a) (h0 : 0 ≤ i) (h1 : i < xN h a) (k1 : Ev l D Y d kc ks (pc + 1) L st (sI h a i.toNat x) Φ) : Ev l D Y d kc ks pc L (vi x :: vi i :: vr a :: st) h Φ := by
  intro p e R s m args below meth c Q A ρ H locs cells slots ls hC hR
  have hi : inR i := wfh (wft hC.2.2.2.2.2.2)
  obtain ⟨cell, q1, q2, q3, q4, q5, q6, q7⟩ := ar_at hC.2.2.2.1 (a := a) (by omega) (by omega)
  rw [List.map_cons, List.map_cons, List.map_cons, cv_ref (hC.2.2.2.1.2.1.ne0 (by omega))]
  have eT1 : eT (xK h a) = .int := by rw [hk]; rfl
  refine W.iast hC.1.1 hC.1.2.1 q1 (by rw [← eT1]; exact q3) q2 (by rw [q4]; exact ix_in hi h0 h1) rfl rfl hd fun H' e1 e2 e3 => ?_
  rw [ofInt_clamp hi] at e1 ⊢
  have hW := wd_ast (h' := sI h a i.toNat x) hC.2.2.2.1 ha (by omega) (by omega) (i := i.toNat) (by omega) (fun _ => rfl) (fun _ => rfl) sv_sI_ne (sv_sI_at (T := fun _ => eT (xK h a)) (Or.inl eT1)) (inR_sI hC.2.2.2.1.2.1.2.2.2.1 (wfh hC.2.2.2.2.2.2)) hC.2.2.2.1.2.1.2.2.2.2 ⟨q2, q3, q4, q5, q6, q7⟩ e1 e2 e3
  exact k1 p e R s m args below meth c Q A ρ H' _ cells slots ls (hC.to hW agr_sI (Nat.le_refl _) (Nat.le_refl _) (fun v hv => agr.wfv agr_sI (ρ := ρ) (wft (wft (wft hC.2.2.2.2.2.2)) v hv))) (hR.to agr_sI (Nat.le_refl _) (Nat.le_refl _))
theorem a_zast {a : Nat} {i x : Int} (hd : decode Y.2.1 pc = .ok (.bastore, 1)) (hk : xK h a = 21) (ha : 16 ≤ a) (h0 : 0 ≤ i) (h1 : i < xN h a) (hx : x = 0 ∨ x = 1) (k1 : Ev l D Y d kc ks (pc + 1) L st (sI h a i.toNat x) Φ) : Ev l D Y d kc ks pc L (vi x :: vi i :: vr a :: st) h Φ := by
  intro p e R s m args below meth c Q A ρ H locs cells slots ls hC hR
  have hi : inR i := wfh (wft hC.2.2.2.2.2.2)
  obtain ⟨cell, q1, q2, q3, q4, q5, q6, q7⟩ := ar_at hC.2.2.2.1 (a := a) (by omega) (by omega)
  rw [List.map_cons, List.map_cons, List.map_cons, cv_ref (hC.2.2.2.1.2.1.ne0 (by omega))]
  have eT1 : eT (xK h a) = .boolean := by rw [hk]; rfl
  refine W.zast hC.1.1 hC.1.2.1 q1 (by rw [← eT1]; exact q3) q2 (by rw [q4]; exact ix_in hi h0 h1) rfl rfl hd fun H' e1 e2 e3 => ?_
  rw [ofInt_clamp hi] at e1 ⊢
  rw [(fit_bool hx).1] at e1
  have hW := wd_ast (h' := sI h a i.toNat x) hC.2.2.2.1 ha (by omega) (by omega) (i := i.toNat) (by omega) (fun _ => rfl) (fun _ => rfl) sv_sI_ne (sv_sI_at (T := fun _ => eT (xK h a)) (Or.inr eT1)) (inR_sI hC.2.2.2.1.2.1.2.2.2.1 (wfh hC.2.2.2.2.2.2)) hC.2.2.2.1.2.1.2.2.2.2 ⟨q2, q3, q4, q5, q6, q7⟩ e1 e2 e3
  exact k1 p e R s m args below meth c Q A ρ H' _ cells slots ls (hC.to hW agr_sI (Nat.le_refl _) (Nat.le_refl _) (fun v hv => agr.wfv agr_sI (ρ := ρ) (wft (wft (wft hC.2.2.2.2.2.2)) v hv))) (hR.to agr_sI (Nat.le_refl _) (Nat.le_refl _))
theorem a_aast {a v : Nat} {i : Int} (hd : decode Y.2.1 pc = .ok (.aastore, 1)) (hk : sto (xK h a) (xK h v) = true) (ha : 16 ≤ a) (h0 : 0 ≤ i) (h1 : i < xN h a) (k1 : Ev l D Y d kc ks (pc + 1) L st (sR h a i.toNat v) Φ) : Ev l D Y d kc ks pc L (vr v :: vi i :: vr a :: st) h Φ := by
  intro p e R s m args below meth c Q A ρ H locs cells slots ls hC hR
  have hi : inR i := wfh (wft hC.2.2.2.2.2.2)
  have w := hC.2.2.2.1
  have hkk : (xK h a = 22 ∧ xK h v = 3) ∨ (xK h a = 23 ∧ xK h v = 4) ∨ (xK h a = 24 ∧ opk (xK h v) = true) := by
    unfold sto at hk
    split at hk
    · next e => exact Or.inl ⟨e, by simpa using hk⟩
    · next e => exact Or.inr (Or.inl ⟨e, by simpa using hk⟩)
    · next e => exact Or.inr (Or.inr ⟨e, hk⟩)
    · cases hk
  have hka : 22 ≤ xK h a ∧ xK h a ≤ 24 := by omega
  have hkv : 3 ≤ xK h v ∧ xK h v ≤ 11 := by
    rcases hkk with q | q | ⟨q, r⟩
    · omega
    · omega
    · have := opk_cases r; omega
  obtain ⟨cell, q1, q2, q3, q4, q5, q6, q7⟩ := ar_at w (a := a) (by omega) (by omega)
  obtain ⟨cellV, g1, g2, g3, -⟩ := ob_at w (a := v) (by omega) (by omega)
  have hcls := (w.1.1 (xK h v) (by omega) (by omega)).2
  have hra : rA (xK h a) = true := by rcases (show xK h a = 22 ∨ xK h a = 23 ∨ xK h a = 24 by omega) with e | e | e <;> rw [e] <;> rfl
  obtain ⟨kA, comp, m1, m2, m3, -⟩ := w.1.2.2 _ hra
  obtain ⟨kE, hkE, -⟩ := Vm.findClass_spec m3
  obtain ⟨kC, hkC, hkindC⟩ := hcls.2
  have hasg : s.vm.assignable (D.1 (xK h v)) comp = true := by
    rcases hkk with ⟨qa, qv⟩ | ⟨qa, qv⟩ | ⟨qa, qv⟩
    · have e : comp = D.1 (xK h v) := Option.some.inj (m3.symm.trans (by rw [qa]; rw [qv]; have := hcls.1; rw [qv] at this; exact this))
      rw [e]; exact va_assign hcls
    · have e : comp = D.1 (xK h v) := Option.some.inj (m3.symm.trans (by rw [qa]; rw [qv]; have := hcls.1; rw [qv] at this; exact this))
      rw [e]; exact va_assign hcls
    · obtain ⟨c0, t0, f1, f2, f3⟩ := Cond.castable_spec (va_Nw.use (A := args) rfl (hC.1.2.2.2.2.2.2.2.2 _ (cast_mem qv) rfl))
      cases hcls.1.symm.trans f1
      rw [qa] at m3
      cases (show s.vm.findClass "CallGraphs$Op" = some comp from m3).symm.trans f2
      exact f3
  have eT1 : ∃ C, eT (xK h a) = .object C := by rcases (show xK h a = 22 ∨ xK h a = 23 ∨ xK h a = 24 by omega) with e | e | e <;> rw [e] <;> exact ⟨_, rfl⟩
  rw [List.map_cons, List.map_cons, List.map_cons, cv_ref (w.2.1.ne0 (a := a) (by omega)), cv_ref (w.2.1.ne0 (a := v) (by omega))]
  refine W.aast hC.1.1 hC.1.2.1 q1 q3.1 q2 (by rw [q7 hra]; exact m1) m2 rfl hkE ⟨fun q => by have := (ofInt_lt hi inR_0).mp q; omega, by rw [q4, ofInt_clamp hi]; omega⟩ g1 (fun q hq => by rw [g3] at hq; cases hq) (by rw [g2]; exact hkC) (by rw [g2]; exact hasg) rfl rfl hd fun H' e1 e2 e3 => ?_
  rw [ofInt_clamp hi] at e1 ⊢
  have hro : va_rf (ro ρ v) = .ref (ρ v) := by rw [ro_ne (w.2.1.ne0 (a := v) (by omega))]; rfl
  have hW := wd_ast (h' := sR h a i.toNat v) w ha (by omega) (by omega) (i := i.toNat) (by omega) (fun _ => rfl) (fun _ => rfl) sv_sR_ne (sv_sR_at (T := fun _ => eT (xK h a)) (Or.inl eT1)) w.2.1.2.2.2.1 (wf_sR w.2.1.2.2.2.2 (Or.inr (by omega))) ⟨q2, q3, q4, q5, q6, q7⟩ (by rw [hro]; exact e1) e2 e3
  exact k1 p e R s m args below meth c Q A ρ H' _ cells slots ls (hC.to hW agr_sR (Nat.le_refl _) (Nat.le_refl _) (fun v hv => agr.wfv agr_sR (ρ := ρ) (wft (wft (wft hC.2.2.2.2.2.2)) v hv))) (hR.to agr_sR (Nat.le_refl _) (Nat.le_refl _))
/-- behind an allocation -/
theorem al_to {p : Program} {e : Env} {R : Room} {s : State} {m : MethodId} {args : Array Value} {below : List Frame} {meth : Method} {c : Code} {Q : State → Prop} {A : Nat → Prop} {ρ : Nat → Nat} {H H' : Heap} {locs : List Loc} {cells slots : Nat} {ls : Array Slot} {kc' ks' pc' a kd n w : Nat} {st0 : List AV} (hC : Cf D Y d kc ks L st0 h p R s m args meth c A ρ H locs cells slots ls) (hR : Rt l D Y p e R s m args below meth c Q A h ρ (cells + kc) (slots + ks) Φ) (hst : ∀ v ∈ st, wfv h v)
    (ha : 16 ≤ a) (hk : xK h a = 0) (hkd : kd ≠ 0) (z : H'.size = H.size + 1) (oq : ∀ q : Nat, q < H.size → H'[q]? = H[q]?) (ca : ∀ ρ' : Nat → Nat, ρ' a = H.size → (∀ j : Nat, xR (nw h a kd n) a j = 0) → cAt D ρ' (nw h a kd n) s H' a) (h1 : kc' + 1 ≤ kc) (h2 : ks' + w ≤ ks) (k1 : Ev l D Y d kc' ks' pc' L (vr a :: st) (nw h a kd n) Φ) : W p l e R s m args below meth c H' locs (cells + 1) (slots + w) Q (F0 m pc' ls (.ref H.size :: st.map (cv ρ))) := by
  obtain ⟨W1, ag⟩ := Wd.new (ρ' := fun b => if b = a then H.size else ρ b) hC.2.2.2.1 ha hk hkd rfl z oq (ca _ (if_pos rfl) (fun _ => by rw [xR_nw, if_pos rfl]))
  have e1 : (Value.ref H.size :: st.map (cv ρ)) = (vr a :: st).map (cv (fun b => if b = a then H.size else ρ b)) := by
    rw [List.map_cons, cv_ref (show a ≠ 0 by omega), map_agr ag hst]
    simp
  rw [e1]
  exact k1 p e R s m args below meth c Q A _ H' locs (cells + 1) (slots + w) ls (hC.to W1 ag (by omega) (by omega) (wfR (Or.inr (by rw [xK_nw, if_pos rfl]; exact hkd)) (fun v hv => ag.wfv (hst v hv)))) (hR.to ag (by omega) (by omega))
theorem a_new {kd idx kc' ks' : Nat} (a : Nat) (hd : decode Y.2.1 pc = .ok (.new idx, 3)) (hkd : 1 ≤ kd ∧ kd ≤ 12) (hw : Cond.classLink Y.1.cls idx (cn kd) ∈ gws) (h1 : kc' + 1 ≤ kc) (h2 : ks' + cNf kd ≤ ks) (ha : 16 ≤ a) (hk : xK h a = 0) (k1 : Ev l D Y d kc' ks' (pc + 3) L (vr a :: st) (nw h a kd 0) Φ) : Ev l D Y d kc ks pc L st h Φ := by
  intro p e R s m args below meth c Q A ρ H locs cells slots ls hC hR
  have w := hC.2.2.2.1
  have x6 := hC.1.2.2.2.2.2.1
  have hKn := w.1.1 kd hkd.1 hkd.2
  obtain ⟨i1, i2⟩ := in_all hkd.1 hkd.2
  refine W.newcK hC.1.1 hC.1.2.1 hC.1.2.2.2.2.1 (x6 _ hw) (x6 _ i1) (x6 _ i2) rfl hd (Nat.le_trans (by omega) hC.2.2.1.1) (Nat.le_trans (by omega) hC.2.2.1.2) hKn.2.1 rfl fun H' kC hkC e1 z1 o1 => ?_
  refine al_to (n := 0) hC hR hC.2.2.2.2.2.2 ha hk (by omega) z1 o1 (fun ρ' eρ _ => ?_) h1 h2 k1
  have hb := u_born (cT kd) x6 (iw_all hkd.1 hkd.2) hKn hkC e1 (ty_all hkd.1 hkd.2)
  obtain ⟨cell, b1, b2, b3, b4⟩ := hb
  refine ⟨cell, by rw [eρ]; exact b1, Or.inl ?_⟩
  have eK : xK (nw h a kd 0) a = kd := by rw [xK_nw, if_pos rfl]
  rw [eK]
  exact ⟨hkd.1, hkd.2, b2, b3, fun k hk => (b4 k hk).trans (congrArg some (dv_sv (okt_all hkd.1 hkd.2 k hk)))⟩
theorem a_newarr {kd kc' ks' : Nat} {n : Int} {atype : ArrayType} (a : Nat) (hd : decode Y.2.1 pc = .ok (.newarray atype, 2)) (hkd : kd = 20 ∨ kd = 21) (hty : newarray.typeOf atype = eT kd) (hw : Cond.arrayClass (eT kd) ∈ gws) (hn : 0 ≤ n ∧ n ≤ 100000) (h1 : kc' + 1 ≤ kc) (h2 : ks' + n.toNat ≤ ks) (ha : 16 ≤ a) (hk : xK h a = 0) (k1 : Ev l D Y d kc' ks' (pc + 2) L (vr a :: st) (nw h a kd n.toNat) Φ) : Ev l D Y d kc ks pc L (vi n :: st) h Φ := by
  intro p e R s m args below meth c Q A ρ H locs cells slots ls hC hR
  have w := hC.2.2.2.1
  have x6 := hC.1.2.2.2.2.2.1
  have hi : inR n := wfh hC.2.2.2.2.2.2
  have hcb : componentBytes (newarray.typeOf atype) ≤ 8 := by cases atype <;> decide
  rw [List.map_cons]
  refine W.newaK (N := n.toNat) hC.1.1 hC.1.2.1 (by rw [hty]; exact x6 _ hw) rfl hd rfl (fun q => by have := (ofInt_lt hi inR_0).mp q; omega) (ofInt_clamp hi) (Nat.le_trans (Nat.mul_le_mul (show n.toNat ≤ 100000 by omega) hcb) (by decide)) (Nat.le_trans (by omega) hC.2.2.1.1) (Nat.le_trans (by omega) hC.2.2.1.2) rfl fun H' cA e1 z1 o1 hA => ?_
  refine al_to (kd := kd) (n := n.toNat) hC hR (wft hC.2.2.2.2.2.2) ha hk (by omega) z1 o1 (fun ρ' eρ _ => ?_) h1 h2 k1
  refine ⟨_, by rw [eρ]; exact e1, Or.inr (Or.inl ?_)⟩
  have eK : xK (nw h a kd n.toNat) a = kd := by rw [xK_nw, if_pos rfl]
  have eN : xN (nw h a kd n.toNat) a = n.toNat := by rw [xN_nw, if_pos rfl]
  rw [eK, eN]
  refine ⟨by omega, by omega, (fun q => by cases q), (by rw [← hty]; exact hA _ _), arrV_size _ _ _, by omega, fun i hi => ?_, fun q => ?_⟩
  · rw [arrV_read _ _ hi, hty]
    exact congrArg some (dv_sv (by rcases hkd with rfl | rfl <;> rfl))
  · rcases hkd with rfl | rfl <;> cases q
theorem a_anew {kd idx kc' ks' : Nat} {n : Int} (a : Nat) (hd : decode Y.2.1 pc = .ok (.anewarray idx, 3)) (hkd : kd = 22 ∨ kd = 23 ∨ kd = 24) (hw : Cond.classLink Y.1.cls idx (cn kd) ∈ gws) (hw2 : Cond.arrayOver (.object (cn kd)) ∈ lw_tbl) (hn : 0 ≤ n ∧ n ≤ 100000) (h1 : kc' + 1 ≤ kc) (h2 : ks' + n.toNat ≤ ks) (ha : 16 ≤ a) (hk : xK h a = 0) (k1 : Ev l D Y d kc' ks' (pc + 3) L (vr a :: st) (nw h a kd n.toNat) Φ) : Ev l D Y d kc ks pc L (vi n :: st) h Φ := by
  intro p e R s m args below meth c Q A ρ H locs cells slots ls hC hR
  have w := hC.2.2.2.1
  have x6 := hC.1.2.2.2.2.2.1
  have hi : inR n := wfh hC.2.2.2.2.2.2
  have hov := va_AO.use (A := args) (hC.1.2.2.2.2.2.2.2.2 _ hw2 rfl)
  have hra : rA kd = true := by rcases hkd with rfl | rfl | rfl <;> rfl
  have het : eT kd = .object (cn kd) := by rcases hkd with rfl | rfl | rfl <;> rfl
  rw [List.map_cons]
  refine W.anew hC.1.1 hC.1.2.1 hC.1.2.2.2.2.1 (x6 _ hw) hov rfl hd rfl (fun q => by have := (ofInt_lt hi inR_0).mp q; omega) (by rw [ofInt_clamp hi]; omega) (Nat.le_trans (by omega) hC.2.2.1.1) (by rw [ofInt_clamp hi]; exact Nat.le_trans (by omega) hC.2.2.1.2) fun cA kA comp f1 f2 f3 f4 => ?_
  rw [ofInt_clamp hi]
  generalize hH1 : H.push ({ cls := cA, slots := Array.replicate n.toNat .null, vm := .none } : Cell) = H1
  have z1 : H1.size = H.size + 1 := by rw [← hH1, Array.size_push]
  have e1 : H1[H.size]? = some (arrV cA n.toNat (fun _ => .null)) := by rw [← hH1, Array.getElem?_push_size, ← arrV_new]
  have o1 : ∀ q : Nat, q < H.size → H1[q]? = H[q]? := fun q hq => by rw [← hH1, Array.getElem?_push, if_neg (Nat.ne_of_lt hq)]
  refine al_to (kd := kd) (n := n.toNat) hC hR (wft hC.2.2.2.2.2.2) ha hk (by omega) z1 o1 (fun ρ' eρ er => ?_) h1 h2 k1
  refine ⟨_, by rw [eρ]; exact e1, Or.inr (Or.inl ?_)⟩
  have eK : xK (nw h a kd n.toNat) a = kd := by rw [xK_nw, if_pos rfl]
  have eN : xN (nw h a kd n.toNat) a = n.toNat := by rw [xN_nw, if_pos rfl]
  rw [eK, eN]
  refine ⟨by omega, by omega, (fun q => by cases q), ⟨(fun k h => by cases h), kA, f2, comp, (by rw [het]; exact f3)⟩, arrV_size _ _ _, by omega, fun i hi => ?_, fun _ => ?_⟩
  · rw [arrV_read _ _ hi, het]
    show _ = some (va_rf (ro ρ' (xR (nw h a kd n.toNat) a i)))
    rw [er i]; rfl
  · obtain ⟨kA', comp', m1, m2, m3, m4⟩ := w.1.2.2 _ hra
    exact Option.some.inj (f1.symm.trans m4)
theorem a_gets {C n ds : String} {idx k : Nat} (hd : decode Y.2.1 pc = .ok (.getstatic idx, 3)) (hs : (C, n, ds, k) ∈ stats) (hw : Cond.fieldLink Y.1.cls idx C n ds ∈ gws) (k1 : Ev l D Y d kc ks (pc + 3) L (vr k :: st) h Φ) : Ev l D Y d kc ks pc L st h Φ := by
  intro p e R s m args below meth c Q A ρ H locs cells slots ls hC hR
  have w := hC.2.2.2.1
  obtain ⟨z1, z2⟩ := w.2.2.2.2.2 _ hs
  have hk0 : k ≠ 0 := w.2.1.ne0 z2
  refine va_gets hC.1.1 hC.1.2.1 z1 w.2.2.1 hC.1.2.2.2.2.1 (hC.1.2.2.2.2.2.1 _ hw) (fun _ q => q) hd ?_
  have := k1 p e R s m args below meth c Q A ρ H locs cells slots ls (hC.to w agr.rf (Nat.le_refl _) (Nat.le_refl _) (wfR (Or.inr z2) hC.2.2.2.2.2.2)) hR
  rw [List.map_cons, cv_ref hk0] at this
  exact this
end AR
