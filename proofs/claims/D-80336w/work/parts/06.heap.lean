/-! rules: fields and arrays -/
theorem Wd.upd {D : DD} {ρ : Nat → Nat} {h h' : Hp} {s : State} {H H' : Heap} {A : Nat → Prop} {locs : List Loc} {a i : Nat} (w : Wd D ρ h s H A locs) (ha : 16 ≤ a) (hk : xK h a ≠ 0) (eK : ∀ b, xK h' b = xK h b) (eN : ∀ b, xN h' b = xN h b) (ev : ∀ b, b ≠ a → ∀ j ty, sv ρ h' b j ty = sv ρ h b j ty) (z : H'.size = H.size) (oq : ∀ q : Nat, q ≠ ρ a → H'[q]? = H[q]?) (ca : cAt D ρ h' s H' a) (hI : ∀ b k, inR (xI h' b k)) (hR : ∀ b k, xR h' b k = 0 ∨ xK h' (xR h' b k) ≠ 0) : Wd D ρ h' s H' A (locs ++ [⟨ρ a, i⟩]) := by
  obtain ⟨w1, ⟨r1, r2, r3, r4, r5⟩, w3, w4, w5, w6⟩ := w
  refine ⟨w1, ⟨by rw [eK]; exact r1, fun b hb => ?_, fun b c hb hc => r3 b c (by rw [← eK]; exact hb) (by rw [← eK]; exact hc), hI, hR⟩, w3.put z oq (w5 a ha hk), w4, fun b h1 h2 => w5 b h1 (by rw [← eK]; exact h2), fun q hq => ⟨(w6 q hq).1, by rw [eK]; exact (w6 q hq).2⟩⟩
  by_cases e : b = a
  · rw [e]; exact ca
  · rw [eK] at hb
    exact (r2 b hb).kept rfl (oq _ (fun z => e (r3 b a hb hk z))) (eK b) (eN b) (ev b e)
theorem Wd.new {D : DD} {ρ ρ' : Nat → Nat} {h : Hp} {s : State} {H H' : Heap} {A : Nat → Prop} {locs : List Loc} {a kd n : Nat} (w : Wd D ρ h s H A locs) (ha : 16 ≤ a) (hk : xK h a = 0) (hkd : kd ≠ 0) (er : ρ' = fun b => if b = a then H.size else ρ b) (z : H'.size = H.size + 1) (oq : ∀ q : Nat, q < H.size → H'[q]? = H[q]?) (ca : cAt D ρ' (nw h a kd n) s H' a) : Wd D ρ' (nw h a kd n) s H' A locs ∧ agr h ρ (nw h a kd n) ρ' := by
  obtain ⟨w1, ⟨r1, r2, r3, r4, r5⟩, w3, w4, w5, w6⟩ := w
  have ne : ∀ b, xK h b ≠ 0 → b ≠ a := fun b hb e => hb (by rw [e]; exact hk)
  have eρ : ∀ b, xK h b ≠ 0 → ρ' b = ρ b := fun b hb => by rw [er]; exact if_neg (ne b hb)
  have eρa : ρ' a = H.size := by rw [er]; exact if_pos rfl
  have ag : agr h ρ (nw h a kd n) ρ' := fun b hb => ⟨by rw [xK_nw, if_neg (ne b hb)], by rw [xN_nw, if_neg (ne b hb)], eρ b hb⟩
  have e0 : (0 : Nat) ≠ a := by omega
  have hsv : ∀ b, b ≠ a → ∀ j ty, sv ρ' (nw h a kd n) b j ty = sv ρ h b j ty := by
    intro b hb j ty
    have hr : ro ρ' (xR h b j) = ro ρ (xR h b j) := by
      unfold ro
      rcases r5 b j with h0 | h0
      · rw [h0]; rfl
      · rw [eρ _ h0]
    cases ty <;> simp [sv, xI_nw, xR_nw, xL_nw, hb, hr]
  refine ⟨⟨w1, ⟨by rw [xK_nw, if_neg e0]; exact r1, fun b hb => ?_, fun b c hb hc hbc => ?_, fun b k => ?_, fun b k => ?_⟩, ⟨by rw [z]; exact Nat.le_trans w3.1 (Nat.le_succ _), fun q h1 h2 => (oq q (Nat.lt_of_lt_of_le h1 w3.1)).trans (w3.2.1 q h1 h2), w3.2.2⟩, w4, fun b h1 h2 => ?_, fun q hq => ?_⟩, ag⟩
  · by_cases e : b = a
    · rw [e]; exact ca
    · have hb' : xK h b ≠ 0 := by rw [xK_nw, if_neg e] at hb; exact hb
      exact (r2 b hb').kept (eρ b hb') (oq _ (r2 b hb').lt) (ag b hb').1 (ag b hb').2.1 (hsv b e)
  · have lt : ∀ b, xK h b ≠ 0 → ρ b < H.size := fun b hb => (r2 b hb).lt
    by_cases eb : b = a
    · by_cases ec : c = a
      · rw [eb, ec]
      · rw [xK_nw, if_neg ec] at hc
        rw [eb, eρa, eρ c hc] at hbc
        have := lt c hc; omega
    · rw [xK_nw, if_neg eb] at hb
      by_cases ec : c = a
      · rw [ec, eρa, eρ b hb] at hbc
        have := lt b hb; omega
      · rw [xK_nw, if_neg ec] at hc
        rw [eρ b hb, eρ c hc] at hbc
        exact r3 b c hb hc hbc
  · rw [xI_nw]; split
    · exact inR_0
    · exact r4 b k
  · rw [xR_nw]; split
    · exact Or.inl rfl
    · rcases r5 b k with h0 | h0
      · exact Or.inl h0
      · exact Or.inr (by rw [(ag _ h0).1]; exact h0)
  · by_cases e : b = a
    · rw [e, eρa]; exact w4 _ w3.1
    · rw [xK_nw, if_neg e] at h2
      rw [eρ b h2]; exact w5 b h1 h2
  · obtain ⟨z1, z2⟩ := w6 q hq
    exact ⟨by rw [eρ _ z2]; exact z1, by rw [(ag _ z2).1]; exact z2⟩
theorem LV.agr {h h' : Hp} {ρ ρ' : Nat → Nat} {L : List (Option AV)} {nL : Nat} {ls : Array Slot} (q : agr h ρ h' ρ') (hL : LV ρ L nL ls) (w : ∀ (i : Nat) (v : AV), L[i]? = some (some v) → wfv h v) : LV ρ' L nL ls := ⟨hL.1, hL.2.1, fun i v hi => by rw [q.cv (w i v hi)]; exact hL.2.2 i v hi⟩
theorem map_agr {h h' : Hp} {ρ ρ' : Nat → Nat} {st : List AV} (q : agr h ρ h' ρ') (w : ∀ v ∈ st, wfv h v) : st.map (cv ρ') = st.map (cv ρ) := List.map_congr_left (fun v hv => q.cv (w v hv))
/-- a Cf behind a change of the heap -/
theorem Cf.to {D : DD} {Y : Meth} {d kc kc' ks ks' : Nat} {L : List (Option AV)} {st st' : List AV} {h h' : Hp} {p : Program} {R : Room} {s : State} {m : MethodId} {args : Array Value} {meth : Method} {c : Code} {A : Nat → Prop} {ρ ρ' : Nat → Nat} {H H' : Heap} {locs locs' : List Loc} {cells slots cells' slots' : Nat} {ls : Array Slot}
    (hC : Cf D Y d kc ks L st h p R s m args meth c A ρ H locs cells slots ls) (w : Wd D ρ' h' s H' A locs') (ag : agr h ρ h' ρ') (h1 : cells' + kc' ≤ cells + kc) (h2 : slots' + ks' ≤ slots + ks) (hst : ∀ v ∈ st', wfv h' v) : Cf D Y d kc' ks' L st' h' p R s m args meth c A ρ' H' locs' cells' slots' ls := by
  obtain ⟨c1, c2, c3, c4, c5, c6, c7⟩ := hC
  exact ⟨c1, c2, ⟨Nat.le_trans h1 c3.1, Nat.le_trans h2 c3.2⟩, w, c5.agr ag c6, fun i v hi => ag.wfv (c6 i v hi), hst⟩
theorem Rt.to {l : Launch} {D : DD} {Y : Meth} {p : Program} {e : Env} {R : Room} {s : State} {m : MethodId} {args : Array Value} {below : List Frame} {meth : Method} {c : Code} {Q : State → Prop} {A : Nat → Prop} {h h' : Hp} {ρ ρ' : Nat → Nat} {a b a' b' : Nat} {Φ : Option AV → Hp → Prop} (hR : Rt l D Y p e R s m args below meth c Q A h ρ a b Φ) (ag : agr h ρ h' ρ') (h1 : a' ≤ a) (h2 : b' ≤ b) : Rt l D Y p e R s m args below meth c Q A h' ρ' a' b' Φ :=
  fun v h2' ρ2 H' locs' cells' slots' pc' ls' a1 a2 a3 a4 a5 a6 a7 => hR v h2' ρ2 H' locs' cells' slots' pc' ls' a1 (ag.tr a2) a3 (Nat.le_trans a4 h1) (Nat.le_trans a5 h2) a6 a7
section HO
variable {l : Launch} {D : DD} {Y : Meth} {d kc ks pc : Nat} {L : List (Option AV)} {st : List AV} {h : Hp} {Φ : Option AV → Hp → Prop}
variable {p : Program} {e : Env} {R : Room} {s : State} {m : MethodId} {args : Array Value} {below : List Frame} {meth : Method} {c : Code} {Q : State → Prop} {A : Nat → Prop} {ρ : Nat → Nat} {H : Heap} {locs : List Loc} {cells slots : Nat} {ls : Array Slot} {rest : List Value}
theorem ob_at {a : Nat} (w : Wd D ρ h s H A locs) (k1 : 1 ≤ xK h a) (k2 : xK h a ≤ 12) : ∃ cell : Cell, H[ρ a]? = some cell ∧ cell.cls = D.1 (xK h a) ∧ cell.vm = .none ∧ ∀ k, k < cNf (xK h a) → cell.slots[D.2.1 (xK h a) k]? = some (sv ρ h a k (cT (xK h a) k)) := by
  obtain ⟨cell, q1, ⟨-, -, q2⟩ | ⟨g1, -⟩ | ⟨g1, -⟩⟩ := w.2.1.2.1 a (by omega)
  · exact ⟨cell, q1, q2⟩
  · omega
  · omega
theorem kn_apart {kd : Nat} (hts : ∀ w ∈ gws, w.before args s = true) (hK : Kn D s) (k1 : 1 ≤ kd) (k2 : kd ≤ 12) : ∀ x y, x < cNf kd → y < cNf kd → x ≠ y → D.2.1 kd x ≠ D.2.1 kd y := by
  intro x y hx hy hne
  obtain ⟨hS, -⟩ := hK.1 kd k1 k2
  obtain ⟨_, _, _, fa, hia, ea⟩ := hS x hx
  obtain ⟨_, _, _, fb, hib, eb⟩ := hS y hy
  rw [← ea, ← eb]
  refine u_apart (u_lays hts (iw_all k1 k2) hx) (u_lays hts (iw_all k1 k2) hy) hia hib ?_
  rw [(State.fieldFound?_type hia (ty_all k1 k2 x hx)).1, (State.fieldFound?_type hib (ty_all k1 k2 y hy)).1]
  exact nm_all k1 k2 x hx y hy hne
theorem w_get {a idx k : Nat} {S : Nat → Bool} {ty : FieldType} {fin : Bool} (hx : Cx Y p s m args meth c) (w : Wd D ρ h s H A locs) (F : FLk Y.1.cls idx k S ty fin) (hS : S (xK h a) = true) (hd : decode Y.2.1 pc = .ok (.getfield idx, 3)) (kk : W p l e R s m args below meth c H locs cells slots Q (F0 m (pc + 3) ls (sv ρ h a k ty :: rest))) : W p l e R s m args below meth c H locs cells slots Q (F0 m pc ls (cv ρ (vr a) :: rest)) := by
  obtain ⟨⟨k1, k2⟩, hlt, hw, hty, -⟩ := F _ hS
  obtain ⟨cell, q1, q2, q3, q4⟩ := ob_at w k1 k2
  obtain ⟨hSl, hfc, kC, hkC, hkind⟩ := w.1.1 _ k1 k2
  obtain ⟨cf, kf, fi, f, hi, hsl⟩ := hSl k hlt
  obtain ⟨x1, x2, x3, x4, x5, x6, x7⟩ := hx
  rw [cv_ref (w.2.1.ne0 (by omega))]
  refine W.getf x1 x2 x5 (x6 _ hw) hi (u_facts hfc hkC (u_lays x6 (iw_all k1 k2) hlt) hi).1 q1 (by rw [q3]; exact fun h => by cases h) (v := sv ρ h a k ty) ?_ rfl rfl hd kk
  rw [hsl, q4 k hlt, hty]
theorem w_getN {a idx k : Nat} {S : Nat → Bool} {ty : FieldType} {fin : Bool} (hx : Cx Y p s m args meth c) (w : Wd D ρ h s H A locs) (F : FNk Y.1.cls idx k S ty fin) (hS : S (xK h a) = true) (hd : decode Y.2.1 pc = .ok (.getfield idx, 3)) (kk : W p l e R s m args below meth c H locs cells slots Q (F0 m (pc + 3) ls (sv ρ h a k ty :: rest))) : W p l e R s m args below meth c H locs cells slots Q (F0 m pc ls (cv ρ (vr a) :: rest)) := by
  obtain ⟨⟨k1, k2⟩, hlt, hw, hty, -⟩ := F _ hS
  obtain ⟨cell, q1, q2, q3, q4⟩ := ob_at w k1 k2
  obtain ⟨hSl, hfc, kC, hkC, hkind⟩ := w.1.1 _ k1 k2
  obtain ⟨cf, kf, fi, f, hi, hsl⟩ := hSl k hlt
  obtain ⟨x1, x2, x3, x4, x5, x6, x7, x8, x9⟩ := hx
  rw [cv_ref (w.2.1.ne0 (by omega))]
  refine va_Wgetf x1 x2 x5 (va_Nw.use rfl (x9 _ hw rfl)) hi (u_facts hfc hkC (u_lays x6 (iw_all k1 k2) hlt) hi).1 q1 (by rw [q3]; exact fun h => by cases h) (v := sv ρ h a k ty) ?_ rfl rfl hd kk
  rw [hsl, q4 k hlt, hty]
/-- the heap behind a store into a field -/
theorem wd_put {a k : Nat} {h' : Hp} {v : Value} {cell : Cell} {H' : Heap} (hts : ∀ w ∈ gws, w.before args s = true) (w : Wd D ρ h s H A locs) (ha : 16 ≤ a) (k1 : 1 ≤ xK h a) (k2 : xK h a ≤ 12) (hlt : k < cNf (xK h a)) (eK : ∀ b, xK h' b = xK h b) (eN : ∀ b, xN h' b = xN h b) (ev : ∀ b, b ≠ a → ∀ j ty, sv ρ h' b j ty = sv ρ h b j ty) (es : ∀ j, j < cNf (xK h a) → sv ρ h' a j (cT (xK h a) j) = updV (fun j => sv ρ h a j (cT (xK h a) j)) k v j) (hI : ∀ b k, inR (xI h' b k)) (hR : ∀ b k, xR h' b k = 0 ∨ xK h' (xR h' b k) ≠ 0)
    (q2 : cell.cls = D.1 (xK h a)) (q3 : cell.vm = .none) (q4 : ∀ k, k < cNf (xK h a) → cell.slots[D.2.1 (xK h a) k]? = some (sv ρ h a k (cT (xK h a) k))) (e1 : H'[ρ a]? = some (cell.setSlot (D.2.1 (xK h a) k) v)) (e2 : H'.size = H.size) (e3 : ∀ q, q ≠ ρ a → H'[q]? = H[q]?) : Wd D ρ h' s H' A (locs ++ [⟨ρ a, D.2.1 (xK h a) k⟩]) := by
  refine w.upd ha (by omega) eK eN ev e2 e3 ⟨_, e1, Or.inl ?_⟩ hI hR
  rw [eK]
  refine ⟨k1, k2, q2, q3, fun j hj => ?_⟩
  rw [es j hj]
  exact t_set (V := fun j => sv ρ h a j (cT (xK h a) j)) q4 (kn_apart hts w.1 k1 k2) hlt v j hj
theorem w_put {a idx k : Nat} {S : Nat → Bool} {ty : FieldType} {h' : Hp} {v : Value} (hx : Cx Y p s m args meth c) (w : Wd D ρ h s H A locs) (F : FLk Y.1.cls idx k S ty false) (hS : S (xK h a) = true) (ha : 16 ≤ a) (hn : narrow ty v = v) (hfit : fits ty v = true) (eK : ∀ b, xK h' b = xK h b) (eN : ∀ b, xN h' b = xN h b) (ev : ∀ b, b ≠ a → ∀ j ty, sv ρ h' b j ty = sv ρ h b j ty) (es : ∀ j, sv ρ h' a j (cT (xK h a) j) = updV (fun j => sv ρ h a j (cT (xK h a) j)) k v j) (hI : ∀ b k, inR (xI h' b k)) (hR : ∀ b k, xR h' b k = 0 ∨ xK h' (xR h' b k) ≠ 0) (hd : decode Y.2.1 pc = .ok (.putfield idx, 3))
    (kk : ∀ (H' : Heap) (locs' : List Loc), Wd D ρ h' s H' A locs' → W p l e R s m args below meth c H' locs' cells slots Q (F0 m (pc + 3) ls rest)) : W p l e R s m args below meth c H locs cells slots Q (F0 m pc ls (v :: cv ρ (vr a) :: rest)) := by
  obtain ⟨⟨k1, k2⟩, hlt, hw, hty, hfin⟩ := F _ hS
  obtain ⟨cell, q1, q2, q3, q4⟩ := ob_at w k1 k2
  obtain ⟨hSl, hfc, kC, hkC, hkind⟩ := w.1.1 _ k1 k2
  obtain ⟨cf, kf, fi, f, hi, hsl⟩ := hSl k hlt
  obtain ⟨x1, x2, x3, x4, x5, x6, x7⟩ := hx
  have hlay := x6 _ (iw_all k1 k2 _ (u_in_lay hlt))
  unfold u_lay at hlay
  rw [if_neg (by rw [hfin]; decide)] at hlay
  have hst := (u_facts hfc hkC (u_lays x6 (iw_all k1 k2) hlt) hi).1
  have h6 := u_store hfc hkC hkind hlay hi (ty := ty) (by rw [← hty]; exact ty_all k1 k2 k hlt) hn hfit
  rw [cv_ref (w.2.1.ne0 (by omega))]
  refine W.putK x1 x2 (f := f) ⟨x5, x6 _ hw, ⟨_, _, _, hi⟩, hst⟩ (by rw [q2]; exact h6) q1 q3 (by rw [hsl]; exact k2_hasslot (q4 k hlt)) rfl rfl hd fun H' e1 e2 e3 => ?_
  rw [hsl] at e1 ⊢
  exact kk H' _ (wd_put x6 w ha k1 k2 hlt eK eN ev (fun j _ => es j) hI hR q2 q3 q4 e1 e2 e3)
theorem w_putN {a idx k : Nat} {S : Nat → Bool} {ty : FieldType} {h' : Hp} {v : Value} (hx : Cx Y p s m args meth c) (w : Wd D ρ h s H A locs) (F : FNk Y.1.cls idx k S ty false) (hS : S (xK h a) = true) (ha : 16 ≤ a) (hn : narrow ty v = v) (hfit : fits ty v = true) (eK : ∀ b, xK h' b = xK h b) (eN : ∀ b, xN h' b = xN h b) (ev : ∀ b, b ≠ a → ∀ j ty, sv ρ h' b j ty = sv ρ h b j ty) (es : ∀ j, sv ρ h' a j (cT (xK h a) j) = updV (fun j => sv ρ h a j (cT (xK h a) j)) k v j) (hI : ∀ b k, inR (xI h' b k)) (hR : ∀ b k, xR h' b k = 0 ∨ xK h' (xR h' b k) ≠ 0) (hd : decode Y.2.1 pc = .ok (.putfield idx, 3))
    (kk : ∀ (H' : Heap) (locs' : List Loc), Wd D ρ h' s H' A locs' → W p l e R s m args below meth c H' locs' cells slots Q (F0 m (pc + 3) ls rest)) : W p l e R s m args below meth c H locs cells slots Q (F0 m pc ls (v :: cv ρ (vr a) :: rest)) := by
  obtain ⟨⟨k1, k2⟩, hlt, hw, hty, hfin⟩ := F _ hS
  obtain ⟨cell, q1, q2, q3, q4⟩ := ob_at w k1 k2
  obtain ⟨hSl, hfc, kC, hkC, hkind⟩ := w.1.1 _ k1 k2
  obtain ⟨cf, kf, fi, f, hi, hsl⟩ := hSl k hlt
  obtain ⟨x1, x2, x3, x4, x5, x6, x7, x8, x9⟩ := hx
  have hlay := x6 _ (iw_all k1 k2 _ (u_in_lay hlt))
  unfold u_lay at hlay
  rw [if_neg (by rw [hfin]; decide)] at hlay
  have hst := (u_facts hfc hkC (u_lays x6 (iw_all k1 k2) hlt) hi).1
  have h6 := u_store hfc hkC hkind hlay hi (ty := ty) (by rw [← hty]; exact ty_all k1 k2 k hlt) hn hfit
  rw [cv_ref (w.2.1.ne0 (by omega))]
  refine va_WputK x1 x2 (f := f) x5 (va_Nw.use rfl (x9 _ hw rfl)) hi hst (by rw [q2]; exact h6) q1 q3 (by rw [hsl]; exact k2_hasslot (q4 k hlt)) rfl rfl hd fun H' e1 e2 e3 => ?_
  rw [hsl] at e1 ⊢
  exact kk H' _ (wd_put x6 w ha k1 k2 hlt eK eN ev (fun j _ => es j) hI hR q2 q3 q4 e1 e2 e3)
theorem w_putF {a idx k : Nat} {S : Nat → Bool} {ty : FieldType} {h' : Hp} {v : Value} (hx : Cx Y p s m args meth c) (w : Wd D ρ h s H A locs) (F : FLk Y.1.cls idx k S ty true) (hin : Y.1.name = "<init>") (hdc : ∀ kd, S kd = true → (cF kd k).1 = Y.1.cls) (hS : S (xK h a) = true) (ha : 16 ≤ a) (hn : narrow ty v = v) (hfit : fits ty v = true) (eK : ∀ b, xK h' b = xK h b) (eN : ∀ b, xN h' b = xN h b) (ev : ∀ b, b ≠ a → ∀ j ty, sv ρ h' b j ty = sv ρ h b j ty) (es : ∀ j, sv ρ h' a j (cT (xK h a) j) = updV (fun j => sv ρ h a j (cT (xK h a) j)) k v j) (hI : ∀ b k, inR (xI h' b k)) (hR : ∀ b k, xR h' b k = 0 ∨ xK h' (xR h' b k) ≠ 0) (hd : decode Y.2.1 pc = .ok (.putfield idx, 3))
    (kk : ∀ (H' : Heap) (locs' : List Loc), Wd D ρ h' s H' A locs' → W p l e R s m args below meth c H' locs' cells slots Q (F0 m (pc + 3) ls rest)) : W p l e R s m args below meth c H locs cells slots Q (F0 m pc ls (v :: cv ρ (vr a) :: rest)) := by
  obtain ⟨⟨k1, k2⟩, hlt, hw, hty, hfin⟩ := F _ hS
  obtain ⟨cell, q1, q2, q3, q4⟩ := ob_at w k1 k2
  obtain ⟨hSl, hfc, kC, hkC, hkind⟩ := w.1.1 _ k1 k2
  obtain ⟨cf, kf, fi, f, hi, hsl⟩ := hSl k hlt
  obtain ⟨x1, x2, x3, x4, x5, x6, x7, x8, x9⟩ := hx
  have hlay := x6 _ (iw_all k1 k2 _ (u_in_lay hlt))
  unfold u_lay at hlay
  rw [if_pos hfin] at hlay
  have hst := (u_facts hfc hkC (u_lays x6 (iw_all k1 k2) hlt) hi).1
  have hcf : m.cls = cf := by
    obtain ⟨_, _, c', _, _, _, -, -, hf', -, -, -, hown2, -⟩ := Cond.laysFinal_spec hlay
    have e1 : c' = cf := by have := hi.symm.trans hf'; simp at this; exact this.1.symm
    rw [hdc _ hS] at hown2
    rw [← e1]; exact Option.some.inj (x5.symm.trans hown2)
  have h6 := u_fits hfc hkC hkind (Or.inr hlay) hi (ty := ty) (by rw [← hty]; exact ty_all k1 k2 k hlt) hn hfit
  rw [cv_ref (w.2.1.ne0 (by omega))]
  refine W.putFinK x1 x2 x5 (x6 _ hw) hi hst hcf (by rw [x8]; exact hin) (by rw [q2]; exact h6) q1 q3 (by rw [hsl]; exact k2_hasslot (q4 k hlt)) rfl rfl hd fun H' e1 e2 e3 => ?_
  rw [hsl] at e1 ⊢
  exact kk H' _ (wd_put x6 w ha k1 k2 hlt eK eN ev (fun j _ => es j) hI hR q2 q3 q4 e1 e2 e3)
end HO
/-! what a store does to the heap's slots -/
theorem sv_sI_ne {ρ : Nat → Nat} {h : Hp} {a k : Nat} {x : Int} : ∀ b, b ≠ a → ∀ j ty, sv ρ (sI h a k x) b j ty = sv ρ h b j ty := by
  intro b hb j ty
  cases ty <;> simp [sv, xI_sI, xR_sI, xL_sI, hb]
theorem sv_sR_ne {ρ : Nat → Nat} {h : Hp} {a k x : Nat} : ∀ b, b ≠ a → ∀ j ty, sv ρ (sR h a k x) b j ty = sv ρ h b j ty := by
  intro b hb j ty
  cases ty <;> simp [sv, xI_sR, xR_sR, xL_sR, hb]
theorem sv_sL_ne {ρ : Nat → Nat} {h : Hp} {a k : Nat} {x : Int64} : ∀ b, b ≠ a → ∀ j ty, sv ρ (sL h a k x) b j ty = sv ρ h b j ty := by
  intro b hb j ty
  cases ty <;> simp [sv, xI_sL, xR_sL, xL_sL, hb]
theorem sv_sI_at {ρ : Nat → Nat} {h : Hp} {a k : Nat} {x : Int} {T : Nat → FieldType} (hT : T k = .int ∨ T k = .boolean) : ∀ j, sv ρ (sI h a k x) a j (T j) = updV (fun j => sv ρ h a j (T j)) k (.int (Int32.ofInt x)) j := by
  intro j
  by_cases e : j = k
  · subst e
    rcases hT with h1 | h1 <;> simp [updV, h1, sv, xI_sI]
  · simp only [updV, e, if_false]
    cases T j <;> simp [sv, xI_sI, xR_sI, xL_sI, e]
theorem sv_sR_at {ρ : Nat → Nat} {h : Hp} {a k x : Nat} {T : Nat → FieldType} (hT : (∃ n, T k = .object n) ∨ ∃ t, T k = .array t) : ∀ j, sv ρ (sR h a k x) a j (T j) = updV (fun j => sv ρ h a j (T j)) k (va_rf (ro ρ x)) j := by
  intro j
  by_cases e : j = k
  · subst e
    rcases hT with ⟨n, h1⟩ | ⟨n, h1⟩ <;> simp [updV, h1, sv, xR_sR]
  · simp only [updV, e, if_false]
    cases T j <;> simp [sv, xI_sR, xR_sR, xL_sR, e]
theorem sv_sL_at {ρ : Nat → Nat} {h : Hp} {a k : Nat} {x : Int64} {T : Nat → FieldType} (hT : T k = .long) : ∀ j, sv ρ (sL h a k x) a j (T j) = updV (fun j => sv ρ h a j (T j)) k (.long x) j := by
  intro j
  by_cases e : j = k
  · subst e
    simp [updV, hT, sv, xL_sL]
  · simp only [updV, e, if_false]
    cases T j <;> simp [sv, xI_sL, xR_sL, xL_sL, e]
theorem inR_sI {h : Hp} {a k : Nat} {x : Int} (r : ∀ b j, inR (xI h b j)) (hx : inR x) : ∀ b j, inR (xI (sI h a k x) b j) := by
  intro b j; rw [xI_sI]; split
  · exact hx
  · exact r b j
theorem wf_sR {h : Hp} {a k x : Nat} (r : ∀ b j, xR h b j = 0 ∨ xK h (xR h b j) ≠ 0) (hx : wfv h (vr x)) : ∀ b j, xR (sR h a k x) b j = 0 ∨ xK (sR h a k x) (xR (sR h a k x) b j) ≠ 0 := by
  intro b j; rw [xR_sR, xK_sR]; split
  · exact hx
  · exact r b j
theorem agr_sI {h : Hp} {ρ : Nat → Nat} {a k : Nat} {x : Int} : agr h ρ (sI h a k x) ρ := fun _ _ => ⟨rfl, rfl, rfl⟩
theorem agr_sR {h : Hp} {ρ : Nat → Nat} {a k x : Nat} : agr h ρ (sR h a k x) ρ := fun _ _ => ⟨rfl, rfl, rfl⟩
theorem agr_sL {h : Hp} {ρ : Nat → Nat} {a k : Nat} {x : Int64} : agr h ρ (sL h a k x) ρ := fun _ _ => ⟨rfl, rfl, rfl⟩
theorem fit_bool {x : Int} (hx : x = 0 ∨ x = 1) : narrow .boolean (.int (Int32.ofInt x)) = .int (Int32.ofInt x) ∧ fits .boolean (.int (Int32.ofInt x)) = true := by
  rcases hx with rfl | rfl <;> constructor <;> decide
theorem fit_ref {ty : FieldType} (ht : (∃ n, ty = .object n) ∨ ∃ t, ty = .array t) (r : Option Nat) : narrow ty (va_rf r) = va_rf r ∧ fits ty (va_rf r) = true := by
  rcases ht with ⟨n, rfl⟩ | ⟨t, rfl⟩ <;> cases r <;> exact ⟨rfl, rfl⟩
