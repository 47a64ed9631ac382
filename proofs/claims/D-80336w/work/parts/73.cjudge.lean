/-! the component: fault, judge -/
theorem call_124 {g : Pg} {o m : Nat} (j : Nat) : gcall g o m 124 j = g 124 j := by rw [gcall_at, if_neg (by omega), if_neg (by omega), if_neg (by omega)]
theorem call_120 {g : Pg} {o m : Nat} (j : Nat) : gcall g o m 120 j = g 120 j := by rw [gcall_at, if_neg (by omega), if_neg (by omega), if_neg (by omega)]
theorem beg_124 {p : Pg} {o t : Nat} (j : Nat) : ∀ (n k : Nat) (g : Pg), gbeg p o t n k g 124 j = g 124 j
  | 0, _, _ => rfl
  | n + 1, k, g => by
    unfold gbeg
    rw [beg_124 j n]
    have s : ∀ (b : Prop), gs (gw g b) 121 k 1 124 j = g 124 j := fun b => by rw [gset_at, if_neg (by omega), if_neg (by omega)]
    rcases Classical.em (wth p t k) with c | c
    · rw [cG_t c]
      unfold gbeg1
      rcases Classical.em (own p k (-1) = -1) with e | e
      · rw [cG_t e, s]
      · rw [cG_f e, call_124, s]
    · rw [cG_f c]
theorem ou_124 {o a : Nat} (j : Nat) : ∀ (n m : Nat) (g : Pg), gou o a n m g 124 j = g 124 j
  | 0, _, _ => rfl
  | n + 1, m, g => by
    unfold gou
    rw [ou_124 j n]
    rcases Classical.em (g 122 (48 * a + m) = 0) with c | c
    · rw [cG_t c]
    · rw [cG_f c, call_124]
theorem an_124 {p : Pg} {o : Nat} {b : Int} (j : Nat) : ∀ (n m : Nat) (g : Pg), gan p o b n m g 124 j = g 124 j
  | 0, _, _ => rfl
  | n + 1, m, g => by
    unfold gan
    rw [an_124 j n]
    rcases Classical.em (nm p m = b ∧ (so p m = 0 ∨ so p m = 2 ∨ so p m = 3)) with c | c
    · rw [cG_t c, call_124]
    · rw [cG_f c]
def jdy (o a k : Nat) : Prop := a = oD o + 2 ∨ (a = 20 ∧ k = 5)
section CJ
variable {l : Launch} {D : DD} {d kc ks : Nat} {h h0 : Hp} {Ψ : Option AV → Hp → Prop} {p g : Pg}
theorem CS_jd {o : Nat} {h h' : Hp} (hw : WF p) (f : fx (jdy o) B206 h h') (q : CS h p) : CS h' p := CS_fx hw f (fun a k z => by unfold jdy oD at z; unfold cst; omega) (fun a k z => by have z' : a = 20 ∧ k = 6 := z; unfold csr; omega) q
theorem ct_Op_fault {o : Nat} {c : Int} {G : Pg} (q : CS h p) (ho : (o : Int) < nO p) (hc : -5 ≤ c ∧ c ≤ -2) (row : ∀ j, j < 4 → xI h (oD o + 2) j = G 124 (4 * o + j)) (k : ∀ h', fx (jdy o) B206 h h' → (∀ j, j < 4 → xI h' (oD o + 2) j = gflt G o c 124 (4 * o + j)) → Ψ none h') : Ev l D Y_Op_fault d kc ks 0 [some (vr (oD o)), some (vi c)] [] h Ψ := by
  have ix : wr (wr (-c) - 2) = -c - 2 := by rw [wr_eq (x := -c) (by omega) (by omega), wr_eq (by omega) (by omega)]
  apply s_Op_fault_0
  rw [q.okk o ho, q.of o ho, q.ofk o ho, q.ofn o ho, ix, row (-c - 2).toNat (by omega)]
  refine ⟨opk_ok _, rfl, by omega, by omega, rfl, by unfold oD; omega, by omega, by omega, fun h1 e1 => ?_⟩
  subst e1
  refine k _ (fx.rf.put (Or.inl rfl)) (fun j hj => ?_)
  unfold gflt
  rw [gs_at, xI_sI]
  have e : (4 * (o : Int) - 2 - c).toNat = 4 * o + (-c - 2).toNat := by omega
  rw [e]
  by_cases z : j = (-c - 2).toNat
  · rw [if_pos ⟨rfl, z⟩, if_pos ⟨rfl, by omega⟩]
  · rw [if_neg (fun y => z y.2), if_neg (by omega)]; exact row j hj
end CJ
