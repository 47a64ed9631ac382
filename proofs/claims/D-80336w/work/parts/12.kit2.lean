/-! fewer locals known; switches; words of clone -/
def subL : List (Option AV) → List (Option AV) → Prop
  | [], [] => True
  | none :: t, _ :: t' => subL t t'
  | some v :: t, o :: t' => o = some v ∧ subL t t'
  | _, _ => False
theorem subL_get : ∀ (L L' : List (Option AV)), subL L L' → ∀ (i : Nat) (v : AV), L[i]? = some (some v) → L'[i]? = some (some v)
  | [], _, _, i, v, h => by simp at h
  | none :: t, [], q, i, v, h => q.elim
  | some _ :: t, [], q, i, v, h => q.elim
  | none :: t, o :: t', q, i, v, h => by
    cases i with
    | zero => simp at h
    | succ i => simpa using subL_get t t' q i v (by simpa using h)
  | some u :: t, o :: t', q, i, v, h => by
    cases i with
    | zero => rw [q.1]; simpa using h
    | succ i => simpa using subL_get t t' q.2 i v (by simpa using h)
theorem Ev.weak {l : Launch} {D : DD} {Y : Meth} {d kc ks pc : Nat} {L L' : List (Option AV)} {st : List AV} {h : Hp} {Φ : Option AV → Hp → Prop} (k : Ev l D Y d kc ks pc L st h Φ) (hs : subL L L') : Ev l D Y d kc ks pc L' st h Φ := by
  intro p e R s m args below meth c Q A ρ H locs cells slots ls hC hR
  obtain ⟨c1, c2, c3, c4, c5, c6, c7⟩ := hC
  exact k p e R s m args below meth c Q A ρ H locs cells slots ls ⟨c1, c2, c3, c4, ⟨c5.1, c5.2.1, fun i v hi => c5.2.2 i v (subL_get L L' hs i v hi)⟩, fun i v hi => c6 i v (subL_get L L' hs i v hi), c7⟩ hR
theorem a_tab {l : Launch} {D : DD} {Y : Meth} {d kc ks pc : Nat} {L : List (Option AV)} {st : List AV} {h : Hp} {Φ : Option AV → Hp → Prop} {x dflt lo hi : Int} {offs : Array Int} {len tgt : Nat} (tl : List Nat) (hd : decode Y.2.1 pc = .ok (.tableswitch dflt lo hi offs, len)) (ht : (pc : Int) + dflt = (tgt : Int)) (hl : offs.toList.map (fun o => (pc : Int) + o) = tl.map (fun t : Nat => (t : Int))) (hn : (hi - lo + 1).toNat = tl.length) (ko : x < lo ∨ hi < x → Ev l D Y d kc ks tgt L st h Φ) (ki : ∀ (i t : Nat), tl[i]? = some t → x = lo + i → Ev l D Y d kc ks t L st h Φ) : Ev l D Y d kc ks pc L (vi x :: st) h Φ := by
  have key : ∀ i : Nat, i < tl.length → ∃ off, offs[i]? = some off ∧ (pc : Int) + off = ((tl.getD i 0 : Nat) : Int) := by
    intro i hi
    have h1 : (tl.map (fun t : Nat => (t : Int)))[i]? = some ((tl[i] : Nat) : Int) := by simp [hi]
    rw [← hl, List.getElem?_map] at h1
    cases ho : offs.toList[i]? with
    | none => rw [ho] at h1; cases h1
    | some off =>
      rw [ho] at h1
      refine ⟨off, by rw [← Array.getElem?_toList]; exact ho, ?_⟩
      have h2 : (pc : Int) + off = ((tl[i] : Nat) : Int) := Option.some.inj h1
      rw [h2]; simp [hi]
  refine a_table hd ht (fun i => tl.getD i 0) (fun i hi => key i (by omega)) ko (fun i hi hx => ki i _ ?_ hx)
  rw [List.getElem?_eq_getElem (by omega)]
  simp [show i < tl.length by omega]
theorem cw_sameK : Cond.sameMethod "[LCallGraphs$Kind;" "java/lang/Object" "clone" "()Ljava/lang/Object;" ∈ gws := gw1 182 ⟨rfl, rfl⟩
theorem cw_selK : Cond.selects "[LCallGraphs$Kind;" ⟨"[LCallGraphs$Kind;", "clone", "()Ljava/lang/Object;"⟩ ⟨"java/lang/Object", "clone", "()Ljava/lang/Object;"⟩ ∈ gws := gw1 185 ⟨rfl, rfl⟩
theorem cw_castK : Cond.castable "[LCallGraphs$Kind;" "java/lang/Cloneable" ∈ lw_tbl := lw1 186 rfl
theorem cw_sameS : Cond.sameMethod "[LCallGraphs$Sort;" "java/lang/Object" "clone" "()Ljava/lang/Object;" ∈ gws := gw2 23 ⟨rfl, rfl⟩
theorem cw_selS : Cond.selects "[LCallGraphs$Sort;" ⟨"[LCallGraphs$Sort;", "clone", "()Ljava/lang/Object;"⟩ ⟨"java/lang/Object", "clone", "()Ljava/lang/Object;"⟩ ∈ gws := gw2 24 ⟨rfl, rfl⟩
theorem cw_castS : Cond.castable "[LCallGraphs$Sort;" "java/lang/Cloneable" ∈ lw_tbl := lw2 25 rfl
theorem cw_nat : Cond.native ⟨"java/lang/Object", "clone", "()Ljava/lang/Object;"⟩ ∈ gws := gw1 183 ⟨rfl, rfl⟩
theorem cw_inst : Cond.instanceMethod ⟨"java/lang/Object", "clone", "()Ljava/lang/Object;"⟩ ∈ gws := gw1 184 ⟨rfl, rfl⟩
theorem dc1 {kd0 k : Nat} {C : String} (h : (cF kd0 k).1 = C) : ∀ kd, (kd == kd0) = true → (cF kd k).1 = C := by
  intro kd hq
  have e : kd = kd0 := by simpa using hq
  rw [e]; exact h
theorem dcop {k : Nat} {C : String} (h : ∀ kd, opk kd = true → (cF kd k).1 = C) : ∀ kd, opk kd = true → (cF kd k).1 = C := h
theorem fl1 {kd0 n : Nat} {Yf : Nat → Meth} (h : n ≤ (Yf kd0).2.2.1) : ∀ kd, (kd == kd0) = true → n ≤ (Yf kd).2.2.1 := by
  intro kd hq
  have e : kd = kd0 := by simpa using hq
  rw [e]; exact h
theorem nfle {kd n a b : Nat} (h : cNf kd = n) (h2 : a + n ≤ b) : a + cNf kd ≤ b := by rw [h]; exact h2
