/-! sums; the component: count -/
def Sm (f : Nat → Int) : Nat → Int
  | 0 => 0
  | n + 1 => Sm f n + f n
theorem Sm_congr {f g : Nat → Int} : ∀ (n : Nat), (∀ i, i < n → f i = g i) → Sm f n = Sm g n
  | 0, _ => rfl
  | n + 1, h => by unfold Sm; rw [Sm_congr n (fun i hi => h i (by omega)), h n (by omega)]
theorem Sm_zero {f : Nat → Int} : ∀ (n : Nat), (∀ i, i < n → f i = 0) → Sm f n = 0
  | 0, _ => rfl
  | n + 1, h => by unfold Sm; rw [Sm_zero n (fun i hi => h i (by omega)), h n (by omega)]; rfl
theorem Sm_add {f g : Nat → Int} : ∀ (n : Nat), Sm (fun i => f i + g i) n = Sm f n + Sm g n
  | 0 => rfl
  | n + 1 => by have := Sm_add (f := f) (g := g) n; unfold Sm; omega
theorem Sm_swap (f : Nat → Nat → Int) (m : Nat) : ∀ (n : Nat), Sm (fun a => Sm (fun b => f a b) m) n = Sm (fun b => Sm (fun a => f a b) n) m
  | 0 => (Sm_zero m (fun _ _ => rfl)).symm
  | n + 1 => by
    show Sm (fun a => Sm (fun b => f a b) m) n + Sm (fun b => f n b) m = Sm (fun b => Sm (fun a => f a b) n + f n b) m
    rw [Sm_add, Sm_swap f m n]
theorem Sm_app (f : Nat → Int) (a : Nat) : ∀ (b : Nat), Sm f (a + b) = Sm f a + Sm (fun i => f (a + i)) b
  | 0 => by show Sm f a = Sm f a + 0; omega
  | b + 1 => by
    show Sm f (a + b) + f (a + b) = Sm f a + (Sm (fun i => f (a + i)) b + f (a + b))
    rw [Sm_app f a b]; omega
theorem Sm_tail {f : Nat → Int} {k n : Nat} (hk : k ≤ n) (h : ∀ i, k ≤ i → i < n → f i = 0) : Sm f n = Sm f k := by
  obtain ⟨b, rfl⟩ : ∃ b, n = k + b := ⟨n - k, by omega⟩
  rw [Sm_app, Sm_zero b (fun i hi => h (k + i) (by omega) (by omega))]; omega
theorem Sm_uniq {f : Nat → Int} {x : Nat} : ∀ (n : Nat), x < n → (∀ i, i < n → i ≠ x → f i = 0) → Sm f n = f x
  | 0, h, _ => by omega
  | n + 1, h, q => by
    unfold Sm
    rcases Nat.eq_or_lt_of_le (Nat.le_of_lt_succ h) with e | e
    · rw [Sm_zero n (fun i hi => q i (by omega) (by omega)), e]; omega
    · rw [Sm_uniq n e (fun i hi hx => q i (by omega) hx), q n (by omega) (by omega)]; omega
theorem Sm_blk (f : Nat → Int) (b : Nat) : ∀ (n : Nat), Sm f (b * n) = Sm (fun m => Sm (fun i => f (b * m + i)) b) n
  | 0 => rfl
  | n + 1 => by
    show Sm f (b * n + b) = Sm (fun m => Sm (fun i => f (b * m + i)) b) n + Sm (fun i => f (b * n + i)) b
    rw [Sm_app, Sm_blk f b n]
theorem Sm_cnt (Q : Nat → Prop) : ∀ (n : Nat), cnt Q n 0 = Sm (fun k => bI (Q k)) n
  | 0 => rfl
  | n + 1 => by rw [cnt_snoc, Sm_cnt Q n, Nat.zero_add]; rfl
theorem wr_df (x : Int) : wr x = (Int32.ofInt x).toInt := rfl
theorem wr_l (x y : Int) : wr (wr x + y) = wr (x + y) := by
  have e : Int32.ofInt (wr x + y) = Int32.ofInt (x + y) := by
    have e1 := Int32.ofInt_add (wr x) y
    have e2 := Int32.ofInt_add x y
    have e3 := ofInt_wr x
    generalize wr x = z at e1 e3 ⊢
    rw [e1, e3, ← e2]
  have f1 := wr_df (wr x + y)
  have f2 := wr_df (x + y)
  rw [f1, f2, e]
theorem wr_r (x y : Int) : wr (x + wr y) = wr (x + y) := by rw [Int.add_comm, wr_l, Int.add_comm]
theorem sw_s (f : Nat → Int) (n m : Nat) (s : Int) : sw f (n + 1) m s = sw f n (m + 1) (wr (s + f m)) := rfl
theorem Sm_s (f : Nat → Int) (n : Nat) : Sm f (n + 1) = Sm f n + f n := rfl
theorem sw_Sm (f : Nat → Int) (n : Nat) : ∀ (m : Nat) (s : Int), sw f n m (wr s) = wr (s + (Sm f (m + n) - Sm f m)) := by
  induction n with
  | zero =>
    intro m s
    have e : s + (Sm f (m + 0) - Sm f m) = s := by rw [Nat.add_zero]; omega
    rw [e]; rfl
  | succ n ih =>
    intro m s
    have e : s + f m + (Sm f (m + 1 + n) - Sm f (m + 1)) = s + (Sm f (m + (n + 1)) - Sm f m) := by
      rw [show m + 1 + n = m + (n + 1) by omega, Sm_s f m]; omega
    rw [sw_s, wr_l, ih (m + 1) (s + f m), e]
/-- each op once -/
theorem Sm_ops {p : Pg} (hw : WF p) (ho : WO p) (f : Nat → Int) : Sm f (nO p).toNat = Sm (fun m => Sm (fun i => f (oa p (24 * m + i)).toNat) (om p m).toNat) (nM p).toNat := by
  have w2 := hw.2.1
  have w3 := hw.2.2.1
  have wm : ∀ m : Nat, (m : Int) < nM p → 0 ≤ om p m ∧ om p m ≤ 24 := fun m hm => (hw.2.2.2.2.1 m hm).2.2.2.2.2.1
  let V : Nat → Prop := fun x => ((x / 24 : Nat) : Int) < nM p ∧ ((x % 24 : Nat) : Int) < om p (x / 24)
  have vx : ∀ m i : Nat, i < 24 → (V (24 * m + i) ↔ (m : Int) < nM p ∧ (i : Int) < om p m) := by
    intro m i hi
    show ((((24 * m + i) / 24 : Nat) : Int) < nM p ∧ (((24 * m + i) % 24 : Nat) : Int) < om p ((24 * m + i) / 24)) ↔ _
    rw [show (24 * m + i) / 24 = m by omega, show (24 * m + i) % 24 = i by omega]
  have s1 : Sm f (nO p).toNat = Sm (fun o => Sm (fun x => cI (V x ∧ oa p x = (o : Int)) (f o) 0) 1152) (nO p).toNat := by
    refine Sm_congr _ (fun o hoo => ?_)
    obtain ⟨m, i, hm, hi, e⟩ := ho.2 o (by omega)
    have wi := wm m hm
    have hv : V (24 * m + i) := (vx m i (by omega)).mpr ⟨hm, hi⟩
    rw [Sm_uniq (x := 24 * m + i) 1152 (by omega) ?_, cI_t ⟨hv, e⟩]
    intro x hx hne
    refine cI_f (fun z => hne ?_)
    have z2 := z.1
    have e2 := ho.1 (x / 24) m (x % 24) i z2.1 hm z2.2 hi (by rw [show 24 * (x / 24) + x % 24 = x by omega, z.2, e])
    omega
  rw [s1, Sm_swap]
  have s2 : ∀ x, x < 1152 → Sm (fun o => cI (V x ∧ oa p x = (o : Int)) (f o) 0) (nO p).toNat = cI (V x) (f (oa p x).toNat) 0 := by
    intro x hx
    rcases Classical.em (V x) with v | v
    · have ob := oa_bd hw v.1 v.2
      rw [show 24 * (x / 24) + x % 24 = x by omega] at ob
      rw [cI_t v, Sm_uniq (x := (oa p x).toNat) _ (by omega) (fun o _ hne => cI_f (fun z => hne (by omega))), cI_t ⟨v, ob.2⟩]
    · rw [cI_f v]; exact Sm_zero _ (fun o _ => cI_f (fun z => v z.1))
  rw [Sm_congr 1152 s2, show (1152 : Nat) = 24 * 48 by decide, Sm_blk]
  rw [Sm_tail (k := (nM p).toNat) (by omega) (fun m h1 h2 => Sm_zero _ (fun i hi => cI_f (fun z => by have := (vx m i hi).mp z; omega)))]
  refine Sm_congr _ (fun m hm => ?_)
  have wi := wm m (by omega)
  rw [Sm_tail (k := (om p m).toNat) (by omega) (fun i h1 h2 => cI_f (fun z => by have := (vx m i h2).mp z; omega))]
  exact Sm_congr _ (fun i hi => cI_t ((vx m i (by omega)).mpr ⟨by omega, by omega⟩))
/-- an op's share of a count -/
noncomputable def r7 (p : Pg) (o n : Nat) : Int := Sm (fun k => bI (¬ gF p 123 (48 * o + k) = 0)) n
noncomputable def r8 (p : Pg) (o n : Nat) : Int := Sm (fun k => gF p 124 (4 * o + k)) n
noncomputable def shr (p : Pg) (w : Int) (o : Nat) : Int := cI (w = 7) (r7 p o (nM p).toNat) 0 + cI (w = 8) (r8 p o 4) 0
noncomputable def ctm (p : Pg) (w : Int) (m : Nat) : Int := cI (w = 3) (bI (¬ rt p m = 0)) (cI (w = 4) (bI (¬ gF p 119 m = 0)) (cI (w = 9) (bI (rcF p m)) (Sm (fun i => shr p w (oa p (24 * m + i)).toNat) (om p m).toNat)))
theorem cnt_all {p : Pg} (hw : WF p) (ho : WO p) {w : Int} (h : w = 3 ∨ w = 4 ∨ w = 7 ∨ w = 8 ∨ w = 9) : wr (Sm (ctm p w) (nM p).toNat) = cIn p w := by
  have w2 := hw.2.1
  have w3 := hw.2.2.1
  have cb : ∀ Q : Nat → Prop, wr (cnt Q (nM p).toNat 0) = cnt Q (nM p).toNat 0 := fun Q => by
    have := cnt_le Q (nM p).toNat 0
    exact wr_eq (by omega) (by omega)
  unfold cIn
  rcases h with e | e | e | e | e
  · rw [cI_t e, ← cb, Sm_cnt]
    exact congrArg wr (Sm_congr _ (fun m _ => cI_t e))
  · rw [cI_f (by omega), cI_t e, ← cb, Sm_cnt]
    exact congrArg wr (Sm_congr _ (fun m _ => (cI_f (by omega)).trans (cI_t e)))
  · have s : Sm (ctm p w) (nM p).toNat = Sm (shr p w) (nO p).toNat := by
      rw [Sm_ops hw ho]
      exact Sm_congr _ (fun m _ => (cI_f (by omega)).trans ((cI_f (by omega)).trans (cI_f (by omega))))
    rw [s, cI_f (by omega), cI_f (by omega), cI_f (by omega), cI_f (by omega), cI_t e]
    have t : cnt (fun m => ¬ gF p 123 m = 0) 7680 0 = Sm (shr p w) (nO p).toNat := by
      rw [Sm_cnt, show (7680 : Nat) = 48 * 160 by decide, Sm_blk]
      have ci := (gF_inv hw).2.1
      rw [Sm_tail (k := (nO p).toNat) (by omega) (fun o h1 h2 => Sm_zero _ (fun k hk => bI_f (fun z => by
        obtain ⟨m', i', c', g1, g2, g3, g4, g5⟩ := ci _ z
        have ob := oa_bd hw g1 g2
        omega)))]
      refine Sm_congr _ (fun o hoo => ?_)
      show Sm (fun i => bI (¬ gF p 123 (48 * o + i) = 0)) 48 = cI (w = 7) (r7 p o (nM p).toNat) 0 + cI (w = 8) (r8 p o 4) 0
      rw [cI_t e, cI_f (by omega), Int.add_zero]
      exact Sm_tail (by omega) (fun k h1 h2 => bI_f (fun z => by
        obtain ⟨m', i', c', g1, g2, g3, g4, g5⟩ := ci _ z
        omega))
    have c7 := cnt_le (fun m => ¬ gF p 123 m = 0) 7680 0
    rw [← t]
    exact wr_eq (by omega) (by omega)
  · have s : Sm (ctm p w) (nM p).toNat = Sm (shr p w) (nO p).toNat := by
      rw [Sm_ops hw ho]
      exact Sm_congr _ (fun m _ => (cI_f (by omega)).trans ((cI_f (by omega)).trans (cI_f (by omega))))
    rw [s, cI_f (by omega), cI_f (by omega), cI_f (by omega), cI_f (by omega), cI_f (by omega), cI_t e]
    have z0 : (0 : Int) = wr 0 := (wr_eq (by omega) (by omega)).symm
    have t : sw (gF p 124) 640 0 0 = wr (Sm (gF p 124) 640) := by
      have y := sw_Sm (gF p 124) 640 0 0
      rw [← z0, Int.zero_add, Nat.zero_add, show Sm (gF p 124) 0 = 0 from rfl, Int.sub_zero] at y
      exact y
    rw [t, show (640 : Nat) = 4 * 160 by decide, Sm_blk]
    refine congrArg wr ?_
    have fi := (gF_inv hw).2.2
    rw [Sm_tail (k := (nO p).toNat) (n := 160) (by omega) (fun o h1 h2 => Sm_zero _ (fun k hk => Classical.byContradiction (fun z => by
      obtain ⟨m', i', c', g1, g2, g3, g4, g5⟩ := fi _ z
      have ob := oa_bd hw g1 g2
      omega)))]
    refine Sm_congr _ (fun o hoo => ?_)
    show cI (w = 7) (r7 p o (nM p).toNat) 0 + cI (w = 8) (r8 p o 4) 0 = _
    rw [cI_f (by omega), cI_t e, Int.zero_add]; rfl
  · rw [cI_f (by omega), cI_f (by omega), cI_f (by omega), cI_f (by omega), cI_f (by omega), cI_f (by omega), ← cb, Sm_cnt]
    exact congrArg wr (Sm_congr _ (fun m _ => (cI_f (by omega)).trans ((cI_f (by omega)).trans (cI_t e))))
section CC
variable {l : Launch} {D : DD} {d kc ks : Nat} {h h0 : Hp} {Ψ : Option AV → Hp → Prop} {p g : Pg}
theorem ct_countOf {m : Nat} {w : Int} (s : CS h p) (hw : WF p) (ho : WO p) (e : Dr p h) (hm : (m : Int) < nM p) (k : Ψ (some (vi (wr (ctm p w m)))) h) : Ev l D Y_G_countOf d kc ks 0 [some (vr 20), some (vr (mA m)), some (vi w), none, none, none] [] h Ψ := by
  have w2 := hw.2.1
  have w3 := hw.2.2.1
  have wm := (hw.2.2.2.2.1 m hm).2.2.2.2.2.1
  have b1 : ∀ c : Prop, wr (bI c) = bI c := fun c => by
    have := bI_01 c
    exact wr_eq (by omega) (by omega)
  obtain ⟨l1, l2, l3⟩ := GS_ld s.sh (show m < 48 by omega)
  apply g_G_countOf_0 s.sh
  rw [s.mn m hm, Int.toNat_natCast, l1, e.1.1 m hm, s.mrt m hm, e.2.2.2 m m hm hm]
  refine ⟨fun c3 => ⟨s.mkk m hm, fun c => ⟨fun c4 => ⟨fun c9 => ?_, fun c9 => ⟨s.mkk m hm, by omega, by omega, s.mkk m hm, l2, by omega, by omega, fun c10 => ?_, fun c10 => ?_⟩⟩, fun c4 => ?_⟩, fun c => ?_⟩, fun c3 => ⟨s.mkk m hm, fun c => ?_, fun c => ?_⟩⟩
  · have ec : ctm p w m = Sm (fun i => shr p w (oa p (24 * m + i)).toNat) (om p m).toNat := (cI_f c3).trans ((cI_f c4).trans (cI_f c9))
    rw [ec] at k
    have w0 : (0 : Int) = wr 0 := (wr_eq (by omega) (by omega)).symm
    have key : ∀ (n i : Nat) (x : Int), i + n = (om p m).toNat → x = wr (Sm (fun i => shr p w (oa p (24 * m + i)).toNat) i) → Ev l D Y_G_countOf d kc ks 68 [some (vr 20), some (vr (mA m)), some (vi w), some (vi x), some (vi (i : Int)), none] [] h Ψ := by
      intro n
      induction n with
      | zero =>
        intro i x hi hx
        apply g_G_countOf_68 s.sh
        rw [s.mc m hm]
        refine ⟨s.mkk m hm, fun _ => ?_, fun c => by omega⟩
        rw [hx, show i = (om p m).toNat by omega]; exact k
      | succ n ih =>
        intro i x hi hx
        have hi' : (i : Int) < om p m := by omega
        obtain ⟨ob, oe⟩ := oa_bd hw hm hi'
        have en := s.mon m hm
        have ek := s.mok m hm
        have on := s.ocn _ ob
        have fn := s.ofn _ ob
        apply g_G_countOf_68 s.sh
        rw [s.mc m hm]
        refine ⟨s.mkk m hm, fun c => by omega, fun _ => ?_⟩
        -- faults
        have lf : ∀ (n2 j : Nat) (x : Int), j + n2 = 4 → x = wr (Sm (fun i => shr p w (oa p (24 * m + i)).toNat) i + cI (w = 7) (r7 p (oa p (24 * m + i)).toNat (nM p).toNat) 0 + cI (w = 8) (r8 p (oa p (24 * m + i)).toNat j) 0) → Ev l D Y_G_countOf d kc ks 128 [some (vr 20), some (vr (mA m)), some (vi w), some (vi x), some (vi (i : Int)), some (vi (j : Int))] [] h Ψ := by
          intro n2
          induction n2 with
          | zero =>
            intro j x hj hx
            apply g_G_countOf_128 s.sh
            rw [wr_s (show i < 1000000 by omega)]
            refine ⟨fun _ => ih (i + 1) x (by omega) ?_, fun c => by omega⟩
            rw [hx, show j = 4 by omega]
            refine congrArg wr ?_
            show _ = Sm (fun i => shr p w (oa p (24 * m + i)).toNat) i + (cI (w = 7) (r7 p (oa p (24 * m + i)).toNat (nM p).toNat) 0 + cI (w = 8) (r8 p (oa p (24 * m + i)).toNat 4) 0)
            omega
          | succ n2 ih2 =>
            intro j x hj hx
            apply g_G_countOf_128 s.sh
            rw [s.mo m hm, Int.toNat_natCast, s.mop m i hm hi', s.of _ ob, Int.toNat_natCast, wr_s (show j < 1000000 by omega)]
            refine ⟨fun c => by omega, fun _ => ⟨fun c8 => ih2 (j + 1) _ (by omega) ?_, fun c8 => ⟨s.mkk m hm, by omega, by omega, by omega, by rw [s.okk _ ob]; exact opk_ok _, s.ofk _ ob, by omega, by omega, ih2 (j + 1) _ (by omega) ?_⟩⟩⟩
            · rw [hx, wr_l, cI_f c8, cI_f c8, Int.add_zero]
            · rw [hx, wr_l, cI_t c8, cI_t c8, e.2.2.1 m i hm hi' c j (by omega)]
              refine congrArg wr ?_
              show _ = _ + (r8 p (oa p (24 * m + i)).toNat j + gF p 124 (4 * (oa p (24 * m + i)).toNat + j))
              omega
        have lc : ∀ (n2 j : Nat) (x : Int), j + n2 = (nM p).toNat → x = wr (Sm (fun i => shr p w (oa p (24 * m + i)).toNat) i + cI (w = 7) (r7 p (oa p (24 * m + i)).toNat j) 0) → Ev l D Y_G_countOf d kc ks 80 [some (vr 20), some (vr (mA m)), some (vi w), some (vi x), some (vi (i : Int)), some (vi (j : Int))] [] h Ψ := by
          intro n2
          induction n2 with
          | zero =>
            intro j x hj hx
            apply g_G_countOf_80 s.sh
            rw [s.cm]
            refine ⟨fun _ => lf 4 0 x (by omega) ?_, fun c => by omega⟩
            rw [hx, show j = (nM p).toNat by omega]
            refine congrArg wr ?_
            have : cI (w = 8) (r8 p (oa p (24 * m + i)).toNat 0) 0 = 0 := by
              rcases Classical.em (w = 8) with v | v
              · rw [cI_t v]; rfl
              · rw [cI_f v]
            omega
          | succ n2 ih2 =>
            intro j x hj hx
            have g117 : ∀ y0 : Int, y0 = cI (w = 7) (bI (¬ gF p 123 (48 * (oa p (24 * m + i)).toNat + j) = 0)) 0 → Ev l D Y_G_countOf d kc ks 117 [some (vr 20), some (vr (mA m)), some (vi w), some (vi x), some (vi (i : Int)), some (vi (j : Int))] [vi y0, vi x] h Ψ := by
              intro y0 ey
              apply g_G_countOf_117 s.sh
              rw [wr_s (show j < 1000000 by omega)]
              refine ih2 (j + 1) _ (by omega) ?_
              rw [hx, wr_l, ey]
              refine congrArg wr ?_
              rcases Classical.em (w = 7) with v | v
              · rw [cI_t v, cI_t v, cI_t v]
                show _ = _ + (r7 p (oa p (24 * m + i)).toNat j + bI (¬ gF p 123 (48 * (oa p (24 * m + i)).toNat + j) = 0))
                omega
              · rw [cI_f v, cI_f v, cI_f v]; omega
            apply g_G_countOf_80 s.sh
            rw [s.cm, s.mo m hm, Int.toNat_natCast, s.mop m i hm hi', s.oc _ ob, Int.toNat_natCast, e.1.2.2.2.2.1 _ j ob (by omega)]
            refine ⟨fun c => by omega, fun _ => ⟨fun c7 => g117 0 (cI_f c7).symm, fun c7 => ⟨s.mkk m hm, by omega, by omega, by omega, by rw [s.okk _ ob]; exact opk_ok _, s.ock _ ob, by omega, by omega, fun c8 => g117 0 ?_, fun c8 => g117 1 ?_⟩⟩⟩
            · rw [cI_t c7, bI_f (fun y => y c8)]
            · rw [cI_t c7, bI_t c8]
        refine lc (nM p).toNat 0 x (by omega) ?_
        rw [hx]
        refine congrArg wr ?_
        have : cI (w = 7) (r7 p (oa p (24 * m + i)).toNat 0) 0 = 0 := by
          rcases Classical.em (w = 7) with v | v
          · rw [cI_t v]; rfl
          · rw [cI_f v]
        omega
    exact key (om p m).toNat 0 0 (by omega) w0
  · rw [show ctm p w m = bI (rcF p m) from (cI_f c3).trans ((cI_f c4).trans (cI_t c9)), b1, bI_f (fun y => bI_0.mp c10 y.2)] at k; exact k
  · rw [show ctm p w m = bI (rcF p m) from (cI_f c3).trans ((cI_f c4).trans (cI_t c9)), b1, bI_t ⟨c, bI_n.mp c10⟩] at k; exact k
  · rw [show ctm p w m = _ from (cI_f c3).trans (cI_t c4), b1, bI_t c] at k; exact k
  · have z : ctm p w m = 0 := by
      unfold ctm
      rw [cI_f c3]
      rcases Classical.em (w = 4) with v | v
      · rw [cI_t v]; exact bI_f (fun y => y c)
      rw [cI_f v]
      rcases Classical.em (w = 9) with v | v
      · rw [cI_t v]; exact bI_f (fun y => y.1 c)
      rw [cI_f v]
      refine Sm_zero _ (fun i hi => ?_)
      have hi' : (i : Int) < om p m := by omega
      unfold shr r7 r8
      rw [Sm_zero _ (fun k hk => bI_f (fun y => y (row_un hw ho hm hi' (by omega) c))), Sm_zero 4 (fun k hk => flt_un hw ho hm hi' hk c)]
      rcases Classical.em (w = 7) with v | v
      · rw [cI_t v, cI_f (by omega)]; rfl
      · rw [cI_f v]
        rcases Classical.em (w = 8) with v | v
        · rw [cI_t v]; rfl
        · rw [cI_f v]; rfl
    rw [z, wr_eq (by omega) (by omega)] at k
    exact k
  · rw [show ctm p w m = _ from cI_t c3, b1, bI_f (fun y => y c)] at k; exact k
  · rw [show ctm p w m = _ from cI_t c3, b1, bI_t c] at k; exact k
theorem ct_G_count {x1 : Int} (q : CA p h) (k : ∀ h', agM h h' → CA p h' → Ψ (some (vi (rCo p x1))) h') : Ev l D Y_G_count (d + 9) kc ks 0 [some (vr 20), some (vi x1), none, none] [] h Ψ := by
  obtain ⟨c, hw, ho, hf⟩ := q.1
  have w1 := hw.1
  have w2 := hw.2.1
  apply g_G_count_0 c.sh
  refine ct_d q (fun h1 ag ca e => ⟨ca.1.1.sh, ?_⟩)
  have s := ca.1.1
  have z := k h1 ag ca
  unfold rCo at z
  have w0 : (0 : Int) = wr 0 := (wr_eq (by omega) (by omega)).symm
  have mm : (x1 = 3 ∨ x1 = 4 ∨ x1 = 7 ∨ x1 = 8 ∨ x1 = 9) → Ev l D Y_G_count (d + 9) kc ks 129 [some (vr 20), some (vi x1), some (vi (0 : Int)), some (vi (0 : Int))] [] h1 Ψ := by
    intro hv
    rw [cI_f (by omega), cI_f (by omega), cI_f (by omega), cI_t (by omega), ← cnt_all hw ho hv] at z
    have key : ∀ (n j : Nat) (x : Int), j + n = (nM p).toNat → x = wr (Sm (ctm p x1) j) → Ev l D Y_G_count (d + 9) kc ks 129 [some (vr 20), some (vi x1), some (vi x), some (vi (j : Int))] [] h1 Ψ := by
      intro n
      induction n with
      | zero =>
        intro j x hj hx
        apply g_G_count_129 s.sh
        rw [s.cm]
        refine ⟨fun _ => ?_, fun c => by omega⟩
        rw [hx, show j = (nM p).toNat by omega]; exact z
      | succ n ih =>
        intro j x hj hx
        apply g_G_count_129 s.sh
        rw [s.cm, Int.toNat_natCast, s.mr j (by omega)]
        refine ⟨fun c => by omega, fun _ => ⟨by omega, by omega, ct_countOf s hw ho e (by omega) ⟨s.sh, ?_⟩⟩⟩
        rw [wr_s (show j < 1000000 by omega)]
        refine ih (j + 1) _ (by omega) ?_
        rw [hx, wr_l, wr_r]; rfl
    exact key (nM p).toNat 0 0 (by omega) w0
  have tt : (x1 = 5 ∨ x1 = 6) → Ev l D Y_G_count (d + 9) kc ks 77 [some (vr 20), some (vi x1), some (vi (0 : Int)), some (vi (0 : Int))] [] h1 Ψ := by
    intro hv
    have zz : ∀ x, x = cnt (fun t => ¬ cI (x1 = 5) (gF p 120 t) (gF p 121 t) = 0) (nT p).toNat 0 → Ψ (some (vi x)) h1 := by
      intro x hx
      rw [cI_f (by omega), cI_f (by omega), cI_f (by omega), cI_t (by omega)] at z
      unfold cIn at z
      rw [cI_f (by omega), cI_f (by omega)] at z
      rw [hx]
      rcases hv with v | v
      · rw [cI_t v] at z
        rw [cnt_congr (Q' := fun m => ¬ gF p 120 m = 0) _ _ (fun j _ _ => by rw [cI_t v])]; exact z
      · rw [cI_f (by omega), cI_t v] at z
        rw [cnt_congr (Q' := fun m => ¬ gF p 121 m = 0) _ _ (fun j _ _ => by rw [cI_f (by omega)])]; exact z
    have key : ∀ (n j : Nat), j + n = (nT p).toNat → Ev l D Y_G_count (d + 9) kc ks 77 [some (vr 20), some (vi x1), some (vi (cnt (fun t => ¬ cI (x1 = 5) (gF p 120 t) (gF p 121 t) = 0) j 0)), some (vi (j : Int))] [] h1 Ψ := by
      intro n
      induction n with
      | zero =>
        intro j hj
        apply g_G_count_77 s.sh
        rw [s.ct]
        refine ⟨fun _ => zz _ ?_, fun c => by omega⟩
        rw [show j = (nT p).toNat by omega]
      | succ n ih =>
        intro j hj
        have nx := ih (j + 1) (by omega)
        rw [cnt_snoc, Nat.zero_add] at nx
        have cb := cnt_le (fun t => ¬ cI (x1 = 5) (gF p 120 t) (gF p 121 t) = 0) j 0
        have g117 : ∀ y0 x2 : Int, y0 = bI (¬ cI (x1 = 5) (gF p 120 j) (gF p 121 j) = 0) → Ev l D Y_G_count (d + 9) kc ks 117 [some (vr 20), some (vi x1), some (vi x2), some (vi (j : Int))] [vi y0, vi (cnt (fun t => ¬ cI (x1 = 5) (gF p 120 t) (gF p 121 t) = 0) j 0)] h1 Ψ := by
          intro y0 x2 ey
          have yb := bI_01 (¬ cI (x1 = 5) (gF p 120 j) (gF p 121 j) = 0)
          apply g_G_count_117 s.sh
          rw [wr_eq (by omega) (by omega), wr_s (show j < 1000000 by omega), ey]
          exact nx
        apply g_G_count_77 s.sh
        rw [s.ct, Int.toNat_natCast, e.1.2.1 j (by omega), e.1.2.2.1 j (by omega)]
        refine ⟨fun c => by omega, fun _ => ⟨fun v => ⟨by omega, by omega, fun c2 => g117 0 _ ?_, fun c2 => g117 1 _ ?_⟩, fun v => ⟨by omega, by omega, fun c2 => g117 0 _ ?_, fun c2 => g117 1 _ ?_⟩⟩⟩
        · rw [cI_f v, bI_f (fun y => y c2)]
        · rw [cI_f v, bI_t c2]
        · rw [cI_t v, bI_f (fun y => y c2)]
        · rw [cI_t v, bI_t c2]
    exact key (nT p).toNat 0 (by omega)
  rw [s.ct, s.cm, s.co]
  refine ⟨fun v => ?_, fun v => ?_, fun v => ?_, fun v => mm (by omega), fun v => mm (by omega), fun v => tt (by omega), fun v => tt (by omega), fun v => mm (by omega), fun v => mm (by omega), fun v => mm (by omega), fun v => ?_⟩
  · rw [cI_t v] at z; exact z
  · rw [cI_f (by omega), cI_t v] at z; exact z
  · rw [cI_f (by omega), cI_f (by omega), cI_t v] at z; exact z
  · rw [cI_f (by omega), cI_f (by omega), cI_f (by omega), cI_f (by omega)] at z; exact z
end CC
