/-! the component: close -/
def cly (a k : Nat) : Prop := (400 ≤ a ∧ (a - 400) % 3 = 2) ∨ (31 ≤ a ∧ a ≤ 78) ∨ (a = 20 ∧ k = 5)
def Rz (p : Pg) (m i : Nat) (h : Hp) : Prop := ∀ m' i' : Nat, (m' : Int) < nM p → (i' : Int) < om p m' → ((m' < m ∨ (m' = m ∧ i' < i)) → ¬ gF p 119 m' = 0 → ∀ j, j < 4 → xI h (oD (oa p (24 * m' + i')).toNat + 2) j = gF p 124 (4 * (oa p (24 * m' + i')).toNat + j)) ∧ (¬ (m' < m ∨ (m' = m ∧ i' < i)) → ∀ j, j < 4 → xI h (oD (oa p (24 * m' + i')).toNat + 2) j = 0)
section CL
variable {l : Launch} {D : DD} {d kc ks : Nat} {h h0 : Hp} {Ψ : Option AV → Hp → Prop} {p g : Pg}
theorem Rz_sm {m i : Nat} {h h' : Hp} (q : Rz p m i h) (e : ∀ o j : Nat, xI h' (oD o + 2) j = xI h (oD o + 2) j) : Rz p m i h' := fun m' i' h1 h2 => ⟨fun a b j hj => by rw [e]; exact (q m' i' h1 h2).1 a b j hj, fun a j hj => by rw [e]; exact (q m' i' h1 h2).2 a j hj⟩
theorem ct_G_close (q : CS h p) (hw : WF p) (ho : WO p) (cd : Cd p h (gF p)) (b1 : b01 (gF p)) (z : Rz p 0 0 h) (k : ∀ h', fx cly B206 h h' → Dr p h' → Ψ none h') : Ev l D Y_G_close (d + 7) kc ks 0 [some (vr 20), none, none, none, none] [] h Ψ := by
  have w2 := hw.2.1
  have w3 := hw.2.2.1
  have cs : ∀ {h1 : Hp}, fx cly B206 h h1 → CS h1 p := fun f => CS_fx hw f (fun a k z => by unfold cly at z; unfold cst; omega) (fun a k z => by have z' : a = 20 ∧ k = 6 := z; unfold csr; omega) q
  have cdd : ∀ {h1 : Hp}, fx cly B206 h h1 → Cd p h1 (gF p) := fun f => Cd_fx hw f (fun a k z => by unfold cly at z; unfold cdx; omega) cd
  -- second phase
  have ph2 : ∀ (b : Nat) (h1 : Hp), b ≤ (nM p).toNat → (fx cly B206 h h1 ∧ Rw p h1 ∧ ∀ a c : Nat, (a : Int) < nM p → (c : Int) < nM p → xI h1 (31 + a) c = bI (wsh (dr p (gF p)) b a c)) → Ev l D Y_G_close (d + 7) kc ks 110 [some (vr 20), some (vi (b : Int)), none, none, none] [] h1 Ψ := by
    refine lup _ _ ?_ ?_
    · rintro h1 ⟨f1, r1, q1⟩
      apply g_G_close_110 (cs f1).sh
      rw [(cs f1).cm]
      exact ⟨fun _ => k h1 f1 ⟨cdd f1, b1, r1, q1⟩, fun c => by omega⟩
    · rintro b h1 hb ⟨f1, r1, q1⟩ ih
      apply g_G_close_110 (cs f1).sh
      rw [(cs f1).cm]
      refine ⟨fun c => by omega, fun _ => ?_⟩
      have lpm : ∀ (m : Nat) (h2 : Hp), m ≤ (nM p).toNat → (fx cly B206 h h2 ∧ Rw p h2 ∧ ∀ a c : Nat, (a : Int) < nM p → (c : Int) < nM p → xI h2 (31 + a) c = bI (wq (dr p (gF p)) b m 0 a c)) → Ev l D Y_G_close (d + 7) kc ks 120 [some (vr 20), some (vi (b : Int)), some (vi (m : Int)), none, none] [] h2 Ψ := by
        refine lup _ _ ?_ ?_
        · rintro h2 ⟨f2, r2, q2⟩
          apply g_G_close_120 (cs f2).sh
          rw [(cs f2).cm, wr_s (show b < 1000000 by omega)]
          refine ⟨fun _ => ih h2 ⟨f2, r2, fun a c ha hc => ?_⟩, fun c => by omega⟩
          rw [q2 a c ha hc]; exact bI_c (wq_n (by omega))
        · rintro m h2 hm ⟨f2, r2, q2⟩ ih2
          apply g_G_close_120 (cs f2).sh
          rw [(cs f2).cm]
          refine ⟨fun c => by omega, fun _ => ?_⟩
          have lpk : ∀ (j : Nat) (h3 : Hp), j ≤ (nM p).toNat → (fx cly B206 h h3 ∧ Rw p h3 ∧ ∀ a c : Nat, (a : Int) < nM p → (c : Int) < nM p → xI h3 (31 + a) c = bI (wq (dr p (gF p)) b m j a c)) → Ev l D Y_G_close (d + 7) kc ks 130 [some (vr 20), some (vi (b : Int)), some (vi (m : Int)), some (vi (j : Int)), none] [] h3 Ψ := by
            refine lup _ _ ?_ ?_
            · rintro h3 ⟨f3, r3, q3⟩
              apply g_G_close_130 (cs f3).sh
              rw [(cs f3).cm, wr_s (show m < 1000000 by omega)]
              refine ⟨fun _ => ih2 h3 ⟨f3, r3, fun a c ha hc => ?_⟩, fun c => by omega⟩
              rw [q3 a c ha hc]; exact bI_c (wq_m (by omega))
            · rintro j h3 hj ⟨f3, r3, q3⟩ ih3
              have e1 := q3 m b (by omega) (by omega)
              have e2 := q3 m j (by omega) (by omega)
              have e3 := q3 b j (by omega) (by omega)
              rw [bI_c wq_col] at e1
              rw [bI_c wq_at] at e2
              rw [bI_c wq_row] at e3
              obtain ⟨l1, l2, l3⟩ := GS_ld (cs f3).sh (show m < 48 by omega)
              obtain ⟨n1, n2, n3⟩ := GS_ld (cs f3).sh (show b < 48 by omega)
              apply g_G_close_130 (cs f3).sh
              simp only [(cs f3).cm, wr_s (show m < 1000000 by omega), wr_s (show j < 1000000 by omega), Int.toNat_natCast, l1, n1, e1, e2, e3, iorV_01]
              refine ⟨fun c => by omega, fun _ => ⟨by omega, by omega, l2, by omega, by omega, fun c => ?_, fun c => ⟨by omega, by omega, l2, by omega, by omega, by omega, by omega, n2, by omega, by omega, l2, by omega, by omega, by omega, bI_01 _, fun h4 e4 => ?_⟩⟩⟩
              · refine ih2 h3 ⟨f3, r3, fun a c2 ha hc => ?_⟩
                rw [q3 a c2 ha hc]; exact bI_c (wq_no (bI_0.mp c))
              · subst e4
                refine ih3 _ ⟨f3.put (by unfold cly; omega), fun m' i' h1 h2 hr j' hj' => ?_, fun a c2 ha hc => ?_⟩
                · rw [xI_sI, if_neg (by unfold oD; omega)]; exact r3 m' i' h1 h2 hr j' hj'
                · rw [xI_sI]
                  by_cases e : a = m ∧ c2 = j
                  · rw [if_pos ⟨by rw [e.1], e.2⟩, e.1, e.2]
                    exact bI_c ⟨fun y => y.elim Or.inl (fun x => Or.inr ⟨Or.inr ⟨rfl, by omega⟩, bI_n.mp c, x⟩), fun y => y.elim Or.inl (fun x => Or.inr x.2.2)⟩
                  · rw [if_neg (by omega), q3 a c2 ha hc]; exact bI_c (wq_s e)
          exact lpk 0 h2 (Nat.zero_le _) ⟨f2, r2, q2⟩
      refine lpm 0 h1 (Nat.zero_le _) ⟨f1, r1, fun a c ha hc => ?_⟩
      rw [q1 a c ha hc]; exact bI_c wq_0.symm
  apply g_G_close_0 q.sh
  have ph1 : ∀ (m : Nat) (h1 : Hp), m ≤ (nM p).toNat → (fx cly B206 h h1 ∧ Rz p m 0 h1 ∧ ∀ a c : Nat, a < m → (c : Int) < nM p → xI h1 (31 + a) c = bI (dr p (gF p) a c)) → Ev l D Y_G_close (d + 7) kc ks 2 [some (vr 20), some (vi (m : Int)), none, none, none] [] h1 Ψ := by
    refine lup _ _ ?_ ?_
    · rintro h1 ⟨f1, r1, q1⟩
      apply g_G_close_2 (cs f1).sh
      rw [(cs f1).cm]
      exact ⟨fun _ => ph2 0 h1 (Nat.zero_le _) ⟨f1, fun m' i' h1 h2 hr => (r1 m' i' h1 h2).1 (by omega) hr, fun a c ha hc => q1 a c (by omega) hc⟩, fun c => by omega⟩
    · rintro m h1 hm ⟨f1, r1, q1⟩ ih
      have hm' : (m : Int) < nM p := by omega
      obtain ⟨m1, m2, m3, m4, m5, m6, m7⟩ := hw.2.2.2.2.1 m hm'
      -- ops of m
      have li : ∀ (n i : Nat) (h2 : Hp), i + n = (om p m).toNat → (fx cly B206 h h2 ∧ Rz p m i h2 ∧ (∀ a c : Nat, a < m → (c : Int) < nM p → xI h2 (31 + a) c = bI (dr p (gF p) a c)) ∧ (∀ c : Nat, (c : Int) < nM p → xI h2 (31 + m) c = bI (∃ y : Nat, y < i ∧ ¬ gF p 119 m = 0 ∧ ¬ gF p 123 (48 * (oa p (24 * m + y)).toNat + c) = 0))) → Ev l D Y_G_close (d + 7) kc ks 29 [some (vr 20), some (vi (m : Int)), some (vr (mA m)), some (vi (i : Int)), none] [] h2 Ψ := by
        intro n
        induction n with
        | zero =>
          rintro i h2 hi ⟨f2, r2, q2, t2⟩
          apply g_G_close_29 (cs f2).sh
          rw [(cs f2).mc m hm', wr_s (show m < 1000000 by omega)]
          refine ⟨(cs f2).mkk m hm', fun _ => ih h2 ⟨f2, fun m' i' h1 h2 => ?_, fun a c ha hc => ?_⟩, fun c => by omega⟩
          · have z1 := r2 m' i' h1 h2
            refine ⟨fun a b j hj => z1.1 ?_ b j hj, fun a j hj => z1.2 (by omega) j hj⟩
            rcases Nat.lt_or_ge m' m with e | e
            · exact Or.inl e
            · have : m' = m := by omega
              subst this
              omega
          · rcases Nat.lt_or_ge a m with e | e
            · exact q2 a c e hc
            · have : a = m := by omega
              subst this
              rw [t2 c hc]
              exact bI_c ⟨fun ⟨y, y1, y2⟩ => ⟨y, by omega, y2⟩, fun ⟨y, y1, y2⟩ => ⟨y, by omega, y2⟩⟩
        | succ n ihn =>
          rintro i h2 hi ⟨f2, r2, q2, t2⟩
          have hi' : (i : Int) < om p m := by omega
          obtain ⟨ob, oe⟩ := oa_bd hw hm' hi'
          have c2 := cs f2
          have en := c2.mon m hm'
          have ek := c2.mok m hm'
          apply g_G_close_29 c2.sh
          rw [c2.mc m hm', c2.mo m hm', (cdd f2).1 m hm', Int.toNat_natCast, c2.mop m i hm' hi', wr_s (show m < 1000000 by omega)]
          refine ⟨c2.mkk m hm', fun c => by omega, fun _ => ⟨c2.mkk m hm', fun c => ih h2 ⟨f2, fun m' i' h1 h2 => ?_, fun a c' ha hc => ?_⟩, fun c => ⟨c2.mkk m hm', by omega, by omega, by omega, by rw [c2.okk _ ob]; exact opk_ok _, ?_⟩⟩⟩
          · have z1 := r2 m' i' h1 h2
            refine ⟨fun a b j hj => ?_, fun a j hj => z1.2 (by omega) j hj⟩
            rcases Nat.lt_or_ge m' m with e | e
            · exact z1.1 (Or.inl e) b j hj
            · have : m' = m := by omega
              rw [this] at b
              exact absurd c b
          · rcases Nat.lt_or_ge a m with e | e
            · exact q2 a c' e hc
            · have : a = m := by omega
              subst this
              rw [t2 c' hc]
              exact bI_c ⟨fun ⟨y, y1, y2, _⟩ => absurd c y2, fun ⟨y, y1, y2, _⟩ => absurd c y2⟩
          · refine ct_judge (G := grst (oa p (24 * m + i)).toNat (gF p)) c2 hw ob (fun t ht => by rw [(cdd f2).2.1 t ht, rst_pat]) (fun j hj => by rw [rst_row j hj]; exact (r2 m i hm' hi').2 (by omega) j hj) (fun h3 f3 w3' => ?_)
            have f3' : fx cly B206 h h3 := f2.tr (f3.mono (fun a k z => by unfold jdy oD at z; unfold cly; omega) (fun _ _ z => z))
            refine ⟨(cs f3').sh, ?_⟩
            have r3 : Rz p m (i + 1) h3 := by
              intro m' i' g1 g2
              by_cases e : m' = m ∧ i' = i
              · rw [e.1, e.2]
                refine ⟨fun a b j hj => ?_, fun a => absurd (Or.inr ⟨rfl, by omega⟩) a⟩
                rw [w3' j hj]
                exact (gF_flt hw hm' hi' c j hj).symm
              · obtain ⟨ob', oe'⟩ := oa_bd hw g1 g2
                have ne : ¬ (oa p (24 * m' + i')).toNat = (oa p (24 * m + i)).toNat := fun y => e (ho.1 m' m i' i g1 hm' g2 hi' (by omega))
                have ee : ∀ j, xI h3 (oD (oa p (24 * m' + i')).toNat + 2) j = xI h2 (oD (oa p (24 * m' + i')).toNat + 2) j := fun j => f3.2.1 _ _ (by unfold jdy oD; omega)
                have z1 := r2 m' i' g1 g2
                refine ⟨fun a b j hj => ?_, fun a j hj => ?_⟩
                · rw [ee]; exact z1.1 (by omega) b j hj
                · rw [ee]; exact z1.2 (by omega) j hj
            have e3 : ∀ a j, (31 ≤ a ∧ a ≤ 78) → xI h3 a j = xI h2 a j := fun a j hj => f3.2.1 _ _ (by unfold jdy oD; omega)
            have lc : ∀ (c' : Nat) (h4 : Hp), c' ≤ (nM p).toNat → (fx cly B206 h h4 ∧ Rz p m (i + 1) h4 ∧ (∀ a c : Nat, a < m → (c : Int) < nM p → xI h4 (31 + a) c = bI (dr p (gF p) a c)) ∧ (∀ x : Nat, (x : Int) < nM p → (x < c' → xI h4 (31 + m) x = bI (∃ y : Nat, y < i + 1 ∧ ¬ gF p 119 m = 0 ∧ ¬ gF p 123 (48 * (oa p (24 * m + y)).toNat + x) = 0)) ∧ (¬ x < c' → xI h4 (31 + m) x = bI (∃ y : Nat, y < i ∧ ¬ gF p 119 m = 0 ∧ ¬ gF p 123 (48 * (oa p (24 * m + y)).toNat + x) = 0)))) → Ev l D Y_G_close (d + 7) kc ks 57 [some (vr 20), some (vi (m : Int)), some (vr (mA m)), some (vi (i : Int)), some (vi (c' : Int))] [] h4 Ψ := by
              refine lup _ _ ?_ ?_
              · rintro h4 ⟨f4, r4, q4, t4⟩
                apply g_G_close_57 (cs f4).sh
                rw [(cs f4).cm, wr_s (show i < 1000000 by omega)]
                exact ⟨fun _ => ihn (i + 1) h4 (by omega) ⟨f4, r4, q4, fun x hx => (t4 x hx).1 (by omega)⟩, fun c => by omega⟩
              · rintro c' h4 hc' ⟨f4, r4, q4, t4⟩ ih4
                have c4 := cs f4
                obtain ⟨l1, l2, l3⟩ := GS_ld c4.sh (show m < 48 by omega)
                have en4 := c4.mon m hm'
                have ek4 := c4.mok m hm'
                have ocn := c4.ocn _ ob
                have e1 := (t4 c' (by omega)).2 (by omega)
                have e2 := (cdd f4).2.2.2.2.1 _ c' ob (by omega)
                have e5 : gF p 123 (48 * (oa p (24 * m + i)).toNat + c') = bI (¬ gF p 123 (48 * (oa p (24 * m + i)).toNat + c') = 0) := by
                  rcases b1 123 (48 * (oa p (24 * m + i)).toNat + c') (Or.inl (by omega)) with v | v
                  · rw [v]; exact (bI_f (fun y => y rfl)).symm
                  · rw [v]; exact (bI_t (by decide)).symm
                rw [e5] at e2
                apply g_G_close_57 c4.sh
                rw [c4.cm, Int.toNat_natCast, Int.toNat_natCast, Int.toNat_natCast, l1, c4.mo m hm', c4.mop m i hm' hi', c4.oc _ ob, e1, e2, iorV_01, wr_s (show c' < 1000000 by omega)]
                refine ⟨fun y => by omega, fun _ => ⟨by omega, by omega, l2, by omega, by omega, c4.mkk m hm', by omega, by omega, by omega, by rw [c4.okk _ ob]; exact opk_ok _, c4.ock _ ob, by omega, by omega, l2, by omega, by omega, by omega, bI_01 _, fun h5 e5 => ?_⟩⟩
                subst e5
                refine ih4 _ ⟨f4.put (by unfold cly; omega), Rz_sm r4 (fun o j => by rw [xI_sI, if_neg (by unfold oD; omega)]), fun a x ha hx => by rw [xI_sI, if_neg (by omega)]; exact q4 a x ha hx, fun x hx => ⟨fun y => ?_, fun y => ?_⟩⟩
                · rw [xI_sI]
                  by_cases e : x = c'
                  · rw [if_pos ⟨rfl, e⟩, e]
                    refine bI_c ⟨fun v => v.elim (fun ⟨u, u1, u2⟩ => ⟨u, by omega, u2⟩) (fun v => ⟨i, by omega, c, v⟩), fun ⟨u, u1, u2, u3⟩ => ?_⟩
                    rcases Nat.eq_or_lt_of_le (Nat.le_of_lt_succ u1) with v | v
                    · rw [v] at u3; exact Or.inr u3
                    · exact Or.inl ⟨u, v, u2, u3⟩
                  · rw [if_neg (fun v => e v.2)]; exact (t4 x hx).1 (by omega)
                · rw [xI_sI, if_neg (by omega)]; exact (t4 x hx).2 (by omega)
            refine lc 0 h3 (Nat.zero_le _) ⟨f3', r3, fun a c ha hc => by rw [e3 _ _ (by omega)]; exact q2 a c ha hc, fun x hx => ⟨fun y => by omega, fun _ => by rw [e3 _ _ (by omega)]; exact t2 x hx⟩⟩
      obtain ⟨l1, l2, l3⟩ := GS_ld (cs f1).sh (show m < 48 by omega)
      apply g_G_close_2 (cs f1).sh
      rw [(cs f1).cm, Int.toNat_natCast, l1]
      refine ⟨fun c => by omega, fun _ => ⟨by omega, by omega, ct_fillZ l2 (by omega) (Or.inl rfl) (by omega) (fun h2 s2 z2 => ?_)⟩⟩
      have f2 : fx cly B206 h h2 := f1.tr ((s2.fx).mono (fun a k z => by have z' : a = 31 + m := z; unfold cly; omega) (fun _ _ z => z))
      refine ⟨(cs f2).sh, by omega, by omega, ?_⟩
      rw [(cs f2).mr m hm']
      refine li (om p m).toNat 0 h2 (by omega) ⟨f2, Rz_sm r1 (fun o j => s2.2.2 _ _ (by unfold oD; omega)), fun a c ha hc => (s2.2.2 _ _ (by omega)).trans (q1 a c ha hc), fun c hc => ?_⟩
      rw [z2 c (by omega), bI_f (fun ⟨y, y1, _⟩ => by omega)]
  exact ph1 0 h (Nat.zero_le _) ⟨fx.rf, z, fun a c ha _ => by omega⟩
end CL
