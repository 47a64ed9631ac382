/-! the model's runs: an op is done, the next thing is done, all is done -/
section MR3
variable {l : Launch} {D : DD} {d kc ks : Nat} {h h0 : Hp} {Ψ : Option AV → Hp → Prop} {p g : Pg} {K : List Tk} {s : Rst}
theorem ct_M_runOp {o : Nat} (q : Mv p h0 h K s) (hr : Rv p s) (ho : (o : Int) < nO p) (hl : K.length + 2 < 1000) (k : ∀ h', Mv p h0 h' ((opr p o s).1 ++ K) (opr p o s).2 → Ψ none h') : Ev l D Y_M_runOp (d + 6) kc ks 0 [some (vr 100), some (vi (o : Int)), none, none, none, none, none] [] h Ψ := by
  have hw := q.2.1.1.2.2.1
  have w1 := hw.1
  have w2 := hw.2.1
  have w3 := hw.2.2.1
  have hM := q.2.1.1.1
  obtain ⟨o1, o2, o3, o4, o5⟩ := hw.2.2.2.2.2.2 o ho
  have fin : ∀ (X : List Tk × Rst), opr p o s = X → ∀ h', Mv p h0 h' (X.1 ++ K) X.2 → Ψ none h' := fun X e h' m => k h' (by rw [e]; exact m)
  apply m_M_runOp_0 hM
  rw [Int.toNat_natCast, (q.2.1.1.2.1).ok o, (q.2.1.1.2.1).oA o, (q.2.1.1.2.1).oB o]
  refine ⟨by omega, by omega, by omega, by omega, by omega, by omega, fun c => ?_, fun c => ?_, fun c => ?_, fun c => ?_, fun c => ?_, fun c => ?_, fun c => ?_, fun c => ?_, fun c => by omega⟩
  · have ab := o2 (by omega)
    have e : opr p o s = ([(2, (oA p o).toNat, 0, (o : Int)), (3, (oA p o).toNat, 0, (o : Int))], s) := by unfold opr; rw [cA_t c]
    obtain ⟨a, ha⟩ : ∃ a : Nat, oA p o = (a : Int) := ⟨(oA p o).toNat, by omega⟩
    rw [ha, Int.toNat_natCast] at e
    rw [ha]
    exact ct_M_push (kd := 3) q (by omega) (fun h1 m1 => ⟨m1.2.1.1.1, ct_M_push (kd := 2) m1 (by rw [List.length_cons]; omega) (fun h2 m2 => ⟨m2.2.1.1.1, fin _ e h2 m2⟩)⟩)
  · have e : opr p o s = oCall p o s := by unfold opr; rw [cA_f (by omega), cA_t (Or.inl c)]
    exact ct_M_runCall q hr ho (Or.inl c) (by omega) (fun h1 m1 => ⟨m1.2.1.1.1, fin _ e h1 m1⟩)
  · have ab := o2 (by omega)
    have e : opr p o s = (one (chf p (oA p o).toNat (oA p o).toNat (oB p o)) o, s) := by unfold opr; rw [cA_f (by omega), cA_f (by omega), cA_t c]
    obtain ⟨a, ha⟩ : ∃ a : Nat, oA p o = (a : Int) := ⟨(oA p o).toNat, by omega⟩
    rw [ha, Int.toNat_natCast] at e
    rw [ha] at ab ⊢
    refine ct_M_chosenOf q.2.1.1 ab.2 ab.2 (fun h1 s1 => ⟨s1.2.1, fun c2 => fin _ e h1 ?_, fun c2 => ?_⟩)
    · show Mv p h0 h1 (one _ o ++ K) s
      unfold one; rw [cA_f (by omega)]; exact q.sc s1
    · obtain ⟨t, ht⟩ : ∃ t : Nat, chf p a a (oB p o) = (t : Int) := ⟨(chf p a a (oB p o)).toNat, by omega⟩
      rw [ht] at e ⊢
      refine ct_M_push (kd := 1) (q.sc s1) (by omega) (fun h2 m2 => ⟨m2.2.1.1.1, fin _ e h2 ?_⟩)
      show Mv p h0 h2 (one _ o ++ K) s
      unfold one; rw [cA_t (by omega), Int.toNat_natCast]; exact m2
  · have ab := o2 (by omega)
    have e : opr p o s = cA (¬ fnd p (oA p o).toNat (oB p o) = -1 ∧ so p (fnd p (oA p o).toNat (oB p o)).toNat = 2) ([(2, (ty p (fnd p (oA p o).toNat (oB p o)).toNat).toNat, 0, (o : Int)), (1, (fnd p (oA p o).toNat (oB p o)).toNat, 0, (o : Int))], s) ([], s) := by unfold opr; rw [cA_f (by omega), cA_f (by omega), cA_f (by omega), cA_t c]
    obtain ⟨a, ha⟩ : ∃ a : Nat, oA p o = (a : Int) := ⟨(oA p o).toNat, by omega⟩
    rw [ha, Int.toNat_natCast] at e
    rw [ha] at ab ⊢
    have fb := fnd_bd hw a (oB p o)
    refine ct_M_find q.2.1.1 ab.2 (fun h1 s1 => ⟨s1.2.1, fun c2 => ?_, fun c2 => ⟨by omega, by omega, ?_⟩⟩)
    · rw [cA_f (fun z => z.1 c2)] at e
      exact fin _ e h1 (q.sc s1)
    · rw [(s1.2.2.1).so]
      refine ⟨fun c3 => ?_, fun c3 => ?_⟩
      · rw [cA_f (fun z => c3 z.2)] at e
        exact fin _ e h1 (q.sc s1)
      · rw [cA_t ⟨c2, c3⟩] at e
        obtain ⟨f, hf⟩ : ∃ f : Nat, fnd p a (oB p o) = (f : Int) := ⟨(fnd p a (oB p o)).toNat, by omega⟩
        rw [hf, Int.toNat_natCast] at e
        rw [hf] at fb ⊢
        have wf := (hw.2.2.2.2.1 f (by omega)).1
        refine ct_M_push (kd := 1) (q.sc s1) (by omega) (fun h2 m2 => ⟨m2.2.1.1.1, by omega, by omega, ?_⟩)
        rw [Int.toNat_natCast, (m2.2.1.1.2.1).ty f]
        obtain ⟨b, hb⟩ : ∃ b : Nat, ty p f = (b : Int) := ⟨(ty p f).toNat, by omega⟩
        rw [hb, Int.toNat_natCast] at e
        rw [hb]
        exact ct_M_push (kd := 2) m2 (by rw [List.length_cons]; omega) (fun h3 m3 => ⟨m3.2.1.1.1, fin _ e h3 m3⟩)
  · have e : opr p o s = oCall p o s := by unfold opr; rw [cA_f (by omega), cA_t (Or.inr c)]
    exact ct_M_runCall q hr ho (Or.inr c) (by omega) (fun h1 m1 => ⟨m1.2.1.1.1, fin _ e h1 m1⟩)
  · have ab := o3 (by omega) (by omega)
    have bb := o4 c
    have e : opr p o s = ([], oPut s (oA p o).toNat (oB p o)) := by unfold opr; rw [cA_f (by omega), cA_f (by omega), cA_f (by omega), cA_f (by omega), cA_t c]
    obtain ⟨a, ha⟩ : ∃ a : Nat, oA p o = (a : Int) := ⟨(oA p o).toNat, by omega⟩
    obtain ⟨b, hb⟩ : ∃ b : Nat, oB p o = (b : Int) := ⟨(oB p o).toNat, by omega⟩
    rw [ha, hb, Int.toNat_natCast] at e
    rw [ha] at ab
    rw [hb] at bb
    rw [ha, hb]
    have bd := bag_bd hw hr (show a < 4 by omega)
    have e150 : xI h 150 a = s.1 150 a := q.2.2.2.1 150 a (by unfold rcl; omega)
    have key : ∀ (n i : Nat), i + n = (s.1 150 a).toNat → Ev l D Y_M_runOp (d + 6) kc ks 165 [some (vr 100), some (vi (o : Int)), some (vi (a : Int)), some (vi (b : Int)), some (vi (-1 : Int)), some (vi (bI (∃ j : Nat, j < i ∧ s.1 149 (48 * a + j) = (b : Int)))), some (vi (i : Int))] [] h Ψ := by
      intro n
      induction n with
      | zero =>
        intro i hi
        have eh : bI (∃ j : Nat, j < i ∧ s.1 149 (48 * a + j) = (b : Int)) = bI (hasB s a b) := bI_c ⟨fun ⟨j, j1, j2⟩ => ⟨j, by omega, j2⟩, fun ⟨j, j1, j2⟩ => ⟨j, by omega, j2⟩⟩
        rw [eh]
        clear eh
        apply m_M_runOp_165 hM
        rw [Int.toNat_natCast, e150]
        refine ⟨by omega, by omega, fun _ => ⟨fun c2 => ?_, fun c2 => ?_⟩, fun c2 => by omega⟩
        · have c3 := bI_n.mp c2
          refine fin _ e h ?_
          show Mv p h0 h K (oPut s a b)
          unfold oPut; rw [cA_t c3]; exact q
        · have c3 : ¬ hasB s a b := bI_0.mp c2
          have lt := bag_lt hw hr (show a < 4 by omega) bb c3
          have ix : wr (wr ((48 : Int) * (a : Int)) + s.1 150 a) = ((48 * a + (s.1 150 a).toNat : Nat) : Int) := by
            have := ix48 (a := a) (b := (s.1 150 a).toNat) (by omega) (by omega)
            rwa [show (((s.1 150 a).toNat : Nat) : Int) = s.1 150 a by omega] at this
          rw [ix, Int.toNat_natCast]
          refine ⟨by omega, by omega, by omega, by omega, fun h1 e1 => ⟨by omega, by omega, by omega, by omega, fun h2 e2 => fin _ e h2 ?_⟩⟩
          rw [show xI h1 150 a = s.1 150 a by rw [e1, xI_sI, if_neg (by omega)]; exact e150, wr_eq (by omega) (by omega)] at e2
          subst e2; subst e1
          show Mv p h0 _ K (oPut s a b)
          unfold oPut; rw [cA_f c3]
          have mb := q.bag (x := (b : Int)) (show a < 4 by omega) (n := (s.1 150 a).toNat) (by omega) (by omega)
          rw [show (((s.1 150 a).toNat : Nat) : Int) = s.1 150 a by omega] at mb
          exact mb
      | succ n ih =>
        intro i hi
        have g202 : ∀ y0 x5 : Int, y0 = bI (∃ j : Nat, j < i + 1 ∧ s.1 149 (48 * a + j) = (b : Int)) → Ev l D Y_M_runOp (d + 6) kc ks 202 [some (vr 100), some (vi (o : Int)), some (vi (a : Int)), some (vi (b : Int)), some (vi (-1 : Int)), some (vi x5), some (vi (i : Int))] [vi y0] h Ψ := by
          intro y0 x5 ey
          apply m_M_runOp_202 hM
          rw [wr_s (show i < 1000000 by omega), ey]
          exact ih (i + 1) (by omega)
        have e149 : xI h 149 (48 * a + i) = s.1 149 (48 * a + i) := q.2.2.2.1 149 _ (rcl_149 (by omega) (by omega) (by omega))
        apply m_M_runOp_165 hM
        rw [Int.toNat_natCast, e150]
        refine ⟨by omega, by omega, fun c2 => by omega, fun _ => ?_⟩
        rw [ix48 (a := a) (b := i) (by omega) (by omega), Int.toNat_natCast, e149]
        refine ⟨fun c2 => g202 1 _ ?_, fun c2 => ⟨by omega, by omega, fun c3 => g202 0 _ ?_, fun c3 => g202 1 _ ?_⟩⟩
        · obtain ⟨j, j1, j2⟩ := bI_n.mp c2
          exact (bI_t ⟨j, by omega, j2⟩).symm
        · refine (bI_f ?_).symm
          rintro ⟨j, j1, j2⟩
          rcases Nat.eq_or_lt_of_le (Nat.le_of_lt_succ j1) with z | z
          · rw [z] at j2; exact c3 j2
          · exact bI_0.mp c2 ⟨j, z, j2⟩
        · exact (bI_t ⟨i, by omega, c3⟩).symm
    have k0 := key (s.1 150 a).toNat 0 (by omega)
    rw [bI_f (fun ⟨j, j1, _⟩ => by omega)] at k0
    exact k0
  · have ab := o3 (by omega) (by omega)
    have e : opr p o s = oOut o (oA p o).toNat s := by unfold opr; rw [cA_f (by omega), cA_f (by omega), cA_f (by omega), cA_f (by omega), cA_f (by omega), cA_t c]
    obtain ⟨a, ha⟩ : ∃ a : Nat, oA p o = (a : Int) := ⟨(oA p o).toNat, by omega⟩
    rw [ha, Int.toNat_natCast] at e
    rw [ha] at ab ⊢
    rw [Int.toNat_natCast]
    have bd := bag_bd hw hr (show a < 4 by omega)
    have e150 : xI h 150 a = s.1 150 a := q.2.2.2.1 150 a (by unfold rcl; omega)
    rw [e150]
    unfold oOut at e
    refine ⟨by omega, by omega, fun c2 => ?_, fun c2 => ⟨by omega, by omega, ct_M_draw q (by omega) (fun h1 m1 => ⟨m1.2.1.1.1, ?_⟩)⟩⟩
    · rw [cA_t c2] at e; exact fin _ e h q
    · rw [cA_f (by omega)] at e
      have db := dw_bd (x := (rx s).2) (n := s.1 150 a) (by omega) (by omega)
      obtain ⟨w, ew⟩ : ∃ w : Nat, dw (rx s).2 (s.1 150 a) = (w : Int) := ⟨(dw (rx s).2 (s.1 150 a)).toNat, by omega⟩
      rw [ew] at db
      rw [ew, Int.toNat_natCast] at e
      rw [ew, ix48 (a := a) (b := w) (by omega) (by omega), Int.toNat_natCast]
      have e149 : xI h1 149 (48 * a + w) = s.1 149 (48 * a + w) := (m1.2.2.2.1 149 _ (by rw [rx1]; exact rcl_149 (by omega) (by omega) (by omega))).trans (by rw [rx1])
      have b1 := (hr.2.2.2.2.2 a (by omega)).2.2 w (by omega)
      obtain ⟨t, ht⟩ : ∃ t : Nat, s.1 149 (48 * a + w) = (t : Int) := ⟨(s.1 149 (48 * a + w)).toNat, by omega⟩
      rw [e149, ht]
      rw [ht] at e
      refine ⟨by omega, by omega, ct_M_push (kd := 1) m1 (by omega) (fun h2 m2 => ⟨m2.2.1.1.1, fin _ e h2 ?_⟩)⟩
      show Mv p h0 h2 (one _ o ++ K) (rx s)
      unfold one; rw [cA_t (by omega), Int.toNat_natCast]; exact m2
  · have e : opr p o s = oAny p o s := by unfold opr; rw [cA_f (by omega), cA_f (by omega), cA_f (by omega), cA_f (by omega), cA_f (by omega), cA_f (by omega)]
    exact ct_M_runAny q ho (by omega) (fun h1 m1 => ⟨m1.2.1.1.1, fin _ e h1 m1⟩)
end MR3
