/-! rules: branches -/
theorem ro_inj {D : DD} {ρ : Nat → Nat} {h : Hp} {U : State} {H : Heap} {x y : Nat} (q : Rep D ρ h U H) (hx : wfv h (vr x)) (hy : wfv h (vr y)) : ro ρ x = ro ρ y ↔ x = y := by
  refine ⟨fun e => ?_, fun e => by rw [e]⟩
  by_cases x0 : x = 0
  · by_cases y0 : y = 0
    · rw [x0, y0]
    · rw [x0, ro_ne y0] at e; cases e
  · by_cases y0 : y = 0
    · rw [y0, ro_ne x0] at e; cases e
    · rw [ro_ne x0, ro_ne y0] at e
      exact q.2.2.1 x y (hx.resolve_left x0) (hy.resolve_left y0) (Option.some.inj e)
section RB
variable {l : Launch} {D : DD} {Y : Meth} {d kc ks pc : Nat} {L L' : List (Option AV)} {st : List AV} {h : Hp} {Φ : Option AV → Hp → Prop}
theorem a_icmp_eq {x y off : Int} {tgt : Nat} (hd : decode Y.2.1 pc = .ok (.if_icmp .eq off, 3)) (ht : (pc : Int) + off = (tgt : Int)) (kt : x = y → Ev l D Y d kc ks tgt L st h Φ) (kf : ¬ (x = y) → Ev l D Y d kc ks (pc + 3) L st h Φ) : Ev l D Y d kc ks pc L (vi y :: vi x :: st) h Φ := by
  intro p e R s m args below meth c Q A ρ H locs cells slots ls hC hR
  have hy : inR y := wfh hC.2.2.2.2.2.2
  have hx : inR x := wfh (wft hC.2.2.2.2.2.2)
  exact lv_icmp_eq hC.1.1 hC.1.2.1 hd ht (fun q => kt ((ofInt_eq hx hy).mp q) p e R s m args below meth c Q A ρ H locs cells slots ls ⟨hC.1, hC.2.1, hC.2.2.1, hC.2.2.2.1, hC.2.2.2.2.1, hC.2.2.2.2.2.1, (wft (wft hC.2.2.2.2.2.2))⟩ hR) (fun q => kf (fun z => q ((ofInt_eq hx hy).mpr z)) p e R s m args below meth c Q A ρ H locs cells slots ls ⟨hC.1, hC.2.1, hC.2.2.1, hC.2.2.2.1, hC.2.2.2.2.1, hC.2.2.2.2.2.1, (wft (wft hC.2.2.2.2.2.2))⟩ hR)
theorem a_icmp_ne {x y off : Int} {tgt : Nat} (hd : decode Y.2.1 pc = .ok (.if_icmp .ne off, 3)) (ht : (pc : Int) + off = (tgt : Int)) (kt : ¬ x = y → Ev l D Y d kc ks tgt L st h Φ) (kf : ¬ (¬ x = y) → Ev l D Y d kc ks (pc + 3) L st h Φ) : Ev l D Y d kc ks pc L (vi y :: vi x :: st) h Φ := by
  intro p e R s m args below meth c Q A ρ H locs cells slots ls hC hR
  have hy : inR y := wfh hC.2.2.2.2.2.2
  have hx : inR x := wfh (wft hC.2.2.2.2.2.2)
  exact lv_icmp_ne hC.1.1 hC.1.2.1 hd ht (fun q => kt (fun z => q ((ofInt_eq hx hy).mpr z)) p e R s m args below meth c Q A ρ H locs cells slots ls ⟨hC.1, hC.2.1, hC.2.2.1, hC.2.2.2.1, hC.2.2.2.2.1, hC.2.2.2.2.2.1, (wft (wft hC.2.2.2.2.2.2))⟩ hR) (fun q => kf (fun z => z ((ofInt_eq hx hy).mp q)) p e R s m args below meth c Q A ρ H locs cells slots ls ⟨hC.1, hC.2.1, hC.2.2.1, hC.2.2.2.1, hC.2.2.2.2.1, hC.2.2.2.2.2.1, (wft (wft hC.2.2.2.2.2.2))⟩ hR)
theorem a_icmp_lt {x y off : Int} {tgt : Nat} (hd : decode Y.2.1 pc = .ok (.if_icmp .lt off, 3)) (ht : (pc : Int) + off = (tgt : Int)) (kt : x < y → Ev l D Y d kc ks tgt L st h Φ) (kf : ¬ (x < y) → Ev l D Y d kc ks (pc + 3) L st h Φ) : Ev l D Y d kc ks pc L (vi y :: vi x :: st) h Φ := by
  intro p e R s m args below meth c Q A ρ H locs cells slots ls hC hR
  have hy : inR y := wfh hC.2.2.2.2.2.2
  have hx : inR x := wfh (wft hC.2.2.2.2.2.2)
  exact lv_icmp_lt hC.1.1 hC.1.2.1 hd ht (fun q => kt ((ofInt_lt hx hy).mp q) p e R s m args below meth c Q A ρ H locs cells slots ls ⟨hC.1, hC.2.1, hC.2.2.1, hC.2.2.2.1, hC.2.2.2.2.1, hC.2.2.2.2.2.1, (wft (wft hC.2.2.2.2.2.2))⟩ hR) (fun q => kf (fun z => q ((ofInt_lt hx hy).mpr z)) p e R s m args below meth c Q A ρ H locs cells slots ls ⟨hC.1, hC.2.1, hC.2.2.1, hC.2.2.2.1, hC.2.2.2.2.1, hC.2.2.2.2.2.1, (wft (wft hC.2.2.2.2.2.2))⟩ hR)
theorem a_icmp_ge {x y off : Int} {tgt : Nat} (hd : decode Y.2.1 pc = .ok (.if_icmp .ge off, 3)) (ht : (pc : Int) + off = (tgt : Int)) (kt : y ≤ x → Ev l D Y d kc ks tgt L st h Φ) (kf : ¬ (y ≤ x) → Ev l D Y d kc ks (pc + 3) L st h Φ) : Ev l D Y d kc ks pc L (vi y :: vi x :: st) h Φ := by
  intro p e R s m args below meth c Q A ρ H locs cells slots ls hC hR
  have hy : inR y := wfh hC.2.2.2.2.2.2
  have hx : inR x := wfh (wft hC.2.2.2.2.2.2)
  exact lv_icmp_ge hC.1.1 hC.1.2.1 hd ht (fun q => kt ((ofInt_le hy hx).mp q) p e R s m args below meth c Q A ρ H locs cells slots ls ⟨hC.1, hC.2.1, hC.2.2.1, hC.2.2.2.1, hC.2.2.2.2.1, hC.2.2.2.2.2.1, (wft (wft hC.2.2.2.2.2.2))⟩ hR) (fun q => kf (fun z => q ((ofInt_le hy hx).mpr z)) p e R s m args below meth c Q A ρ H locs cells slots ls ⟨hC.1, hC.2.1, hC.2.2.1, hC.2.2.2.1, hC.2.2.2.2.1, hC.2.2.2.2.2.1, (wft (wft hC.2.2.2.2.2.2))⟩ hR)
theorem a_icmp_gt {x y off : Int} {tgt : Nat} (hd : decode Y.2.1 pc = .ok (.if_icmp .gt off, 3)) (ht : (pc : Int) + off = (tgt : Int)) (kt : y < x → Ev l D Y d kc ks tgt L st h Φ) (kf : ¬ (y < x) → Ev l D Y d kc ks (pc + 3) L st h Φ) : Ev l D Y d kc ks pc L (vi y :: vi x :: st) h Φ := by
  intro p e R s m args below meth c Q A ρ H locs cells slots ls hC hR
  have hy : inR y := wfh hC.2.2.2.2.2.2
  have hx : inR x := wfh (wft hC.2.2.2.2.2.2)
  exact lv_icmp_gt hC.1.1 hC.1.2.1 hd ht (fun q => kt ((ofInt_lt hy hx).mp q) p e R s m args below meth c Q A ρ H locs cells slots ls ⟨hC.1, hC.2.1, hC.2.2.1, hC.2.2.2.1, hC.2.2.2.2.1, hC.2.2.2.2.2.1, (wft (wft hC.2.2.2.2.2.2))⟩ hR) (fun q => kf (fun z => q ((ofInt_lt hy hx).mpr z)) p e R s m args below meth c Q A ρ H locs cells slots ls ⟨hC.1, hC.2.1, hC.2.2.1, hC.2.2.2.1, hC.2.2.2.2.1, hC.2.2.2.2.2.1, (wft (wft hC.2.2.2.2.2.2))⟩ hR)
theorem a_icmp_le {x y off : Int} {tgt : Nat} (hd : decode Y.2.1 pc = .ok (.if_icmp .le off, 3)) (ht : (pc : Int) + off = (tgt : Int)) (kt : x ≤ y → Ev l D Y d kc ks tgt L st h Φ) (kf : ¬ (x ≤ y) → Ev l D Y d kc ks (pc + 3) L st h Φ) : Ev l D Y d kc ks pc L (vi y :: vi x :: st) h Φ := by
  intro p e R s m args below meth c Q A ρ H locs cells slots ls hC hR
  have hy : inR y := wfh hC.2.2.2.2.2.2
  have hx : inR x := wfh (wft hC.2.2.2.2.2.2)
  exact lv_icmp_le hC.1.1 hC.1.2.1 hd ht (fun q => kt ((ofInt_le hx hy).mp q) p e R s m args below meth c Q A ρ H locs cells slots ls ⟨hC.1, hC.2.1, hC.2.2.1, hC.2.2.2.1, hC.2.2.2.2.1, hC.2.2.2.2.2.1, (wft (wft hC.2.2.2.2.2.2))⟩ hR) (fun q => kf (fun z => q ((ofInt_le hx hy).mpr z)) p e R s m args below meth c Q A ρ H locs cells slots ls ⟨hC.1, hC.2.1, hC.2.2.1, hC.2.2.2.1, hC.2.2.2.2.1, hC.2.2.2.2.2.1, (wft (wft hC.2.2.2.2.2.2))⟩ hR)
theorem a_if_eq {x off : Int} {tgt : Nat} (hd : decode Y.2.1 pc = .ok (.ifCond .eq off, 3)) (ht : (pc : Int) + off = (tgt : Int)) (kt : x = 0 → Ev l D Y d kc ks tgt L st h Φ) (kf : ¬ (x = 0) → Ev l D Y d kc ks (pc + 3) L st h Φ) : Ev l D Y d kc ks pc L (vi x :: st) h Φ := by
  intro p e R s m args below meth c Q A ρ H locs cells slots ls hC hR
  have hx : inR x := wfh hC.2.2.2.2.2.2
  exact lv_if_eq hC.1.1 hC.1.2.1 hd ht (fun q => kt ((ofInt_eq hx inR_0).mp q) p e R s m args below meth c Q A ρ H locs cells slots ls ⟨hC.1, hC.2.1, hC.2.2.1, hC.2.2.2.1, hC.2.2.2.2.1, hC.2.2.2.2.2.1, (wft hC.2.2.2.2.2.2)⟩ hR) (fun q => kf (fun z => q ((ofInt_eq hx inR_0).mpr z)) p e R s m args below meth c Q A ρ H locs cells slots ls ⟨hC.1, hC.2.1, hC.2.2.1, hC.2.2.2.1, hC.2.2.2.2.1, hC.2.2.2.2.2.1, (wft hC.2.2.2.2.2.2)⟩ hR)
theorem a_if_ne {x off : Int} {tgt : Nat} (hd : decode Y.2.1 pc = .ok (.ifCond .ne off, 3)) (ht : (pc : Int) + off = (tgt : Int)) (kt : ¬ x = 0 → Ev l D Y d kc ks tgt L st h Φ) (kf : ¬ (¬ x = 0) → Ev l D Y d kc ks (pc + 3) L st h Φ) : Ev l D Y d kc ks pc L (vi x :: st) h Φ := by
  intro p e R s m args below meth c Q A ρ H locs cells slots ls hC hR
  have hx : inR x := wfh hC.2.2.2.2.2.2
  exact lv_if_ne hC.1.1 hC.1.2.1 hd ht (fun q => kt (fun z => q ((ofInt_eq hx inR_0).mpr z)) p e R s m args below meth c Q A ρ H locs cells slots ls ⟨hC.1, hC.2.1, hC.2.2.1, hC.2.2.2.1, hC.2.2.2.2.1, hC.2.2.2.2.2.1, (wft hC.2.2.2.2.2.2)⟩ hR) (fun q => kf (fun z => z ((ofInt_eq hx inR_0).mp q)) p e R s m args below meth c Q A ρ H locs cells slots ls ⟨hC.1, hC.2.1, hC.2.2.1, hC.2.2.2.1, hC.2.2.2.2.1, hC.2.2.2.2.2.1, (wft hC.2.2.2.2.2.2)⟩ hR)
theorem a_if_lt {x off : Int} {tgt : Nat} (hd : decode Y.2.1 pc = .ok (.ifCond .lt off, 3)) (ht : (pc : Int) + off = (tgt : Int)) (kt : x < 0 → Ev l D Y d kc ks tgt L st h Φ) (kf : ¬ (x < 0) → Ev l D Y d kc ks (pc + 3) L st h Φ) : Ev l D Y d kc ks pc L (vi x :: st) h Φ := by
  intro p e R s m args below meth c Q A ρ H locs cells slots ls hC hR
  have hx : inR x := wfh hC.2.2.2.2.2.2
  exact lv_if_lt hC.1.1 hC.1.2.1 hd ht (fun q => kt ((ofInt_lt hx inR_0).mp q) p e R s m args below meth c Q A ρ H locs cells slots ls ⟨hC.1, hC.2.1, hC.2.2.1, hC.2.2.2.1, hC.2.2.2.2.1, hC.2.2.2.2.2.1, (wft hC.2.2.2.2.2.2)⟩ hR) (fun q => kf (fun z => q ((ofInt_lt hx inR_0).mpr z)) p e R s m args below meth c Q A ρ H locs cells slots ls ⟨hC.1, hC.2.1, hC.2.2.1, hC.2.2.2.1, hC.2.2.2.2.1, hC.2.2.2.2.2.1, (wft hC.2.2.2.2.2.2)⟩ hR)
theorem a_if_ge {x off : Int} {tgt : Nat} (hd : decode Y.2.1 pc = .ok (.ifCond .ge off, 3)) (ht : (pc : Int) + off = (tgt : Int)) (kt : 0 ≤ x → Ev l D Y d kc ks tgt L st h Φ) (kf : ¬ (0 ≤ x) → Ev l D Y d kc ks (pc + 3) L st h Φ) : Ev l D Y d kc ks pc L (vi x :: st) h Φ := by
  intro p e R s m args below meth c Q A ρ H locs cells slots ls hC hR
  have hx : inR x := wfh hC.2.2.2.2.2.2
  exact lv_if_ge hC.1.1 hC.1.2.1 hd ht (fun q => kt ((ofInt_le inR_0 hx).mp q) p e R s m args below meth c Q A ρ H locs cells slots ls ⟨hC.1, hC.2.1, hC.2.2.1, hC.2.2.2.1, hC.2.2.2.2.1, hC.2.2.2.2.2.1, (wft hC.2.2.2.2.2.2)⟩ hR) (fun q => kf (fun z => q ((ofInt_le inR_0 hx).mpr z)) p e R s m args below meth c Q A ρ H locs cells slots ls ⟨hC.1, hC.2.1, hC.2.2.1, hC.2.2.2.1, hC.2.2.2.2.1, hC.2.2.2.2.2.1, (wft hC.2.2.2.2.2.2)⟩ hR)
theorem a_if_gt {x off : Int} {tgt : Nat} (hd : decode Y.2.1 pc = .ok (.ifCond .gt off, 3)) (ht : (pc : Int) + off = (tgt : Int)) (kt : 0 < x → Ev l D Y d kc ks tgt L st h Φ) (kf : ¬ (0 < x) → Ev l D Y d kc ks (pc + 3) L st h Φ) : Ev l D Y d kc ks pc L (vi x :: st) h Φ := by
  intro p e R s m args below meth c Q A ρ H locs cells slots ls hC hR
  have hx : inR x := wfh hC.2.2.2.2.2.2
  exact lv_if_gt hC.1.1 hC.1.2.1 hd ht (fun q => kt ((ofInt_lt inR_0 hx).mp q) p e R s m args below meth c Q A ρ H locs cells slots ls ⟨hC.1, hC.2.1, hC.2.2.1, hC.2.2.2.1, hC.2.2.2.2.1, hC.2.2.2.2.2.1, (wft hC.2.2.2.2.2.2)⟩ hR) (fun q => kf (fun z => q ((ofInt_lt inR_0 hx).mpr z)) p e R s m args below meth c Q A ρ H locs cells slots ls ⟨hC.1, hC.2.1, hC.2.2.1, hC.2.2.2.1, hC.2.2.2.2.1, hC.2.2.2.2.2.1, (wft hC.2.2.2.2.2.2)⟩ hR)
theorem a_if_le {x off : Int} {tgt : Nat} (hd : decode Y.2.1 pc = .ok (.ifCond .le off, 3)) (ht : (pc : Int) + off = (tgt : Int)) (kt : x ≤ 0 → Ev l D Y d kc ks tgt L st h Φ) (kf : ¬ (x ≤ 0) → Ev l D Y d kc ks (pc + 3) L st h Φ) : Ev l D Y d kc ks pc L (vi x :: st) h Φ := by
  intro p e R s m args below meth c Q A ρ H locs cells slots ls hC hR
  have hx : inR x := wfh hC.2.2.2.2.2.2
  exact lv_if_le hC.1.1 hC.1.2.1 hd ht (fun q => kt ((ofInt_le hx inR_0).mp q) p e R s m args below meth c Q A ρ H locs cells slots ls ⟨hC.1, hC.2.1, hC.2.2.1, hC.2.2.2.1, hC.2.2.2.2.1, hC.2.2.2.2.2.1, (wft hC.2.2.2.2.2.2)⟩ hR) (fun q => kf (fun z => q ((ofInt_le hx inR_0).mpr z)) p e R s m args below meth c Q A ρ H locs cells slots ls ⟨hC.1, hC.2.1, hC.2.2.1, hC.2.2.2.1, hC.2.2.2.2.1, hC.2.2.2.2.2.1, (wft hC.2.2.2.2.2.2)⟩ hR)
theorem a_acmp_eq {x y : Nat} {off : Int} {tgt : Nat} (hd : decode Y.2.1 pc = .ok (.if_acmp .eq off, 3)) (ht : (pc : Int) + off = (tgt : Int)) (kt : x = y → Ev l D Y d kc ks tgt L st h Φ) (kf : ¬ x = y → Ev l D Y d kc ks (pc + 3) L st h Φ) : Ev l D Y d kc ks pc L (vr y :: vr x :: st) h Φ := by
  intro p e R s m args below meth c Q A ρ H locs cells slots ls hC hR
  have hq : ro ρ x = ro ρ y ↔ x = y := ro_inj hC.2.2.2.1.2.1 (wfh (wft hC.2.2.2.2.2.2)) (wfh hC.2.2.2.2.2.2)
  exact lv_acmp_eq hC.1.1 hC.1.2.1 hd ht (fun q => kt (hq.mp q) p e R s m args below meth c Q A ρ H locs cells slots ls ⟨hC.1, hC.2.1, hC.2.2.1, hC.2.2.2.1, hC.2.2.2.2.1, hC.2.2.2.2.2.1, (wft (wft hC.2.2.2.2.2.2))⟩ hR) (fun q => kf (fun z => q (hq.mpr z)) p e R s m args below meth c Q A ρ H locs cells slots ls ⟨hC.1, hC.2.1, hC.2.2.1, hC.2.2.2.1, hC.2.2.2.2.1, hC.2.2.2.2.2.1, (wft (wft hC.2.2.2.2.2.2))⟩ hR)
theorem a_acmp_ne {x y : Nat} {off : Int} {tgt : Nat} (hd : decode Y.2.1 pc = .ok (.if_acmp .ne off, 3)) (ht : (pc : Int) + off = (tgt : Int)) (kt : ¬ x = y → Ev l D Y d kc ks tgt L st h Φ) (kf : x = y → Ev l D Y d kc ks (pc + 3) L st h Φ) : Ev l D Y d kc ks pc L (vr y :: vr x :: st) h Φ := by
  intro p e R s m args below meth c Q A ρ H locs cells slots ls hC hR
  have hq : ro ρ x = ro ρ y ↔ x = y := ro_inj hC.2.2.2.1.2.1 (wfh (wft hC.2.2.2.2.2.2)) (wfh hC.2.2.2.2.2.2)
  exact lv_acmp_ne hC.1.1 hC.1.2.1 hd ht (fun q => kt (fun z => q (hq.mpr z)) p e R s m args below meth c Q A ρ H locs cells slots ls ⟨hC.1, hC.2.1, hC.2.2.1, hC.2.2.2.1, hC.2.2.2.2.1, hC.2.2.2.2.2.1, (wft (wft hC.2.2.2.2.2.2))⟩ hR) (fun q => kf (hq.mp q) p e R s m args below meth c Q A ρ H locs cells slots ls ⟨hC.1, hC.2.1, hC.2.2.1, hC.2.2.2.1, hC.2.2.2.2.1, hC.2.2.2.2.2.1, (wft (wft hC.2.2.2.2.2.2))⟩ hR)
theorem a_ifnull {x : Nat} {off : Int} {tgt : Nat} (hd : decode Y.2.1 pc = .ok (.ifnull off, 3)) (ht : (pc : Int) + off = (tgt : Int)) (kt : x = 0 → Ev l D Y d kc ks tgt L st h Φ) (kf : ¬ x = 0 → Ev l D Y d kc ks (pc + 3) L st h Φ) : Ev l D Y d kc ks pc L (vr x :: st) h Φ := by
  intro p e R s m args below meth c Q A ρ H locs cells slots ls hC hR
  rw [List.map_cons]
  by_cases hx : x = 0
  · subst hx; exact lv_ifnullN hC.1.1 hC.1.2.1 hd ht (kt rfl p e R s m args below meth c Q A ρ H locs cells slots ls ⟨hC.1, hC.2.1, hC.2.2.1, hC.2.2.2.1, hC.2.2.2.2.1, hC.2.2.2.2.2.1, (wft hC.2.2.2.2.2.2)⟩ hR)
  · rw [cv_ref hx]; exact lv_ifnull hC.1.1 hC.1.2.1 hd (kf hx p e R s m args below meth c Q A ρ H locs cells slots ls ⟨hC.1, hC.2.1, hC.2.2.1, hC.2.2.2.1, hC.2.2.2.2.1, hC.2.2.2.2.2.1, (wft hC.2.2.2.2.2.2)⟩ hR)
theorem a_ifnonnull {x : Nat} {off : Int} {tgt : Nat} (hd : decode Y.2.1 pc = .ok (.ifnonnull off, 3)) (ht : (pc : Int) + off = (tgt : Int)) (kt : ¬ x = 0 → Ev l D Y d kc ks tgt L st h Φ) (kf : x = 0 → Ev l D Y d kc ks (pc + 3) L st h Φ) : Ev l D Y d kc ks pc L (vr x :: st) h Φ := by
  intro p e R s m args below meth c Q A ρ H locs cells slots ls hC hR
  rw [List.map_cons]
  by_cases hx : x = 0
  · subst hx; exact lv_ifnonnullN hC.1.1 hC.1.2.1 hd (kf rfl p e R s m args below meth c Q A ρ H locs cells slots ls ⟨hC.1, hC.2.1, hC.2.2.1, hC.2.2.2.1, hC.2.2.2.2.1, hC.2.2.2.2.2.1, (wft hC.2.2.2.2.2.2)⟩ hR)
  · rw [cv_ref hx]; exact lv_ifnonnull hC.1.1 hC.1.2.1 hd ht (kt hx p e R s m args below meth c Q A ρ H locs cells slots ls ⟨hC.1, hC.2.1, hC.2.2.1, hC.2.2.2.1, hC.2.2.2.2.1, hC.2.2.2.2.2.1, (wft hC.2.2.2.2.2.2)⟩ hR)
theorem a_table {x dflt lo hi : Int} {offs : Array Int} {len : Nat} (hd : decode Y.2.1 pc = .ok (.tableswitch dflt lo hi offs, len)) {tgt : Nat} (ht : (pc : Int) + dflt = (tgt : Int)) (tg : Nat → Nat) (hi2 : ∀ i : Nat, i < (hi - lo + 1).toNat → ∃ off, offs[i]? = some off ∧ (pc : Int) + off = (tg i : Int)) (ko : x < lo ∨ hi < x → Ev l D Y d kc ks tgt L st h Φ) (ki : ∀ i : Nat, i < (hi - lo + 1).toNat → x = lo + i → Ev l D Y d kc ks (tg i) L st h Φ) : Ev l D Y d kc ks pc L (vi x :: st) h Φ := by
  intro p e R s m args below meth c Q A ρ H locs cells slots ls hC hR
  have hx : inR x := wfh hC.2.2.2.2.2.2
  by_cases h0 : x < lo ∨ hi < x
  · exact lv_tableOut hC.1.1 hC.1.2.1 hd (by rw [toI_of hx]; exact h0) ht (ko h0 p e R s m args below meth c Q A ρ H locs cells slots ls ⟨hC.1, hC.2.1, hC.2.2.1, hC.2.2.2.1, hC.2.2.2.2.1, hC.2.2.2.2.2.1, (wft hC.2.2.2.2.2.2)⟩ hR)
  · have g1 : (x - lo).toNat < (hi - lo + 1).toNat := by omega
    obtain ⟨off, g2, g3⟩ := hi2 _ g1
    exact lv_tableIn (off := off) hC.1.1 hC.1.2.1 hd (by rw [toI_of hx]; omega) (by rw [toI_of hx]; omega) (by rw [toI_of hx]; exact g2) g3 (ki _ g1 (by omega) p e R s m args below meth c Q A ρ H locs cells slots ls ⟨hC.1, hC.2.1, hC.2.2.1, hC.2.2.2.1, hC.2.2.2.2.1, hC.2.2.2.2.2.1, (wft hC.2.2.2.2.2.2)⟩ hR)
theorem a_iret {x : Int} (hd : decode Y.2.1 pc = .ok (.ireturn, 1)) (hr : Y.2.2.2 = some .int) (k : Φ (some (vi x)) h) : Ev l D Y d kc ks pc L [vi x] h Φ := by
  intro p e R s m args below meth c Q A ρ H locs cells slots ls hC hR
  exact hR (some (vi x)) h ρ H locs cells slots pc ls hC.2.2.2.1 agr.rf (fun u e => by cases e; exact wfh hC.2.2.2.2.2.2) (Nat.le_add_right _ _) (Nat.le_add_right _ _) k ⟨hd, Or.inl hr⟩
theorem a_zret {x : Int} (hd : decode Y.2.1 pc = .ok (.ireturn, 1)) (hr : Y.2.2.2 = some .boolean) (hx : x = 0 ∨ x = 1) (k : Φ (some (vi x)) h) : Ev l D Y d kc ks pc L [vi x] h Φ := by
  intro p e R s m args below meth c Q A ρ H locs cells slots ls hC hR
  exact hR (some (vi x)) h ρ H locs cells slots pc ls hC.2.2.2.1 agr.rf (fun u e => by cases e; exact wfh hC.2.2.2.2.2.2) (Nat.le_add_right _ _) (Nat.le_add_right _ _) k ⟨hd, Or.inr ⟨hr, hx⟩⟩
theorem a_aret {x : Nat} {rt : FieldType} (hd : decode Y.2.1 pc = .ok (.areturn, 1)) (hr : Y.2.2.2 = some rt) (ht : (∃ n, rt = .object n) ∨ ∃ t, rt = .array t) (k : Φ (some (vr x)) h) : Ev l D Y d kc ks pc L [vr x] h Φ := by
  intro p e R s m args below meth c Q A ρ H locs cells slots ls hC hR
  exact hR (some (vr x)) h ρ H locs cells slots pc ls hC.2.2.2.1 agr.rf (fun u e => by cases e; exact wfh hC.2.2.2.2.2.2) (Nat.le_add_right _ _) (Nat.le_add_right _ _) k ⟨hd, rt, hr, ht⟩
theorem a_vret (hd : decode Y.2.1 pc = .ok (.return_, 1)) (hr : Y.2.2.2 = none) (k : Φ none h) : Ev l D Y d kc ks pc L [] h Φ := by
  intro p e R s m args below meth c Q A ρ H locs cells slots ls hC hR
  exact hR none h ρ H locs cells slots pc ls hC.2.2.2.1 agr.rf (fun u e => by cases e) (Nat.le_add_right _ _) (Nat.le_add_right _ _) k ⟨hr, hd⟩
end RB
