set_option maxRecDepth 100000
/-! SUMS: a modest form is small -/
theorem low_C {F : Bi} {p : Un} (hp : p ≠ pz) (hF : F ≠ bz) : ∃ s g, s ≠ pz ∧ g ≠ pz ∧ lowB F (bC p) = bC s ∧ p = pmul s g ∧ F = bmul (bC g) (lowT F (bC p)) := by
  have nC := bC_ne hp
  have lw := low_is F nC
  have z := (lowC_sz hp hF).2
  have eB := bsz1_C (F := lowB F (bC p)) (by omega)
  have d := (low_dv (F := F) nC).2
  generalize bco (lowB F (bC p)) 0 = s at eB
  rw [eB] at d
  obtain ⟨H, e⟩ := bdv_iff.mp d
  have e0 : p = pmul s (bco H 0) := by rw [← bco_Cmul, ← e]; rfl
  generalize bco H 0 = g at e0
  have sn : s ≠ pz := fun w => hp (by rw [e0, w]; exact (szmul_z g).2)
  have gn : g ≠ pz := fun w => hp (by rw [e0, w]; exact (szmul_z s).1)
  refine ⟨s, g, sn, gn, eB, e0, ?_⟩
  have l1 := lw.1
  rw [eB] at l1
  have nS := bC_ne sn
  have e2 : bC p = bmul (bC s) (bC g) := by rw [b_CC, ← e0]
  generalize lowT F (bC p) = T at *
  rw [e2] at l1
  generalize bC s = a, bC g = b at *
  letI := plRing Fp
  letI := @plRing Un (plRing Fp)
  refine dom_cancel bi_dom (c := a) (fun w => nS w) ?_
  have l2 : T * (a * b) = F * a := l1
  show a * F = a * (b * T)
  grind
theorem C_cop {g0 g1 : Un} (hg : g0 ≠ pz) {T B : Bi} (h : bcop T B) (h0 : bdv (bC g0) T) (h1 : bdv (bC g1) B) {s0 : Un} (e : udv g0 (pmul g1 s0)) : udv g0 s0 := by
  have k : bdv (bC g0) (bC s0) := by
    letI := plRing Fp
    letI := @plRing Un (plRing Fp)
    refine euclid bi_dom bi_gcd (b := bC g1) (copr_dv h h0 h1) ?_
    have := bdv_C e
    rw [← b_CC] at this
    exact this
  obtain ⟨H, w⟩ := bdv_iff.mp k
  exact un_dv_eq.mpr ⟨bco H 0, by rw [← bco_Cmul, ← w]; rfl⟩
theorem fm_prim {T B : Bi} (hT : T ≠ bz) (hB : B ≠ bz) : ∀ i, bprim (fmL T B i).2.2
  | 0 => by
    show bprim (bC (pC 1))
    intro c hc
    letI := plRing Fp
    exact hc 0
  | i + 1 => by
    have I := fmI_L hT hB i
    have r := fm_prim hT hB i
    show bprim (fmS i (fmL T B i)).2.2
    generalize fmL T B i = X at *
    unfold fmS
    by_cases c : 1 < bsz (fmG i X.1 X.2.1)
    · rw [cite_pos c]
      show bprim (fmC (fmG i X.1 X.2.1) i X.2.2)
      have pg := fmG_prim (i := i) (B := X.2.1) I.a
      generalize fmG i X.1 X.2.1 = G at pg
      have go : ∀ s, bprim (fmC G s X.2.2) := fun s => by
        induction s with
        | zero => exact r
        | succ s ih => exact prim_mul ih (shK_prim _ pg)
      exact go i
    · rw [cite_neg c]; exact r
/-- sizes of a modest form -/
theorem fm_small {T B : Bi} (hT : T ≠ bz) (hB : B ≠ bz) (cop : bcop T B) (h : fmOK (fm T B)) : (bsn (fm T B).1 ≤ 25 ∧ bsz (fm T B).1 ≤ 9) ∧ (bsn (fm T B).2.1 ≤ 25 ∧ bsz (fm T B).2.1 ≤ 9) ∧ bsn (fm T B).2.2 ≤ 13 ∧ bsz (fm T B).2.2 ≤ 9 := by
  have I : fmI T B (fm T B) := fmI_L hT hB 41
  have pc : bprim (fm T B).2.2 := fm_prim hT hB 41
  generalize fm T B = X at *
  obtain ⟨m0, m1, m2⟩ := h
  have e0 : fmT 0 X = lowT X.1 (bC (bhd X.2.1)) ∧ fmB 0 X = lowB X.1 (bC (bhd X.2.1)) := ⟨rfl, rfl⟩
  have e1 : fmT 1 X = lowT X.2.1 (bC (bhd X.2.1)) ∧ fmB 1 X = lowB X.2.1 (bC (bhd X.2.1)) := ⟨rfl, rfl⟩
  have e2 : fmT 2 X = lowT X.2.2 (bC (bhd X.2.2)) ∧ fmB 2 X = lowB X.2.2 (bC (bhd X.2.2)) := ⟨rfl, rfl⟩
  rw [e0.1, e0.2] at m0
  rw [e1.1, e1.2] at m1
  rw [e2.1, e2.2] at m2
  have hb := bhd_ne I.b
  have hc := bhd_ne I.c
  obtain ⟨s0, g0, s0n, g0n, b0, p0, f0⟩ := low_C hb I.a
  obtain ⟨s1, g1, s1n, g1n, b1, p1, f1⟩ := low_C hb I.b
  obtain ⟨s2, g2, s2n, g2n, b2', p2, f2⟩ := low_C hc I.c
  have z0' := (lowC_sz hb I.a).1
  have z1' := (lowC_sz hb I.b).1
  have z2' := (lowC_sz hc I.c).1
  have t0 := lowT_ne I.a (bC_ne hb)
  have t1 := lowT_ne I.b (bC_ne hb)
  have t2 := lowT_ne I.c (bC_ne hc)
  rw [b0] at m0
  rw [b1] at m1
  have d0 : bdv (bC g0) T := bdv_trans (bdv_iff.mpr ⟨_, f0⟩) I.da
  have d1 : bdv (bC g1) B := bdv_trans (bdv_iff.mpr ⟨_, f1⟩) I.db
  have k0 : udv g0 s1 := C_cop g0n cop d0 d1 (un_dv_eq.mpr ⟨s0, by rw [pmul_comm g1 s1, ← p1, p0, pmul_comm]⟩)
  have k1 : udv g1 s0 := C_cop g1n (by letI := plRing Fp; letI := @plRing Un (plRing Fp); exact copr_symm cop) d1 d0 (un_dv_eq.mpr ⟨s1, by rw [pmul_comm g0 s0, ← p0, p1, pmul_comm]⟩)
  have w0 := dv_sz fp_dom k0 s1n
  have w1 := dv_sz fp_dom k1 s0n
  have a0 := congrArg bsn f0
  have a1 := congrArg bsn f1
  have a2 := congrArg bsn f2
  rw [bsn_mul (bC_ne g0n) t0, bsn_C] at a0
  rw [bsn_mul (bC_ne g1n) t1, bsn_C] at a1
  rw [bsn_mul (bC_ne g2n) t2, bsn_C] at a2
  have q0 := m0.2.2
  have q1 := m1.2.2
  rw [bsn_C] at q0 q1
  have g2s : sz g2 ≤ 1 := by
    have := contU_gt X.2.2 (c := g2) (fun j => un_dv_eq.mpr ⟨bco (lowT X.2.2 (bC (bhd X.2.2))) j, by rw [← bco_Cmul, ← f2]⟩)
    rw [contU_prim pc] at this
    have := dv_sz fp_dom this (pC_ne (by decide))
    rw [sz_C (by decide)] at this
    exact this
  have r0 := m0.2.1
  have r1 := m1.2.1
  have r2 := m2.2.1
  have y0 := m0.1.1
  have y1 := m1.1.1
  have y2 := m2.1.1
  omega
