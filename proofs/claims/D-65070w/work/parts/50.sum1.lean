set_option maxRecDepth 100000
/-! SUMS: what cancels in the answer -/
theorem unit_Cz {c : Un} (h0 : c ≠ pz) (h : sz c ≤ 1) : bdv (bC c) (bC (pC 1)) := by
  have e : c = pC (co c 0) := pl_ext fun i => by
    rw [co_C]
    by_cases w : i = 0
    · rw [if_pos w, w]
    · rw [if_neg w, sz_le c i (by omega)]
  have ne : co c 0 ≠ 0 := fun w => by
    rw [w] at e
    refine h0 (e.trans (pl_ext fun i => ?_))
    rw [co_C, co_z]; split <;> rfl
  rw [e]
  refine bdv_C (un_dv_eq.mpr ⟨pC (iv (co c 0)), ?_⟩)
  refine pl_ext fun i => ?_
  rw [pC_mul, co_C, co_C]
  have iv1 := iv_mul ne
  generalize iv (co c 0) = w at iv1
  by_cases k : i = 0
  · rw [if_pos k, if_pos k]; grind
  · rw [if_neg k, if_neg k]; grind
/-- a divisor without k that shares nothing with X goes into the rest -/
theorem u_dv {u : Un} (hu : u ≠ pz) {X G : Bi} (cop : ∀ c, udv c u → (∀ j, udv c (bco X j)) → sz c ≤ 1) (h : bdv (bC u) (bmul X G)) : bdv (bC u) G := by
  letI := plRing Fp
  letI := @plRing Un (plRing Fp)
  refine euclid bi_dom bi_gcd (b := X) (fun D d1 d2 => ?_) h
  have hC : bC u ≠ bz := fun w => by have := bsz_C hu; rw [w, bsz_z] at this; omega
  have s := (bdv_bsz d1 hC).1
  rw [bsz_C hu] at s
  have eD := bsz1_C s
  generalize bco D 0 = c at eD
  rw [eD] at d1 d2
  have k1 : udv c u := by
    obtain ⟨H, e⟩ := bdv_iff.mp d1
    refine un_dv_eq.mpr ⟨bco H 0, ?_⟩
    rw [← bco_Cmul, ← e]; rfl
  have k2 : ∀ j, udv c (bco X j) := fun j => by
    obtain ⟨H, e⟩ := bdv_iff.mp d2
    refine un_dv_eq.mpr ⟨bco H j, ?_⟩
    rw [e, bco_Cmul]
  have nz : c ≠ pz := fun w => hu (udv_of_z (w ▸ k1))
  rw [eD]
  exact unit_Cz nz (cop c k1 k2)
theorem bC_nz {u : Un} (h : u ≠ pz) : bC u ≠ bz := fun w => by have := bsz_C h; rw [w, bsz_z] at this; omega
/-- a sum that fits comes from small numbers -/
theorem sum_sz {X Mv C q : Bi} {u hQ dl : Un} (hX : X ≠ bz) (hM : Mv ≠ bz) (hC : C ≠ bz) (hq : q ≠ bz) (hu : u ≠ pz) (hh : hQ ≠ pz) (hd : dl ≠ pz) (cop : ∀ c, udv c u → (∀ j, udv c (bco X j)) → sz c ≤ 1) {F G : Bi} (eF : F = bmul (bC hQ) (bmul Mv X)) (eG : G = bmul (bC dl) (bmul (bC u) (bmul C q))) (f1 : fitB (lowT F G)) (f2 : fitB (lowB F G)) : sz u ≤ bsn Mv + sz hQ + 25 ∧ bsn X ≤ 25 + bsn C + bsn q + sz u + sz dl := by
  have nu := bC_nz hu
  have nh := bC_nz hh
  have nd := bC_nz hd
  have n1 := b_mulne hM hX
  have n2 := b_mulne hC hq
  have n3 := b_mulne nu n2
  have nF : F ≠ bz := by rw [eF]; exact b_mulne nh n1
  have nG : G ≠ bz := by rw [eG]; exact b_mulne nd n3
  have lw := low_is F nG
  have nT := lowT_ne nF nG
  have nB : lowB F G ≠ bz := fun w => by
    have e := lw.1
    rw [w, b_mulz'] at e
    exact b_mulne nT nG e
  generalize lowT F G = T at *
  generalize lowB F G = B at *
  have e := lw.1
  rw [eF, eG] at e
  have d1 : bdv (bC u) (bmul X (bmul (bC hQ) (bmul Mv B))) := by
    refine bdv_iff.mpr ⟨bmul T (bmul (bC dl) (bmul C q)), ?_⟩
    generalize bC u = u', bC hQ = h', bC dl = d' at *
    letI := plRing Fp
    letI := @plRing Un (plRing Fp)
    have e' : T * (d' * (u' * (C * q))) = h' * (Mv * X) * B := e
    show X * (h' * (Mv * B)) = u' * (T * (d' * (C * q)))
    grind
  have n4 := b_mulne hM nB
  have d2 := (bdv_bsz (u_dv hu cop d1) (b_mulne nh n4)).2
  rw [bsn_C, bsn_mul nh n4, bsn_mul hM nB, bsn_C] at d2
  have s := congrArg bsn e
  rw [bsn_mul nT (b_mulne nd n3), bsn_mul nd n3, bsn_mul nu n2, bsn_mul hC hq, bsn_mul (b_mulne nh n1) nB, bsn_mul nh n1, bsn_mul hM hX, bsn_C, bsn_C, bsn_C] at s
  have b1 := f1.1
  have b2 := f2.1
  have p1 := bsn_pos hX
  have p2 := bsn_pos hM
  have p3 := bsn_pos hC
  have p4 := bsn_pos hq
  have p5 := bsn_pos nT
  have p6 := bsn_pos nB
  have p7 := sz_pos hu
  have p8 := sz_pos hh
  have p9 := sz_pos hd
  omega
