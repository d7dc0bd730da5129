set_option maxRecDepth 100000
theorem slX_mul {g : Un} (hg : g ≠ pz) (X : Bi) : X = bmul (bC (gcR g X (bsz X))) (slX g X) := b_ext fun j => by rw [bco_Cmul]; exact slX_co hg X j
theorem slU_mul {g : Un} (x : Fp) (X : Bi) : pmul (pC x) g = pmul (gcR g X (bsz X)) (slU x g X) := by
  have dv := (gcR_dv g X (bsz X)).1
  obtain ⟨s, es⟩ := un_dv_eq.mp dv
  unfold slU
  refine uq_mul (un_dv_eq.mpr ⟨pmul (pC x) s, ?_⟩)
  generalize gcR g X (bsz X) = r at *
  rw [es]
  generalize pC x = x'
  letI := plRing Fp
  show x' * (r * s) = r * (x' * s)
  grind
/-- what is shared changes nothing -/
theorem low_sl {g : Un} (hg : g ≠ pz) {x : Fp} (hx : x ≠ 0) {X Mv C q : Bi} {hQ dl : Un} (hd : dl ≠ pz) (hC : C ≠ bz) (hq : q ≠ bz) (hu : slU x g X ≠ pz) (hu' : pmul (pC x) g ≠ pz) : lowT (gsF hQ Mv (slX g X)) (gsG dl (slU x g X) C q) = lowT (gsF hQ Mv X) (gsG dl (pmul (pC x) g) C q) ∧ lowB (gsF hQ Mv (slX g X)) (gsG dl (slU x g X) C q) = lowB (gsF hQ Mv X) (gsG dl (pmul (pC x) g) C q) := by
  refine low_cross (gsG_ne hd hu hC hq) (gsG_ne hd hu' hC hq) ?_
  have eX := slX_mul hg X
  have eU := slU_mul (g := g) x X
  unfold gsF gsG
  rw [eU, ← b_CC]
  generalize slX g X = Y at *
  generalize bC (gcR g X (bsz X)) = r at *
  generalize bC (slU x g X) = u, bC hQ = a, bC dl = b at *
  rw [eX]
  letI := plRing Fp
  letI := @plRing Un (plRing Fp)
  show (a * (Mv * Y)) * (b * ((r * u) * (C * q))) = (a * (Mv * (r * Y))) * (b * (u * (C * q)))
  grind
