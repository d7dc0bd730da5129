set_option maxRecDepth 100000
/-- the scale of a recurrence -/
noncomputable def tdC (p : Nat → Un) (N : Nat) : Un := pmul (pC (hd (uq (p (N - 1)) (gcF p N)))) (gcF p N)
theorem td_mul {p : Nat → Un} {N : Nat} (hN : 0 < N) (hl : p (N - 1) ≠ pz) {i : Nat} (hi : i < N) : p i = pmul (tdC p N) (tdF p N i) := by
  have hg := gcF_ne (j := N) (l := N - 1) (by omega) hl
  have e := uq_mul (gcF_dv p N i hi)
  have el := uq_mul (gcF_dv p N (N - 1) (by omega))
  have un : uq (p (N - 1)) (gcF p N) ≠ pz := fun w => hl (by rw [el, w, (szmul_z _).1])
  have cn : hd (uq (p (N - 1)) (gcF p N)) ≠ 0 := hd_ne un
  unfold tdC tdF
  generalize hd (uq (p (N - 1)) (gcF p N)) = c at *
  have e3 : pmul (pC (iv c)) (pC c) = pC 1 := by
    have := iv_mul cn
    generalize iv c = w at this
    refine pl_ext fun i => ?_
    rw [pC_mul, co_C, co_C]
    by_cases k : i = 0
    · rw [if_pos k, if_pos k]; grind
    · rw [if_neg k, if_neg k]; grind
  generalize pC (iv c) = a, pC c = b at *
  have e5 : pmul (pC 1) (p i) = p i := pl_ext fun i => by rw [pC_mul]; grind
  rw [← e3] at e5
  generalize uq (p i) (gcF p N) = u at *
  generalize gcF p N = G at *
  letI := plRing Fp
  have e6 : (a * b) * p i = p i := e5
  have e7 : p i = G * u := e
  show p i = (b * G) * (a * u)
  grind
