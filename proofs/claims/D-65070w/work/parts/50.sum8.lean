set_option maxRecDepth 100000
theorem td_hd {p : Nat → Un} {N : Nat} (hN : 0 < N) (hl : p (N - 1) ≠ pz) : hd (tdF p N (N - 1)) = 1 := by
  have hg := gcF_ne (j := N) (l := N - 1) (by omega) hl
  have el := uq_mul (gcF_dv p N (N - 1) (by omega))
  have un : uq (p (N - 1)) (gcF p N) ≠ pz := fun w => hl (by rw [el, w, (szmul_z _).1])
  have cn : hd (uq (p (N - 1)) (gcF p N)) ≠ 0 := hd_ne un
  unfold tdF
  have := iv_mul cn
  rw [hd_mul fp_dom, hd_C]
  generalize iv _ = w at *
  grind
theorem td_unit {p : Nat → Un} {N : Nat} (hN : 0 < N) (hl : p (N - 1) ≠ pz) : sz (gcF (tdF p N) N) ≤ 1 := by
  have hg := gcF_ne (j := N) (l := N - 1) (by omega) hl
  have dv := gcF_dv (tdF p N) N
  have hn : tdF p N (N - 1) ≠ pz := fun w => by have := td_hd hN hl; rw [w] at this; unfold hd at this; rw [co_z] at this; exact absurd this (by decide)
  have en := gcF_ne (j := N) (l := N - 1) (by omega) hn
  generalize gcF (tdF p N) N = e at *
  have k : udv (pmul (tdC p N) e) (pmul (pC 1) (gcF p N)) := gcF_lin N (fun i hi => by
    obtain ⟨s, es⟩ := un_dv_eq.mp (dv i hi)
    refine un_dv_eq.mpr ⟨s, ?_⟩
    have e5 : pmul (pC 1) (p i) = p i := pl_ext fun i => by rw [pC_mul]; grind
    rw [e5, td_mul hN hl hi, es]
    generalize tdC p N = c
    letI := plRing Fp
    show c * (e * s) = (c * e) * s
    grind)
  have e6 : pmul (pC 1) (gcF p N) = gcF p N := pl_ext fun i => by rw [pC_mul]; grind
  rw [e6] at k
  have s := dv_sz fp_dom k hg
  have cn := tdC_ne hN hl
  rw [(sz_mul fp_dom cn en).1] at s
  have s2 : sz (tdC p N) = sz (gcF p N) := by
    unfold tdC
    exact szC_mul (fun w => cn (by unfold tdC; rw [w]; exact pl_ext fun i => by rw [pC_mul, co_z]; grind)) _
  have := sz_pos hg
  have := sz_pos en
  omega
