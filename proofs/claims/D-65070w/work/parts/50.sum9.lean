set_option maxRecDepth 100000
theorem td_ldv {p p' : Nat → Un} {N : Nat} (hN : 0 < N) (hl : p (N - 1) ≠ pz) (h : ∀ i, i < N → udv (tdF p N (N - 1)) (pmul (tdF p' N (N - 1)) (tdF p N i))) : udv (tdF p N (N - 1)) (tdF p' N (N - 1)) := by
  have u := td_unit hN hl
  have hn : tdF p N (N - 1) ≠ pz := fun w => by have := td_hd hN hl; rw [w] at this; unfold hd at this; rw [co_z] at this; exact absurd this (by decide)
  have en := gcF_ne (p := tdF p N) (j := N) (l := N - 1) (by omega) hn
  have e1 := sz1_hd en u ((gcF_hd (tdF p N) N).resolve_left en)
  have k := gcF_lin N h
  rw [e1, pmul_comm] at k
  have e5 : pmul (pC 1) (tdF p' N (N - 1)) = tdF p' N (N - 1) := pl_ext fun i => by rw [pC_mul]; grind
  rw [e5] at k
  exact k
/-- the same recurrence for each scale -/
theorem td_eq {p p' : Nat → Un} {N : Nat} (hN : 0 < N) (hl : p (N - 1) ≠ pz) (hl' : p' (N - 1) ≠ pz) (h : ∀ i, i < N → pmul (p' (N - 1)) (p i) = pmul (p (N - 1)) (p' i)) {i : Nat} (hi : i < N) : tdF p N i = tdF p' N i := by
  have c := fun i hi => td_uniq hN hl hl' h (i := i) hi
  have d1 := td_ldv (p' := p') hN hl (fun i hi => un_dv_eq.mpr ⟨_, c i hi⟩)
  have d2 := td_ldv (p' := p) hN hl' (fun i hi => un_dv_eq.mpr ⟨_, (c i hi).symm⟩)
  have e := assoc_eq fp_dom d1 d2 (by rw [td_hd hN hl, td_hd hN hl'])
  have hn : tdF p' N (N - 1) ≠ pz := fun w => by have := td_hd hN hl'; rw [w] at this; unfold hd at this; rw [co_z] at this; exact absurd this (by decide)
  have w := c i hi
  rw [e] at w
  letI := plRing Fp
  exact dom_cancel un_dom (c := tdF p' N (N - 1)) (fun q => hn q) w
