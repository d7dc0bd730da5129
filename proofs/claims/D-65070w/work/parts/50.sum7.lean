set_option maxRecDepth 100000
theorem tdC_ne {p : Nat → Un} {N : Nat} (hN : 0 < N) (hl : p (N - 1) ≠ pz) : tdC p N ≠ pz := fun w => hl (by rw [td_mul hN hl (i := N - 1) (by omega), w]; exact (szmul_z _).2)
/-- a recurrence without what it shares is the same for each scale -/
theorem td_uniq {p p' : Nat → Un} {N : Nat} (hN : 0 < N) (hl : p (N - 1) ≠ pz) (hl' : p' (N - 1) ≠ pz) (h : ∀ i, i < N → pmul (p' (N - 1)) (p i) = pmul (p (N - 1)) (p' i)) {i : Nat} (hi : i < N) : pmul (tdF p' N (N - 1)) (tdF p N i) = pmul (tdF p N (N - 1)) (tdF p' N i) := by
  have a := td_mul hN hl hi
  have a' := td_mul hN hl' hi
  have b := td_mul hN hl (i := N - 1) (by omega)
  have b' := td_mul hN hl' (i := N - 1) (by omega)
  have n1 := tdC_ne hN hl
  have n2 := tdC_ne hN hl'
  have e := h i hi
  rw [a, a', b, b'] at e
  have n3 : pmul (tdC p N) (tdC p' N) ≠ pz := fun w => by
    have := (sz_mul fp_dom n1 n2).1
    rw [w, sz_z] at this
    have := sz_pos n1
    have := sz_pos n2
    omega
  generalize tdC p N = c, tdC p' N = c' at *
  generalize tdF p N i = x, tdF p' N i = x', tdF p N (N - 1) = y, tdF p' N (N - 1) = y' at *
  letI := plRing Fp
  refine dom_cancel un_dom (c := c * c') (fun w => n3 w) ?_
  have e' : (c' * y') * (c * x) = (c * y) * (c' * x') := e
  show (c * c') * (y' * x) = (c * c') * (y * x')
  grind
