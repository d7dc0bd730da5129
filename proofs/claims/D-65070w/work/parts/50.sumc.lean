set_option maxRecDepth 100000
/-- a sum does not hang on the scale -/
theorem sum_free {xs hh : Nat} (hx : xs ≤ hh) {z z' : Nat → Un} (hz : z hh ≠ pz) (hz' : z' hh ≠ pz) (h : ∀ j, pmul (z' hh) (z j) = pmul (z hh) (z' j)) : (∀ i, i < hh - xs + 1 → tdF (fun i => z (xs + i)) (hh - xs + 1) i = tdF (fun i => z' (xs + i)) (hh - xs + 1) i) ∧ bmul (bC (tdC (fun i => z' (xs + i)) (hh - xs + 1))) (solX z xs) = bmul (bC (tdC (fun i => z (xs + i)) (hh - xs + 1))) (solX z' xs) := by
  have el : xs + (hh - xs + 1 - 1) = hh := by omega
  have l1 : (fun i => z (xs + i)) (hh - xs + 1 - 1) ≠ pz := by show z (xs + (hh - xs + 1 - 1)) ≠ pz; rw [el]; exact hz
  have l2 : (fun i => z' (xs + i)) (hh - xs + 1 - 1) ≠ pz := by show z' (xs + (hh - xs + 1 - 1)) ≠ pz; rw [el]; exact hz'
  have te := fun i hi => td_eq (p := fun i => z (xs + i)) (p' := fun i => z' (xs + i)) (N := hh - xs + 1) (by omega) l1 l2 (fun i _ => by show pmul (z' (xs + (hh - xs + 1 - 1))) (z (xs + i)) = pmul (z (xs + (hh - xs + 1 - 1))) (z' (xs + i)); rw [el]; exact h _) (i := i) hi
  refine ⟨te, ?_⟩
  have a := td_mul (p := fun i => z (xs + i)) (N := hh - xs + 1) (by omega) l1 (i := hh - xs) (by omega)
  have b := td_mul (p := fun i => z' (xs + i)) (N := hh - xs + 1) (by omega) l2 (i := hh - xs) (by omega)
  rw [← te (hh - xs) (by omega)] at b
  rw [show xs + (hh - xs) = hh by omega] at a b
  refine b_ext fun j => ?_
  rw [bco_Cmul, bco_Cmul, solX_co, solX_co]
  by_cases c : j < xs
  · rw [if_pos c, if_pos c]
    have w := h j
    rw [a, b] at w
    have nz : tdF (fun i => z (xs + i)) (hh - xs + 1) (hh - xs) ≠ pz := fun q => hz (by rw [a, q, (szmul_z _).1])
    generalize tdF (fun i => z (xs + i)) (hh - xs + 1) (hh - xs) = t at *
    generalize tdC (fun i => z (xs + i)) (hh - xs + 1) = k at *
    generalize tdC (fun i => z' (xs + i)) (hh - xs + 1) = k' at *
    generalize z j = x at *
    generalize z' j = x' at *
    letI := plRing Fp
    refine dom_cancel un_dom (c := t) (fun q => nz q) ?_
    have w' : (k' * t) * x = (k * t) * x' := w
    show t * (k' * x) = t * (k * x')
    grind
  · rw [if_neg c, if_neg c, (szmul_z _).1, (szmul_z _).1]
