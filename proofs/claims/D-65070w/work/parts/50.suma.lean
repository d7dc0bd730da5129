set_option maxRecDepth 100000
theorem low_cross {F G F' G' : Bi} (hG : G ≠ bz) (hG' : G' ≠ bz) (h : bmul F G' = bmul F' G) : lowT F G = lowT F' G' ∧ lowB F G = lowB F' G' := by
  have l := low_is F hG
  refine low_eq hG' ⟨?_, l.2⟩
  have e := l.1
  generalize lowT F G = T, lowB F G = B at *
  letI := plRing Fp
  letI := @plRing Un (plRing Fp)
  refine dom_cancel bi_dom (c := G) (fun w => hG w) ?_
  have e' : T * G = F * B := e
  have h' : F * G' = F' * G := h
  show G * (T * G') = G * (F' * B)
  grind
