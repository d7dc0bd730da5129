set_option maxRecDepth 100000
/-! SUMS: the spec of what is found -/
theorem isSol_L {R : Type} [Lean.Grind.CommRing R] {L L' N f h : Nat} {A : Nat → Nat → R} (e : ∀ z, kerv L N A z ↔ kerv L' N A z) {z : Nat → R} (k : isSol L N A f h z) : isSol L' N A f h z := by
  have hg : ∀ j, hang L' N A j → hang L N A j := fun j ⟨w, w1, w2, w3⟩ => ⟨w, (e w).mpr w1, w2, w3⟩
  exact ⟨k.1, k.2.1, (e z).mp k.2.2.1, k.2.2.2.1, k.2.2.2.2.1, fun j hj hz q => k.2.2.2.2.2.1 j hj hz (hg j q), fun j h1 h2 q => k.2.2.2.2.2.2 j h1 h2 (hg j q)⟩
theorem kerv_L {L L' N : Nat} (hL : L ≤ L') {A : Nat → Nat → Un} (hz : ∀ i j, L ≤ i → j < N → A i j = pz) (z : Nat → Un) : @kerv Un (plRing Fp) L N A z ↔ @kerv Un (plRing Fp) L' N A z := by
  letI := plRing Fp
  refine ⟨fun k i hi => ?_, fun k i hi => k i (by omega)⟩
  by_cases c : i < L
  · exact k i c
  · exact sm_zero (fun j hj => by
      have : A i j = (0 : Un) := hz i j (by omega) hj
      rw [this]; grind)
/-- there is a solution; one of them -/
def hasS (N : Nat) (M : Nat → Nat → Un) (f : Nat) : Prop := ∃ hh, ∃ z, @isSol Un (plRing Fp) 24 N M f hh z
noncomputable def theH (N : Nat) (M : Nat → Nat → Un) (f : Nat) : Nat := @dite Nat (hasS N M f) (Classical.propDecidable _) (fun h => Classical.choose h) (fun _ => 0)
noncomputable def theZ (N : Nat) (M : Nat → Nat → Un) (f : Nat) : Nat → Un := @dite (Nat → Un) (hasS N M f) (Classical.propDecidable _) (fun h => Classical.choose (Classical.choose_spec h)) (fun _ _ => pz)
theorem the_is {N : Nat} {M : Nat → Nat → Un} {f : Nat} (h : hasS N M f) : @isSol Un (plRing Fp) 24 N M f (theH N M f) (theZ N M f) := by
  unfold theH theZ
  rw [dif_pos h, dif_pos h]
  exact Classical.choose_spec (Classical.choose_spec h)
theorem matB_z {A Mv C : Bi} {p : Nat → Bi} {xs L N : Nat} (hA : A ≠ bz) (hM : Mv ≠ bz) (h1 : max (bsz A) (bsz Mv) + xs ≤ L) (h2 : ∀ i, xs + i < N → bsz C + bsz (p i) ≤ L) : ∀ r c, L ≤ r → c < N → matB A Mv C p xs r c = pz := fun r c hr hc => by
  unfold matB
  refine bsz_le _ r ?_
  unfold colB
  by_cases k : c < xs
  · rw [if_pos k]
    have := (cX_sz hA hM c).2
    omega
  · rw [if_neg k]
    have a := bsz_sc_le (-1) (bmul C (p (c - xs)))
    have b := bsz_mul_le (F := C) (G := p (c - xs))
    have e := h2 (c - xs) (by omega)
    omega
