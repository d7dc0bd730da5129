set_option maxRecDepth 100000
/-! SUMS: what is found does not hang on the scale of a solution -/
theorem gcdU_lin {a b x e : Un} (h1 : udv e (pmul x a)) (h2 : udv e (pmul x b)) : udv e (pmul x (gcdU a b)) := by
  obtain ⟨g, u, v, e1, d1, d2⟩ := bez fp_fld (sz b) a b (Nat.le_refl _)
  have k := (gcdU_is a b)
  have dg : udv (gcdU a b) g := by
    obtain ⟨s, es⟩ := un_dv_eq.mp k.1
    obtain ⟨t, et⟩ := un_dv_eq.mp k.2.1
    refine un_dv_eq.mpr ⟨padd (pmul u s) (pmul v t), ?_⟩
    generalize gcdU a b = G at *
    letI := plRing Fp
    have e1' : g = u * a + v * b := e1
    have es' : a = G * s := es
    have et' : b = G * t := et
    show g = G * (u * s + v * t)
    grind
  have gd : udv g (gcdU a b) := k.2.2 g d1 d2
  obtain ⟨w, ew⟩ := un_dv_eq.mp gd
  obtain ⟨s, es⟩ := un_dv_eq.mp h1
  obtain ⟨t, et⟩ := un_dv_eq.mp h2
  refine un_dv_eq.mpr ⟨pmul (padd (pmul u s) (pmul v t)) w, ?_⟩
  rw [ew]
  letI := plRing Fp
  have e1' : g = u * a + v * b := e1
  have es' : x * a = e * s := es
  have et' : x * b = e * t := et
  show x * (g * w) = e * ((u * s + v * t) * w)
  rw [e1']
  grind
theorem gcF_lin {p : Nat → Un} {x e : Un} : ∀ j, (∀ i, i < j → udv e (pmul x (p i))) → udv e (pmul x (gcF p j))
  | 0, _ => by
    show udv e (pmul x pz)
    rw [(szmul_z x).1]
    letI := plRing Fp
    exact dv_zero (K := Un) e
  | j + 1, h => gcdU_lin (gcF_lin j (fun i hi => h i (by omega))) (h j (by omega))
