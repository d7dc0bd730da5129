set_option maxRecDepth 100000
/-! SUMS: x and its divisor share nothing -/
theorem gcR_gt {g : Un} {X : Bi} {c : Un} (h1 : udv c g) (h2 : ∀ j, udv c (bco X j)) : ∀ m, udv c (gcR g X m)
  | 0 => h1
  | m + 1 => (gcdU_is (gcR g X m) (bco X m)).2.2 c (gcR_gt h1 h2 m) (h2 m)
theorem slX_co {g : Un} (hg : g ≠ pz) (X : Bi) (j : Nat) : bco X j = pmul (gcR g X (bsz X)) (bco (slX g X) j) := by
  have hr := gcR_ne hg X (bsz X)
  have dv := (gcR_dv g X (bsz X)).2
  by_cases c : j < bsz X
  · have e : bco (slX g X) j = uq (bco X j) (gcR g X (bsz X)) := pl_ext fun i => by
      show cc (slX g X) j i = _
      unfold slX
      rw [cc_b2]
      by_cases c2 : i < bsn X
      · rw [if_pos ⟨c, c2⟩]
      · rw [if_neg (fun u => c2 u.2), sz_le _ i]
        have := uq_sz hr (dv j c)
        have := bsn_le X j
        omega
    rw [e]; exact uq_mul (dv j c)
  · have e : bco (slX g X) j = pz := pl_ext fun i => by
      show cc (slX g X) j i = _
      unfold slX
      rw [cc_b2, if_neg (fun u => c u.1), co_z]
    rw [e, (szmul_z _).1, bsz_le X j (by omega)]
theorem sl_cop {g : Un} (hg : g ≠ pz) {x : Fp} (hx : x ≠ 0) {X : Bi} {c : Un} (h1 : udv c (slU x g X)) (h2 : ∀ j, udv c (bco (slX g X) j)) : sz c ≤ 1 := by
  have hr := gcR_ne hg X (bsz X)
  have dv := (gcR_dv g X (bsz X)).1
  have eX := slX_co hg X
  generalize hR : gcR g X (bsz X) = r at *
  have cz : c ≠ pz := fun w => by
    rw [w] at h1
    have e := udv_of_z h1
    obtain ⟨s, es⟩ := un_dv_eq.mp dv
    have : slU x g X = pmul (pC x) s := by
      unfold slU
      rw [hR]
      refine uq_eq hr ?_
      rw [es]
      generalize pC x = x'
      letI := plRing Fp
      show x' * (r * s) = r * (x' * s)
      grind
    rw [this] at e
    have sn : s ≠ pz := fun w => hg (by rw [es, w, (szmul_z _).1])
    have := (sz_mul fp_dom (pC_ne hx) sn).1
    rw [e, sz_z, sz_C hx] at this
    have := sz_pos sn
    omega
  have k1 : udv (pmul c r) g := by
    obtain ⟨s, es⟩ := un_dv_eq.mp dv
    obtain ⟨t, et⟩ := un_dv_eq.mp h1
    have e2 : slU x g X = pmul (pC x) s := by
      unfold slU
      rw [hR]
      refine uq_eq hr ?_
      rw [es]
      generalize pC x = x'
      letI := plRing Fp
      show x' * (r * s) = r * (x' * s)
      grind
    refine un_dv_eq.mpr ⟨pmul (pC (iv x)) t, ?_⟩
    have e3 : pmul (pC (iv x)) (pC x) = pC 1 := by
      have := iv_mul hx
      generalize iv x = w at this
      refine pl_ext fun i => ?_
      rw [pC_mul, co_C, co_C]
      by_cases k : i = 0
      · rw [if_pos k, if_pos k]; grind
      · rw [if_neg k, if_neg k]; grind
    have e4 : s = pmul (pC (iv x)) (pmul c t) := by
      rw [← et, e2]
      generalize pC (iv x) = a, pC x = b at *
      have e5 : pmul (pC 1) s = s := pl_ext fun i => by rw [pC_mul]; grind
      rw [← e3] at e5
      letI := plRing Fp
      have e6 : (a * b) * s = s := e5
      show s = a * (b * s)
      grind
    rw [es]
    generalize pC (iv x) = a at *
    letI := plRing Fp
    have e7 : s = a * (c * t) := e4
    show r * s = (c * r) * (a * t)
    rw [e7]; grind
  have k2 : ∀ j, udv (pmul c r) (bco X j) := fun j => by
    obtain ⟨t, et⟩ := un_dv_eq.mp (h2 j)
    refine un_dv_eq.mpr ⟨t, ?_⟩
    rw [eX j, et]
    letI := plRing Fp
    show r * (c * t) = (c * r) * t
    grind
  have k3 := gcR_gt k1 k2 (bsz X)
  rw [hR] at k3
  have s := dv_sz fp_dom k3 hr
  rw [(sz_mul fp_dom cz hr).1] at s
  have := sz_pos hr
  omega
