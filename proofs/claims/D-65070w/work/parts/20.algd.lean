set_option maxRecDepth 100000
/-! ALGEBRA: resultants by Euclid -/
section
variable {K : Type}
theorem div_sz [Lean.Grind.CommRing K] (hD : Dom K) {f g s r : Pl K} {m n : Nat} (hf : sz f = m + 1) (hg : sz g = n + 1) (e : f = padd (pmul s g) r) (hr : sz r < sz g) : szle s (m + 1 - n) := by
  by_cases hs : s = pz
  · rw [hs]; exact fun i _ => co_z i
  have hgz : g ≠ pz := fun z => by rw [z, sz_z] at hg; omega
  have h1 := (sz_mul hD hs hgz).1
  have h2 : pmul s g = psub f r := pl_ext fun i => by rw [e, co_sub, co_add]; grind
  have hsp := sz_pos hs
  by_cases hrm : sz r ≤ m + 1
  · have h3 : sz (psub f r) ≤ m + 1 := sz_min (szle_sub (szle_mono (sz_le f) (by omega)) (szle_mono (sz_le r) hrm))
    rw [← h2, h1] at h3
    exact szle_mono (sz_le s) (by omega)
  · have h3 : sz (psub f r) ≤ sz r := sz_min (szle_sub (szle_mono (sz_le f) (by omega)) (sz_le r))
    rw [← h2, h1] at h3
    omega
theorem res_low [Lean.Grind.CommRing K] {f g s r : Pl K} {m n : Nat} (hD : Dom K) (hf : sz f = m + 1) (hg : sz g = n + 1) (e : f = padd (pmul s g) r) (hr : sz r < sz g) {d k : Nat} (hd : sz r = d + 1) (hk : m = d + k) : det (m + n) (syl m n (co f) (co g)) = (sgn n * co g n) ^ k * det (d + n) (syl d n (co r) (co g)) := by
  rw [syl_modp (szle_mono (sz_le g) (by omega)) (div_sz hD hf hg e hr) e, hk]
  exact syl_dropp n d (co r) (co g) k (fun j hj => sz_le r j (by omega))
theorem res_swap [Lean.Grind.CommRing K] (hF : Fld K) : ∀ (N m n : Nat) (f g : Pl K), m + n ≤ N → sz f = m + 1 → sz g = n + 1 → det (m + n) (syl m n (co f) (co g)) = sgn (m * n) * det (n + m) (syl n m (co g) (co f)) := by
  intro N
  induction N with
  | zero =>
    intro m n f g h hf hg
    have h1 : m = 0 := by omega
    have h2 : n = 0 := by omega
    subst h1; subst h2
    show (1 : K) = 1 * 1
    grind
  | succ N ih =>
    have main : ∀ (m n : Nat) (f g : Pl K), n ≤ m → m + n ≤ N + 1 → sz f = m + 1 → sz g = n + 1 → det (m + n) (syl m n (co f) (co g)) = sgn (m * n) * det (n + m) (syl n m (co g) (co f)) := by
      intro m n f g hnm h hf hg
      by_cases hn : n = 0
      · subst hn
        rw [Nat.zero_add, syl_m0]
        show det m (syl m 0 (co f) (co g)) = sgn 0 * _
        rw [syl_n0]
        show _ = (1 : K) * _
        grind
      · have hgz : g ≠ pz := fun z => by rw [z, sz_z] at hg; omega
        obtain ⟨b, hb⟩ := hF.2 (hd g) (hd_ne hgz)
        obtain ⟨s, r, e, hr⟩ := pdivmod hgz hb (sz f) f (Nat.le_refl _)
        rw [pmul_comm] at e
        have hs := div_sz hF.1 hf hg e hr
        have e2 : det (n + m) (syl n m (co g) (co f)) = det (n + m) (syl n m (co g) (co r)) := syl_modq (szle_mono (sz_le g) (by omega)) hs e
        by_cases hrz : r = pz
        · rw [syl_modp (szle_mono (sz_le g) (by omega)) hs e, e2, syl_pz (by omega) _ _ (fun j => by rw [hrz, co_z]), syl_qz (by omega) _ _ (fun j => by rw [hrz, co_z])]
          grind
        · have hrp := sz_pos hrz
          obtain ⟨d, hd'⟩ : ∃ d, sz r = d + 1 := ⟨sz r - 1, by omega⟩
          obtain ⟨k, hk⟩ : ∃ k, m = d + k := ⟨m - d, by omega⟩
          rw [res_low hF.1 hf hg e hr hd' hk, e2, ih d n r g (by omega) hd' hg]
          subst hk
          rw [syl_dropq n d (co g) (co r) k (fun j hj => sz_le r j (by omega)), pow_mul_pow, sgn_pow, show (d + k) * n = n * k + d * n by rw [Nat.add_mul, Nat.mul_comm k n, Nat.add_comm], sgn_add]
          grind
    intro m n f g h hf hg
    by_cases hnm : n ≤ m
    · exact main m n f g hnm h hf hg
    · have h1 := main n m g f (by omega) (by omega) hg hf
      rw [h1, Nat.mul_comm n m]
      have := sgn_sq (R := K) (m * n)
      generalize det (m + n) (syl m n (co f) (co g)) = X
      have e : sgn (m * n) * (sgn (m * n) * X) = sgn (m * n) * sgn (m * n) * X := by grind
      rw [e, this]; grind
/-- one step of Euclid -/
theorem res_step [Lean.Grind.CommRing K] (hF : Fld K) {f g s r : Pl K} {m n : Nat} (hf : sz f = m + 1) (hg : sz g = n + 1) (hn : 0 < n) (e : f = padd (pmul s g) r) (hr : sz r < sz g) : (r = pz → det (m + n) (syl m n (co f) (co g)) = 0) ∧ ∀ d, sz r = d + 1 → d ≤ m ∧ det (m + n) (syl m n (co f) (co g)) = hd g ^ (m - d) * sgn (m * n) * det (n + d) (syl n d (co g) (co r)) := by
  have hs := div_sz hF.1 hf hg e hr
  refine ⟨fun hz => ?_, fun d hd' => ?_⟩
  · rw [syl_modp (szle_mono (sz_le g) (by omega)) hs e, syl_pz hn _ _ (fun j => by rw [hz, co_z])]
  · have hdm : d ≤ m := by
      by_cases hsz : s = pz
      · rw [hsz, (szmul_z g).2] at e
        have : f = r := by rw [e]; exact pl_ext fun i => by rw [co_add, co_z]; grind
        rw [← this] at hd'; omega
      · have := sz_pos hsz
        have := sz_min hs
        omega
    refine ⟨hdm, ?_⟩
    obtain ⟨k, hk⟩ : ∃ k, m = d + k := ⟨m - d, by omega⟩
    rw [res_low hF.1 hf hg e hr hd' hk, res_swap hF (d + n) d n r g (Nat.le_refl _) hd' hg]
    have hh : hd g = co g n := by unfold hd; rw [hg]; rfl
    subst hk
    rw [hh, show d + k - d = k by omega, pow_mul_pow, sgn_pow, show (d + k) * n = n * k + d * n by rw [Nat.add_mul, Nat.mul_comm k n, Nat.add_comm], sgn_add]
    grind
end
