set_option maxRecDepth 100000
/-! ALGEBRA: polynomials over a field -/
section
variable {K : Type}
def Fld (K : Type) [Lean.Grind.CommRing K] : Prop := Dom K ∧ ∀ a : K, a ≠ 0 → ∃ b, a * b = 1
theorem pz_def [Lean.Grind.CommRing K] : (pz : Pl K) = @OfNat.ofNat (Pl K) 0 ((plRing K).ofNat 0) := rfl
theorem p1_def [Lean.Grind.CommRing K] : (pC 1 : Pl K) = @OfNat.ofNat (Pl K) 1 ((plRing K).ofNat 1) := rfl
theorem bez [Lean.Grind.CommRing K] (hF : Fld K) : ∀ (n : Nat) (p q : Pl K), sz q ≤ n → ∃ g u v : Pl K, g = padd (pmul u p) (pmul v q) ∧ @dv (Pl K) (plRing K) g p ∧ @dv (Pl K) (plRing K) g q := by
  letI := plRing K
  intro n
  induction n with
  | zero =>
    intro p q hq
    have hz : q = pz := sz_0 (by omega)
    refine ⟨p, pC 1, pz, ?_, dv_refl p, ?_⟩
    · have : ∀ A B : Pl K, A = 1 * A + 0 * B := by intros; grind
      exact this p q
    · rw [hz]; exact dv_zero p
  | succ n ih =>
    intro p q hq
    by_cases hz : q = pz
    · refine ⟨p, pC 1, pz, ?_, dv_refl p, ?_⟩
      · have : ∀ A B : Pl K, A = 1 * A + 0 * B := by intros; grind
        exact this p q
      · rw [hz]; exact dv_zero p
    · obtain ⟨b, hb⟩ := hF.2 (hd q) (hd_ne hz)
      obtain ⟨s, r, e, hr⟩ := pdivmod hz hb (sz p) p (Nat.le_refl _)
      obtain ⟨g, u, v, h1, h2, h3⟩ := ih q r (by omega)
      have e' : p = q * s + r := e
      refine ⟨g, v, u - v * s, ?_, ?_, h2⟩
      · have h1' : g = u * q + v * r := h1
        show g = v * p + (u - v * s) * q
        rw [h1', e']; grind
      · rw [e']
        exact dv_add (dv_mul s h2) h3
theorem pl_gcd [Lean.Grind.CommRing K] (hF : Fld K) : @GcdD (Pl K) (plRing K) := by
  letI := plRing K
  intro p q
  obtain ⟨g, u, v, h1, h2, h3⟩ := bez hF (sz q) p q (Nat.le_refl _)
  refine ⟨g, h2, h3, fun c hc1 hc2 => ?_⟩
  have h1' : g = u * p + v * q := h1
  rw [h1']
  exact dv_add (dv_mul' u hc1) (dv_mul' v hc2)
theorem dv_sz [Lean.Grind.CommRing K] (hD : Dom K) {p q : Pl K} (h : @dv (Pl K) (plRing K) p q) (hq : q ≠ pz) : sz p ≤ sz q := by
  obtain ⟨c, e⟩ := h
  have e' : q = pmul p c := e
  have hp : p ≠ pz := fun z => hq (by
    rw [e', z]
    letI := plRing K
    exact Lean.Grind.Semiring.zero_mul c)
  have hc : c ≠ pz := fun z => hq (by
    rw [e', z]
    letI := plRing K
    exact Lean.Grind.Semiring.mul_zero p)
  have := (sz_mul hD hp hc).1
  rw [← e'] at this
  have := sz_pos hc
  omega
theorem unit_sz [Lean.Grind.CommRing K] (hD : Dom K) {p : Pl K} (h : @dv (Pl K) (plRing K) p (pC 1)) : sz p = 1 := by
  have h1 := dv_sz hD h (pC_ne hD.2)
  rw [sz_C hD.2] at h1
  have : p ≠ pz := @unit_ne (Pl K) (plRing K) (pl_dom hD) p h
  have := sz_pos this
  omega
theorem sz1_unit [Lean.Grind.CommRing K] (hF : Fld K) {p : Pl K} (h : sz p = 1) : @dv (Pl K) (plRing K) p (pC 1) := by
  have h1 := sz_1C (p := p) (by omega)
  have h2 : co p 0 ≠ 0 := sz_top h
  obtain ⟨b, hb⟩ := hF.2 _ h2
  refine ⟨pC b, ?_⟩
  show pC 1 = pmul p (pC b)
  rw [h1]
  refine pl_ext fun i => ?_
  rw [pC_mul, co_C, co_C, ← hb]
  split <;> grind
theorem szmul_z [Lean.Grind.CommRing K] (p : Pl K) : pmul p pz = pz ∧ pmul pz p = pz := by
  letI := plRing K
  exact ⟨Lean.Grind.Semiring.mul_zero p, Lean.Grind.Semiring.zero_mul p⟩
theorem hd_mul [Lean.Grind.CommRing K] (hD : Dom K) (p q : Pl K) : hd (pmul p q) = hd p * hd q := by
  by_cases hp : p = pz
  · rw [hp, (szmul_z q).2, hd_z]; grind
  · by_cases hq : q = pz
    · rw [hq, (szmul_z p).1, hd_z]; grind
    · exact (sz_mul hD hp hq).2
theorem hd_eq0 [Lean.Grind.CommRing K] {p : Pl K} (h : hd p = 0) : p = pz := Classical.byContradiction fun c => hd_ne c h
/-- divisors of each other with the same head are the same -/
theorem assoc_eq [Lean.Grind.CommRing K] (hD : Dom K) {p q : Pl K} (h1 : @dv (Pl K) (plRing K) p q) (h2 : @dv (Pl K) (plRing K) q p) (h : hd p = hd q) : p = q := by
  obtain ⟨u, hu, e⟩ := @dv_anti (Pl K) (plRing K) (pl_dom hD) p q h1 h2
  have e' : q = pmul p u := e
  have hz := sz_1C (p := u) (by rw [unit_sz hD hu]; omega)
  by_cases hp : p = pz
  · rw [e', hp, (szmul_z u).2]
  · have h3 := hd_mul hD p u
    rw [← e', ← h] at h3
    have hu1 : hd u = 1 := by
      have := hd_ne hp
      have h4 : hd p * (hd u - 1) = 0 := by grind
      rcases hD.1 _ _ h4 with h5 | h5
      · exact absurd h5 this
      · generalize hd u = y at h5 ⊢; grind
    rw [hz, hd_C] at hu1
    rw [e', hz, hu1]
    refine pl_ext fun i => ?_
    rw [pmul_comm, pC_mul]; grind
/-- the factor of a root -/
theorem root_dv [Lean.Grind.CommRing K] (p : Pl K) (a : K) : ∃ s, p = padd (pmul (psub (pX 1) (pC a)) s) (pC (ev p a)) := by
  have hX : co (psub (pX 1) (pC a)) 1 = 1 := by rw [co_sub, co_X, co_C, if_pos rfl, if_neg (by omega)]; grind
  have key : ∀ n (p : Pl K), sz p ≤ n → ∃ s c, p = padd (pmul (psub (pX 1) (pC a)) s) (pC c) := by
    intro n
    induction n with
    | zero =>
      intro p h
      refine ⟨pz, 0, ?_⟩
      rw [sz_0 (p := p) (by omega)]
      refine pl_ext fun i => ?_
      rw [(szmul_z _).1, co_add, co_z, co_C]
      split <;> grind
    | succ n ih =>
      intro p h
      have hs : szle (mkP (fun j => co p (j + 1)) (sz p - 1)) (sz p - 1) := szle_mkP _ _
      obtain ⟨s, c, e⟩ := ih (mkP (fun j => co p (j + 1)) (sz p - 1)) (by have := sz_min hs; omega)
      refine ⟨padd (mkP (fun j => co p (j + 1)) (sz p - 1)) (pmul (pC a) s), co p 0 + a * c, ?_⟩
      have e1 : p = padd (pmul (pX 1) (mkP (fun j => co p (j + 1)) (sz p - 1))) (pC (co p 0)) := pl_ext fun i => by
        rw [co_add, co_Xmul, co_C, co_mkP]
        by_cases h0 : i = 0
        · rw [if_neg (by omega), if_pos h0, h0]; grind
        · rw [if_pos (by omega), if_neg h0]
          by_cases h1 : i - 1 < sz p - 1
          · rw [if_pos h1, show i - 1 + 1 = i by omega]; grind
          · rw [if_neg h1, sz_le p i (by omega)]; grind
      generalize mkP (fun j => co p (j + 1)) (sz p - 1) = T at e e1
      have e2 : pC (co p 0 + a * c) = padd (pC (co p 0)) (pmul (pC a) (pC c)) := pl_ext fun i => by
        rw [co_add, pC_mul, co_C, co_C, co_C]; split <;> grind
      rw [e2]
      generalize pC (co p 0) = C0 at e1
      rw [e1]
      letI := plRing K
      have e' : T = (pX 1 - pC a) * s + pC c := e
      show pX 1 * T + C0 = (pX 1 - pC a) * (T + pC a * s) + (C0 + pC a * pC c)
      generalize pC c = cc at e'
      generalize pC a = aa at e' ⊢
      generalize (pX 1 : Pl K) = xx at e' ⊢
      have : aa * T = aa * ((xx - aa) * s + cc) := by rw [← e']
      grind
  obtain ⟨s, c, e⟩ := key (sz p) p (Nat.le_refl _)
  refine ⟨s, ?_⟩
  have h1 : ev p a = c := by
    rw [e, ev_add, ev_mul, ev_sub, ev_X1, ev_C, ev_C]; grind
  rw [h1]; exact e
theorem szX1 [Lean.Grind.CommRing K] (hD : Dom K) (a : K) : sz (psub (pX 1) (pC a)) = 2 ∧ hd (psub (pX 1) (pC a)) = 1 := by
  have hX : co (psub (pX 1) (pC a)) 1 = 1 := by rw [co_sub, co_X, co_C, if_pos rfl, if_neg (by omega)]; grind
  have h1 : sz (psub (pX 1) (pC a)) = 2 := sz_eq (n := 1) (fun i hi => by rw [co_sub, co_X, co_C, if_neg (by omega), if_neg (by omega)]; grind) (by rw [hX]; exact hD.2)
  refine ⟨h1, ?_⟩
  unfold hd
  rw [h1]; exact hX
/-- at most as many roots as the degree -/
theorem roots_le [Lean.Grind.CommRing K] (hD : Dom K) : ∀ (n : Nat) (x : Nat → K) (p : Pl K), (∀ i j, i < n → j < n → x i = x j → i = j) → (∀ i, i < n → ev p (x i) = 0) → sz p ≤ n → p = pz := by
  intro n
  induction n with
  | zero => intro x p _ _ h; exact sz_0 (by omega)
  | succ n ih =>
    intro x p hx hr hs
    obtain ⟨s, e⟩ := root_dv p (x n)
    rw [hr n (by omega)] at e
    have e1 : p = pmul (psub (pX 1) (pC (x n))) s := by
      rw [e]
      exact pl_ext fun i => by
        rw [co_add, co_C]
        split <;> grind
    by_cases hz : s = pz
    · rw [e1, hz, (szmul_z _).1]
    · refine absurd (ih x s (fun i j hi hj => hx i j (by omega) (by omega)) (fun i hi => ?_) ?_) hz
      · have h1 := hr i (by omega)
        rw [e1, ev_mul, ev_sub, ev_X1, ev_C] at h1
        rcases hD.1 _ _ h1 with h2 | h2
        · have : x i = x n := by generalize x i = y at h2 ⊢; generalize x n = z at h2 ⊢; grind
          have := hx i n (by omega) (by omega) this
          omega
        · exact h2
      · have hne : psub (pX 1) (pC (x n)) ≠ pz := fun z => by
          have := (szX1 hD (x n)).1
          rw [z, sz_z] at this; omega
        have := (sz_mul hD hne hz).1
        rw [← e1, (szX1 hD (x n)).1] at this
        omega
theorem interp_uniq [Lean.Grind.CommRing K] (hD : Dom K) {n : Nat} {x : Nat → K} {p q : Pl K} (hx : ∀ i j, i < n → j < n → x i = x j → i = j) (hr : ∀ i, i < n → ev p (x i) = ev q (x i)) (h1 : sz p ≤ n) (h2 : sz q ≤ n) : p = q := by
  have h3 := roots_le hD n x (psub p q) hx (fun i hi => by rw [ev_sub, hr i hi]; grind) (sz_min (szle_sub (szle_mono (sz_le p) h1) (szle_mono (sz_le q) h2)))
  refine pl_ext fun i => ?_
  have h4 : co (psub p q) i = 0 := by rw [h3, co_z]
  rw [co_sub] at h4
  generalize co p i = y at h4 ⊢
  generalize co q i = z at h4 ⊢
  grind
end
theorem fp_fld : Fld Fp := ⟨fp_dom, fun a ha => ⟨_, fp_inv ha⟩⟩
