set_option maxRecDepth 100000
/-! ALGEBRA: Gauss -/
section
variable {R : Type}
def prim [Lean.Grind.CommRing R] (f : Pl R) : Prop := ∀ c, (∀ i, dv c (co f i)) → dv c 1
def isCont [Lean.Grind.CommRing R] (c : R) (f : Pl R) : Prop := (∀ i, dv c (co f i)) ∧ ∀ e, (∀ i, dv e (co f i)) → dv e c
def Prm [Lean.Grind.CommRing R] (p : R) : Prop := p ≠ 0 ∧ ¬ dv p 1 ∧ ∀ a b, dv p (a * b) → dv p a ∨ dv p b
def PD (R : Type) [Lean.Grind.CommRing R] : Prop := ∀ d : R, d ≠ 0 → ¬ dv d 1 → ∃ p, Prm p ∧ dv p d
theorem cont_ex [Lean.Grind.CommRing R] (hG : GcdD R) (f : Pl R) : ∃ c, isCont c f := by
  have key : ∀ n, ∃ c, (∀ i, i < n → dv c (co f i)) ∧ ∀ e, (∀ i, i < n → dv e (co f i)) → dv e c := by
    intro n
    induction n with
    | zero => exact ⟨0, fun i hi => absurd hi (Nat.not_lt_zero i), fun e _ => dv_zero e⟩
    | succ n ih =>
      obtain ⟨c, h1, h2⟩ := ih
      obtain ⟨g, g1, g2, g3⟩ := hG c (co f n)
      refine ⟨g, fun i hi => ?_, fun e he => g3 e (h2 e (fun i hi => he i (by omega))) (he n (by omega))⟩
      by_cases hin : i < n
      · exact dv_trans g1 (h1 i hin)
      · rw [show i = n by omega]; exact g2
  obtain ⟨c, h1, h2⟩ := key (sz f)
  refine ⟨c, fun i => ?_, fun e he => h2 e (fun i _ => he i)⟩
  by_cases hi : i < sz f
  · exact h1 i hi
  · rw [sz_le f i (by omega)]; exact dv_zero c
theorem prim_ne [Lean.Grind.CommRing R] (hD : Dom R) {f : Pl R} (h : prim f) : f ≠ pz := by
  intro e
  obtain ⟨c, hc⟩ := h 0 (fun i => by rw [e, co_z]; exact dv_zero 0)
  exact hD.2 (by rw [hc]; grind)
theorem dvC_co [Lean.Grind.CommRing R] {c : R} {f : Pl R} (h : ∀ i, dv c (co f i)) : ∃ f', f = pmul (pC c) f' := by
  refine ⟨mkP (fun i => Classical.choose (h i)) (sz f), pl_ext fun i => ?_⟩
  rw [pC_mul, co_mkP]
  split
  · exact Classical.choose_spec (h i)
  · rw [sz_le f i (by omega)]; grind
theorem dvC_iff [Lean.Grind.CommRing R] {c : R} {f : Pl R} (h : @dv (Pl R) (plRing R) (pC c) f) (i : Nat) : dv c (co f i) := by
  obtain ⟨f', e⟩ := h
  have e' : f = pmul (pC c) f' := e
  rw [e', pC_mul]; exact ⟨_, rfl⟩
/-- content and primitive part -/
theorem prim_split [Lean.Grind.CommRing R] (hD : Dom R) (hG : GcdD R) {f : Pl R} (hf : f ≠ pz) : ∃ c f', c ≠ 0 ∧ f = pmul (pC c) f' ∧ prim f' ∧ isCont c f := by
  obtain ⟨c, hc⟩ := cont_ex hG f
  obtain ⟨f', e⟩ := dvC_co hc.1
  have hc0 : c ≠ 0 := by
    intro z
    refine hf ?_
    rw [e, z]
    exact (szmul_z f').2
  refine ⟨c, f', hc0, e, fun x hx => ?_, hc⟩
  have h1 : dv (c * x) c := hc.2 _ (fun i => by rw [e, pC_mul]; exact dv_mulmul c (hx i))
  have h2 : dv (c * x) (c * 1) := by rw [show c * 1 = c by grind]; exact h1
  exact dv_cancel hD hc0 h2
/-- the content of a times a primitive one is a -/
theorem prim_scale [Lean.Grind.CommRing R] (hD : Dom R) (hG : GcdD R) {f : Pl R} (hf : prim f) {a c : R} (h : ∀ i, dv c (a * co f i)) : dv c a := by
  by_cases ha : a = 0
  · rw [ha]; exact dv_zero c
  · obtain ⟨d, hd1, hd2⟩ := cont_ex hG (pmul (pC a) f)
    have h1 : dv a d := hd2 a (fun i => by rw [pC_mul]; exact ⟨_, rfl⟩)
    obtain ⟨t, ht⟩ := h1
    have h2 : dv t 1 := hf t (fun i => by
      have := hd1 i
      rw [pC_mul, ht] at this
      exact dv_cancel hD ha this)
    have h3 : dv d a := by
      rw [ht]
      have := dv_mulmul a h2
      rwa [show a * 1 = a by grind] at this
    exact dv_trans (hd2 c (fun i => by rw [pC_mul]; exact h i)) h3
theorem gauss_prime [Lean.Grind.CommRing R] {p : R} (hp : Prm p) {f g : Pl R} (hf : ∃ i, ¬ dv p (co f i)) (hg : ∃ i, ¬ dv p (co g i)) : ∃ i, ¬ dv p (co (pmul f g) i) := by
  obtain ⟨i, hi, hi'⟩ := least_ex hf
  obtain ⟨j, hj, hj'⟩ := least_ex hg
  refine ⟨i + j, fun h => ?_⟩
  have key : ∀ n, n ≤ i + j + 1 → dv p (sm (fun l => co f l * co g (i + j - l)) n - (if i < n then co f i * co g j else 0)) := by
    intro n
    induction n with
    | zero => intro _; simp only [sm]; rw [if_neg (by omega), show (0 : R) - 0 = 0 by grind]; exact dv_zero p
    | succ n ih =>
      intro hn
      have h1 := ih (by omega)
      show dv p (sm (fun l => co f l * co g (i + j - l)) n + co f n * co g (i + j - n) - _)
      by_cases e : n = i
      · rw [if_neg (by omega)] at h1
        rw [if_pos (by omega), e, show i + j - i = j by omega]
        rw [e] at h1
        generalize sm (fun l => co f l * co g (i + j - l)) i = S at h1 ⊢
        rw [show S + co f i * co g j - co f i * co g j = S - 0 by grind]; exact h1
      · have h2 : dv p (co f n * co g (i + j - n)) := by
          by_cases hlt : n < i
          · exact dv_mul _ (Classical.not_not.mp (hi' n hlt))
          · exact dv_mul' _ (Classical.not_not.mp (hj' (i + j - n) (by omega)))
        have h3 : (if i < n + 1 then co f i * co g j else 0) = (if i < n then co f i * co g j else 0) := by
          by_cases hlt : i < n
          · rw [if_pos hlt, if_pos (by omega)]
          · rw [if_neg hlt, if_neg (by omega)]
        rw [h3]
        generalize (if i < n then co f i * co g j else 0) = T at h1 ⊢
        generalize sm (fun l => co f l * co g (i + j - l)) n = S at h1 ⊢
        rw [show S + co f n * co g (i + j - n) - T = (S - T) + co f n * co g (i + j - n) by grind]
        exact dv_add h1 h2
  have h1 := key (i + j + 1) (Nat.le_refl _)
  rw [← co_mul, if_pos (by omega)] at h1
  have h2 := dv_sub h h1
  rw [show co (pmul f g) (i + j) - (co (pmul f g) (i + j) - co f i * co g j) = co f i * co g j by grind] at h2
  rcases hp.2.2 _ _ h2 with h3 | h3
  · exact hi h3
  · exact hj h3
theorem gauss [Lean.Grind.CommRing R] (hD : Dom R) (hP : PD R) {f g : Pl R} (hf : prim f) (hg : prim g) : prim (pmul f g) := by
  intro c hc
  refine Classical.byContradiction fun hu => ?_
  have hc0 : c ≠ 0 := by
    intro z
    have : pmul f g = pz := pl_ext fun i => by
      obtain ⟨x, hx⟩ := hc i
      rw [hx, z, co_z]; grind
    rcases @(pl_dom hD).1 f g this with h | h
    · exact prim_ne hD hf h
    · exact prim_ne hD hg h
  obtain ⟨p, hp, hpc⟩ := hP c hc0 hu
  have h1 : ∃ i, ¬ dv p (co f i) := Classical.byContradiction fun h => hp.2.1 (hf p (fun i => Classical.not_not.mp fun q => h ⟨i, q⟩))
  have h2 : ∃ i, ¬ dv p (co g i) := Classical.byContradiction fun h => hp.2.1 (hg p (fun i => Classical.not_not.mp fun q => h ⟨i, q⟩))
  obtain ⟨i, hi⟩ := gauss_prime hp h1 h2
  exact hi (dv_trans hpc (hc i))
/-- a primitive one that divides r g divides g -/
theorem gauss_dv [Lean.Grind.CommRing R] (hD : Dom R) (hG : GcdD R) (hP : PD R) {f g : Pl R} {r : R} (hf : prim f) (hr : r ≠ 0) (h : @dv (Pl R) (plRing R) f (pmul (pC r) g)) : @dv (Pl R) (plRing R) f g := by
  letI := plRing R
  by_cases hg : g = pz
  · rw [hg]; exact dv_zero f
  obtain ⟨k, e⟩ := h
  have e : pmul (pC r) g = pmul f k := e
  have hk : k ≠ pz := by
    intro z
    rw [z, (szmul_z f).1] at e
    rcases @(pl_dom hD).1 _ _ e with h1 | h1
    · exact pC_ne hr h1
    · exact hg h1
  obtain ⟨c, k', hc, ek, hk', -⟩ := prim_split hD hG hk
  obtain ⟨a, g', ha, eg, hg', -⟩ := prim_split hD hG hg
  have hfk := gauss hD hP hf hk'
  have e1 : ∀ i, r * a * co g' i = c * co (pmul f k') i := by
    intro i
    have h1 : co (pmul (pC r) g) i = co (pmul f k) i := by rw [e]
    have h2 : pmul f k = pmul (pC c) (pmul f k') := by
      rw [ek]
      have : ∀ A B C : Pl R, A * (B * C) = B * (A * C) := by intros; grind
      exact this _ _ _
    rw [h2, pC_mul, pC_mul, eg, pC_mul] at h1
    rw [← h1]; grind
  have h1 : dv c (r * a) := prim_scale hD hG hg' (fun i => by rw [e1 i]; exact ⟨_, rfl⟩)
  have h2 : dv (r * a) c := prim_scale hD hG hfk (fun i => by rw [← e1 i]; exact ⟨_, rfl⟩)
  obtain ⟨u, hu, eu⟩ := dv_anti hD h1 h2
  obtain ⟨w, hw⟩ := hu
  have h3 : g' = pmul f (pmul (pC w) k') := pl_ext fun i => by
    have h4 := e1 i
    rw [eu] at h4
    have h5 : u * co g' i = co (pmul f k') i := dom_cancel hD hc (by rw [← h4]; grind)
    have h6 : pmul f (pmul (pC w) k') = pmul (pC w) (pmul f k') := by
      have : ∀ A B C : Pl R, A * (B * C) = B * (A * C) := by intros; grind
      exact this _ _ _
    rw [h6, pC_mul, ← h5]
    generalize co g' i = y
    grind
  rw [eg, h3]
  refine ⟨pmul (pC a) (pmul (pC w) k'), ?_⟩
  have : ∀ A B C : Pl R, A * (B * C) = B * (A * C) := by intros; grind
  exact this _ _ _
theorem pseudo [Lean.Grind.CommRing R] (hD : Dom R) {q : Pl R} (hq : q ≠ pz) : ∀ (n : Nat) (p : Pl R), sz p ≤ n → ∃ r s t, r ≠ 0 ∧ pmul (pC r) p = padd (pmul s q) t ∧ sz t < sz q := by
  letI := plRing R
  intro n
  induction n with
  | zero =>
    intro p hp
    refine ⟨1, pz, pz, hD.2, ?_, by rw [sz_z]; exact sz_pos hq⟩
    rw [sz_0 (p := p) (by omega), (szmul_z _).1, (szmul_z _).2]
    exact pl_ext fun i => by rw [co_add, co_z]; grind
  | succ n ih =>
    intro p hp
    by_cases hlt : sz p < sz q
    · refine ⟨1, pz, p, hD.2, ?_, hlt⟩
      rw [(szmul_z _).2]
      exact pl_ext fun i => by rw [co_add, co_z, pC_mul]; grind
    · have hq0 := sz_pos hq
      have hs : szle (psub (pmul (pC (hd q)) p) (pmul (pmul (pC (hd p)) (pX (sz p - sz q))) q)) (sz p - 1) := by
        intro i hi
        have e1 : pmul (pmul (pC (hd p)) (pX (sz p - sz q))) q = pmul (pC (hd p)) (pmul (pX (sz p - sz q)) q) := pmul_assoc _ _ _
        rw [co_sub, e1, pC_mul, pC_mul, co_Xmul, if_pos (by omega)]
        by_cases e : i = sz p - 1
        · rw [e, show sz p - 1 - (sz p - sz q) = sz q - 1 by omega]
          show hd q * hd p - hd p * hd q = 0
          grind
        · rw [sz_le p i (by omega), sz_le q (i - (sz p - sz q)) (by omega)]; grind
      obtain ⟨r, s, t, h1, h2, h3⟩ := ih _ (Nat.le_trans (sz_min hs) (by omega))
      refine ⟨r * hd q, padd s (pmul (pC r) (pmul (pC (hd p)) (pX (sz p - sz q)))), t, dom_mul_ne hD h1 (hd_ne hq), ?_, h3⟩
      have e2 : pmul (pC (r * hd q)) p = pmul (pC r) (pmul (pC (hd q)) p) := pl_ext fun i => by rw [pC_mul, pC_mul, pC_mul]; grind
      rw [e2]
      generalize pmul (pC (hd q)) p = A at h2 ⊢
      generalize pmul (pC (hd p)) (pX (sz p - sz q)) = B at h2 ⊢
      have h2' : pC r * (A - B * q) = s * q + t := h2
      show pC r * A = (s + pC r * B) * q + t
      generalize pC r = rr at h2' ⊢
      grind
/-- polynomials over such a ring have greatest common divisors -/
theorem gcdD_pl [Lean.Grind.CommRing R] (hD : Dom R) (hG : GcdD R) (hP : PD R) : @GcdD (Pl R) (plRing R) := by
  letI := plRing R
  intro F G
  by_cases hF : F = pz
  · exact ⟨G, by rw [hF]; exact dv_zero G, dv_refl G, fun c _ h => h⟩
  by_cases hGz : G = pz
  · exact ⟨F, dv_refl F, by rw [hGz]; exact dv_zero F, fun c h _ => h⟩
  obtain ⟨k, ⟨D, u, v, hD0, eD, hsz⟩, hmin⟩ := least_ex (P := fun k => ∃ D u v : Pl R, D ≠ pz ∧ D = u * F + v * G ∧ sz D = k) ⟨sz F, F, 1, 0, hF, by grind, rfl⟩
  obtain ⟨c, D', hc, eD', hD', -⟩ := prim_split hD hG hD0
  have hdv : ∀ H x y : Pl R, H = x * F + y * G → @dv (Pl R) (plRing R) D' H := by
    intro H x y eH
    obtain ⟨r, s, t, h1, h2, h3⟩ := pseudo hD hD0 (sz H) H (Nat.le_refl _)
    have ht : t = pz := by
      refine Classical.byContradiction fun hne => hmin (sz t) (by omega) ⟨t, pC r * x - s * u, pC r * y - s * v, hne, ?_, rfl⟩
      have h2' : pC r * H = s * D + t := h2
      rw [eH, eD] at h2'
      generalize pC r = rr at h2' ⊢
      grind
    refine gauss_dv hD hG hP hD' h1 ⟨pmul s (pC c), ?_⟩
    rw [h2, ht, eD']
    show s * (pC c * D') + 0 = D' * (s * pC c)
    grind
  have d1 := hdv F 1 0 (by grind)
  have d2 := hdv G 0 1 (by grind)
  obtain ⟨cF, F', hcF, eF, hF', hcF'⟩ := prim_split hD hG hF
  obtain ⟨cG, G', hcG, eG, hG', hcG'⟩ := prim_split hD hG hGz
  obtain ⟨g, g1, g2, g3⟩ := hG cF cG
  have up : ∀ {a b : R} {x y : Pl R}, dv a b → dv x y → @dv (Pl R) (plRing R) (pmul (pC a) x) (pmul (pC b) y) := by
    intro a b x y h1 h2
    exact dv_mul2 ((hm_C (R := R)).dvd h1) h2
  refine ⟨pmul (pC g) D', ?_, ?_, fun E hE1 hE2 => ?_⟩
  · rw [eF]
    exact up g1 (gauss_dv hD hG hP hD' hcF (by rw [← eF]; exact d1))
  · rw [eG]
    exact up g2 (gauss_dv hD hG hP hD' hcG (by rw [← eG]; exact d2))
  · have hE0 : E ≠ pz := by
      intro z
      obtain ⟨x, hx⟩ := hE1
      refine hF ?_
      rw [hx, z]
      exact (szmul_z x).2
    obtain ⟨e, E', he, eE, hE', -⟩ := prim_split hD hG hE0
    rw [eE]
    have hpe : ∀ H : Pl R, dv E H → dv (pC e) H := fun H h => dv_trans (by rw [eE]; exact ⟨E', rfl⟩) h
    refine up (g3 e (hcF'.2 e (dvC_iff (hpe F hE1))) (hcG'.2 e (dvC_iff (hpe G hE2)))) ?_
    refine gauss_dv hD hG hP hE' hc ?_
    rw [← eD', eD]
    have hEd : dv E' E := ⟨pC e, by rw [eE]; exact pmul_comm _ _⟩
    exact dv_add (dv_mul' u (dv_trans hEd hE1)) (dv_mul' v (dv_trans hEd hE2))
theorem pd_pl {K : Type} [Lean.Grind.CommRing K] (hF : Fld K) : @PD (Pl K) (plRing K) := by
  letI := plRing K
  intro d hd0 hdu
  obtain ⟨k, ⟨p, hp0, hpu, hpd, hsz⟩, hmin⟩ := least_ex (P := fun k => ∃ p : Pl K, p ≠ 0 ∧ ¬ dv p 1 ∧ dv p d ∧ sz p = k) ⟨sz d, d, hd0, hdu, dv_refl d, rfl⟩
  refine ⟨p, ⟨hp0, hpu, fun a b hab => ?_⟩, hpd⟩
  refine Classical.byContradiction fun hn => ?_
  obtain ⟨hna, hnb⟩ := not_or.mp hn
  obtain ⟨g, u, v, e, h1, h2⟩ := bez hF (sz a) p a (Nat.le_refl _)
  have hg0 : g ≠ 0 := by
    intro z
    obtain ⟨x, hx⟩ := h1
    exact hp0 (by rw [hx, z]; grind)
  by_cases hgu : dv g 1
  · refine hnb ?_
    obtain ⟨w, hw⟩ := hgu
    obtain ⟨y, hy⟩ := hab
    have e' : g = u * p + v * a := e
    refine ⟨w * (u * b + v * y), ?_⟩
    have : b = (g * w) * b := by rw [← hw]; grind
    rw [this, e']
    have : a * b * v * w = p * y * v * w := by rw [hy]
    grind
  · have h3 := dv_sz hF.1 h1 hp0
    have h4 : ¬ sz g < k := fun q => hmin (sz g) q ⟨g, hg0, hgu, dv_trans h1 hpd, rfl⟩
    obtain ⟨c, ec⟩ := h1
    have ec : p = pmul g c := ec
    have hc : c ≠ pz := fun z => hp0 (by rw [ec, z]; exact (szmul_z g).1)
    have h5 := (sz_mul hF.1 hg0 hc).1
    rw [← ec] at h5
    have hgp := sz_pos hg0
    have hcp := sz_pos hc
    have hcu := sz1_unit hF (p := c) (by omega)
    obtain ⟨w, hw⟩ := hcu
    refine hna (dv_trans ⟨w, ?_⟩ h2)
    rw [ec]
    show g = (g * c) * w
    have hw' : (1 : Pl K) = c * w := hw
    have : g = g * (c * w) := by rw [← hw']; grind
    rw [this]; grind
end
/-- the ring of polynomials in n, and that in n and k -/
abbrev Un : Type := Pl Fp
abbrev Bi : Type := @Pl Un (plRing Fp)
theorem un_dom : @Dom Un (plRing Fp) := pl_dom fp_dom
theorem un_gcd : @GcdD Un (plRing Fp) := pl_gcd fp_fld
theorem un_pd : @PD Un (plRing Fp) := pd_pl fp_fld
theorem bi_dom : @Dom Bi (@plRing Un (plRing Fp)) := @pl_dom Un (plRing Fp) un_dom
theorem bi_gcd : @GcdD Bi (@plRing Un (plRing Fp)) := @gcdD_pl Un (plRing Fp) un_dom un_gcd un_pd
