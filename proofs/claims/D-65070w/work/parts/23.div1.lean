set_option maxRecDepth 100000
/-! NUMBERS as ints: rest, small; DIVISORS: greatest common divisors of polynomials in n -/
theorem un_dv_eq {p q : Un} : @dv Un (plRing Fp) p q ↔ ∃ s, q = pmul p s := Iff.rfl
theorem un_mulz {p q : Un} (h : pmul p q = pz) : p = pz ∨ q = pz := by
  letI := plRing Fp
  exact (un_dom.1 p q h)
theorem un_monic {p : Un} (hp : p ≠ pz) : hd (pmul (pC (iv (hd p))) p) = 1 := by
  rw [hd_mul fp_dom, hd_C]
  have := iv_mul (hd_ne hp)
  generalize iv (hd p) = z at this ⊢
  grind
theorem un_monic_dv (p : Un) : @dv Un (plRing Fp) (pmul (pC (iv (hd p))) p) p ∧ @dv Un (plRing Fp) p (pmul (pC (iv (hd p))) p) := by
  letI := plRing Fp
  refine ⟨?_, ⟨pC (iv (hd p)), ?_⟩⟩
  · by_cases hp : p = pz
    · rw [hp]; exact ⟨pz, (szmul_z _).1.symm⟩
    · refine ⟨pC (hd p), ?_⟩
      have e : (pmul (pC (iv (hd p))) (pC (hd p)) : Un) = pC 1 := pl_ext fun i => by
        rw [pC_mul, co_C, co_C]
        split
        · have := iv_mul (hd_ne hp)
          generalize iv (hd p) = z at this ⊢
          grind
        · grind
      have e2 : ∀ A B C : Un, A * C = 1 → B = A * B * C := by intros; grind
      exact e2 _ _ _ (e.trans p1_def)
  · have e2 : ∀ A B : Un, A * B = B * A := by intros; grind
    exact e2 _ _
theorem gcdU_ex (p q : Un) : ∃ g : Un, @isGcd Un (plRing Fp) g p q ∧ (g = pz ∨ hd g = 1) := by
  letI := plRing Fp
  obtain ⟨g, hg⟩ := un_gcd p q
  refine ⟨pmul (pC (iv (hd g))) g, ⟨dv_trans (un_monic_dv g).1 hg.1, dv_trans (un_monic_dv g).1 hg.2.1, fun c h1 h2 => dv_trans (hg.2.2 c h1 h2) (un_monic_dv g).2⟩, ?_⟩
  by_cases h : g = pz
  · left; rw [h, (szmul_z _).1]
  · right; exact un_monic h
/-- the greatest common divisor with head 1 (of two 0: 0) -/
noncomputable def gcdU (p q : Un) : Un := Classical.choose (gcdU_ex p q)
theorem gcdU_is (p q : Un) : @isGcd Un (plRing Fp) (gcdU p q) p q := (Classical.choose_spec (gcdU_ex p q)).1
theorem gcdU_hd (p q : Un) : gcdU p q = pz ∨ hd (gcdU p q) = 1 := (Classical.choose_spec (gcdU_ex p q)).2
theorem gcdU_uniq {p q g : Un} (h : @isGcd Un (plRing Fp) g p q) (hh : g = pz ∨ hd g = 1) : g = gcdU p q := by
  letI := plRing Fp
  have h1 : dv g (gcdU p q) := (gcdU_is p q).2.2 g h.1 h.2.1
  have h2 : dv (gcdU p q) g := h.2.2 _ (gcdU_is p q).1 (gcdU_is p q).2.1
  have z1 : ∀ {a b : Un}, dv a b → a = pz → b = pz := by
    intro a b hab ha
    obtain ⟨s, e⟩ := hab
    rw [e, ha]; exact (szmul_z s).2
  rcases hh with e | e
  · rw [e]; exact (z1 h1 e).symm
  · rcases gcdU_hd p q with e2 | e2
    · rw [e2]; exact z1 h2 e2
    · exact assoc_eq fp_dom h1 h2 (by rw [e, e2])
theorem gcdU_step {p q s r : Un} (e : p = padd (pmul s q) r) : gcdU p q = gcdU q r := by
  letI := plRing Fp
  have h := gcdU_is p q
  refine gcdU_uniq ⟨h.2.1, ?_, fun c h1 h2 => h.2.2 c ?_ h1⟩ (gcdU_hd p q)
  · have : r = p - s * q := by
      have hh : ∀ A B C D : Un, A = B * C + D → D = A - B * C := by intros; grind
      exact hh _ _ _ _ e
    rw [this]
    exact dv_sub h.1 (dv_mul' s h.2.1)
  · have : p = s * q + r := e
    rw [this]
    exact dv_add (dv_mul' s h1) h2
theorem gcdU_z (p : Un) : gcdU p pz = pmul (pC (iv (hd p))) p := by
  letI := plRing Fp
  refine (gcdU_uniq ⟨(un_monic_dv p).1, ⟨pz, (szmul_z _).1.symm⟩, fun c h1 _ => dv_trans h1 (un_monic_dv p).2⟩ ?_).symm
  by_cases h : p = pz
  · left; rw [h, (szmul_z _).1]
  · right; exact un_monic h
theorem gcdU_comm (p q : Un) : gcdU p q = gcdU q p := by
  have h := gcdU_is p q
  exact gcdU_uniq ⟨h.2.1, h.1, fun c h1 h2 => h.2.2 c h2 h1⟩ (gcdU_hd p q)
theorem gcdU_pz {p q : Un} : gcdU p q = pz ↔ p = pz ∧ q = pz := by
  letI := plRing Fp
  constructor
  · intro e
    have h := gcdU_is p q
    rw [e] at h
    obtain ⟨⟨s, e1⟩, ⟨t, e2⟩, _⟩ := h
    exact ⟨e1.trans (szmul_z s).2, e2.trans (szmul_z t).2⟩
  · intro ⟨e1, e2⟩
    rw [e1, e2, gcdU_z, (szmul_z _).1]
theorem gcdU_szl {p q : Un} (hp : p ≠ pz) : sz (gcdU p q) ≤ sz p := dv_sz fp_dom (gcdU_is p q).1 hp
theorem gcdU_szr {p q : Un} (hq : q ≠ pz) : sz (gcdU p q) ≤ sz q := dv_sz fp_dom (gcdU_is p q).2.1 hq
theorem gcdU_max (p q : Un) : sz (gcdU p q) ≤ max (sz p) (sz q) := by
  by_cases hp : p = pz
  · by_cases hq : q = pz
    · rw [gcdU_pz.mpr ⟨hp, hq⟩, sz_z]; omega
    · have := gcdU_szr (p := p) hq; omega
  · have := gcdU_szl (q := q) hp; omega
/-- a quotient without rest is the quotient -/
theorem div_exact {p q s s' r : Un} (hq : q ≠ pz) (e1 : p = pmul q s) (e2 : p = padd (pmul s' q) r) (hr : sz r < sz q) : s' = s ∧ r = pz := by
  letI := plRing Fp
  have e3 : r = pmul q (psub s s') := by
    have hh : ∀ A B C D E : Un, A = B * C → A = D * B + E → E = B * (C - D) := by intros; grind
    exact hh _ _ _ _ _ e1 e2
  have e4 : psub s s' = pz := by
    apply Classical.byContradiction
    intro hc
    have := (sz_mul fp_dom hq hc).1
    have h1 := sz_pos hc
    rw [← e3] at this
    omega
  refine ⟨?_, by rw [e3, e4, (szmul_z _).1]⟩
  have hh : ∀ A B : Un, A - B = 0 → B = A := by intros; grind
  exact hh _ _ e4
section
variable {g : GX} {d n : Nat} {h : Hp} {a b c : Nat}
theorem ok_common_loop (hp : g.2.2.2.2 = true) (tc : lay c = (0, 3, 2)) (hc : 8 < c) {av : List Value} {Q : Hp → Prop} : ∀ (m : Nat) (p q : Un) (h : Hp), sz q ≤ m → PI h 3 p → PI h 5 q → sz (gcdU p q) ≤ rm (c + 1) → (∀ h', Fr h h' [3, 4, 5, 6, 7, 8, c, c + 1] → PI h' c (gcdU p q) → Q h') → W_X2_common g (d + 3) av (QV n Q) n 16 [some (.ref 2), none, none, some (.ref c)] [] h := by
  have t2 : lay 2 = (0, 2, 3) := by decide +kernel
  have t3 : lay 3 = (0, 3, 2) := by decide +kernel
  have t5 : lay 5 = (0, 3, 2) := by decide +kernel
  have t7 : lay 7 = (0, 3, 2) := by decide +kernel
  have r4 : rm 4 = 1800 := by decide +kernel
  have r6 : rm 6 = 1800 := by decide +kernel
  have r8 : rm 8 = 1800 := by decide +kernel
  intro m
  induction m with
  | zero =>
    intro p q h hm Ha Hq hT k
    have hq0 : q = pz := sz_0 (Nat.le_zero.mp hm)
    subst hq0
    refine s_X2_common_16 hp t2 tc (ok_isZero hp t5 Hq (fun _ => ⟨fun _ => ok_monic hp t3 Ha (fun h1 f1 H1 => ?_), fun c' => absurd c' (by decide)⟩) (fun c' => absurd rfl c'))
    rw [← gcdU_z] at H1
    exact ok_copy hp tc t3 H1 hT (fun h2 f2 H2 => qV (k h2 ((f1.mono (by simp)).tr (f2.mono (by simp))) H2))
  | succ m ih =>
    intro p q h hm Ha Hq hT k
    refine s_X2_common_16 hp t2 tc (ok_isZero hp t5 Hq (fun e => ⟨fun _ => ok_monic hp t3 Ha (fun h1 f1 H1 => ?_), fun c' => absurd c' (by decide)⟩) (fun hq => ⟨fun c' => absurd rfl c', fun _ => ?_⟩))
    · subst e
      rw [← gcdU_z] at H1
      exact ok_copy hp tc t3 H1 hT (fun h2 f2 H2 => qV (k h2 ((f1.mono (by simp)).tr (f2.mono (by simp))) H2))
    · have hqr := Hq.2.1
      refine ok_divideN hp t3 t5 (by decide) hq Ha Hq (fun h1 s r f1 e1 hr H1 => ?_)
      have Hq1 := Hq.fr f1 (by decide) (by decide)
      refine ok_copy hp t7 t3 H1 (by show sz r ≤ rm 8; rw [r8]; have : rm (5 + 1) = 1800 := r6; omega) (fun h2 f2 H2 => ?_)
      have Hq2 := Hq1.fr f2 (by decide) (by decide)
      refine ok_copy hp t3 t5 Hq2 (by show sz q ≤ rm 4; rw [r4]; have : rm (5 + 1) = 1800 := r6; omega) (fun h3 f3 H3 => ?_)
      have Hr3 := H2.fr f3 (by decide) (by decide)
      refine ok_copy hp t5 t7 Hr3 (by show sz r ≤ rm 6; rw [r6]; have : rm (5 + 1) = 1800 := r6; omega) (fun h4 f4 H4 => ?_)
      have Hq4 := H3.fr f4 (by decide) (by decide)
      have f14 : Fr h h4 [3, 4, 5, 6, 7, 8, c, c + 1] := (((f1.mono (by simp)).tr (f2.mono (by simp))).tr (f3.mono (by simp))).tr (f4.mono (by simp))
      rw [gcdU_step e1] at hT k
      exact ih q r h4 (by omega) Hq4 H4 hT (fun h' k1 k2 => k h' (f14.tr k1) k2)
/-- the greatest common divisor, head 1 -/
theorem ok_common (hp : g.2.2.2.2 = true) (ta : lay a = (0, 3, 2)) (tb : lay b = (0, 3, 2)) (tc : lay c = (0, 3, 2)) (hc : 8 < c) (hb : 8 < b) {p q : Un} (Ha : PI h a p) (Hq : PI h b q) (h1 : sz p ≤ 1800) (h2 : sz q ≤ 1800) (hT : sz (gcdU p q) ≤ rm (c + 1)) {Q : Hp → Prop} (k : ∀ h', Fr h h' [3, 4, 5, 6, 7, 8, c, c + 1] → PI h' c (gcdU p q) → Q h') : CallV g m_X2_common (d + 4) [.ref 2, .ref a, .ref b, .ref c] n h Q := by
  have t2 : lay 2 = (0, 2, 3) := by decide +kernel
  have t3 : lay 3 = (0, 3, 2) := by decide +kernel
  have t5 : lay 5 = (0, 3, 2) := by decide +kernel
  have r4 : rm 4 = 1800 := by decide +kernel
  have r6 : rm 6 = 1800 := by decide +kernel
  refine okV 0 rfl rfl (s_X2_common_0 hp t2 ta tb tc ?_)
  refine ok_copy hp t3 ta Ha (by show sz p ≤ rm 4; omega) (fun h1 f1 H1 => ?_)
  refine ok_copy hp t5 tb (Hq.fr f1 (by simp; omega) (by simp; omega)) (by show sz q ≤ rm 6; omega) (fun h2 f2 H2 => ?_)
  refine ok_common_loop hp tc hc (sz q) p q h2 (Nat.le_refl _) (H1.fr f2 (by decide) (by decide)) H2 hT (fun h' k1 k2 => k h' (((f1.mono (by simp)).tr (f2.mono (by simp))).tr k1) k2)
theorem ok_divideExactly (hp : g.2.2.2.2 = true) (ta : lay a = (0, 3, 2)) (tb : lay b = (0, 3, 2)) (ha : 8 < a) (hb : 8 < b) (hab : a ≠ b) {p q s : Un} (Ha : PI h a p) (Hq : PI h b q) (hq : q ≠ pz) (e : p = pmul q s) (h1 : sz p ≤ 1800) {Q : Hp → Prop} (k : ∀ h', Fr h h' [3, 4, a, a + 1] → PI h' a s → Q h') : CallV g m_X2_divideExactly (d + 4) [.ref 2, .ref a, .ref b] n h Q := by
  have t2 : lay 2 = (0, 2, 3) := by decide +kernel
  have t3 : lay 3 = (0, 3, 2) := by decide +kernel
  have r4 : rm 4 = 1800 := by decide +kernel
  have hqp := sz_pos hq
  have hl := Hq.lt
  have hq2 := Hq.2.1
  have hr := rm_lt (b + 1)
  refine okV 0 rfl rfl (s_X2_divideExactly_0 hp t2 ta tb ?_)
  rw [Hq.1]
  have e0 : nI (sz q) = (1 : Int32) ↔ sz q = 1 := by simp (disch := omega) only [nI_z, z0, z1, z2, zm1, zI_add, zI_sub, zI_neg, zI_mul, zI_le, zI_lt, zI_eq, zI_tN, zI_inI]; omega
  rw [e0]
  refine ⟨fun c' => ?_, fun c' => ?_⟩
  · refine ok_copy hp t3 ta Ha (by show sz p ≤ rm 4; omega) (fun h1 f1 H1 => ?_)
    have Hq1 := Hq.fr f1 (by simp; omega) (by simp; omega)
    refine ok_divide hp t3 tb ta (by omega) (by omega) (by omega) hq H1 Hq1 (by have := Ha.2.1; omega) (fun h2 s' r f2 e2 hr2 _ H2 => qV (k h2 ((f1.mono (by simp)).tr (f2.mono (by simp))) ?_))
    rw [(div_exact hq e e2 hr2).1] at H2; exact H2
  · refine ⟨zI_in (a := 0) (by omega) (by omega) (by omega), ?_⟩
    rw [show (0 : Int32).toNatClampNeg = 0 from rfl, Hq.2.2 0 (by omega)]
    refine ok_inverse hp (ok_scale hp ta Ha (fun h2 f2 H2 => qV (k h2 (f2.mono (by simp)) ?_)))
    have e3 : pmul (pC (iv (co q 0))) p = s := by
      have hq1 : q = pC (co q 0) := sz_1C (by omega)
      have hq0 : co q 0 ≠ 0 := fun z => hq (by rw [hq1, z]; rfl)
      have e4 : (pmul (pC (iv (co q 0))) (pC (co q 0)) : Un) = pC 1 := pl_ext fun i => by
        rw [pC_mul, co_C, co_C]
        split
        · have := iv_mul hq0
          generalize iv (co q 0) = z at this ⊢
          grind
        · grind
      letI := plRing Fp
      have hh : ∀ A B C D : Un, A * B = 1 → C = B * D → A * C = D := by intros; grind
      exact hh _ _ _ _ (e4.trans p1_def) (by rw [← hq1]; exact e)
    rw [e3] at H2; exact H2
end
