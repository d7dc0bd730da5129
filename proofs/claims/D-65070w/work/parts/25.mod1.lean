set_option maxRecDepth 100000
/-! THE GREATEST COMMON DIVISOR BY NUMBERS FOR n -/
theorem bat_hm (x : Fp) : @Hm Bi Un (@plRing Un (plRing Fp)) (plRing Fp) (bat x) := @hm_map Un Fp (plRing Fp) _ (fun p => ev p x) (hm_ev x)
theorem bat_mul (x : Fp) (F G : Bi) : bat x (bmul F G) = pmul (bat x F) (bat x G) := (bat_hm x).2.1 F G
theorem bat_add (x : Fp) (F G : Bi) : bat x (badd F G) = padd (bat x F) (bat x G) := (bat_hm x).1 F G
theorem bat_C (x : Fp) (p : Un) : bat x (bC p) = pC (ev p x) := pl_ext fun j => by
  rw [co_bat, bco_C, co_C]
  split
  · rfl
  · exact ev_z x
theorem bat_szle (x : Fp) (F : Bi) : szle (bat x F) (bsz F) := fun j hj => by rw [co_bat, bsz_le F j hj, ev_z]
theorem bat_sz {x : Fp} {F : Bi} (hF : F ≠ bz) : sz (bat x F) = bsz F ↔ ev (bhd F) x ≠ 0 := by
  have hp := bsz_pos hF
  constructor
  · intro h
    have := sz_top (p := bat x F) (n := bsz F - 1) (by omega)
    rw [co_bat] at this; exact this
  · intro h
    have := sz_eq (p := bat x F) (n := bsz F - 1) (fun j hj => bat_szle x F j (by omega)) (by rw [co_bat]; exact h)
    omega
theorem bat_hd {x : Fp} {F : Bi} (hF : F ≠ bz) (h : ev (bhd F) x ≠ 0) : hd (bat x F) = ev (bhd F) x := by
  unfold hd
  rw [(bat_sz hF).mpr h, co_bat]; rfl
/-- g the divisor of both, b a polynomial that is 0 where a number for n misleads -/
def MG (P1 P2 g : Bi) (b : Un) : Prop := b ≠ pz ∧ sz b ≤ 1000000 ∧ ∀ x, ev b x ≠ 0 → ev (bhd P1) x ≠ 0 ∧ ev (bhd P2) x ≠ 0 ∧ sz (gcdU (bat x P1) (bat x P2)) = bsz g
theorem ev_lead {P g : Bi} (h : bdv g P) {x : Fp} (hx : ev (bhd P) x ≠ 0) : ev (bhd g) x ≠ 0 := by
  obtain ⟨A, e⟩ := h
  have e : P = bmul g A := e
  rw [e, bhd_mul, ev_mul] at hx
  intro z
  rw [z] at hx
  exact hx (by grind)
theorem un_szmul_le (p q : Un) : sz (pmul p q) ≤ sz p + sz q := by
  have := sz_min (szle_mul (sz_le p) (sz_le q))
  omega
theorem mg_ex {P1 P2 : Bi} (h1 : P1 ≠ bz) (h2 : P2 ≠ bz) (hn1 : bsn P1 ≤ 900) (hn2 : bsn P2 ≤ 900) (hk1 : bsz P1 ≤ 150) (hk2 : bsz P2 ≤ 150) : ∃ b, MG P1 P2 (gcdB P1 P2) b := by
  letI i1 := plRing Fp
  letI i2 : Lean.Grind.CommRing Bi := @plRing Un (plRing Fp)
  have hg := gcdB_is P1 P2
  have gz : gcdB P1 P2 ≠ bz := gcdB_nz h1
  obtain ⟨A, eA⟩ := hg.1
  obtain ⟨B, eB⟩ := hg.2.1
  have eA : P1 = bmul (gcdB P1 P2) A := eA
  have eB : P2 = bmul (gcdB P1 P2) B := eB
  have hA : A ≠ bz := fun z => h1 (by rw [eA, z, b_mulz'])
  have hB : B ≠ bz := fun z => h2 (by rw [eB, z, b_mulz'])
  have hco : copr A B := gcd_copr bi_dom hg gz eA eB
  have sA := bdv_bsz (A := A) (B := P1) ⟨gcdB P1 P2, by rw [b_mulc] at eA; exact eA⟩ h1
  have sB := bdv_bsz (A := B) (B := P2) ⟨gcdB P1 P2, by rw [b_mulc] at eB; exact eB⟩ h2
  obtain ⟨U, V, r, hr, er, sr⟩ := res_ex (d := 900) hA hB (fun j i hi => sz_le _ i (by have := bsn_le A j; omega)) (fun j i hi => sz_le _ i (by have := bsn_le B j; omega)) hco
  refine ⟨pmul (pmul (bhd P1) (bhd P2)) r, fun z => ?_, ?_, fun x hx => ?_⟩
  · rcases un_mulz z with z | z
    · exact (un_mulz z).elim (bhd_ne h1) (bhd_ne h2)
    · exact hr z
  · have s1 := un_szmul_le (pmul (bhd P1) (bhd P2)) r
    have s2 := un_szmul_le (bhd P1) (bhd P2)
    have s3 : sz (bhd P1) ≤ bsn P1 := bsn_le P1 _
    have s4 : sz (bhd P2) ≤ bsn P2 := bsn_le P2 _
    have s5 : (bsz A + bsz B) * 900 ≤ 300 * 900 := Nat.mul_le_mul_right _ (by omega)
    omega
  · rw [ev_mul, ev_mul] at hx
    have x1 : ev (bhd P1) x ≠ 0 := fun z => hx (by rw [z]; grind)
    have x2 : ev (bhd P2) x ≠ 0 := fun z => hx (by rw [z]; grind)
    have x3 : ev r x ≠ 0 := fun z => hx (by rw [z]; grind)
    refine ⟨x1, x2, ?_⟩
    have b1 : bat x P1 = pmul (bat x (gcdB P1 P2)) (bat x A) := by rw [← bat_mul, ← eA]
    have b2' : bat x P2 = pmul (bat x (gcdB P1 P2)) (bat x B) := by rw [← bat_mul, ← eB]
    have b3 : padd (pmul (bat x U) (bat x A)) (pmul (bat x V) (bat x B)) = pC (ev r x) := by rw [← bat_mul, ← bat_mul, ← bat_add, er, bat_C]
    have hgx := ev_lead hg.1 x1
    have szg := (bat_sz gz).mpr hgx
    have np1 : bat x P1 ≠ pz := fun z => by
      have := (bat_sz h1).mpr x1
      rw [z, sz_z] at this
      have := bsz_pos h1
      omega
    have gne : gcdU (bat x P1) (bat x P2) ≠ pz := fun z => np1 (gcdU_pz.mp z).1
    have bgne : bat x (gcdB P1 P2) ≠ pz := fun z => by
      rw [z, sz_z] at szg
      have := bsz_pos gz
      omega
    have d1 : dv (bat x (gcdB P1 P2)) (gcdU (bat x P1) (bat x P2)) := (gcdU_is _ _).2.2 _ ⟨_, b1⟩ ⟨_, b2'⟩
    have d2 : dv (gcdU (bat x P1) (bat x P2)) (bat x (gcdB P1 P2)) := by
      obtain ⟨s, es⟩ := (gcdU_is (bat x P1) (bat x P2)).1
      obtain ⟨t, et⟩ := (gcdU_is (bat x P1) (bat x P2)).2.1
      have hiv := iv_mul x3
      have e1 : (pmul (pC (ev r x)) (pC (iv (ev r x))) : Un) = pC 1 := pl_ext fun i => by
        rw [pC_mul, co_C, co_C]
        split
        · exact hiv
        · grind
      generalize gcdU (bat x P1) (bat x P2) = w at es et ⊢
      refine ⟨pmul (padd (pmul (bat x U) s) (pmul (bat x V) t)) (pC (iv (ev r x))), ?_⟩
      have hh : ∀ g a b u v s t w r i : Un, g * a = w * s → g * b = w * t → u * a + v * b = r → r * i = 1 → g = w * ((u * s + v * t) * i) := by
        intro g a b u v s t w r i q1 q2 q3 q4
        have q5 : g = g * (r * i) := by rw [q4]; grind
        rw [q5, ← q3]
        have q6 : g * ((u * a + v * b) * i) = (u * (g * a) + v * (g * b)) * i := by grind
        rw [q6, q1, q2]; grind
      exact hh _ _ _ _ _ _ _ _ _ _ (b1.symm.trans es) (b2'.symm.trans et) b3 (e1.trans p1_def)
    have := dv_sz fp_dom d1 gne
    have := dv_sz fp_dom d2 bgne
    omega
section
variable {P1 P2 : Bi} {x : Fp}
theorem mg_dv (h1 : P1 ≠ bz) (x1 : ev (bhd P1) x ≠ 0) : gcdU (bat x P1) (bat x P2) ≠ pz ∧ udv (bat x (gcdB P1 P2)) (gcdU (bat x P1) (bat x P2)) ∧ sz (bat x (gcdB P1 P2)) = bsz (gcdB P1 P2) := by
  letI i1 := plRing Fp
  have hg := gcdB_is P1 P2
  have gz : gcdB P1 P2 ≠ bz := gcdB_nz h1
  obtain ⟨A, eA⟩ := hg.1
  obtain ⟨B, eB⟩ := hg.2.1
  have eA : P1 = bmul (gcdB P1 P2) A := eA
  have eB : P2 = bmul (gcdB P1 P2) B := eB
  have b1 : bat x P1 = pmul (bat x (gcdB P1 P2)) (bat x A) := by rw [← bat_mul, ← eA]
  have b2' : bat x P2 = pmul (bat x (gcdB P1 P2)) (bat x B) := by rw [← bat_mul, ← eB]
  have np1 : bat x P1 ≠ pz := fun z => by
    have := (bat_sz h1).mpr x1
    rw [z, sz_z] at this
    have := bsz_pos h1
    omega
  exact ⟨fun z => np1 (gcdU_pz.mp z).1, (gcdU_is _ _).2.2 _ ⟨_, b1⟩ ⟨_, b2'⟩, (bat_sz gz).mpr (ev_lead hg.1 x1)⟩
theorem mg_ge (h1 : P1 ≠ bz) (x1 : ev (bhd P1) x ≠ 0) : bsz (gcdB P1 P2) ≤ sz (gcdU (bat x P1) (bat x P2)) := by
  obtain ⟨a, b, c⟩ := mg_dv (P2 := P2) h1 x1
  have := dv_sz fp_dom b a
  omega
/-- the numbers that are kept are those of c g -/
theorem mg_img (h1 : P1 ≠ bz) (x1 : ev (bhd P1) x ≠ 0) {c gm : Un} (hc : gm = pmul (bhd (gcdB P1 P2)) c) (hs : sz (gcdU (bat x P1) (bat x P2)) = bsz (gcdB P1 P2)) (j : Nat) : co (gcdU (bat x P1) (bat x P2)) j * ev gm x = ev (pmul c (bco (gcdB P1 P2) j)) x := by
  obtain ⟨a, ⟨s, es⟩, c'⟩ := mg_dv (P2 := P2) h1 x1
  have gz : gcdB P1 P2 ≠ bz := gcdB_nz h1
  have es : gcdU (bat x P1) (bat x P2) = pmul (bat x (gcdB P1 P2)) s := es
  have hgx := ev_lead (gcdB_is P1 P2).1 x1
  have bne : bat x (gcdB P1 P2) ≠ pz := fun z => a (by rw [es, z, (szmul_z s).2])
  have sne : s ≠ pz := fun z => a (by rw [es, z, (szmul_z _).1])
  have hm := sz_mul fp_dom bne sne
  have sp := sz_pos sne
  have bp := sz_pos bne
  have s1 : sz s = 1 := by
    have := hm.1
    rw [← es] at this
    omega
  have es1 := sz_1C (p := s) (by omega)
  have hh := hm.2
  rw [← es, (gcdU_hd _ _).resolve_left a, bat_hd gz hgx] at hh
  have e2 : hd s = co s 0 := by rw [es1, hd_C]; rfl
  rw [e2] at hh
  have e3 : co (gcdU (bat x P1) (bat x P2)) j = co (bat x (gcdB P1 P2)) j * co s 0 := by
    rw [es]
    have : pmul (bat x (gcdB P1 P2)) s = pmul (bat x (gcdB P1 P2)) (pC (co s 0)) := congrArg _ es1
    rw [this, co_mulC]
  rw [e3, co_bat, hc, ev_mul, ev_mul]
  generalize ev (bco (gcdB P1 P2) j) x = u at *
  generalize ev (bhd (gcdB P1 P2)) x = v at *
  generalize co s 0 = w at *
  generalize ev c x = t at *
  grind
end
theorem prim_of_dv {F G : Bi} (hG : bprim G) (h : bdv F G) : bprim F := fun c hc => by
  obtain ⟨F', e⟩ := @dvC_co Un (plRing Fp) c F hc
  have h1 : bdv (bC c) G := bdv_trans ⟨F', e⟩ h
  exact hG c (@dvC_iff Un (plRing Fp) c G h1)
/-- c g by its content is the divisor again -/
theorem pp_cg {P1 P2 g : Bi} {c : Un} (hg : isG g P1 P2) (hp : bprim g) (hc : c ≠ pz) : isG (ppB (bmul (bC c) g)) P1 P2 := by
  have hne : bmul (bC c) g ≠ bz := b_mulne (bC_ne hc) (prim_nz hp)
  have hpp := ppB_prim hne
  refine isG_assoc hg (prim_dv hpp hc ?_) (prim_dv hp (p := contU (bmul (bC c) g)) (fun z => hne (contU_z.mp z)) ?_)
  · have := ppB_eq (bmul (bC c) g)
    exact ⟨bC (contU (bmul (bC c) g)), this.trans (b_mulc _ _)⟩
  · rw [← ppB_eq]
    exact ⟨bC c, b_mulc _ _⟩
theorem ppB_bsz (F : Bi) : bsz (ppB F) = bsz F := by
  by_cases h : F = bz
  · rw [ppB_z h, h]
  · have hk : contU F ≠ pz := fun z => h (contU_z.mp z)
    have e : bsz F = bsz (bmul (bC (contU F)) (ppB F)) := by rw [← ppB_eq F]
    rw [e, (bsz_mul (bC_ne hk) (ppB_ne h)).1, bsz_C hk]
    have := bsz_pos (ppB_ne h)
    omega
theorem ppB_bsn (F : Bi) : bsn (ppB F) ≤ bsn F := by
  by_cases h : F = bz
  · rw [ppB_z h, h]; exact Nat.le_refl _
  · exact (bdv_bsz ⟨bC (contU F), by have := ppB_eq F; rw [b_mulc] at this; exact this⟩ h).2
