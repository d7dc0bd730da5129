set_option maxRecDepth 100000
/-! POLYNOMIALS IN n AND k: sizes of products, contents, greatest common divisors with head 1 -/
theorem bdv_iff {F G : Bi} : bdv F G ↔ ∃ H, G = bmul F H := Iff.rfl
theorem cc_mul (F G : Bi) (j i : Nat) : cc (bmul F G) j i = sm (fun l => co (pmul (bco F l) (bco G (j - l))) i) (j + 1) := by
  unfold cc
  rw [bco_mul, sm_co]
/-- the polynomial in k at n^i -/
noncomputable def bcol (F : Bi) (i : Nat) : Un := mkP (fun j => cc F j i) (bsz F)
theorem co_col (F : Bi) (i j : Nat) : co (bcol F i) j = cc F j i := by
  unfold bcol
  rw [co_mkP]
  split
  · rfl
  · rw [cc_out (by omega)]
theorem cc_top {F G : Bi} {a b : Nat} (h1 : bsn F ≤ a + 1) (h2 : bsn G ≤ b + 1) (j : Nat) : cc (bmul F G) j (a + b) = co (pmul (bcol F a) (bcol G b)) j := by
  rw [cc_mul, co_mul]
  apply sm_congr
  intro l _
  rw [co_col, co_col, co_mul_top (fun i hi => sz_le _ i (by have := bsn_le F l; omega)) (fun i hi => sz_le _ i (by have := bsn_le G (j - l); omega))]
  rfl
theorem bsn_mul {F G : Bi} (hF : F ≠ bz) (hG : G ≠ bz) : bsn (bmul F G) = bsn F + bsn G - 1 := by
  have p1 := bsn_pos hF
  have p2 := bsn_pos hG
  have c1 : ∀ {F : Bi}, F ≠ bz → bcol F (bsn F - 1) ≠ pz := by
    intro F hF e
    have hp := bsn_pos hF
    have : bsn F ≤ bsn F - 1 := bsn_min fun j i hi => by
      by_cases h : i = bsn F - 1
      · rw [h, ← co_col, e, co_z]
      · exact cc_out (by omega)
    omega
  have h3 : pmul (bcol F (bsn F - 1)) (bcol G (bsn G - 1)) ≠ pz := fun e => (un_mulz e).elim (c1 hF) (c1 hG)
  have h4 := hd_ne h3
  have e1 := cc_top (F := F) (G := G) (a := bsn F - 1) (b := bsn G - 1) (by omega) (by omega) (sz (pmul (bcol F (bsn F - 1)) (bcol G (bsn G - 1))) - 1)
  have := bsn_eq (F := bmul F G) (n := bsn F - 1 + (bsn G - 1)) (j := sz (pmul (bcol F (bsn F - 1)) (bcol G (bsn G - 1))) - 1) (fun j i hi => by
    have := bmul_szN (F := F) (G := G) (a := bsn F) (b := bsn G) (fun j i hi => sz_le _ i (Nat.le_trans (bsn_le F j) hi)) (fun j i hi => sz_le _ i (Nat.le_trans (bsn_le G j) hi)) j
    exact this i (by omega)) (by rw [e1]; exact h4)
  omega
theorem b_mulne {F G : Bi} (hF : F ≠ bz) (hG : G ≠ bz) : bmul F G ≠ bz := fun e => by
  letI i2 : Lean.Grind.CommRing Bi := @plRing Un (plRing Fp)
  exact (bi_dom.1 F G e).elim hF hG
theorem b_mulz' (A : Bi) : bmul A bz = bz := by rw [b_mulc, b_mulz]
theorem b_assoc (A B C : Bi) : bmul (bmul A B) C = bmul A (bmul B C) := by
  letI i2 : Lean.Grind.CommRing Bi := @plRing Un (plRing Fp)
  have hh : ∀ A B C : Bi, A * B * C = A * (B * C) := by intros; grind
  exact hh _ _ _
theorem b_cancel {A B C : Bi} (h : A ≠ bz) (e : bmul A B = bmul A C) : B = C := by
  letI i2 : Lean.Grind.CommRing Bi := @plRing Un (plRing Fp)
  exact dom_cancel bi_dom h e
theorem b_CC (p q : Un) : bmul (bC p) (bC q) = bC (pmul p q) := cc_ext fun j i => by
  unfold cc
  rw [bco_Cmul, bco_C, bco_C]
  split
  · rfl
  · rw [(szmul_z p).1]
theorem bC_z : bC (pz : Un) = bz := rfl
theorem bC_ne {p : Un} (h : p ≠ pz) : bC p ≠ bz := fun e => h (by
  have : bco (bC p) 0 = bco bz 0 := by rw [e]
  rw [bco_C, bco_z, if_pos rfl] at this
  exact this)
theorem bsz_C {p : Un} (h : p ≠ pz) : bsz (bC p) = 1 := @sz_C Un (plRing Fp) p h
theorem bsn_C (p : Un) : bsn (bC p) = sz p := by
  apply Nat.le_antisymm
  · exact bsn_min fun j i hi => by rw [cc_C]; split; exact sz_le p i hi; rfl
  · have := bsn_le (bC p) 0
    rw [bco_C, if_pos rfl] at this; exact this
theorem bhd_C (p : Un) : bhd (bC p) = p := @hd_C Un (plRing Fp) p
theorem bsz1_C {F : Bi} (h : bsz F ≤ 1) : F = bC (bco F 0) := @sz_1C Un (plRing Fp) F h
theorem bhd_z : bhd bz = pz := @hd_z Un (plRing Fp)
theorem bhd_mul (F G : Bi) : bhd (bmul F G) = pmul (bhd F) (bhd G) := @hd_mul Un (plRing Fp) un_dom F G
/-- the head: the number at the greatest power of k, of n there -/
noncomputable def hB (F : Bi) : Fp := hd (bhd F)
theorem hB_mul (F G : Bi) : hB (bmul F G) = hB F * hB G := by unfold hB; rw [bhd_mul, hd_mul fp_dom]
theorem hB_z : hB bz = 0 := by unfold hB; rw [bhd_z, hd_z]
theorem hB_ne {F : Bi} (h : F ≠ bz) : hB F ≠ 0 := hd_ne (bhd_ne h)
theorem hB_C (p : Un) : hB (bC p) = hd p := by unfold hB; rw [bhd_C]
theorem hB_sc (c : Fp) (F : Bi) : hB (bsc c F) = c * hB F := by unfold bsc; rw [hB_mul, hB_C, hd_C]
theorem sc_sc (c e : Fp) (F : Bi) : bsc c (bsc e F) = bsc (c * e) F := cc_ext fun j i => by rw [cc_sc, cc_sc, cc_sc]; grind
theorem sc_1 (F : Bi) : bsc 1 F = F := cc_ext fun j i => by rw [cc_sc]; grind
theorem sc_z (c : Fp) : bsc c bz = bz := b_mulz' _
theorem sc_mul (c : Fp) (F G : Bi) : bmul (bsc c F) G = bsc c (bmul F G) := b_assoc _ _ _
theorem sc_mul' (c : Fp) (F G : Bi) : bmul F (bsc c G) = bsc c (bmul F G) := by rw [b_mulc, sc_mul, b_mulc]
theorem sc_ne {c : Fp} {F : Bi} (hc : c ≠ 0) (h : F ≠ bz) : bsc c F ≠ bz := b_mulne (bC_ne (pC_ne hc)) h
theorem sc_dv {c : Fp} (hc : c ≠ 0) (F : Bi) : bdv (bsc c F) F ∧ bdv F (bsc c F) := by
  refine ⟨⟨bC (pC (iv c)), ?_⟩, ⟨bC (pC c), b_mulc _ _⟩⟩
  show F = bmul (bsc c F) (bC (pC (iv c)))
  rw [b_mulc]
  show F = bsc (iv c) (bsc c F)
  have h1 := iv_mul hc
  have h2 : iv c * c = 1 := by
    generalize iv c = z at h1 ⊢
    grind
  rw [sc_sc, h2, sc_1]
theorem bdv_trans {A B C : Bi} (h1 : bdv A B) (h2 : bdv B C) : bdv A C := by
  letI i2 : Lean.Grind.CommRing Bi := @plRing Un (plRing Fp)
  exact dv_trans h1 h2
theorem bdv_refl (A : Bi) : bdv A A := ⟨bC (pC 1), by show A = bmul A (bC (pC 1)); rw [b_mulc, b_mul1]⟩
theorem bdv_z (A : Bi) : bdv A bz := ⟨bz, (b_mulz' A).symm⟩
theorem bdv_of_z {A : Bi} (h : bdv bz A) : A = bz := by
  obtain ⟨s, e⟩ := h
  rw [e]; exact b_mulz s
theorem bdv_bsz {A B : Bi} (h : bdv A B) (hB : B ≠ bz) : bsz A ≤ bsz B ∧ bsn A ≤ bsn B := by
  obtain ⟨s, e⟩ := h
  have e : B = bmul A s := e
  have hA : A ≠ bz := fun z => hB (by rw [e, z, b_mulz])
  have hs : s ≠ bz := fun z => hB (by rw [e, z, b_mulz'])
  have h1 := (bsz_mul hA hs).1
  have h2 := bsn_mul hA hs
  have := bsz_pos hs
  have := bsn_pos hs
  rw [e]; omega
/-- a unit is a number -/
theorem unit_C {U V : Bi} (h : bmul U V = bC (pC 1)) : ∃ c, c ≠ 0 ∧ U = bC (pC c) := by
  have h1 : bC (pC (1 : Fp)) ≠ bz := bC_ne (pC_ne fp_dom.2)
  have hU : U ≠ bz := fun z => h1 (by rw [← h, z, b_mulz])
  have hV : V ≠ bz := fun z => h1 (by rw [← h, z, b_mulz'])
  have e1 := (bsz_mul hU hV).1
  have e2 := bsn_mul hU hV
  rw [h, bsz_C (pC_ne fp_dom.2)] at e1
  rw [h, bsn_C, sz_C fp_dom.2] at e2
  have p1 := bsz_pos hU
  have p2 := bsz_pos hV
  have p3 := bsn_pos hU
  have p4 := bsn_pos hV
  have e3 : U = bC (pC (cc U 0 0)) := by
    have := b2_cc U (N := 1) (K := 1) (by omega) (by omega)
    exact this.symm.trans (b2_C (cc U 0 0) _ rfl)
  refine ⟨cc U 0 0, fun z => hU (by rw [e3, z]; rfl), e3⟩
theorem assocB {F G : Bi} (h1 : bdv F G) (h2 : bdv G F) (h : hB F = hB G) : F = G := by
  by_cases hF : F = bz
  · rw [hF] at h1 ⊢; exact (bdv_of_z h1).symm
  · obtain ⟨U, e1⟩ := h1
    obtain ⟨V, e2⟩ := h2
    have e1 : G = bmul F U := e1
    have e2 : F = bmul G V := e2
    have e3 : bmul U V = bC (pC 1) := by
      apply b_cancel hF
      rw [← b_assoc, ← e1, ← e2, b_mulc, b_mul1]
    obtain ⟨c, hc, e4⟩ := unit_C e3
    have e5 : hB G = hB F * c := by rw [e1, hB_mul, e4, hB_C, hd_C]
    have hc1 : c = 1 := by
      have hne := hB_ne hF
      have h6 : hB F * (1 : Fp) = hB F * c := by rw [← e5, ← h]; grind
      exact (dom_cancel fp_dom hne h6).symm
    rw [e1, e4, hc1, b_mulc, b_mul1]
def isG (H F G : Bi) : Prop := @isGcd Bi (@plRing Un (plRing Fp)) H F G
/-- head 1 -/
noncomputable def bmo (F : Bi) : Bi := bsc (iv (hB F)) F
theorem bmo_z : bmo bz = bz := sc_z _
theorem bmo_hd {F : Bi} (h : F ≠ bz) : hB (bmo F) = 1 := by
  unfold bmo
  rw [hB_sc]
  have := iv_mul (hB_ne h)
  generalize iv (hB F) = z at this ⊢
  grind
theorem iv_ne {x : Fp} (h : x ≠ 0) : iv x ≠ 0 := fun z => by
  have := iv_mul h
  rw [z] at this
  exact fp_dom.2 (by grind)
theorem bmo_dv (F : Bi) : bdv (bmo F) F ∧ bdv F (bmo F) := by
  by_cases h : F = bz
  · rw [h, bmo_z]; exact ⟨bdv_refl _, bdv_refl _⟩
  · exact sc_dv (iv_ne (hB_ne h)) F
theorem bmo_one {F : Bi} (h : hB F = 1) : bmo F = F := by
  unfold bmo
  rw [h, show iv 1 = 1 from fp_one_pow _, sc_1]
theorem isG_assoc {H H' F G : Bi} (h : isG H F G) (h1 : bdv H' H) (h2 : bdv H H') : isG H' F G := ⟨bdv_trans h1 h.1, bdv_trans h1 h.2.1, fun c c1 c2 => bdv_trans (h.2.2 c c1 c2) h2⟩
theorem gcdB_ex (F G : Bi) : ∃ H, isG H F G ∧ (H = bz ∨ hB H = 1) := by
  obtain ⟨H, h⟩ := bi_gcd F G
  refine ⟨bmo H, isG_assoc h (bmo_dv H).1 (bmo_dv H).2, ?_⟩
  by_cases hz : H = bz
  · left; rw [hz, bmo_z]
  · right; exact bmo_hd hz
/-- the greatest common divisor with head 1 (of two 0: 0) -/
noncomputable def gcdB (F G : Bi) : Bi := Classical.choose (gcdB_ex F G)
theorem gcdB_is (F G : Bi) : isG (gcdB F G) F G := (Classical.choose_spec (gcdB_ex F G)).1
theorem gcdB_hd (F G : Bi) : gcdB F G = bz ∨ hB (gcdB F G) = 1 := (Classical.choose_spec (gcdB_ex F G)).2
theorem gcdB_uniq {F G H : Bi} (h : isG H F G) (hh : H = bz ∨ hB H = 1) : H = gcdB F G := by
  have h1 : bdv H (gcdB F G) := (gcdB_is F G).2.2 H h.1 h.2.1
  have h2 : bdv (gcdB F G) H := h.2.2 _ (gcdB_is F G).1 (gcdB_is F G).2.1
  rcases hh with e | e
  · rw [e] at h1 ⊢; exact (bdv_of_z h1).symm
  · rcases gcdB_hd F G with e2 | e2
    · rw [e2] at h2 ⊢; exact bdv_of_z h2
    · exact assocB h1 h2 (by rw [e, e2])
theorem gcdB_mo {F G H : Bi} (h : isG H F G) : bmo H = gcdB F G := by
  refine gcdB_uniq (isG_assoc h (bmo_dv H).1 (bmo_dv H).2) ?_
  by_cases hz : H = bz
  · left; rw [hz, bmo_z]
  · right; exact bmo_hd hz
theorem gcdB_zl (G : Bi) : gcdB bz G = bmo G := (gcdB_mo ⟨bdv_z G, bdv_refl G, fun _ _ h => h⟩).symm
theorem gcdB_zr (F : Bi) : gcdB F bz = bmo F := (gcdB_mo ⟨bdv_refl F, bdv_z F, fun _ h _ => h⟩).symm
theorem gcdB_comm (F G : Bi) : gcdB F G = gcdB G F := by
  have h := gcdB_is F G
  exact gcdB_uniq ⟨h.2.1, h.1, fun c h1 h2 => h.2.2 c h2 h1⟩ (gcdB_hd F G)
theorem gcdB_nz {F G : Bi} (h : F ≠ bz) : gcdB F G ≠ bz := fun e => h (by
  have := (gcdB_is F G).1
  rw [e] at this
  exact bdv_of_z this)
theorem gcdB_nzr {F G : Bi} (h : G ≠ bz) : gcdB F G ≠ bz := by rw [gcdB_comm]; exact gcdB_nz h
/-- what the first rows share -/
noncomputable def ctn (F : Bi) : Nat → Un
  | 0 => pz
  | j + 1 => gcdU (ctn F j) (bco F j)
theorem ctn_dv (F : Bi) : ∀ (j l : Nat), l < j → udv (ctn F j) (bco F l)
  | 0, l, h => absurd h (Nat.not_lt_zero l)
  | j + 1, l, h => by
    letI := plRing Fp
    by_cases e : l = j
    · rw [e]; exact (gcdU_is (ctn F j) (bco F j)).2.1
    · exact dv_trans (gcdU_is (ctn F j) (bco F j)).1 (ctn_dv F j l (by omega))
theorem ctn_gt (F : Bi) {c : Un} (h : ∀ j, udv c (bco F j)) : ∀ j, udv c (ctn F j)
  | 0 => ⟨pz, (szmul_z c).1.symm⟩
  | j + 1 => (gcdU_is (ctn F j) (bco F j)).2.2 c (ctn_gt F h j) (h j)
theorem ctn_hd (F : Bi) : ∀ j, ctn F j = pz ∨ hd (ctn F j) = 1
  | 0 => Or.inl rfl
  | j + 1 => gcdU_hd _ _
/-- what all rows share -/
noncomputable def contU (F : Bi) : Un := ctn F (bsz F)
theorem contU_dv (F : Bi) (j : Nat) : udv (contU F) (bco F j) := by
  by_cases h : j < bsz F
  · exact ctn_dv F _ j h
  · rw [bsz_le F j (by omega)]; exact ⟨pz, (szmul_z _).1.symm⟩
theorem contU_gt (F : Bi) {c : Un} (h : ∀ j, udv c (bco F j)) : udv c (contU F) := ctn_gt F h _
theorem contU_hd (F : Bi) : contU F = pz ∨ hd (contU F) = 1 := ctn_hd F _
theorem udv_of_z {p : Un} (h : udv pz p) : p = pz := by
  obtain ⟨s, e⟩ := h
  rw [e]; exact (szmul_z s).2
theorem contU_z {F : Bi} : contU F = pz ↔ F = bz := by
  constructor
  · intro e
    refine b_ext fun j => ?_
    have := contU_dv F j
    rw [e] at this
    rw [bco_z]; exact udv_of_z this
  · intro e
    subst e
    unfold contU
    rw [bsz_z]; rfl
theorem contU_sz {F : Bi} (h : F ≠ bz) : sz (contU F) ≤ bsn F := by
  have h1 := contU_dv F (bsz F - 1)
  have h2 : bco F (bsz F - 1) ≠ pz := bhd_ne h
  exact Nat.le_trans (dv_sz fp_dom h1 h2) (bsn_le F _)
theorem ppB_ex (F : Bi) : ∃ G, F = bmul (bC (contU F)) G ∧ (F = bz → G = bz) := by
  by_cases h : F = bz
  · exact ⟨bz, by rw [b_mulz']; exact h, fun _ => rfl⟩
  · obtain ⟨G, e⟩ := @dvC_co Un (plRing Fp) (contU F) F (contU_dv F)
    exact ⟨G, e, fun z => absurd z h⟩
/-- what is left when the content is gone -/
noncomputable def ppB (F : Bi) : Bi := Classical.choose (ppB_ex F)
theorem ppB_eq (F : Bi) : F = bmul (bC (contU F)) (ppB F) := (Classical.choose_spec (ppB_ex F)).1
theorem ppB_z {F : Bi} (h : F = bz) : ppB F = bz := (Classical.choose_spec (ppB_ex F)).2 h
theorem ppB_ne {F : Bi} (h : F ≠ bz) : ppB F ≠ bz := fun z => h (by rw [ppB_eq F, z, b_mulz'])
theorem ppB_bco (F : Bi) (j : Nat) : bco F j = pmul (contU F) (bco (ppB F) j) := by
  have e : bco F j = bco (bmul (bC (contU F)) (ppB F)) j := by rw [← ppB_eq F]
  rw [e, bco_Cmul]
theorem ppB_prim {F : Bi} (h : F ≠ bz) : bprim (ppB F) := by
  letI := plRing Fp
  intro c hc
  have hk : contU F ≠ pz := fun z => h (contU_z.mp z)
  have h1 : udv (pmul (contU F) c) (contU F) := contU_gt F fun j => by
    rw [ppB_bco]
    exact dv_mulmul (contU F) (hc j)
  have h2 : dv (contU F * c) (contU F * 1) := by
    have : contU F * (1 : Un) = contU F := by grind
    rw [this]; exact h1
  exact dv_cancel un_dom hk h2
theorem prim_nz {F : Bi} (h : bprim F) : F ≠ bz := @prim_ne Un (plRing Fp) un_dom F h
theorem contU_prim {F : Bi} (h : bprim F) : contU F = pC 1 := by
  letI := plRing Fp
  have h1 : dv (contU F) (1 : Un) := h (contU F) (contU_dv F)
  have h2 : dv (1 : Un) (contU F) := dv_one _
  have hne : contU F ≠ pz := fun z => prim_nz h (contU_z.mp z)
  refine assoc_eq fp_dom h1 h2 ?_
  have := (contU_hd F).resolve_left hne
  rw [this]; exact (hd_C (1 : Fp)).symm
theorem ppB_of_prim {F : Bi} (h : bprim F) : ppB F = F := by
  have e := ppB_eq F
  rw [contU_prim h, b_mul1] at e
  exact e.symm
/-- content and rest of a product with a polynomial in n -/
theorem prim_dv {F G : Bi} {p : Un} (hF : bprim F) (hp : p ≠ pz) (h : bdv F (bmul (bC p) G)) : bdv F G := @gauss_dv Un (plRing Fp) un_dom un_gcd un_pd F G p hF hp h
theorem prim_mul {F G : Bi} (hF : bprim F) (hG : bprim G) : bprim (bmul F G) := @gauss Un (plRing Fp) un_dom un_pd F G hF hG
theorem contU_dvd {F G : Bi} (h : bdv F G) (hG : G ≠ bz) : udv (contU F) (contU G) ∧ bdv (ppB F) (ppB G) := by
  constructor
  · refine contU_gt G fun j => ?_
    have h1 : bdv (bC (contU F)) G := bdv_trans ⟨ppB F, ppB_eq F⟩ h
    exact @dvC_iff Un (plRing Fp) (contU F) G h1 j
  · have hF : F ≠ bz := fun z => hG (by rw [z] at h; exact bdv_of_z h)
    refine prim_dv (ppB_prim hF) (fun z => hG (contU_z.mp z)) (p := contU G) ?_
    rw [← ppB_eq G]
    exact bdv_trans ⟨bC (contU F), by have := ppB_eq F; rw [b_mulc] at this; exact this⟩ h
theorem bdv_mul2 {A B C D : Bi} (h1 : bdv A B) (h2 : bdv C D) : bdv (bmul A C) (bmul B D) := by
  letI i2 : Lean.Grind.CommRing Bi := @plRing Un (plRing Fp)
  exact dv_mul2 h1 h2
theorem bdv_C {p q : Un} (h : udv p q) : bdv (bC p) (bC q) := by
  obtain ⟨s, e⟩ := h
  have e : q = pmul p s := e
  exact ⟨bC s, by rw [e]; exact (b_CC p s).symm⟩
/-- out of the divisors of the contents and of the rests -/
theorem gcd_parts {F G H : Bi} (hF : F ≠ bz) (hG : G ≠ bz) (h : isG H (ppB F) (ppB G)) : isG (bmul (bC (gcdU (contU F) (contU G))) H) F G := by
  have hc := gcdU_is (contU F) (contU G)
  refine ⟨?_, ?_, fun c c1 c2 => ?_⟩
  · have := bdv_mul2 (bdv_C hc.1) h.1
    rw [← ppB_eq F] at this; exact this
  · have := bdv_mul2 (bdv_C hc.2.1) h.2.1
    rw [← ppB_eq G] at this; exact this
  · have h1 := contU_dvd c1 hF
    have h2 := contU_dvd c2 hG
    have := bdv_mul2 (bdv_C (hc.2.2 _ h1.1 h2.1)) (h.2.2 _ h1.2 h2.2)
    rw [← ppB_eq c] at this; exact this
