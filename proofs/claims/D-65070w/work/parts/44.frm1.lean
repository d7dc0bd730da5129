set_option maxRecDepth 100000
/-! FORMS: the algebra -/
noncomputable def bqo (F G : Bi) : Bi := @dite Bi (∃ H, F = bmul G H) (Classical.propDecidable _) (fun h => Classical.choose h) (fun _ => bz)
theorem bqo_mul {F G : Bi} (h : bdv G F) : F = bmul G (bqo F G) := by
  have h' := bdv_iff.mp h
  unfold bqo
  rw [dif_pos h']
  exact Classical.choose_spec h'
theorem bqo_eq {F G H : Bi} (hG : G ≠ bz) (e : F = bmul G H) : bqo F G = H := by
  have h := bqo_mul (F := F) (G := G) (bdv_iff.mpr ⟨H, e⟩)
  exact (b_cancel hG (e.symm.trans h)).symm
theorem bqo_ne {F G : Bi} (h : bdv G F) (hF : F ≠ bz) : bqo F G ≠ bz := fun w => by
  have e := bqo_mul h
  rw [w, b_mulz'] at e
  exact hF e
theorem shK_mul (v : Fp) (F G : Bi) : bshK v (bmul F G) = bmul (bshK v F) (bshK v G) := @sh_mul Un (plRing Fp) (pC v) F G
theorem pC_add (a b : Fp) : (pC (a + b) : Un) = padd (pC a) (pC b) := pl_ext fun i => by
  rw [co_add, co_C, co_C, co_C]; split <;> grind
theorem shK_shK (u v : Fp) (F : Bi) : bshK u (bshK v F) = bshK (u + v) F := by
  have h := @sh_sh Un (plRing Fp) (pC u) (pC v) F
  have e : (pC (u + v) : Un) = @HAdd.hAdd Un Un Un (@instHAdd Un (plRing Fp).toAdd) (pC u) (pC v) := pC_add u v
  unfold bshK
  rw [e]; exact h
theorem shK_0 (F : Bi) : bshK 0 F = F := by
  have h := @sh_0 Un (plRing Fp) F
  exact h
theorem shK_back (v : Fp) (F : Bi) : bshK (-v) (bshK v F) = F := by
  rw [shK_shK, show -v + v = (0 : Fp) by grind, shK_0]
theorem shK_back' (v : Fp) (F : Bi) : bshK v (bshK (-v) F) = F := by
  rw [shK_shK, show v + -v = (0 : Fp) by grind, shK_0]
theorem shK_dv (v : Fp) {F G : Bi} (h : bdv F G) : bdv (bshK v F) (bshK v G) := by
  obtain ⟨H, e⟩ := bdv_iff.mp h
  exact bdv_iff.mpr ⟨bshK v H, by rw [e, shK_mul]⟩
theorem bsn_shKe (v : Fp) (F : Bi) : bsn (bshK v F) = bsn F := by
  have h1 := bsn_shK v (bsz F) F (Nat.le_refl _)
  have h2 := bsn_shK (-v) (bsz (bshK v F)) (bshK v F) (Nat.le_refl _)
  rw [shK_back] at h2
  omega
theorem udv_C {c : Un} {F : Bi} : (∀ j, udv c (bco F j)) ↔ bdv (bC c) F := by
  constructor
  · intro h
    obtain ⟨F', e⟩ := @dvC_co Un (plRing Fp) c F h
    exact bdv_iff.mpr ⟨F', e⟩
  · intro h j
    exact @dvC_iff Un (plRing Fp) c F h j
theorem shK_prim (v : Fp) {F : Bi} (h : bprim F) : bprim (bshK v F) := by
  intro c hc
  refine h c (fun j => ?_)
  have h1 := udv_C.mp hc
  have h2 := shK_dv (-v) h1
  rw [shK_C, shK_back] at h2
  exact udv_C.mpr h2 j
theorem shK_bhd (v : Fp) (F : Bi) : bhd (bshK v F) = bhd F := by
  -- by heads of products: F is its last row times k^.. and the rest
  by_cases hF : F = bz
  · rw [hF]
    have : bshK v bz = bz := by
      have := shK_C v pz
      rw [bC_z] at this; exact this
    rw [this]
  · have key : ∀ n F, bsz F ≤ n → F ≠ bz → bhd (bshK v F) = bhd F := by
      intro n
      induction n with
      | zero => intro F h hF; exact absurd (bsz_0 (Nat.le_zero.mp h)) hF
      | succ n ih =>
        intro F h hF
        by_cases h1 : bsz F ≤ 1
        · rw [bsz1_C h1, shK_C]
        · -- F = k S + c
          have e : F = badd (bmul (bX 1) (bmk (fun j => bco F (j + 1)) (bsz F - 1))) (bC (bco F 0)) := by
            refine b_ext fun j => ?_
            rw [bco_add, bco_Xmul, bco_C]
            by_cases hj : j = 0
            · rw [if_neg (by omega), if_pos hj, hj]
              exact pl_ext fun i => by rw [co_add, co_z]; grind
            · rw [if_pos (by omega), if_neg hj, bco_mk]
              by_cases h2 : j - 1 < bsz F - 1
              · rw [if_pos h2, show j - 1 + 1 = j by omega]
                exact pl_ext fun i => by rw [co_add, co_z]; grind
              · rw [if_neg h2, bsz_le F j (by omega)]
                exact pl_ext fun i => by rw [co_add, co_z]; grind
          have hh : bco F (bsz F - 1) = bhd F := rfl
          have hne := bhd_ne hF
          have sS : bsz (bmk (fun j => bco F (j + 1)) (bsz F - 1)) = bsz F - 1 := by
            refine Nat.le_antisymm (bsz_min fun j hj => by rw [bco_mk, if_neg (by omega)]) (Nat.le_of_not_lt fun w => ?_)
            have := bsz_le (bmk (fun j => bco F (j + 1)) (bsz F - 1)) (bsz F - 2) (by omega)
            rw [bco_mk, if_pos (by omega), show bsz F - 2 + 1 = bsz F - 1 by omega, hh] at this
            exact hne this
          have hS : bhd (bmk (fun j => bco F (j + 1)) (bsz F - 1)) = bhd F := by
            show bco (bmk (fun j => bco F (j + 1)) (bsz F - 1)) (bsz (bmk (fun j => bco F (j + 1)) (bsz F - 1)) - 1) = bhd F
            rw [sS, bco_mk, if_pos (by omega), show bsz F - 1 - 1 + 1 = bsz F - 1 by omega, hh]
          have nS : bmk (fun j => bco F (j + 1)) (bsz F - 1) ≠ bz := fun w => by rw [w, bsz_z] at sS; omega
          have i1 := ih _ (by rw [sS]; omega) nS
          have sz1 := bsz_shK v (bmk (fun j => bco F (j + 1)) (bsz F - 1))
          rw [hS] at i1
          rw [sS] at sz1
          have e2 : bshK v F = badd (bmul (bX 1) (bshK v (bmk (fun j => bco F (j + 1)) (bsz F - 1)))) (badd (bmul (bC (pC v)) (bshK v (bmk (fun j => bco F (j + 1)) (bsz F - 1)))) (bC (bco F 0))) := by
            have a1 := @sh_add Un (plRing Fp) (pC v) (bmul (bX 1) (bmk (fun j => bco F (j + 1)) (bsz F - 1))) (bC (bco F 0))
            have a3 : bshK v (bX 1) = badd (bX 1) (bC (pC v)) := @sh_X Un (plRing Fp) (pC v)
            have e3 : bshK v F = bshK v (badd (bmul (bX 1) (bmk (fun j => bco F (j + 1)) (bsz F - 1))) (bC (bco F 0))) := by rw [← e]
            rw [e3]
            refine (show bshK v (badd (bmul (bX 1) (bmk (fun j => bco F (j + 1)) (bsz F - 1))) (bC (bco F 0))) = badd (bshK v (bmul (bX 1) (bmk (fun j => bco F (j + 1)) (bsz F - 1)))) (bshK v (bC (bco F 0))) from a1).trans ?_
            rw [shK_mul, a3, shK_C, b_addmul, b_addassoc]
          generalize bshK v (bmk (fun j => bco F (j + 1)) (bsz F - 1)) = S at i1 sz1 e2
          have st := bsz_shK v F
          have e4 : bhd (bshK v F) = bco (bshK v F) (bsz F - 1) := by
            show bco (bshK v F) (bsz (bshK v F) - 1) = _
            rw [st]
          rw [e4, e2, bco_add, bco_add, bco_Xmul, if_pos (by omega), bco_C, if_neg (by omega), bco_Cmul, bsz_le S (bsz F - 1) (by omega)]
          have e5 : bco S (bsz F - 1 - 1) = bhd F := by
            rw [← i1]
            show _ = bco S (bsz S - 1)
            rw [sz1]
          rw [e5, (szmul_z (pC v)).1]
          exact pl_ext fun i => by rw [co_add, co_add, co_z]; grind
    exact key (bsz F) F (Nat.le_refl _) hF
/-- every primitive divisor has n's degree at most 24 times k's -/
def thin (F : Bi) : Prop := ∀ G, bprim G → bdv G F → bsn G ≤ 24 * (bsz G - 1) + 1
theorem prim_sz1 {G : Bi} (h : bprim G) (h1 : bsz G ≤ 1) : bsn G = 1 := by
  obtain ⟨c, hc, e⟩ := prim1_C h h1
  rw [e, bsn_C, sz_C hc]
theorem thin_small {F : Bi} (hF : F ≠ bz) (h : bsn F ≤ 25) : thin F := by
  intro G hG hd
  have := bdv_bsz hd hF
  by_cases h1 : bsz G ≤ 1
  · rw [prim_sz1 hG h1]; omega
  · omega
theorem thin_dv {F G : Bi} (h : thin G) (hd : bdv F G) : thin F := fun H hp hH => h H hp (bdv_trans hH hd)
theorem thin_mul {F F' : Bi} (hF : F ≠ bz) (h : thin F) (h' : thin F') : thin (bmul F F') := by
  intro G hG hd
  have hGne := prim_nz hG
  obtain ⟨D, hD⟩ := bi_gcd G F
  have d1 : bdv D G := hD.1
  have d2 : bdv D F := hD.2.1
  obtain ⟨G1, eG⟩ := bdv_iff.mp d1
  obtain ⟨F1, eF⟩ := bdv_iff.mp d2
  have nD : D ≠ bz := fun w => by rw [w, b_mulz] at eG; exact hGne eG
  have nG1 : G1 ≠ bz := fun w => by rw [w, b_mulz'] at eG; exact hGne eG
  have cop : bcop G1 F1 := by
    letI := @plRing Un (plRing Fp)
    exact gcd_copr bi_dom hD (fun w => nD w) eG eF
  have d3 : bdv G1 (bmul F1 F') := by
    obtain ⟨X, eX⟩ := bdv_iff.mp hd
    refine bdv_iff.mpr ⟨X, b_cancel nD ?_⟩
    rw [← b_assoc, ← eF, eX, eG, b_assoc]
  have d4 : bdv G1 F' := by
    letI := @plRing Un (plRing Fp)
    exact euclid bi_dom bi_gcd cop d3
  have pD : bprim D := prim_of_dv hG d1
  have pG1 : bprim G1 := prim_of_dv hG (bdv_iff.mpr ⟨D, by rw [eG]; exact b_mulc _ _⟩)
  have t1 := h D pD d2
  have t2 := h' G1 pG1 d4
  have s1 := bsn_mul nD nG1
  have s2 := (bsz_mul nD nG1).1
  have p1 := bsz_pos nD
  have p2 := bsz_pos nG1
  have p3 := bsn_pos nD
  rw [eG, s1, s2]
  omega
theorem thin_sh {F : Bi} (h : thin F) (v : Fp) : thin (bshK v F) := by
  intro G hG hd
  have h1 := shK_dv (-v) hd
  rw [shK_back] at h1
  have := h (bshK (-v) G) (shK_prim (-v) hG) h1
  rw [bsn_shKe, bsz_shK] at this
  exact this
/-- what A and B with k + i share, without n alone -/
noncomputable def fmG (i : Nat) (A B : Bi) : Bi := ppB (gcdB A (bshK (nF i) B))
noncomputable def fmC (G : Bi) : Nat → Bi → Bi
  | 0, C => C
  | s + 1, C => bmul (fmC G s C) (bshK (-nF (s + 1)) G)
abbrev B3 : Type := Bi × Bi × Bi
noncomputable def fmS (i : Nat) (X : B3) : B3 := cite (1 < bsz (fmG i X.1 X.2.1)) (bqo X.1 (fmG i X.1 X.2.1), bqo X.2.1 (bshK (-nF i) (fmG i X.1 X.2.1)), fmC (fmG i X.1 X.2.1) i X.2.2) X
noncomputable def fmL (T B : Bi) : Nat → B3
  | 0 => (T, B, bC (pC 1))
  | i + 1 => fmS i (fmL T B i)
/-- A, B, C of a form -/
noncomputable def fm (T B : Bi) : B3 := fmL T B 41
theorem fmG_ne {i : Nat} {A B : Bi} (h : A ≠ bz) : fmG i A B ≠ bz := ppB_ne (gcdB_nz h)
theorem fmG_prim {i : Nat} {A B : Bi} (h : A ≠ bz) : bprim (fmG i A B) := ppB_prim (gcdB_nz h)
theorem pp_dv (F : Bi) : bdv (ppB F) F := bdv_iff.mpr ⟨bC (contU F), by rw [b_mulc]; exact ppB_eq F⟩
theorem fmG_dvA (i : Nat) (A B : Bi) : bdv (fmG i A B) A := bdv_trans (pp_dv _) (gcdB_is A (bshK (nF i) B)).1
theorem fmG_dvB (i : Nat) (A B : Bi) : bdv (bshK (-nF i) (fmG i A B)) B := by
  have h : bdv (fmG i A B) (bshK (nF i) B) := bdv_trans (pp_dv _) (gcdB_is A (bshK (nF i) B)).2.1
  have := shK_dv (-nF i) h
  rwa [shK_back] at this
theorem fmG_low {i : Nat} {A B : Bi} (hA : A ≠ bz) (h : bsz A ≤ 1 ∨ bsz B ≤ 1) (hB : B ≠ bz) : bsz (fmG i A B) ≤ 1 := by
  have h1 := (bdv_bsz (fmG_dvA i A B) hA).1
  have h2 := (bdv_bsz (fmG_dvB i A B) hB).1
  rw [bsz_shK] at h2
  omega
theorem fmC_ne {G C : Bi} (hG : G ≠ bz) (hC : C ≠ bz) : ∀ s, fmC G s C ≠ bz
  | 0 => hC
  | s + 1 => b_mulne (fmC_ne hG hC s) (shK_ne _ hG)
theorem fmC_bsz {G C : Bi} (hG : G ≠ bz) (hC : C ≠ bz) : ∀ s, bsz (fmC G s C) = bsz C + s * (bsz G - 1)
  | 0 => by show bsz C = _; omega
  | s + 1 => by
    have h := (bsz_mul (fmC_ne hG hC s) (shK_ne (-nF (s + 1)) hG)).1
    rw [bsz_shK, fmC_bsz hG hC s] at h
    have := bsz_pos hG
    show bsz (bmul (fmC G s C) (bshK (-nF (s + 1)) G)) = _
    rw [h, Nat.succ_mul]; omega
theorem fmC_bsn {G C : Bi} (hG : G ≠ bz) (hC : C ≠ bz) : ∀ s, bsn (fmC G s C) = bsn C + s * (bsn G - 1)
  | 0 => by show bsn C = _; omega
  | s + 1 => by
    have h := bsn_mul (fmC_ne hG hC s) (shK_ne (-nF (s + 1)) hG)
    rw [bsn_shKe, fmC_bsn hG hC s] at h
    have := bsn_pos hG
    show bsn (bmul (fmC G s C) (bshK (-nF (s + 1)) G)) = _
    rw [h, Nat.succ_mul]; omega
/-- what always holds of A, B, C -/
def fmI (T B : Bi) (X : B3) : Prop := (X.1 ≠ bz) ∧ (X.2.1 ≠ bz) ∧ (X.2.2 ≠ bz) ∧ (bdv X.1 T) ∧ (bdv X.2.1 B) ∧ (thin T → bsn X.2.2 ≤ 24 * (bsz X.2.2 - 1) + 1)
theorem fmI.a {T B : Bi} {X : B3} (I : fmI T B X) : X.1 ≠ bz := I.1
theorem fmI.b {T B : Bi} {X : B3} (I : fmI T B X) : X.2.1 ≠ bz := I.2.1
theorem fmI.c {T B : Bi} {X : B3} (I : fmI T B X) : X.2.2 ≠ bz := I.2.2.1
theorem fmI.da {T B : Bi} {X : B3} (I : fmI T B X) : bdv X.1 T := I.2.2.2.1
theorem fmI.db {T B : Bi} {X : B3} (I : fmI T B X) : bdv X.2.1 B := I.2.2.2.2.1
theorem fmI.th {T B : Bi} {X : B3} (I : fmI T B X) : thin T → bsn X.2.2 ≤ 24 * (bsz X.2.2 - 1) + 1 := I.2.2.2.2.2
theorem fmI_0 {T B : Bi} (hT : T ≠ bz) (hB : B ≠ bz) : fmI T B (T, B, bC (pC 1)) := by
  have h1 : (1 : Fp) ≠ 0 := by decide
  refine ⟨hT, hB, bC_ne (pC_ne h1), bdv_refl T, bdv_refl B, fun _ => ?_⟩
  show bsn (bC (pC 1)) ≤ _
  rw [bsn_C, sz_C h1]; omega
theorem fmI_S {T B : Bi} {X : B3} (h : fmI T B X) (i : Nat) : fmI T B (fmS i X) := by
  unfold fmS
  by_cases c : 1 < bsz (fmG i X.1 X.2.1)
  · rw [cite_pos c]
    have dA := fmG_dvA i X.1 X.2.1
    have dB := fmG_dvB i X.1 X.2.1
    have nG := fmG_ne (i := i) (B := X.2.1) h.a
    have pG := fmG_prim (i := i) (B := X.2.1) h.a
    refine ⟨bqo_ne dA h.a, bqo_ne dB h.b, fmC_ne nG h.c i, bdv_trans (bdv_iff.mpr ⟨_, (bqo_mul dA).trans (b_mulc _ _)⟩) h.da, bdv_trans (bdv_iff.mpr ⟨_, (bqo_mul dB).trans (b_mulc _ _)⟩) h.db, fun t => ?_⟩
    have t1 := t _ pG (bdv_trans dA h.da)
    have t2 := h.th t
    have p1 := bsz_pos h.c
    have p2 := bsz_pos nG
    have p3 := bsn_pos nG
    show bsn (fmC (fmG i X.1 X.2.1) i X.2.2) ≤ 24 * (bsz (fmC (fmG i X.1 X.2.1) i X.2.2) - 1) + 1
    rw [fmC_bsn nG h.c, fmC_bsz nG h.c]
    generalize bsn (fmG i X.1 X.2.1) = x at t1 p3
    generalize bsz (fmG i X.1 X.2.1) = y at t1 p2
    have : i * (x - 1) ≤ i * (24 * (y - 1)) := Nat.mul_le_mul_left _ (by omega)
    have e : i * (24 * (y - 1)) = 24 * (i * (y - 1)) := by rw [Nat.mul_left_comm]
    generalize i * (y - 1) = z at e
    generalize i * (x - 1) = w at this
    omega
  · rw [cite_neg c]; exact h
theorem fmI_L {T B : Bi} (hT : T ≠ bz) (hB : B ≠ bz) : ∀ i, fmI T B (fmL T B i)
  | 0 => fmI_0 hT hB
  | i + 1 => fmI_S (fmI_L hT hB i) i
theorem fmS_up {T B : Bi} {X : B3} (h : fmI T B X) (i : Nat) : bsz X.2.2 ≤ bsz (fmS i X).2.2 := by
  unfold fmS
  by_cases c : 1 < bsz (fmG i X.1 X.2.1)
  · rw [cite_pos c]
    show _ ≤ bsz (fmC (fmG i X.1 X.2.1) i X.2.2)
    rw [fmC_bsz (fmG_ne h.a) h.c]; omega
  · rw [cite_neg c]; exact Nat.le_refl _
theorem fmL_up {T B : Bi} (hT : T ≠ bz) (hB : B ≠ bz) (i : Nat) : ∀ k, bsz (fmL T B i).2.2 ≤ bsz (fmL T B (i + k)).2.2
  | 0 => Nat.le_refl _
  | k + 1 => Nat.le_trans (fmL_up hT hB i k) (fmS_up (fmI_L hT hB (i + k)) (i + k))
/-- nothing more comes when one has no k left -/
theorem fmL_end {T B : Bi} (hT : T ≠ bz) (hB : B ≠ bz) {i : Nat} (h : bsz (fmL T B i).1 ≤ 1 ∨ bsz (fmL T B i).2.1 ≤ 1) : ∀ k, fmL T B (i + k) = fmL T B i
  | 0 => rfl
  | k + 1 => by
    have I := fmI_L hT hB i
    show fmS (i + k) (fmL T B (i + k)) = _
    rw [fmL_end hT hB h k]
    unfold fmS
    rw [cite_neg]
    have := fmG_low (i := i + k) I.a h I.b
    omega
/-- by a number for n it is seen that there is nothing to share -/
theorem bat_shK (x v : Fp) (F : Bi) : bat x (bshK v F) = psh v (bat x F) := by
  have h1 : @Hm Bi Un (@plRing Un (plRing Fp)) (plRing Fp) (fun F => bat x (bshK v F)) := @Hm.comp Bi Bi (@plRing Un (plRing Fp)) (@plRing Un (plRing Fp)) Un (plRing Fp) (bshK v) (bat x) (@hm_sh Un (plRing Fp) (pC v)) (bat_hm x)
  have h2 : @Hm Bi Un (@plRing Un (plRing Fp)) (plRing Fp) (fun F => psh v (bat x F)) := @Hm.comp Bi Un (@plRing Un (plRing Fp)) (plRing Fp) Un (plRing Fp) (bat x) (psh v) (bat_hm x) (hm_sh v)
  refine @hm_uniq Un Un (plRing Fp) (plRing Fp) (fun F => bat x (bshK v F)) (fun F => psh v (bat x F)) h1 h2 (fun c => ?_) ?_ F
  · show bat x (bshK v (bC c)) = psh v (bat x (bC c))
    rw [shK_C, bat_C, sh_C]
  · show bat x (bshK v (bX 1)) = psh v (bat x (bX 1))
    have a3 : bshK v (bX 1) = badd (bX 1) (bC (pC v)) := @sh_X Un (plRing Fp) (pC v)
    have ex : bat x (bX 1) = pX 1 := pl_ext fun j => by
      rw [co_bat, bco_X, co_X]
      by_cases c : j = 1
      · rw [if_pos c, if_pos c, ev_C]
      · rw [if_neg c, if_neg c, ev_z]
    rw [a3, bat_add, bat_C, ev_C, ex, sh_X]
theorem fmG_no {i : Nat} {A B : Bi} {x : Fp} (hA : A ≠ bz) (hx : ev (bhd A) x ≠ 0) (h : sz (gcdU (bat x A) (psh (nF i) (bat x B))) ≤ 1) : bsz (fmG i A B) ≤ 1 := by
  have := mg_ge (P1 := A) (P2 := bshK (nF i) B) hA hx
  rw [bat_shK] at this
  unfold fmG
  rw [ppB_bsz]; omega
theorem cnt_range {P : Nat → Prop} {a : Nat} : ∀ k, (∀ t, a ≤ t → t < a + k → P t) → k ≤ cnt P (a + k)
  | 0, _ => Nat.zero_le _
  | k + 1, h => by
    have h1 := cnt_range k (fun t h1 h2 => h t h1 (by omega))
    have h2 := cnt_yes (P := P) (n := a + k) (h (a + k) (by omega) (by omega))
    show k + 1 ≤ cnt P (a + k + 1)
    rw [h2]; omega
/-- modest: degrees at most 8 and 12 -/
def modB (T B : Bi) : Prop := (bsz T ≤ 9 ∧ bsz B ≤ 9) ∧ bsn T ≤ 13 ∧ bsn B ≤ 13
noncomputable def fmF (w : Nat) (X : B3) : Bi := if w = 0 then X.1 else if w = 1 then X.2.1 else X.2.2
noncomputable def fmH (w : Nat) (X : B3) : Un := if w = 2 then bhd X.2.2 else bhd X.2.1
noncomputable def fmT (w : Nat) (X : B3) : Bi := lowT (fmF w X) (bC (fmH w X))
noncomputable def fmB (w : Nat) (X : B3) : Bi := lowB (fmF w X) (bC (fmH w X))
def fmOK (X : B3) : Prop := modB (fmT 0 X) (fmB 0 X) ∧ modB (fmT 1 X) (fmB 1 X) ∧ modB (fmT 2 X) (fmB 2 X)
