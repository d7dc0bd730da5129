set_option maxRecDepth 100000
/-! SUMS: the equation laid on the board -/
theorem bco_sc (x : Fp) (F : Bi) (j : Nat) : bco (bsc x F) j = pmul (pC x) (bco F j) := bco_Cmul (pC x) F j
section
variable {g : GX} {d n : Nat} {h h' h1 : Hp} {σ : Nat → Nat} {L N : Nat} {M : Nat → Nat → Un}
/-- a column of the board -/
theorem ok_layColumn (hp : g.2.2.2.2 = true) (B : BS h σ) (D : BD h L N) (H : BM h σ L N 0 M) {a c : Nat} (ta : lay a = (0, 4, 4)) (ha : 8 < a) (ha2 : a + 1 < 113 ∨ 818 ≤ a) {F : Bi} (DF : DI h a F) (hF : bsz F ≤ L) (hc : c < N) (hz : ∀ r, r < L → M r c = pz) {x : Fp} {Q : Hp → Prop} (q : ∀ h', FrP h h' Bar → BS h' σ → BD h' L N → BM h' σ L N 0 (fun r j => if j = c then bco (bsc x F) r else M r j) → Q h') : CallV g m_X0_layColumn (d + 2) [.ref 0, .int (nI c), .ref a, .int (toI x)] n h Q := by
  have dL := D.2.2.1
  have dN := D.2.2.2
  have kF := DF.ltk
  have nF' := DF.ltn
  have go : ∀ (k i : Nat) (h1 : Hp), i + k = bsz F → FrP h h1 Bar → BS h1 σ → BD h1 L N → DI h1 a F → BM h1 σ L N 0 (fun r j => if j = c ∧ r < i then bco (bsc x F) r else M r j) → W_X0_layColumn g (d + 1) [.ref 0, .int (nI c), .ref a, .int (toI x)] (QV n Q) n 3 [some (.ref 0), some (.int (nI c)), some (.ref a), some (.int (toI x)), some (.int (nI i))] [] h1 := by
    intro k
    induction k with
    | zero =>
      intro i h1 hi f1 B1 D1 DF1 H1
      refine s_X0_layColumn_3 hp ta ⟨fun _ => qV (q h1 f1 B1 D1 (fun r j hr _ hj => ?_)), fun w => absurd ?_ w⟩
      · have w := H1 r j hr (Nat.zero_le _) hj
        dsimp only at w ⊢
        by_cases ej : j = c
        · rw [if_pos ej]
          by_cases er : r < i
          · rw [if_pos ⟨ej, er⟩] at w; exact w
          · rw [if_neg (fun u => er u.2), ej, hz r hr] at w
            rw [bco_sc, bsz_le F r (by omega), (szmul_z _).1, ej]; exact w
        · rw [if_neg ej]; rw [if_neg (fun u => ej u.1)] at w; exact w
      · rw [DF1.k, nI_leI (by omega) (by omega)]; omega
    | succ k ih =>
      intro i h1 hi f1 B1 D1 DF1 H1
      have sI := (B1.1 i (by omega)).1
      have bb := bcl_bar sI (show c < 14 by omega)
      refine s_X0_layColumn_3 hp ta ⟨fun w => absurd w ?_, fun _ => B1.at (by omega) (by omega) ?_⟩
      · rw [DF1.k, nI_leI (by omega) (by omega)]; omega
      · refine ok_row hp ta (b_lay sI (by omega)) DF1 (by omega) (by rw [b_rm sI (by omega)]; omega) (fun h3 f3 P3 => ?_)
        have B3 := B1.fr f3.1
        refine B3.at (by omega) (by omega) (ok_scale hp (b_lay sI (by omega)) P3 (fun h6 f6 P6 => ?_))
        have f36 : Fr h1 h6 [bcl (σ i) c, bcl (σ i) c + 1] := f3.tr f6
        rw [show (1 : Int32) = nI 1 from rfl, nI_addz]
        have H6 := H1.set B1 dL dN (a := i) (b := c) (by omega) hc f36 (fun y hy => by simp at hy; omega) P6
        refine ih (i + 1) h6 (by omega) (f1.tr (f36.p (fun y hy => by simp at hy; unfold Bar; omega))) (B1.fr f36.1) (D1.fr f36 (by simp; omega)) (DF1.fr f36 (by simp; omega) (by simp; omega)) (fun r j hr h0 hj => ?_)
        have w := H6 r j hr h0 hj
        dsimp only at w ⊢
        by_cases e : r = i ∧ j = c
        · rw [if_pos e] at w
          rw [if_pos ⟨e.2, by omega⟩, bco_sc, e.1]; rw [e.1] at w; exact w
        · rw [if_neg e] at w
          by_cases e2 : j = c ∧ r < i
          · rw [if_pos e2] at w; rw [if_pos ⟨e2.1, by omega⟩]; exact w
          · rw [if_neg e2] at w
            rw [if_neg (fun u => by
              by_cases e3 : r = i
              · exact e ⟨e3, u.1⟩
              · exact e2 ⟨u.1, by omega⟩)]
            exact w
  refine okV 1 rfl rfl (s_X0_layColumn_0 hp ta ?_)
  rw [show (0 : Int32) = nI 0 from rfl]
  refine go (bsz F) 0 h (by omega) FrP.rf B D DF (fun r j hr h0 hj => ?_)
  dsimp only
  rw [if_neg (by omega)]
  exact H r j hr h0 hj
end
/-- (k + 1)^m -/
noncomputable def kp1 : Bi := b2 (fun _ _ => 1) 1 2
noncomputable def kpw : Nat → Bi
  | 0 => bC (pC 1)
  | m + 1 => bmul (kpw m) kp1
theorem kp1_sz : bsn kp1 = 1 ∧ bsz kp1 = 2 ∧ kp1 ≠ bz := by
  have c1 : cc kp1 1 0 = 1 := by unfold kp1; rw [cc_b2, if_pos (by omega)]
  have o : (1 : Fp) ≠ 0 := by decide
  have e1 : bsn kp1 = 1 := bsn_eq (n := 0) (j := 1) (fun j i hi => by unfold kp1; rw [cc_b2, if_neg (by omega)]) (by rw [c1]; exact o)
  have e2 : bsz kp1 = 2 := bsz_eq' (n := 1) (i := 0) (fun j i hi => by unfold kp1; rw [cc_b2, if_neg (by omega)]) (by rw [c1]; exact o)
  exact ⟨e1, e2, fun w => by rw [w, bsz_z] at e2; omega⟩
theorem kpw_sz : ∀ m, bsn (kpw m) = 1 ∧ bsz (kpw m) = m + 1 ∧ kpw m ≠ bz
  | 0 => ⟨C1_sz.1, C1_sz.2, fun w => by have := C1_sz.2; have e : kpw 0 = bC (pC 1) := rfl; rw [← e, w, bsz_z] at this; omega⟩
  | m + 1 => by
    have h := kpw_sz m
    have k := kp1_sz
    have e : kpw (m + 1) = bmul (kpw m) kp1 := rfl
    rw [e]
    refine ⟨by rw [bsn_mul h.2.2 k.2.2]; omega, by rw [(bsz_mul h.2.2 k.2.2).1]; omega, b_mulne h.2.2 k.2.2⟩
/-- a column of x: A (k + 1)^m - M k^m -/
noncomputable def cX (A Mv : Bi) (m : Nat) : Bi := badd (bmul A (kpw m)) (bsc (-1) (bmul (bX m) Mv))
theorem bX_mul_sz {F : Bi} (hF : F ≠ bz) (m : Nat) : bsn (bmul (bX m) F) = bsn F ∧ bsz (bmul (bX m) F) = bsz F + m := by
  have cX : ∀ j i, cc (bX m) j i = if j = m ∧ i = 0 then 1 else 0 := fun j i => by
    unfold cc
    rw [bco_X]
    by_cases c : j = m
    · rw [if_pos c, co_C]
      by_cases c2 : i = 0
      · rw [if_pos c2, if_pos ⟨c, c2⟩]
      · rw [if_neg c2, if_neg (fun u => c2 u.2)]
    · rw [if_neg c, co_z, if_neg (fun u => c u.1)]
  have o : (1 : Fp) ≠ 0 := by decide
  have e1 : bsn (bX m) = 1 := bsn_eq (n := 0) (j := m) (fun j i hi => by rw [cX, if_neg (by omega)]) (by rw [cX, if_pos ⟨rfl, rfl⟩]; exact o)
  have e2 : bsz (bX m) = m + 1 := bsz_eq' (n := m) (i := 0) (fun j i hi => by rw [cX, if_neg (by omega)]) (by rw [cX, if_pos ⟨rfl, rfl⟩]; exact o)
  have ne : bX m ≠ bz := fun w => by rw [w, bsz_z] at e2; omega
  rw [bsn_mul ne hF, (bsz_mul ne hF).1]
  have := bsn_pos hF
  have := bsz_pos hF
  omega
theorem cX_sz {A Mv : Bi} (hA : A ≠ bz) (hM : Mv ≠ bz) (m : Nat) : bsn (cX A Mv m) ≤ max (bsn A) (bsn Mv) ∧ bsz (cX A Mv m) ≤ max (bsz A) (bsz Mv) + m := by
  have k := kpw_sz m
  have x := bX_mul_sz hM m
  have a1 := bsn_mul hA k.2.2
  have a2 := (bsz_mul hA k.2.2).1
  have s1 := bsn_sc_le (-1) (bmul (bX m) Mv)
  have s2 := bsz_sc_le (-1) (bmul (bX m) Mv)
  have t1 := bsn_add_le (bmul A (kpw m)) (bsc (-1) (bmul (bX m) Mv))
  have t2 := bsz_add_le (bmul A (kpw m)) (bsc (-1) (bmul (bX m) Mv))
  unfold cX
  omega
/-- the columns: those of x, those of what is asked -/
noncomputable def colB (A Mv C : Bi) (p : Nat → Bi) (xs c : Nat) : Bi := if c < xs then cX A Mv c else bsc (-1) (bmul C (p (c - xs)))
noncomputable def matB (A Mv C : Bi) (p : Nat → Bi) (xs r c : Nat) : Un := bco (colB A Mv C p xs c) r
