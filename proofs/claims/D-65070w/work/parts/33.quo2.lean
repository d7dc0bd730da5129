set_option maxRecDepth 100000
/-! QUOTIENTS: shifted sizes, the spec -/
theorem shK_C (v : Fp) (p : Un) : bshK v (bC p) = bC p := @sh_C Un (plRing Fp) (pC v) p
theorem bsz_shK (v : Fp) (F : Bi) : bsz (bshK v F) = bsz F := @sz_sh Un (plRing Fp) un_dom (pC v) F
theorem bsn_shK (v : Fp) : ∀ (n : Nat) (F : Bi), bsz F ≤ n → bsn (bshK v F) ≤ bsn F := by
  intro n
  induction n with
  | zero =>
    intro F h
    have e : F = bC pz := bsz_0 (Nat.le_zero.mp h)
    rw [e, shK_C]; exact Nat.le_refl _
  | succ n ih =>
    intro F h
    have e : F = badd (bmul (bX 1) (bmk (fun j => bco F (j + 1)) (bsz F - 1))) (bC (bco F 0)) := by
      refine b_ext fun j => ?_
      rw [bco_add, bco_Xmul, bco_C]
      by_cases hj : j = 0
      · rw [if_neg (by omega), if_pos hj, hj]
        exact pl_ext fun i => by rw [co_add, co_z]; grind
      · rw [if_pos (by omega), if_neg hj, bco_mk]
        by_cases h2 : j - 1 < bsz F - 1
        · rw [if_pos h2, show j - 1 + 1 = j by omega]
          exact pl_ext fun i => by rw [co_add, co_z]; grind
        · rw [if_neg h2, bsz_le F j (by omega)]
          exact pl_ext fun i => by rw [co_add, co_z]; grind
    have hS : bsn (bmk (fun j => bco F (j + 1)) (bsz F - 1)) ≤ bsn F := bsn_min fun j i hi => by
      unfold cc
      rw [bco_mk]
      split
      · exact sz_le _ i (Nat.le_trans (bsn_le F (j + 1)) hi)
      · exact co_z i
    have hZ : bsz (bmk (fun j => bco F (j + 1)) (bsz F - 1)) ≤ n := Nat.le_trans (bsz_min fun j hj => by rw [bco_mk, if_neg (by omega)]) (show bsz F - 1 ≤ n by omega)
    have ihS := ih _ hZ
    have e2 : bshK v F = badd (bmul (badd (bX 1) (bC (pC v))) (bshK v (bmk (fun j => bco F (j + 1)) (bsz F - 1)))) (bC (bco F 0)) := by
      have e3 : bshK v F = bshK v (badd (bmul (bX 1) (bmk (fun j => bco F (j + 1)) (bsz F - 1))) (bC (bco F 0))) := by rw [← e]
      rw [e3]
      have a1 := @sh_add Un (plRing Fp) (pC v) (bmul (bX 1) (bmk (fun j => bco F (j + 1)) (bsz F - 1))) (bC (bco F 0))
      have a2 := @sh_mul Un (plRing Fp) (pC v) (bX 1) (bmk (fun j => bco F (j + 1)) (bsz F - 1))
      have a3 := @sh_X Un (plRing Fp) (pC v)
      have a4 := @sh_C Un (plRing Fp) (pC v) (bco F 0)
      refine a1.trans ?_
      have b1 : bshK v (bmul (bX 1) (bmk (fun j => bco F (j + 1)) (bsz F - 1))) = bmul (bshK v (bX 1)) (bshK v (bmk (fun j => bco F (j + 1)) (bsz F - 1))) := a2
      have b2' : bshK v (bX 1) = badd (bX 1) (bC (pC v)) := a3
      show badd (bshK v (bmul (bX 1) (bmk (fun j => bco F (j + 1)) (bsz F - 1)))) (bshK v (bC (bco F 0))) = _
      rw [b1, b2', shK_C]
    generalize bshK v (bmk (fun j => bco F (j + 1)) (bsz F - 1)) = S at ihS e2
    rw [e2]
    refine bsn_min fun j i hi => ?_
    have hc : cc S j i = 0 := cc_out (by omega)
    rw [cc_add, b_addmul, cc_add, cc_C]
    have h1 : cc (bmul (bX 1) S) j i = 0 := by
      unfold cc
      rw [bco_Xmul]
      split
      · exact (show cc S (j - 1) i = 0 from cc_out (by omega))
      · exact co_z i
    have h2 : cc (bmul (bC (pC v)) S) j i = 0 := by
      unfold cc
      rw [bco_Cmul, pC_mul]
      show v * cc S j i = 0
      rw [hc]; grind
    rw [h1, h2]
    split
    · rw [sz_le (bco F 0) i (Nat.le_trans (bsn_le F 0) hi)]; grind
    · grind
theorem shN_sz (v : Fp) (F : Bi) : bsn (bshN v F) ≤ bsn F ∧ bsz (bshN v F) ≤ bsz F := by
  constructor
  · refine bsn_min fun j i hi => ?_
    unfold cc
    rw [bco_shN]
    refine sz_le _ i ?_
    rw [sz_sh fp_dom]
    exact Nat.le_trans (bsn_le F j) hi
  · refine bsz_min fun j hj => ?_
    rw [bco_shN, bsz_le F j hj]
    exact sh_C v 0
theorem shN_ne (v : Fp) {F : Bi} (h : F ≠ bz) : bshN v F ≠ bz := fun z => by
  have h1 : bco (bshN v F) (bsz F - 1) = pz := by rw [z, bco_z]
  rw [bco_shN] at h1
  have h2 := sz_sh fp_dom v (bco F (bsz F - 1))
  rw [h1, sz_z] at h2
  exact bhd_ne h (sz_0 h2.symm)
theorem shK_ne (v : Fp) {F : Bi} (h : F ≠ bz) : bshK v F ≠ bz := fun z => by
  have h1 := bsz_shK v F
  rw [z, bsz_z] at h1
  exact h (bsz_0 h1.symm)
/-- n + v (way 0) or k + v -/
noncomputable def bsh (way : Nat) (v : Fp) (F : Bi) : Bi := if way = 0 then bshN v F else bshK v F
theorem bsh_sz (way : Nat) (v : Fp) (F : Bi) : bsn (bsh way v F) ≤ bsn F ∧ bsz (bsh way v F) ≤ bsz F := by
  unfold bsh
  split
  · exact shN_sz v F
  · exact ⟨bsn_shK v _ F (Nat.le_refl _), by rw [bsz_shK]; exact Nat.le_refl _⟩
theorem bsh_ne (way : Nat) (v : Fp) {F : Bi} (h : F ≠ bz) : bsh way v F ≠ bz := by
  unfold bsh
  split
  · exact shN_ne v h
  · exact shK_ne v h
def stepQ (way : Nat) (v : Int) (q : Q4) : Int := (if way = 0 then q.1 else q.2.1) * v
noncomputable def lineP (way : Nat) (v : Int) (q : Q4) : Bi := if 0 < stepQ way v q then tlP q.1 q.2.1 q.2.2.1 1 (stepQ way v q).toNat else tlP q.1 q.2.1 q.2.2.1 (stepQ way v q + 1) (-stepQ way v q).toNat
noncomputable def mulM (P : Bi) : Nat → Bi → Bi
  | 0, F => F
  | m + 1, F => bmul (mulM P m F) P
noncomputable def qst (way : Nat) (v : Int) (FG : Bi × Bi) (q : Q4) : Bi × Bi := if decide (0 < q.2.2.2) = decide (0 < stepQ way v q) then (mulM (lineP way v q) q.2.2.2.natAbs FG.1, FG.2) else (FG.1, mulM (lineP way v q) q.2.2.2.natAbs FG.2)
/-- numerator and denominator of an item, shifted, by itself -/
noncomputable def qND (way : Nat) (v : Int) (i : Itm) : Bi × Bi := i.2.2.2.2.foldl (qst way v) (bsc (spw (if way = 0 then i.2.2.1 else i.2.2.2.1) v) (bmul (bsh way (fI (zI v)) i.1) i.2.1), bmul (bsh way (fI (zI v)) i.2.1) i.1)
theorem tlP_sz (a b c fr : Int) : ∀ m, bsn (tlP a b c fr m) ≤ m + 1 ∧ bsz (tlP a b c fr m) ≤ m + 1
  | 0 => by
    have := fit_C 1
    show bsn (bC (pC 1)) ≤ 1 ∧ bsz (bC (pC 1)) ≤ 1
    rw [bsn_C, sz_C fp_dom.2, bsz_C (pC_ne fp_dom.2)]; omega
  | m + 1 => by
    have h1 := tlP_sz a b c fr m
    have h2 := lnB_sz (zI a) (zI b) (zI (c + (fr + m)))
    have h3 := bsn_mul_le (F := tlP a b c fr m) (G := lnB (zI a) (zI b) (zI (c + (fr + m))))
    have h4 := bsz_mul_le (F := tlP a b c fr m) (G := lnB (zI a) (zI b) (zI (c + (fr + m))))
    show bsn (bmul (tlP a b c fr m) (lnB (zI a) (zI b) (zI (c + (fr + m))))) ≤ m + 1 + 1 ∧ bsz (bmul (tlP a b c fr m) (lnB (zI a) (zI b) (zI (c + (fr + m))))) ≤ m + 1 + 1
    omega
theorem fI_small {z : Int} (h1 : -1000 ≤ z) (h2 : z ≤ 1000) (h : z ≠ 0) : fI (zI z) ≠ 0 := fun e => by
  have h3 := fI_val z (by omega) (by omega)
  rw [e] at h3
  have h4 : zI (z % 2147483647) = zI 0 := h3.symm
  rw [zI_eq (by omega) (by omega) (by omega) (by omega)] at h4
  omega
theorem lnB_ne {a b : Int} (c : Int32) (ha : -3 ≤ a ∧ a ≤ 3) (hb : -3 ≤ b ∧ b ≤ 3) (h : a ≠ 0 ∨ b ≠ 0) : lnB (zI a) (zI b) c ≠ bz := fun e => by
  rcases h with h | h
  · have h1 : cc (lnB (zI a) (zI b) c) 0 1 = 0 := by rw [e, cc_z]
    rw [cc_lnB, if_pos (by omega), if_pos rfl, if_neg (by omega)] at h1
    exact fI_small (by omega) (by omega) h h1
  · have h1 : cc (lnB (zI a) (zI b) c) 1 0 = 0 := by rw [e, cc_z]
    rw [cc_lnB, if_pos (by omega), if_neg (by omega), if_pos rfl] at h1
    exact fI_small (by omega) (by omega) h h1
theorem tlP_ne {a b : Int} (c fr : Int) (ha : -3 ≤ a ∧ a ≤ 3) (hb : -3 ≤ b ∧ b ≤ 3) (h : a ≠ 0 ∨ b ≠ 0) : ∀ m, tlP a b c fr m ≠ bz
  | 0 => bC_ne (pC_ne fp_dom.2)
  | m + 1 => b_mulne (tlP_ne c fr ha hb h m) (lnB_ne _ ha hb h)
theorem lineP_ne (way : Nat) (v : Int) {q : Q4} (h : lnQ q) : lineP way v q ≠ bz := by
  unfold lineP
  by_cases hz : stepQ way v q = 0
  · rw [if_neg (by omega), hz]
    exact bC_ne (pC_ne fp_dom.2)
  · have hab : q.1 ≠ 0 ∨ q.2.1 ≠ 0 := by
      apply Classical.byContradiction
      intro w
      have h1 : q.1 = 0 := Classical.byContradiction fun z => w (Or.inl z)
      have h2 : q.2.1 = 0 := Classical.byContradiction fun z => w (Or.inr z)
      apply hz
      unfold stepQ
      rw [h1, h2, ite_self]; omega
    split
    · exact tlP_ne _ _ h.1 h.2.1 hab _
    · exact tlP_ne _ _ h.1 h.2.1 hab _
theorem mulM_ne {P : Bi} (hP : P ≠ bz) {F : Bi} (hF : F ≠ bz) : ∀ m, mulM P m F ≠ bz
  | 0 => hF
  | m + 1 => b_mulne (mulM_ne hP hF m) hP
theorem mulM_sz {P : Bi} {k : Nat} (h1 : bsn P ≤ k + 1) (h2 : bsz P ≤ k + 1) (F : Bi) : ∀ m, bsn (mulM P m F) ≤ bsn F + k * m ∧ bsz (mulM P m F) ≤ bsz F + k * m
  | 0 => ⟨Nat.le_refl _, Nat.le_refl _⟩
  | m + 1 => by
    have ih := mulM_sz h1 h2 F m
    have h3 := bsn_mul_le (F := mulM P m F) (G := P)
    have h4 := bsz_mul_le (F := mulM P m F) (G := P)
    show bsn (bmul (mulM P m F) P) ≤ bsn F + k * (m + 1) ∧ bsz (bmul (mulM P m F) P) ≤ bsz F + k * (m + 1)
    rw [Nat.mul_succ]
    omega
theorem stepQ_bd {way : Nat} {v : Int} {q : Q4} (hv : 0 ≤ v ∧ v ≤ 3) (h : lnQ q) : -9 ≤ stepQ way v q ∧ stepQ way v q ≤ 9 := by
  obtain ⟨h1, h2, _⟩ := h
  unfold stepQ
  rcases (show v = 0 ∨ v = 1 ∨ v = 2 ∨ v = 3 by omega) with e | e | e | e <;> subst e <;> split <;> omega
theorem lineP_sz {way : Nat} {v : Int} {q : Q4} (hv : 0 ≤ v ∧ v ≤ 3) (h : lnQ q) : bsn (lineP way v q) ≤ 9 + 1 ∧ bsz (lineP way v q) ≤ 9 + 1 := by
  have hb := stepQ_bd (way := way) hv h
  unfold lineP
  split
  · have := tlP_sz q.1 q.2.1 q.2.2.1 1 (stepQ way v q).toNat
    omega
  · have := tlP_sz q.1 q.2.1 q.2.2.1 (stepQ way v q + 1) (-stepQ way v q).toNat
    omega
