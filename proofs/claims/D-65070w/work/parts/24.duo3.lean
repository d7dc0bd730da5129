set_option maxRecDepth 100000
/-! DUO: sums and products -/
/-- x n^i k^j D -/
noncomputable def bmon (x : Fp) (j i : Nat) (D : Bi) : Bi := bmul (bX j) (bmul (bC (pmul (pC x) (pX i))) D)
theorem cc_mon (x : Fp) (j i : Nat) (D : Bi) (j' i' : Nat) : cc (bmon x j i D) j' i' = if j ≤ j' ∧ i ≤ i' then x * cc D (j' - j) (i' - i) else 0 := by
  unfold cc bmon
  rw [bco_Xmul]
  by_cases h : j ≤ j'
  · rw [if_pos h, bco_Cmul]
    have e : pmul (pmul (pC x) (pX i)) (bco D (j' - j)) = pmul (pC x) (pmul (pX i) (bco D (j' - j))) := by
      letI := plRing Fp
      have hh : ∀ A B C : Un, A * B * C = A * (B * C) := by intros; grind
      exact hh _ _ _
    rw [e, pC_mul, co_Xmul]
    by_cases h2 : i ≤ i'
    · rw [if_pos h2, if_pos ⟨h, h2⟩]
    · rw [if_neg h2, if_neg (fun q => h2 q.2)]; grind
  · rw [if_neg h, co_z, if_neg (fun q => h q.1)]
theorem cc_add (F G : Bi) (j i : Nat) : cc (badd F G) j i = cc F j i + cc G j i := by
  unfold cc
  rw [bco_add, co_add]
theorem cc_C (p : Un) (j i : Nat) : cc (bC p) j i = if j = 0 then co p i else 0 := by
  unfold cc
  rw [bco_C]
  split
  · rfl
  · exact co_z i
theorem mon_mul (x : Fp) (j i : Nat) (C D : Bi) : bmul (bmon x j i C) D = bmon x j i (bmul C D) := by
  letI i2 : Lean.Grind.CommRing Bi := @plRing Un (plRing Fp)
  have hh : ∀ A B C D : Bi, A * (B * C) * D = A * (B * (C * D)) := by intros; grind
  exact hh _ _ _ _
theorem b_addmul (A B C : Bi) : bmul (badd A B) C = badd (bmul A C) (bmul B C) := by
  letI i2 : Lean.Grind.CommRing Bi := @plRing Un (plRing Fp)
  have hh : ∀ A B C : Bi, (A + B) * C = A * C + B * C := by intros; grind
  exact hh _ _ _
theorem b_addassoc (A B C : Bi) : badd (badd A B) C = badd A (badd B C) := by
  letI i2 : Lean.Grind.CommRing Bi := @plRing Un (plRing Fp)
  have hh : ∀ A B C : Bi, A + B + C = A + (B + C) := by intros; grind
  exact hh _ _ _
theorem b_mul1 (A : Bi) : bmul (bC (pC 1)) A = A := by
  letI i2 : Lean.Grind.CommRing Bi := @plRing Un (plRing Fp)
  have hh : ∀ A : Bi, 1 * A = A := by intros; grind
  exact hh _
theorem b_mulz (A : Bi) : bmul bz A = bz := by
  letI i2 : Lean.Grind.CommRing Bi := @plRing Un (plRing Fp)
  have hh : ∀ A : Bi, 0 * A = 0 := by intros; grind
  exact hh _
theorem b_mulc (A B : Bi) : bmul A B = bmul B A := by
  letI i2 : Lean.Grind.CommRing Bi := @plRing Un (plRing Fp)
  have hh : ∀ A B : Bi, A * B = B * A := by intros; grind
  exact hh _ _
theorem b_addz (A : Bi) : badd A bz = A := cc_ext fun j i => by rw [cc_add, cc_z]; grind
theorem b_zadd (A : Bi) : badd bz A = A := cc_ext fun j i => by rw [cc_add, cc_z]; grind
section
variable {g : GX} {d n : Nat} {h : Hp} {a b c : Nat}
theorem dout2 (ta : lay a = (0, 4, 4)) (tb : lay b = (0, 4, 4)) (hab : a ≠ b) : b ∉ [a, a + 1] ∧ b + 1 ∉ [a, a + 1] := by
  have := da_ne ta tb
  have := da_ne tb ta
  simp only [List.mem_cons, List.not_mem_nil, or_false, not_or]
  omega
theorem pout2 (ta : lay a = (0, 4, 4)) (tb : lay b = (0, 3, 2)) : b ∉ [a, a + 1] ∧ b + 1 ∉ [a, a + 1] := by
  have := dp_ne ta tb
  simp only [List.mem_cons, List.not_mem_nil, or_false, not_or]
  omega
theorem dpout2 (ta : lay a = (0, 4, 4)) (tb : lay b = (0, 3, 2)) : a ∉ [b, b + 1] ∧ a + 1 ∉ [b, b + 1] := by
  have := dp_ne ta tb
  simp only [List.mem_cons, List.not_mem_nil, or_false, not_or]
  omega
theorem w_ar38 (hp : g.2.2.2.2 = true) (ta : lay a = (0, 4, 4)) (tb : lay b = (0, 4, 4)) (hab : a ≠ b) {av : List Value} {Q : QT} {N K j uN uK : Nat} {x : Fp} {D : Bi} (hj : j < bsz D) (hK : uK + bsz D ≤ K) (hN : uN + bsn D ≤ N) : ∀ (k i : Nat) (f : Nat → Nat → Fp) (h : Hp), i + k = bsn D → DA h a N K f → DI h b D → (∀ h1, Fr h h1 [a, a + 1] → DI h1 b D → DA h1 a N K (fun j' i' => if j' = j + uK ∧ uN + i ≤ i' then f j' i' + cc D j (i' - uN) * x else f j' i') → W_X4_addRows g d av Q n 3 [some (.ref a), some (.ref b), some (.int (toI x)), some (.int (nI uN)), some (.int (nI uK)), some (.int (nI (j + 1))), none, none, none] [] h1) → W_X4_addRows g d av Q n 38 [some (.ref a), some (.ref b), some (.int (toI x)), some (.int (nI uN)), some (.int (nI uK)), some (.int (nI j)), some (.int (nI ((j + uK) * wd a + uN))), some (.int (nI (j * wd b))), some (.int (nI i))] [] h := by
  have o := dout2 ta tb hab
  intro k
  induction k with
  | zero =>
    intro i f h hi H Hb q
    have hn := Hb.ltn
    refine s_X4_addRows_38 hp ta tb ⟨fun _ => ?_, fun c => absurd ?_ c⟩
    · rw [nI_1]
      refine q h Fr.rf Hb (H.cong (fun j' i' _ hi' => ?_))
      split
      · rw [cc_out (by omega)]; grind
      · rfl
    · rw [Hb.n]; simp (disch := omega) only [nI_addz, nI_1, nI_leI, nI_ltI, nI_eq, nI_tN, nI_inI]; omega
  | succ k ih =>
    intro i f h hi H Hb q
    have hn := Hb.ltn
    have hra := rm_lt (a + 1)
    have hrb := rm_lt (b + 1)
    have hxa := dx_lt (a := a) (j := j + uK) (i := uN + i) (by have := H.kl; omega) (by have := H.nl; omega)
    have hxb := dx_lt (a := b) (j := j) (i := i) (by have := Hb.kl; omega) (by have := Hb.nl; omega)
    refine s_X4_addRows_38 hp ta tb ⟨fun c' => absurd c' ?_, fun _ => ?_⟩
    · rw [Hb.n]; simp (disch := omega) only [nI_addz, nI_1, nI_leI, nI_ltI, nI_eq, nI_tN, nI_inI]; omega
    · rw [nI_addz, nI_addz, nI_1, nI_tN (by omega), nI_tN (by omega), Hb.at hj (by omega), Nat.add_assoc, H.at (j := j + uK) (i := uN + i) (by omega) (by omega)]
      refine ⟨nI_inL hxa (by omega), nI_inL hxb (by omega), ok_times hp (ok_sum hp ⟨nI_inL hxa (by omega), fun h1 e1 => ?_⟩)⟩
      have f1 : Fr h h1 [a, a + 1] := by rw [e1]; exact Fr.rf.put (by simp)
      refine ih (i + 1) (fun j' i' => if j' = j + uK ∧ i' = uN + i then f (j + uK) (uN + i) + cc D j i * x else f j' i') h1 (by omega) (by rw [e1]; exact H.upd (by omega)) (Hb.fr f1 o.1 o.2) (fun h' k1 k2 k3 => q h' (f1.tr k1) k2 (k3.cong (fun j' i' _ _ => ?_)))
      by_cases e : j' = j + uK ∧ i' = uN + i
      · rw [if_neg (by omega), if_pos e, if_pos (by omega), e.1, e.2, show uN + i - uN = i by omega]
      · by_cases e2 : j' = j + uK ∧ uN + (i + 1) ≤ i'
        · rw [if_pos e2, if_neg e, if_pos (by omega)]
        · rw [if_neg e2, if_neg e, if_neg (by omega)]
theorem w_ar3 (hp : g.2.2.2.2 = true) (ta : lay a = (0, 4, 4)) (tb : lay b = (0, 4, 4)) (hab : a ≠ b) {av : List Value} {Q : Hp → Prop} {N K uN uK : Nat} {x : Fp} {D : Bi} (hK : uK + bsz D ≤ K) (hN : uN + bsn D ≤ N) : ∀ (k j : Nat) (f : Nat → Nat → Fp) (h : Hp), j + k = bsz D → DA h a N K f → DI h b D → (∀ h1, Fr h h1 [a, a + 1] → DA h1 a N K (fun j' i' => if uK + j ≤ j' ∧ uN ≤ i' then f j' i' + cc D (j' - uK) (i' - uN) * x else f j' i') → Q h1) → W_X4_addRows g d av (QV n Q) n 3 [some (.ref a), some (.ref b), some (.int (toI x)), some (.int (nI uN)), some (.int (nI uK)), some (.int (nI j)), none, none, none] [] h := by
  intro k
  induction k with
  | zero =>
    intro j f h hj H Hb q
    have hk := Hb.ltk
    refine s_X4_addRows_3 hp ta tb ⟨fun _ => qV (q h Fr.rf (H.cong (fun j' i' _ hi' => ?_))), fun c => absurd ?_ c⟩
    · split
      · rw [cc_out (by omega)]; grind
      · rfl
    · rw [Hb.k]; simp (disch := omega) only [nI_addz, nI_1, nI_leI, nI_ltI, nI_eq, nI_tN, nI_inI]; omega
  | succ k ih =>
    intro j f h hj H Hb q
    have hk := Hb.ltk
    refine s_X4_addRows_3 hp ta tb ⟨fun c' => absurd c' ?_, fun _ => ?_⟩
    · rw [Hb.k]; simp (disch := omega) only [nI_addz, nI_1, nI_leI, nI_ltI, nI_eq, nI_tN, nI_inI]; omega
    · rw [H.w, Hb.w, nI_addz, nI_mulz, nI_mulz, nI_addz]
      refine w_ar38 hp ta tb hab (D := D) (N := N) (K := K) (by omega) hK hN (bsn D) 0 f h (by omega) H Hb (fun h1 f1 Hb1 H1 => ih (j + 1) _ h1 (by omega) H1 Hb1 (fun h' k1 k2 => q h' (f1.tr k1) (k2.cong (fun j' i' _ _ => ?_))))
      by_cases e : j' = j + uK ∧ uN ≤ i'
      · rw [if_neg (by omega), if_pos (by omega), if_pos (by omega), e.1, show j + uK - uK = j by omega]
      · by_cases e2 : uK + (j + 1) ≤ j' ∧ uN ≤ i'
        · rw [if_pos e2, if_neg (by omega), if_pos (by omega)]
        · rw [if_neg e2, if_neg (by omega), if_neg (by omega)]
/-- more by x n^uN k^uK D -/
theorem ok_addRows (hp : g.2.2.2.2 = true) (ta : lay a = (0, 4, 4)) (tb : lay b = (0, 4, 4)) (hab : a ≠ b) {N K uN uK : Nat} {f : Nat → Nat → Fp} {x : Fp} {D : Bi} (H : DA h a N K f) (Hb : DI h b D) (hK : uK + bsz D ≤ K) (hN : uN + bsn D ≤ N) {Q : Hp → Prop} (q : ∀ h' f', Fr h h' [a, a + 1] → DA h' a N K f' → b2 f' N K = badd (b2 f N K) (bmon x uK uN D) → Q h') : CallV g m_X4_addRows (d + 1) [.ref a, .ref b, .int (toI x), .int (nI uN), .int (nI uK)] n h Q := by
  refine okV 4 rfl rfl (s_X4_addRows_0 hp ta tb (w_ar3 hp ta tb hab hK hN (bsz D) 0 f h (by omega) H Hb (fun h' k1 k2 => q h' _ k1 k2 ?_)))
  refine cc_ext fun j i => ?_
  rw [cc_add, cc_b2, cc_b2, cc_mon]
  by_cases h1 : j < K ∧ i < N
  · rw [if_pos h1, if_pos h1]
    by_cases h2 : uK ≤ j ∧ uN ≤ i
    · rw [if_pos (by omega), if_pos h2]; grind
    · rw [if_neg (by omega), if_neg h2]; grind
  · rw [if_neg h1, if_neg h1]
    split
    · rw [cc_out (by omega)]; grind
    · grind
/-- the part of C ahead of a place -/
noncomputable def bpre (C : Bi) (j i : Nat) : Bi := b2 (fun j' i' => if j' < j ∨ (j' = j ∧ i' < i) then cc C j' i' else 0) (bsn C) (bsz C)
theorem cc_pre (C : Bi) (j i j' i' : Nat) : cc (bpre C j i) j' i' = if j' < j ∨ (j' = j ∧ i' < i) then cc C j' i' else 0 := by
  unfold bpre
  rw [cc_b2]
  by_cases h : j' < bsz C ∧ i' < bsn C
  · rw [if_pos h]
  · rw [if_neg h, cc_out h, ite_self]
theorem pre_step (C D : Bi) (j i : Nat) : badd (bmul (bpre C j i) D) (bmon (cc C j i) j i D) = bmul (bpre C j (i + 1)) D := by
  have e : bpre C j (i + 1) = badd (bpre C j i) (bmon (cc C j i) j i (bC (pC 1))) := cc_ext fun j' i' => by
    rw [cc_add, cc_pre, cc_pre, cc_mon, cc_C, co_C]
    by_cases h1 : j' = j ∧ i' = i
    · rw [if_pos (by omega), if_neg (by omega), if_pos (by omega), if_pos (by omega), if_pos (by omega), h1.1, h1.2]; grind
    · by_cases h2 : j' < j ∨ (j' = j ∧ i' < i)
      · rw [if_pos (by omega), if_pos h2, if_neg (by omega)]; grind
      · rw [if_neg (by omega), if_neg h2]
        by_cases h3 : j ≤ j' ∧ i ≤ i'
        · rw [if_pos h3]
          by_cases h4 : j' - j = 0
          · rw [if_pos h4, if_neg (by omega)]; grind
          · rw [if_neg h4]; grind
        · rw [if_neg h3]; grind
  rw [e, b_addmul, mon_mul, b_mul1]
theorem pre_row (C : Bi) (j : Nat) : bpre C j (bsn C) = bpre C (j + 1) 0 := cc_ext fun j' i' => by
  rw [cc_pre, cc_pre]
  by_cases h : i' < bsn C
  · by_cases h1 : j' < j + 1
    · rw [if_pos (by omega), if_pos (by omega)]
    · rw [if_neg (by omega), if_neg (by omega)]
  · rw [cc_out (by omega), ite_self, ite_self]
theorem pre_0 (C : Bi) : bpre C 0 0 = bz := cc_ext fun j' i' => by rw [cc_pre, cc_z, if_neg (by omega)]
theorem pre_all (C : Bi) : bpre C (bsz C) 0 = C := cc_ext fun j' i' => by
  rw [cc_pre]
  by_cases h : j' < bsz C
  · rw [if_pos (by omega)]
  · rw [if_neg (by omega), cc_out (by omega)]
theorem mon_z (j i : Nat) (D : Bi) : bmon 0 j i D = bz := cc_ext fun j' i' => by
  rw [cc_mon, cc_z]
  split <;> grind
theorem w_dap54 (hp : g.2.2.2.2 = true) (ta : lay a = (0, 4, 4)) (tb : lay b = (0, 4, 4)) (tc : lay c = (0, 4, 4)) (hab : a ≠ b) (hac : a ≠ c) {av : List Value} {Q : QT} {N K j : Nat} {F C D : Bi} (hj : j < bsz C) (hK : bsz C + bsz D ≤ K + 1) (hN : bsn C + bsn D ≤ N + 1) : ∀ (k i : Nat) (f : Nat → Nat → Fp) (h : Hp), i + k = bsn C → DA h a N K f → DI h b C → DI h c D → b2 f N K = badd F (bmul (bpre C j i) D) → (∀ h1 f1, Fr h h1 [a, a + 1] → DA h1 a N K f1 → DI h1 b C → DI h1 c D → b2 f1 N K = badd F (bmul (bpre C (j + 1) 0) D) → W_X4_addProduct g (d + 1) av Q n 43 [some (.ref a), some (.ref b), some (.ref c), some (.int (nI (j + 1))), none, none] [] h1) → W_X4_addProduct g (d + 1) av Q n 54 [some (.ref a), some (.ref b), some (.ref c), some (.int (nI j)), some (.int (nI i)), none] [] h := by
  have ob := dout2 ta tb hab
  have oc := dout2 ta tc hac
  intro k
  induction k with
  | zero =>
    intro i f h hi H Hb Hc he q
    have hn := Hb.ltn
    refine s_X4_addProduct_54 hp ta tb tc ⟨fun _ => ?_, fun c' => absurd ?_ c'⟩
    · rw [nI_1]
      exact q h f Fr.rf H Hb Hc (by rw [← pre_row, he, show i = bsn C by omega])
    · rw [Hb.n]; simp (disch := omega) only [nI_addz, nI_1, nI_leI, nI_ltI, nI_eq, nI_tN, nI_inI]; omega
  | succ k ih =>
    intro i f h hi H Hb Hc he q
    have hn := Hb.ltn
    refine s_X4_addProduct_54 hp ta tb tc ⟨fun c' => absurd c' ?_, fun _ => ?_⟩
    · rw [Hb.n]; simp (disch := omega) only [nI_addz, nI_1, nI_leI, nI_ltI, nI_eq, nI_tN, nI_inI]; omega
    · rw [Hb.rd hj (by omega), toI_eq0]
      refine ⟨Hb.inx hj (by omega), fun c' => s_X4_addProduct_94 hp ta tb tc ?_, fun c' => ?_⟩
      · rw [nI_1]
        refine ih (i + 1) f h (by omega) H Hb Hc ?_ q
        rw [he, ← pre_step, c', mon_z, b_addz]
      · refine ok_addRows hp ta tc hac H Hc (by omega) (by omega) (fun h1 f1 g1 g2 g3 => s_X4_addProduct_94 hp ta tb tc ?_)
        rw [nI_1]
        refine ih (i + 1) f1 h1 (by omega) g2 (Hb.fr g1 ob.1 ob.2) (Hc.fr g1 oc.1 oc.2) ?_ (fun h' f' k1 => q h' f' (g1.tr k1))
        rw [g3, he, b_addassoc, pre_step]
theorem w_dap43 (hp : g.2.2.2.2 = true) (ta : lay a = (0, 4, 4)) (tb : lay b = (0, 4, 4)) (tc : lay c = (0, 4, 4)) (hab : a ≠ b) (hac : a ≠ c) {av : List Value} {Q : Hp → Prop} {N K : Nat} {F C D : Bi} (hK : bsz C + bsz D ≤ K + 1) (hN : bsn C + bsn D ≤ N + 1) : ∀ (k j : Nat) (f : Nat → Nat → Fp) (h : Hp), j + k = bsz C → DA h a N K f → DI h b C → DI h c D → b2 f N K = badd F (bmul (bpre C j 0) D) → (∀ h1, Fr h h1 [a, a + 1] → DI h1 a (badd F (bmul C D)) → Q h1) → W_X4_addProduct g (d + 1) av (QV n Q) n 43 [some (.ref a), some (.ref b), some (.ref c), some (.int (nI j)), none, none] [] h := by
  intro k
  induction k with
  | zero =>
    intro j f h hj H Hb Hc he q
    have hk := Hb.ltk
    refine s_X4_addProduct_43 hp ta tb tc ⟨fun _ => ok_dtrim hp ta H (fun h1 f1 H1 => qV (q h1 (f1.mono (by simp)) ?_)), fun c' => absurd ?_ c'⟩
    · rw [he, show j = bsz C by omega, pre_all] at H1; exact H1
    · rw [Hb.k]; simp (disch := omega) only [nI_addz, nI_1, nI_leI, nI_ltI, nI_eq, nI_tN, nI_inI]; omega
  | succ k ih =>
    intro j f h hj H Hb Hc he q
    have hk := Hb.ltk
    refine s_X4_addProduct_43 hp ta tb tc ⟨fun c' => absurd c' ?_, fun _ => ?_⟩
    · rw [Hb.k]; simp (disch := omega) only [nI_addz, nI_1, nI_leI, nI_ltI, nI_eq, nI_tN, nI_inI]; omega
    · exact w_dap54 hp ta tb tc hab hac (by omega) hK hN (bsn C) 0 f h (by omega) H Hb Hc he (fun h1 f1 g1 g2 g3 g4 g5 => ih (j + 1) f1 h1 (by omega) g2 g3 g4 g5 (fun h' k1 k2 => q h' (g1.tr k1) k2))
/-- more by a product -/
theorem ok_daddProduct (hp : g.2.2.2.2 = true) (ta : lay a = (0, 4, 4)) (tb : lay b = (0, 4, 4)) (tc : lay c = (0, 4, 4)) (hab : a ≠ b) (hac : a ≠ c) {F C D : Bi} (H : DI h a F) (Hb : DI h b C) (Hc : DI h c D) (hN : bsn C + bsn D ≤ wd a + 1) (hK : bsz C + bsz D ≤ hg a + 1) {Q : Hp → Prop} (q : ∀ h', Fr h h' [a, a + 1] → DI h' a (badd F (bmul C D)) → Q h') : CallV g m_X4_addProduct (d + 2) [.ref a, .ref b, .ref c] n h Q := by
  have ob := dout2 ta tb hab
  have oc := dout2 ta tc hac
  have hbn := Hb.ltn
  have hbk := Hb.ltk
  have hcn := Hc.ltn
  have hck := Hc.ltk
  refine okV 3 rfl rfl (s_X4_addProduct_0 hp ta tb tc (ok_disZero hp tb Hb (fun e => ⟨fun _ => qV (q h Fr.rf ?_), fun c' => absurd c' (by decide)⟩) (fun e => ⟨fun c' => absurd rfl c', fun _ => ok_disZero hp tc Hc (fun e2 => ⟨fun c' => absurd c' (by decide), fun _ => qV (q h Fr.rf ?_)⟩) (fun e2 => ⟨fun _ => ?_, fun c' => absurd rfl c'⟩)⟩)))
  · rw [e, b_mulz, b_addz]; exact H
  · rw [e2, b_mulc, b_mulz, b_addz]; exact H
  · have p1 := bsz_pos e
    have p2 := bsz_pos e2
    have p3 := bsn_pos e
    have p4 := bsn_pos e2
    have e3 : ri h b 2 + ri h c 2 - 1 = nI (bsn C + bsn D - 1) := by rw [Hb.n, Hc.n, nI_addz, nI_sub1 (by omega)]
    have e4 : ri h b 3 + ri h c 3 - 1 = nI (bsz C + bsz D - 1) := by rw [Hb.k, Hc.k, nI_addz, nI_sub1 (by omega)]
    rw [e3, e4]
    refine ok_grow hp ta H (by omega) (by omega) (fun h1 f1 H1 => ?_)
    refine w_dap43 hp ta tb tc hab hac (F := F) (by omega) (by omega) (bsz C) 0 _ h1 (by omega) H1 (Hb.fr f1 ob.1 ob.2) (Hc.fr f1 oc.1 oc.2) ?_ (fun h' k1 k2 => q h' (f1.tr k1) k2)
    rw [pre_0, b_mulz, b_addz]
    refine cc_ext fun j i => ?_
    rw [cc_b2]
    by_cases h2 : j < bsz F ∧ i < bsn F
    · rw [if_pos (by omega), if_pos h2]
    · rw [if_neg h2, ite_self, cc_out h2]
theorem ok_dproduct (hp : g.2.2.2.2 = true) (ta : lay a = (0, 4, 4)) (tb : lay b = (0, 4, 4)) (tc : lay c = (0, 4, 4)) (hab : a ≠ b) (hac : a ≠ c) (hw : ri h a 0 = nI (wd a)) {C D : Bi} (Hb : DI h b C) (Hc : DI h c D) (hN : bsn C + bsn D ≤ wd a + 1) (hK : bsz C + bsz D ≤ hg a + 1) {Q : Hp → Prop} (q : ∀ h', Fr h h' [a, a + 1] → DI h' a (bmul C D) → Q h') : CallV g m_X4_product (d + 3) [.ref a, .ref b, .ref c] n h Q := by
  have ob := dout2 ta tb hab
  have oc := dout2 ta tc hac
  refine okV 0 rfl rfl (s_X4_product_0 hp ta tb tc (ok_dclear hp ta hw (fun h1 f1 H1 => ?_)))
  have f1' := f1.mono (M := [a, a + 1]) (by simp)
  refine ok_daddProduct hp ta tb tc hab hac H1 (Hb.fr f1' ob.1 ob.2) (Hc.fr f1' oc.1 oc.2) hN hK (fun h2 f2 H2 => qV (q h2 (f1'.tr f2) ?_))
  rw [b_zadd] at H2; exact H2
theorem tp_step (p : Un) (i : Nat) (F : Bi) : badd (bmul (bC (mkP (co p) i)) F) (bmon (co p i) 0 i F) = bmul (bC (mkP (co p) (i + 1))) F := by
  have e : bC (mkP (co p) (i + 1)) = badd (bC (mkP (co p) i)) (bmon (co p i) 0 i (bC (pC 1))) := cc_ext fun j' i' => by
    rw [cc_add, cc_C, cc_C, cc_mon, cc_C, co_C, co_mkP, co_mkP]
    by_cases h0 : j' = 0
    · rw [if_pos h0, if_pos h0]
      by_cases h1 : i' = i
      · rw [if_pos (by omega), if_neg (by omega), if_pos (by omega), if_pos (by omega), if_pos (by omega), h1]; grind
      · by_cases h2 : i' < i
        · rw [if_pos (by omega), if_pos h2, if_neg (by omega)]; grind
        · rw [if_neg (by omega), if_neg h2, if_pos (by omega), if_pos (by omega), if_neg (by omega)]; grind
    · rw [if_neg h0, if_neg h0]
      split
      · rw [if_neg (by omega)]; grind
      · grind
  rw [e, b_addmul, mon_mul, b_mul1]
theorem w_tp45 (hp : g.2.2.2.2 = true) (ta : lay a = (0, 4, 4)) (tb : lay b = (0, 3, 2)) (tc : lay c = (0, 4, 4)) (hac : a ≠ c) {av : List Value} {Q : Hp → Prop} {N K : Nat} {F : Bi} {p : Un} (hK : bsz F ≤ K) (hN : bsn F + sz p ≤ N + 1) : ∀ (k i : Nat) (f : Nat → Nat → Fp) (h : Hp), i + k = sz p → DA h a N K f → PI h b p → DI h c F → b2 f N K = bmul (bC (mkP (co p) i)) F → (∀ h1, Fr h h1 [a, a + 1] → DI h1 a (bmul (bC p) F) → Q h1) → W_X4_timesPoly g (d + 1) av (QV n Q) n 45 [some (.ref a), some (.ref b), some (.ref c), some (.int (nI i))] [] h := by
  have ob := pout2 ta tb
  have oc := dout2 ta tc hac
  intro k
  induction k with
  | zero =>
    intro i f h hi H Hb Hc he q
    have hl := Hb.lt
    refine s_X4_timesPoly_45 hp ta tb tc ⟨fun _ => ok_dtrim hp ta H (fun h1 f1 H1 => qV (q h1 (f1.mono (by simp)) ?_)), fun c' => absurd ?_ c'⟩
    · rw [he, mkP_co p (by omega)] at H1; exact H1
    · rw [Hb.1]; simp (disch := omega) only [nI_addz, nI_1, nI_leI, nI_ltI, nI_eq, nI_tN, nI_inI]; omega
  | succ k ih =>
    intro i f h hi H Hb Hc he q
    have hl := Hb.lt
    have hb2 := Hb.2.1
    have hr := rm_lt (b + 1)
    refine s_X4_timesPoly_45 hp ta tb tc ⟨fun c' => absurd c' ?_, fun _ => ?_⟩
    · rw [Hb.1]; simp (disch := omega) only [nI_addz, nI_1, nI_leI, nI_ltI, nI_eq, nI_tN, nI_inI]; omega
    · rw [nI_tN (by omega), Hb.2.2 i (by omega), toI_eq0]
      refine ⟨nI_inL (by omega) (by omega), fun c' => s_X4_timesPoly_75 hp ta tb tc ?_, fun c' => ⟨nI_inL (by omega) (by omega), ?_⟩⟩
      · rw [nI_1]
        refine ih (i + 1) f h (by omega) H Hb Hc ?_ q
        rw [he, ← tp_step, c', mon_z, b_addz]
      · refine ok_addRows (uK := 0) hp ta tc hac H Hc (by omega) (by omega) (fun h1 f1 g1 g2 g3 => s_X4_timesPoly_75 hp ta tb tc ?_)
        rw [nI_1]
        refine ih (i + 1) f1 h1 (by omega) g2 (Hb.fr g1 ob.1 ob.2) (Hc.fr g1 oc.1 oc.2) ?_ (fun h' k1 k2 => q h' (g1.tr k1) k2)
        rw [g3, he, tp_step]
/-- times a polynomial in n; the spare one has what it was -/
theorem ok_timesPoly (hp : g.2.2.2.2 = true) (ta : lay a = (0, 4, 4)) (tb : lay b = (0, 3, 2)) (tc : lay c = (0, 4, 4)) (hac : a ≠ c) (hw : ri h c 0 = nI (wd c)) {F : Bi} {p : Un} (H : DI h a F) (Hb : PI h b p) (h1 : bsn F ≤ wd c) (h2 : bsz F ≤ hg c) (hN : bsn F + sz p ≤ wd a + 1) {Q : Hp → Prop} (q : ∀ h', Fr h h' [a, a + 1, c, c + 1] → DI h' a (bmul (bC p) F) → Q h') : CallV g m_X4_timesPoly (d + 2) [.ref a, .ref b, .ref c] n h Q := by
  have ob := pout2 ta tb
  have ob2 := pout2 tc tb
  have oc := dout2 ta tc hac
  have oa := dout2 tc ta (Ne.symm hac)
  have hl := Hb.lt
  refine okV 1 rfl rfl (s_X4_timesPoly_0 hp ta tb tc (ok_dcopy hp tc ta (Ne.symm hac) hw H h1 h2 (fun h3 f3 H3 => ?_)))
  have Ha3 := H.fr f3 oa.1 oa.2
  refine ok_dclear hp ta Ha3.w (fun h4 f4 H4 => ?_)
  have f4' := f4.mono (M := [a, a + 1]) (by simp)
  have Hc4 := H3.fr f4' oc.1 oc.2
  have Hb4 := (Hb.fr f3 ob2.1 ob2.2).fr f4' ob.1 ob.2
  have f34 : Fr h h4 [a, a + 1, c, c + 1] := (f3.mono (by simp)).tr (f4.mono (by simp))
  refine ok_isZero hp tb Hb4 (fun e => ⟨fun _ => qV (q h4 f34 ?_), fun c' => absurd c' (by decide)⟩) (fun e => ⟨fun c' => absurd rfl c', fun _ => ok_disZero hp tc Hc4 (fun e2 => ⟨fun c' => absurd c' (by decide), fun _ => qV (q h4 f34 ?_)⟩) (fun e2 => ⟨fun _ => ?_, fun c' => absurd rfl c'⟩)⟩)
  · have : bmul (bC p) F = bz := by rw [e]; exact b_mulz F
    rw [this]; exact H4
  · rw [e2, b_mulc, b_mulz]; exact H4
  · have hn := H.ltn
    have hk := H.ltk
    have p1 := bsn_pos e2
    have e3 : ri h4 c 2 + ri h4 b 1 - 1 = nI (bsn F + sz p - 1) := by rw [Hc4.n, Hb4.1, nI_addz, nI_sub1 (by omega)]
    rw [e3, Hc4.k]
    refine ok_grow hp ta H4 (by omega) (by have := H.kl; omega) (fun h5 f5 H5 => ?_)
    refine w_tp45 hp ta tb tc hac (by omega) (by omega) (sz p) 0 _ h5 (by omega) H5 (Hb4.fr f5 ob.1 ob.2) (Hc4.fr f5 oc.1 oc.2) ?_ (fun h' k1 k2 => q h' ((f34.tr (f5.mono (by simp))).tr (k1.mono (by simp))) k2)
    rw [mkP_0]
    have : bmul (bC (pz : Un)) F = bz := b_mulz F
    rw [this]
    refine cc_ext fun j i => ?_
    rw [cc_b2, cc_z, ite_self, ite_self]
theorem w_dadd25 (hp : g.2.2.2.2 = true) (ta : lay a = (0, 4, 4)) (tb : lay b = (0, 4, 4)) (hab : a ≠ b) {av : List Value} {Q : QT} {N K j : Nat} {x : Fp} {D : Bi} (hj : j < bsz D) (hK : bsz D ≤ K) (hN : bsn D ≤ N) : ∀ (k i : Nat) (f : Nat → Nat → Fp) (h : Hp), i + k = bsn D → DA h a N K f → DI h b D → (∀ h1, Fr h h1 [a, a + 1] → DI h1 b D → DA h1 a N K (fun j' i' => if j' = j ∧ i ≤ i' then f j' i' + cc D j i' * x else f j' i') → W_X4_add g d av Q n 14 [some (.ref a), some (.ref b), some (.int (toI x)), some (.int (nI (j + 1))), none] [] h1) → W_X4_add g d av Q n 25 [some (.ref a), some (.ref b), some (.int (toI x)), some (.int (nI j)), some (.int (nI i))] [] h := by
  have o := dout2 ta tb hab
  intro k
  induction k with
  | zero =>
    intro i f h hi H Hb q
    have hn := Hb.ltn
    refine s_X4_add_25 hp ta tb ⟨fun _ => ?_, fun c => absurd ?_ c⟩
    · rw [nI_1]
      refine q h Fr.rf Hb (H.cong (fun j' i' _ hi' => ?_))
      split
      · rw [cc_out (by omega)]; grind
      · rfl
    · rw [Hb.n]; simp (disch := omega) only [nI_addz, nI_1, nI_leI, nI_ltI, nI_eq, nI_tN, nI_inI]; omega
  | succ k ih =>
    intro i f h hi H Hb q
    have hn := Hb.ltn
    refine s_X4_add_25 hp ta tb ⟨fun c' => absurd c' ?_, fun _ => ?_⟩
    · rw [Hb.n]; simp (disch := omega) only [nI_addz, nI_1, nI_leI, nI_ltI, nI_eq, nI_tN, nI_inI]; omega
    · rw [H.rd (j := j) (i := i) (by omega) (by omega), H.tn (j := j) (i := i) (by omega) (by omega), Hb.rd hj (by omega), nI_1]
      refine ⟨H.inx (by omega) (by omega), Hb.inx hj (by omega), ok_times hp (ok_sum hp ⟨H.inx (by omega) (by omega), fun h1 e1 => ?_⟩)⟩
      have f1 : Fr h h1 [a, a + 1] := by rw [e1]; exact Fr.rf.put (by simp)
      refine ih (i + 1) (fun j' i' => if j' = j ∧ i' = i then f j i + cc D j i * x else f j' i') h1 (by omega) (by rw [e1]; exact H.upd (by omega)) (Hb.fr f1 o.1 o.2) (fun h' k1 k2 k3 => q h' (f1.tr k1) k2 (k3.cong (fun j' i' _ _ => ?_)))
      by_cases e : j' = j ∧ i' = i
      · rw [if_neg (by omega), if_pos e, if_pos (by omega), e.1, e.2]
      · by_cases e2 : j' = j ∧ i + 1 ≤ i'
        · rw [if_pos e2, if_neg e, if_pos (by omega)]
        · rw [if_neg e2, if_neg e, if_neg (by omega)]
theorem w_dadd14 (hp : g.2.2.2.2 = true) (ta : lay a = (0, 4, 4)) (tb : lay b = (0, 4, 4)) (hab : a ≠ b) {av : List Value} {Q : Hp → Prop} {N K : Nat} {x : Fp} {D : Bi} (hK : bsz D ≤ K) (hN : bsn D ≤ N) : ∀ (k j : Nat) (f : Nat → Nat → Fp) (h : Hp), j + k = bsz D → DA h a N K f → DI h b D → (∀ h1, Fr h h1 [a, a + 1] → DI h1 a (b2 (fun j' i' => if j ≤ j' then f j' i' + cc D j' i' * x else f j' i') N K) → Q h1) → W_X4_add g (d + 1) av (QV n Q) n 14 [some (.ref a), some (.ref b), some (.int (toI x)), some (.int (nI j)), none] [] h := by
  intro k
  induction k with
  | zero =>
    intro j f h hj H Hb q
    have hk := Hb.ltk
    refine s_X4_add_14 hp ta tb ⟨fun _ => ok_dtrim hp ta H (fun h1 f1 H1 => qV (q h1 (f1.mono (by simp)) ?_)), fun c => absurd ?_ c⟩
    · rw [b2_cong (f' := f) (fun j' i' _ _ => ?_)]
      · exact H1
      · split
        · rw [cc_out (by omega)]; grind
        · rfl
    · rw [Hb.k]; simp (disch := omega) only [nI_addz, nI_1, nI_leI, nI_ltI, nI_eq, nI_tN, nI_inI]; omega
  | succ k ih =>
    intro j f h hj H Hb q
    have hk := Hb.ltk
    refine s_X4_add_14 hp ta tb ⟨fun c' => absurd c' ?_, fun _ => ?_⟩
    · rw [Hb.k]; simp (disch := omega) only [nI_addz, nI_1, nI_leI, nI_ltI, nI_eq, nI_tN, nI_inI]; omega
    · refine w_dadd25 hp ta tb hab (D := D) (N := N) (K := K) (by omega) hK hN (bsn D) 0 f h (by omega) H Hb (fun h1 f1 Hb1 H1 => ih (j + 1) _ h1 (by omega) H1 Hb1 (fun h' k1 k2 => q h' (f1.tr k1) ?_))
      rw [b2_cong (f' := fun j' i' => if j + 1 ≤ j' then (if j' = j ∧ 0 ≤ i' then f j' i' + cc D j i' * x else f j' i') + cc D j' i' * x else (if j' = j ∧ 0 ≤ i' then f j' i' + cc D j i' * x else f j' i'))]
      · exact k2
      · intro j' i' _ _
        by_cases e : j' = j
        · rw [if_pos (by omega), if_neg (by omega), if_pos (by omega), e]
        · by_cases e2 : j + 1 ≤ j'
          · rw [if_pos (by omega), if_pos e2, if_neg (by omega)]
          · rw [if_neg (by omega), if_neg e2, if_neg (by omega)]
/-- more by x D -/
theorem ok_dadd (hp : g.2.2.2.2 = true) (ta : lay a = (0, 4, 4)) (tb : lay b = (0, 4, 4)) (hab : a ≠ b) {x : Fp} {F D : Bi} (H : DI h a F) (Hb : DI h b D) (hN : bsn D ≤ wd a) (hK : bsz D ≤ hg a) {Q : Hp → Prop} (q : ∀ h', Fr h h' [a, a + 1] → DI h' a (badd F (bsc x D)) → Q h') : CallV g m_X4_add (d + 2) [.ref a, .ref b, .int (toI x)] n h Q := by
  have o := dout2 ta tb hab
  refine okV 2 rfl rfl (s_X4_add_0 hp ta tb ?_)
  rw [Hb.n, Hb.k]
  refine ok_grow hp ta H hN hK (fun h1 f1 H1 => ?_)
  refine w_dadd14 hp ta tb hab (by omega) (by omega) (bsz D) 0 _ h1 (by omega) H1 (Hb.fr f1 o.1 o.2) (fun h' k1 k2 => q h' (f1.tr k1) ?_)
  have e : b2 (fun j' i' => if 0 ≤ j' then (if j' < bsz F ∧ i' < bsn F then cc F j' i' else 0) + cc D j' i' * x else (if j' < bsz F ∧ i' < bsn F then cc F j' i' else 0)) (max (bsn F) (bsn D)) (max (bsz F) (bsz D)) = badd F (bsc x D) := cc_ext fun j i => by
    rw [cc_b2, cc_add, cc_sc]
    have e1 : (if j < bsz F ∧ i < bsn F then cc F j i else 0) = cc F j i := by
      split
      · rfl
      · rw [cc_out (by assumption)]
    split
    · rw [if_pos (Nat.zero_le _), e1]; grind
    · rw [cc_out (F := F) (by omega), cc_out (F := D) (by omega)]; grind
  rw [e] at k2; exact k2
end
