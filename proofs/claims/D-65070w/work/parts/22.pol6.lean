set_option maxRecDepth 100000
/-! POLY: division, the whole -/
theorem mkP_cut {f : Nat → Fp} {s t : Nat} (hst : t ≤ s) (h : ∀ l, t ≤ l → l < s → f l = 0) : mkP f s = mkP f t := pl_ext fun i => by
  rw [co_mkP, co_mkP]
  by_cases h1 : i < t
  · rw [if_pos h1, if_pos (by omega)]
  · rw [if_neg h1]
    split
    · exact h i (by omega) (by omega)
    · rfl
/-- what one step of a division does to what is left and to the quotient -/
theorem div_step {p q : Pl Fp} {f f1 u : Nat → Fp} {m s N : Nat} {x : Fp} (hs : m + sz q ≤ s) (hm : m < N) (he : p = padd (mkP f s) (pmul (mkP (fun j => if m + 1 ≤ j then u j else 0) N) q)) (h1 : ∀ l, l < s → f1 l = if m ≤ l then f l - x * co q (l - m) else f l) : p = padd (mkP f1 s) (pmul (mkP (fun j => if m ≤ j then (if j = m then x else u j) else 0) N) q) := by
  have e1 : mkP f1 s = psub (mkP f s) (pmul (pC x) (pmul (pX m) q)) := pl_ext fun i => by
    rw [co_sub, pC_mul, co_Xmul, co_mkP, co_mkP]
    by_cases hi : i < s
    · rw [if_pos hi, if_pos hi, h1 i hi]
      split
      · rfl
      · grind
    · rw [if_neg hi, if_neg hi]
      split
      · rw [sz_le q (i - m) (by omega)]; grind
      · grind
  have e2 : mkP (fun j => if m ≤ j then (if j = m then x else u j) else 0) N = padd (mkP (fun j => if m + 1 ≤ j then u j else 0) N) (pmul (pC x) (pX m)) := pl_ext fun i => by
    rw [co_add, pC_mul, co_X, co_mkP, co_mkP]
    by_cases hi : i < N
    · rw [if_pos hi, if_pos hi]
      by_cases e : i = m
      · rw [if_pos (by omega), if_pos e, if_neg (by omega), if_pos e]; grind
      · rw [if_neg e, if_neg e]
        by_cases e3 : m ≤ i
        · rw [if_pos e3, if_pos (by omega)]; grind
        · rw [if_neg e3, if_neg (by omega)]; grind
    · rw [if_neg hi, if_neg hi, if_neg (by omega)]; grind
  letI := plRing Fp
  rw [e1, e2, he]
  have hh : ∀ (A B C D E : Pl Fp), A + B * C = A - D * (E * C) + (B + D * E) * C := by intros; grind
  exact hh _ _ _ _ _
section
variable {g : GX} {d n : Nat} {h : Hp} {a b c : Nat}
theorem w_dvE (hp : g.2.2.2.2 = true) (ta : lay a = (0, 3, 2)) (tb : lay b = (0, 3, 2)) (tc : lay c = (0, 3, 2)) (hab : a ≠ b) (hac : a ≠ c) (hbc : b ≠ c) {av : List Value} {Q : Hp → Prop} {p q : Pl Fp} (hq : q ≠ pz) {x4 x5 : Int32} (hx : x5 < 0) {f u : Nat → Fp} {N : Nat} {h : Hp} (H : PA h a (sz p) f) (Hb : PI h b q) (Hc : PA h c N u) (he : p = padd (mkP f (sz p)) (pmul (mkP u N) q)) (hf : ∀ l, sz q - 1 ≤ l → l < sz p → f l = 0) (k : ∀ (h' : Hp) (s r : Pl Fp), Fr h h' [a, a + 1, c, c + 1] → p = padd (pmul s q) r → sz r < sz q → PI h' a r → PI h' c s → Q h') : W_X3_divide g d av (QV n Q) n 37 [some (.ref a), some (.ref b), some (.ref c), none, some (.int x4), some (.int x5), none, none] [] h := by
  have hl := H.lt
  have hbl := Hb.lt
  have hqp := sz_pos hq
  refine s_X3_divide_37 hp ta tb tc ⟨fun _ => ?_, fun c' => absurd hx c'⟩
  rw [H.1, Hb.1, nI_sub1 hqp]
  refine ok_minN hp (by omega) (by omega) (fun h1 e1 => ?_)
  have f1 : Fr h h1 [a, a + 1, c, c + 1] := by rw [e1]; exact Fr.rf.put (by simp)
  have H1 : PA h1 a (min (sz p) (sz q - 1)) f := by
    rw [e1]
    refine ⟨ri_same, by have := H.2.1; omega, fun i hi => ?_⟩
    rw [ri_ne (by omega)]
    exact H.2.2 i (by omega)
  refine ok_trim hp ta H1 (fun h2 f2 H2 => ?_)
  have hr : sz (mkP f (min (sz p) (sz q - 1))) < sz q := Nat.lt_of_le_of_lt (sz_min (szle_mkP _ _)) (by omega)
  have hp2 : p = padd (pmul (mkP u N) q) (mkP f (min (sz p) (sz q - 1))) := by
    rw [← mkP_cut (Nat.min_le_left _ _) (fun l h1 h2 => hf l (by omega) h2)]
    exact he.trans (pl_ext fun i => by rw [co_add, co_add]; grind)
  have f12 := f1.tr (f2.mono (M := [a, a + 1, c, c + 1]) (by simp))
  have hca : c ∉ [a] ∧ c + 1 ∉ [a] := by
    have := pa_ne ta tc
    simp only [List.mem_cons, List.not_mem_nil, or_false]; omega
  have Hc2 : PA h2 c N u := by
    refine PA.fr (?_ : PA h1 c N u) f2 hca.1 hca.2
    rw [e1]
    refine ⟨by rw [ri_ne (by omega)]; exact Hc.1, Hc.2.1, fun i hi => ?_⟩
    rw [ri_ne (by have := pa_ne ta tc; omega)]
    exact Hc.2.2 i hi
  refine ok_trim hp tc Hc2 (fun h3 f3 H3 => qV (k h3 _ _ (f12.tr (f3.mono (by simp))) hp2 hr (H2.fr f3 ?_ ?_) H3))
  · simpa using hac
  · have := pa_ne tc ta
    simp only [List.mem_cons, List.not_mem_nil, or_false]; omega
theorem w_dv37 (hp : g.2.2.2.2 = true) (ta : lay a = (0, 3, 2)) (tb : lay b = (0, 3, 2)) (tc : lay c = (0, 3, 2)) (hab : a ≠ b) (hac : a ≠ c) (hbc : b ≠ c) {av : List Value} {Q : Hp → Prop} {p q : Pl Fp} (hq : q ≠ pz) {N : Nat} (hN : N + sz q = sz p + 1) : ∀ (m : Nat) (f u : Nat → Fp) (h : Hp), m ≤ N → PA h a (sz p) f → PI h b q → (ri h c 1 = nI N ∧ N ≤ rm (c + 1) ∧ ∀ j, m ≤ j → j < N → ri h (c + 1) j = toI (u j)) → p = padd (mkP f (sz p)) (pmul (mkP (fun j => if m ≤ j then u j else 0) N) q) → (∀ l, m + sz q - 1 ≤ l → l < sz p → f l = 0) → (∀ (h' : Hp) (s r : Pl Fp), Fr h h' [a, a + 1, c, c + 1] → p = padd (pmul s q) r → sz r < sz q → PI h' a r → PI h' c s → Q h') → W_X3_divide g d av (QV n Q) n 37 [some (.ref a), some (.ref b), some (.ref c), none, some (.int (toI (iv (hd q)))), some (.int (zI ((m : Int) - 1))), none, none] [] h := by
  intro m
  induction m with
  | zero =>
    intro f u h hm H Hb Hc he hf k
    refine w_dvE (N := N) (u := u) hp ta tb tc hab hac hbc hq ?_ H Hb ⟨Hc.1, Hc.2.1, fun i hi => Hc.2.2 i (by omega) hi⟩ ?_ (fun l h1 h2 => hf l (by omega) h2) k
    · decide
    · have e9 : mkP (fun j => if 0 ≤ j then u j else 0) N = mkP u N := mkP_cong (fun i hi => if_pos (Nat.zero_le i))
      rw [e9] at he; exact he
  | succ m ih =>
    intro f u h hm H Hb Hc he hf k
    have hl := H.lt
    have hbl := Hb.lt
    have hr := rm_lt (a + 1)
    have hr3 := rm_lt (c + 1)
    have ha1 := H.2.1
    have hqp := sz_pos hq
    have hv := iv_mul (hd_ne hq)
    refine s_X3_divide_37 hp ta tb tc ⟨fun c' => absurd c' ?_, fun _ => ?_⟩
    · simp (disch := omega) only [nI_z, z0, z1, z2, zm1, zI_add, zI_sub, zI_neg, zI_mul, zI_le, zI_lt, zI_eq, zI_tN, zI_inI]; omega
    · have e0 : (zI (((m + 1 : Nat) : Int) - 1) : Int32) = nI m := by rw [show ((m + 1 : Nat) : Int) - 1 = (m : Int) by omega]; rfl
      have e1 : nI m + nI (sz q) - 1 = nI (m + sz q - 1) := by rw [nI_addz, nI_sub1 (by omega)]
      rw [e0, Hb.1, e1, nI_tN (by omega), H.2.2 _ (by omega)]
      refine ⟨nI_inL (by omega) (by omega), ok_times hp ?_⟩
      rw [nI_tN (by omega)]
      refine ⟨nI_inL (by omega) (by omega), fun h2 e2 => s_X3_divide_76 hp ta tb tc ?_⟩
      have f2 : Fr h h2 [a, a + 1, c, c + 1] := by rw [e2]; exact Fr.rf.put (by simp) (nk3 tc)
      have H2 : PA h2 a (sz p) f := by
        rw [e2]
        exact ⟨by rw [ri_ne (pa_ne ta tc)]; exact H.1, H.2.1, fun i hi => by rw [ri_ne (by omega)]; exact H.2.2 i hi⟩
      have Hb2 : PI h2 b q := by
        rw [e2]
        exact ⟨by rw [ri_ne (pa_ne tb tc)]; exact Hb.1, Hb.2.1, fun i hi => by rw [ri_ne (by omega)]; exact Hb.2.2 i hi⟩
      refine w_dv79 (m := f (m + sz q - 1) * iv (hd q)) (i := m) hp ta tb tc hab (by omega) (sz q) 0 f h2 (by omega) H2 Hb2 (fun h3 f1 g1 g2 g3 => s_X3_divide_134 hp ta tb tc ?_)
      have e4 : nI m + (-1 : Int32) = zI ((m : Int) - 1) := by simp (disch := omega) only [nI_z, z0, z1, z2, zm1, zI_add, zI_sub, zI_neg, zI_mul, zI_le, zI_lt, zI_eq, zI_tN, zI_inI]; congr 1
      rw [e4]
      have f3 : Fr h h3 [a, a + 1, c, c + 1] := f2.tr (g1.mono (by simp))
      refine ih f1 (fun j => if j = m then f (m + sz q - 1) * iv (hd q) else u j) h3 (by omega) g2 (Hb2.fr g1 (out2 ta tb hab).1 (out2 ta tb hab).2) ?_ ?_ ?_ (fun h' s r k1 k2 k3 k4 k5 => k h' s r (f3.tr k1) k2 k3 k4 k5)
      · have hcc := out2 ta tc hac
        rw [g1.gi hcc.1, e2]
        refine ⟨by rw [ri_ne (by omega)]; exact Hc.1, Hc.2.1, fun j q1 q2 => ?_⟩
        rw [g1.gi hcc.2, e2]
        by_cases ej : j = m
        · rw [ej, ri_same, if_pos rfl]
        · rw [ri_ne' ej, if_neg ej]; exact Hc.2.2 j (by omega) q2
      · exact div_step (by omega) (by omega) he (fun l hl => by rw [g3 l hl, Nat.add_zero])
      · intro l h1 h2
        rw [g3 l h2, if_pos (by omega)]
        by_cases e5 : l = m + sz q - 1
        · rw [e5, show m + sz q - 1 - m = sz q - 1 by omega]
          have : co q (sz q - 1) = hd q := rfl
          rw [this]
          generalize f (m + sz q - 1) = y at hv ⊢
          generalize hd q = z at hv ⊢
          grind
        · rw [hf l (by omega) h2, sz_le q (l - m) (by omega)]; grind
theorem w_dnE (hp : g.2.2.2.2 = true) (ta : lay a = (0, 3, 2)) (tb : lay b = (0, 3, 2))  (hab : a ≠ b)  {av : List Value} {Q : Hp → Prop} {p q : Pl Fp} (hq : q ≠ pz) {x4 x5 : Int32} (hx : x5 < 0) {f u : Nat → Fp} {N : Nat} {h : Hp} (H : PA h a (sz p) f) (Hb : PI h b q)  (he : p = padd (mkP f (sz p)) (pmul (mkP u N) q)) (hf : ∀ l, sz q - 1 ≤ l → l < sz p → f l = 0) (k : ∀ (h' : Hp) (s r : Pl Fp), Fr h h' [a, a + 1] → p = padd (pmul s q) r → sz r < sz q → PI h' a r → Q h') : W_X3_divideN g d av (QV n Q) n 37 [some (.ref a), some (.ref b), some (.null), none, some (.int x4), some (.int x5), none, none] [] h := by
  have hl := H.lt
  have hbl := Hb.lt
  have hqp := sz_pos hq
  refine s_X3_divideN_37 hp ta tb  ⟨fun _ => ?_, fun c' => absurd hx c'⟩
  rw [H.1, Hb.1, nI_sub1 hqp]
  refine ok_minN hp (by omega) (by omega) (fun h1 e1 => ?_)
  have f1 : Fr h h1 [a, a + 1] := by rw [e1]; exact Fr.rf.put (by simp)
  have H1 : PA h1 a (min (sz p) (sz q - 1)) f := by
    rw [e1]
    refine ⟨ri_same, by have := H.2.1; omega, fun i hi => ?_⟩
    rw [ri_ne (by omega)]
    exact H.2.2 i (by omega)
  refine ok_trim hp ta H1 (fun h2 f2 H2 => ?_)
  have hr : sz (mkP f (min (sz p) (sz q - 1))) < sz q := Nat.lt_of_le_of_lt (sz_min (szle_mkP _ _)) (by omega)
  have hp2 : p = padd (pmul (mkP u N) q) (mkP f (min (sz p) (sz q - 1))) := by
    rw [← mkP_cut (Nat.min_le_left _ _) (fun l h1 h2 => hf l (by omega) h2)]
    exact he.trans (pl_ext fun i => by rw [co_add, co_add]; grind)
  have f12 := f1.tr (f2.mono (M := [a, a + 1]) (by simp))
  exact qV (k h2 _ _ f12 hp2 hr H2)
theorem w_dn37 (hp : g.2.2.2.2 = true) (ta : lay a = (0, 3, 2)) (tb : lay b = (0, 3, 2))  (hab : a ≠ b)  {av : List Value} {Q : Hp → Prop} {p q : Pl Fp} (hq : q ≠ pz) {N : Nat} (hN : N + sz q = sz p + 1) : ∀ (m : Nat) (f u : Nat → Fp) (h : Hp), m ≤ N → PA h a (sz p) f → PI h b q → p = padd (mkP f (sz p)) (pmul (mkP (fun j => if m ≤ j then u j else 0) N) q) → (∀ l, m + sz q - 1 ≤ l → l < sz p → f l = 0) → (∀ (h' : Hp) (s r : Pl Fp), Fr h h' [a, a + 1] → p = padd (pmul s q) r → sz r < sz q → PI h' a r → Q h') → W_X3_divideN g d av (QV n Q) n 37 [some (.ref a), some (.ref b), some (.null), none, some (.int (toI (iv (hd q)))), some (.int (zI ((m : Int) - 1))), none, none] [] h := by
  intro m
  induction m with
  | zero =>
    intro f u h hm H Hb he hf k
    refine w_dnE (N := N) (u := u) hp ta tb  hab  hq ?_ H Hb  ?_ (fun l h1 h2 => hf l (by omega) h2) k
    · decide
    · have e9 : mkP (fun j => if 0 ≤ j then u j else 0) N = mkP u N := mkP_cong (fun i hi => if_pos (Nat.zero_le i))
      rw [e9] at he; exact he
  | succ m ih =>
    intro f u h hm H Hb he hf k
    have hl := H.lt
    have hbl := Hb.lt
    have hr := rm_lt (a + 1)
    have hr3 := rm_lt (b + 1)
    have ha1 := H.2.1
    have hqp := sz_pos hq
    have hv := iv_mul (hd_ne hq)
    refine s_X3_divideN_37 hp ta tb  ⟨fun c' => absurd c' ?_, fun _ => ?_⟩
    · simp (disch := omega) only [nI_z, z0, z1, z2, zm1, zI_add, zI_sub, zI_neg, zI_mul, zI_le, zI_lt, zI_eq, zI_tN, zI_inI]; omega
    · have e0 : (zI (((m + 1 : Nat) : Int) - 1) : Int32) = nI m := by rw [show ((m + 1 : Nat) : Int) - 1 = (m : Int) by omega]; rfl
      have e1 : nI m + nI (sz q) - 1 = nI (m + sz q - 1) := by rw [nI_addz, nI_sub1 (by omega)]
      rw [e0, Hb.1, e1, nI_tN (by omega), H.2.2 _ (by omega)]
      refine ⟨nI_inL (by omega) (by omega), ok_times hp ?_⟩
      have f2 : Fr h h [a, a + 1] := Fr.rf
      have H2 := H
      have Hb2 := Hb
      refine w_dn79 (m := f (m + sz q - 1) * iv (hd q)) (i := m) hp ta tb  hab (by omega) (sz q) 0 f h (by omega) H2 Hb2 (fun h3 f1 g1 g2 g3 => s_X3_divideN_134 hp ta tb  ?_)
      have e4 : nI m + (-1 : Int32) = zI ((m : Int) - 1) := by simp (disch := omega) only [nI_z, z0, z1, z2, zm1, zI_add, zI_sub, zI_neg, zI_mul, zI_le, zI_lt, zI_eq, zI_tN, zI_inI]; congr 1
      rw [e4]
      have f3 : Fr h h3 [a, a + 1] := f2.tr (g1.mono (by simp))
      refine ih f1 (fun j => if j = m then f (m + sz q - 1) * iv (hd q) else u j) h3 (by omega) g2 (Hb2.fr g1 (out2 ta tb hab).1 (out2 ta tb hab).2) ?_ ?_ (fun h' s r k1 k2 k3 k4 => k h' s r (f3.tr k1) k2 k3 k4 )
      · exact div_step (by omega) (by omega) he (fun l hl => by rw [g3 l hl, Nat.add_zero])
      · intro l h1 h2
        rw [g3 l h2, if_pos (by omega)]
        by_cases e5 : l = m + sz q - 1
        · rw [e5, show m + sz q - 1 - m = sz q - 1 by omega]
          have : co q (sz q - 1) = hd q := rfl
          rw [this]
          generalize f (m + sz q - 1) = y at hv ⊢
          generalize hd q = z at hv ⊢
          grind
        · rw [hf l (by omega) h2, sz_le q (l - m) (by omega)]; grind
/-- p by q: the rest, the quotient -/
theorem ok_divide (hp : g.2.2.2.2 = true) (ta : lay a = (0, 3, 2)) (tb : lay b = (0, 3, 2)) (tc : lay c = (0, 3, 2)) (hab : a ≠ b) (hac : a ≠ c) (hbc : b ≠ c) {Q : Hp → Prop} {p q : Pl Fp} (hq : q ≠ pz) (H : PI h a p) (Hb : PI h b q) (hT : sz p + 1 - sz q ≤ rm (c + 1)) (k : ∀ (h' : Hp) (s r : Pl Fp), Fr h h' [a, a + 1, c, c + 1] → p = padd (pmul s q) r → sz r < sz q → PI h' a r → PI h' c s → Q h') : CallV g m_X3_divide (d + 3) [.ref a, .ref b, .ref c] n h Q := by
  have hl := H.lt
  have hbl := Hb.lt
  have hqp := sz_pos hq
  have hac1 := pa_ne ta tc
  have hca1 := pa_ne tc ta
  have hbc1 := pa_ne tb tc
  have hcb1 := pa_ne tc tb
  refine okV 5 rfl rfl (s_X3_divide_0 hp ta tb tc ?_)
  have e0 : nI (sz p) - nI (sz q) + 1 = zI ((sz p : Int) - sz q + 1) := by simp (disch := omega) only [nI_z, z0, z1, z2, zm1, zI_add, zI_sub, zI_neg, zI_mul, zI_le, zI_lt, zI_eq, zI_tN, zI_inI]
  rw [H.1, Hb.1, e0]
  refine ok_max (x := 0) hp (by omega) (by omega) (by omega) (by omega) (fun h1 e1 => ?_)
  have e2 : zI (max 0 ((sz p : Int) - sz q + 1)) = nI (sz p + 1 - sz q) := by
    rw [show max 0 ((sz p : Int) - sz q + 1) = ((sz p + 1 - sz q : Nat) : Int) by omega]; rfl
  rw [e2] at e1
  have f1 : Fr h h1 [a, a + 1, c, c + 1] := by rw [e1]; exact Fr.rf.put (by simp)
  have H1 : PI h1 a p := by
    rw [e1]; exact ⟨by rw [ri_ne hac]; exact H.1, H.2.1, fun i hi => by rw [ri_ne (by omega)]; exact H.2.2 i hi⟩
  have Hb1 : PI h1 b q := by
    rw [e1]; exact ⟨by rw [ri_ne hbc]; exact Hb.1, Hb.2.1, fun i hi => by rw [ri_ne (by omega)]; exact Hb.2.2 i hi⟩
  have Hc1 : ri h1 c 1 = nI (sz p + 1 - sz q) := by rw [e1]; exact ri_same
  refine s_X3_divide_25 hp ta tb tc (ok_head hp tb Hb1 (ok_inverse hp ?_))
  by_cases hpq : sz p < sz q
  · have e3 : nI (sz p) - nI (sz q) = zI ((sz p : Int) - sz q) := by simp (disch := omega) only [nI_z, z0, z1, z2, zm1, zI_add, zI_sub, zI_neg, zI_mul, zI_le, zI_lt, zI_eq, zI_tN, zI_inI]
    rw [e3]
    refine w_dvE (N := 0) (u := fun _ => 0) hp ta tb tc hab hac hbc hq ?_ H1 Hb1 ⟨by rw [Hc1, show sz p + 1 - sz q = 0 by omega], Nat.zero_le _, fun i hi => absurd hi (Nat.not_lt_zero i)⟩ ?_ (fun l h1 h2 => by omega) (fun h' s r k1 => k h' s r (f1.tr k1))
    · simp (disch := omega) only [nI_z, z0, z1, z2, zm1, zI_add, zI_sub, zI_neg, zI_mul, zI_le, zI_lt, zI_eq, zI_tN, zI_inI]; omega
    · refine pl_ext fun i => ?_
      rw [mkP_co p (Nat.le_refl _), co_add, mkP_0]
      have : co (pmul pz q) i = 0 := by
        rw [co_mul]; apply sm_zero; intro j _; rw [co_z]; grind
      rw [this]; grind
  · have e3 : nI (sz p) - nI (sz q) = zI (((sz p + 1 - sz q : Nat) : Int) - 1) := by simp (disch := omega) only [nI_z, z0, z1, z2, zm1, zI_add, zI_sub, zI_neg, zI_mul, zI_le, zI_lt, zI_eq, zI_tN, zI_inI]; omega
    rw [e3]
    refine w_dv37 hp ta tb tc hab hac hbc hq (N := sz p + 1 - sz q) (by omega) (sz p + 1 - sz q) (co p) (fun _ => 0) h1 (Nat.le_refl _) H1 Hb1 ⟨Hc1, hT, fun j q1 q2 => absurd q2 (Nat.not_lt.mpr q1)⟩ ?_ (fun l q1 q2 => absurd (show sz p + 1 - sz q + sz q - 1 ≤ l from q1) (by omega)) (fun h' s r k1 => k h' s r (f1.tr k1))
    refine pl_ext fun i => ?_
    rw [mkP_co p (Nat.le_refl _), co_add]
    have : co (pmul (mkP (fun j => if sz p + 1 - sz q ≤ j then 0 else 0) (sz p + 1 - sz q)) q) i = 0 := by
      rw [co_mul]; apply sm_zero; intro j _; rw [co_mkP]; simp only [ite_self]; grind
    rw [this]; grind
theorem ok_divideN (hp : g.2.2.2.2 = true) (ta : lay a = (0, 3, 2)) (tb : lay b = (0, 3, 2)) (hab : a ≠ b) {Q : Hp → Prop} {p q : Pl Fp} (hq : q ≠ pz) (H : PI h a p) (Hb : PI h b q) (k : ∀ (h' : Hp) (s r : Pl Fp), Fr h h' [a, a + 1] → p = padd (pmul s q) r → sz r < sz q → PI h' a r → Q h') : CallV g m_X3_divide (d + 3) [.ref a, .ref b, .null] n h Q := by
  have hl := H.lt
  have hbl := Hb.lt
  have hqp := sz_pos hq
  refine okV 5 rfl rfl (s_X3_divideN_0 hp ta tb (ok_head hp tb Hb (ok_inverse hp ?_)))
  rw [H.1, Hb.1]
  by_cases hpq : sz p < sz q
  · have e3 : nI (sz p) - nI (sz q) = zI ((sz p : Int) - sz q) := by simp (disch := omega) only [nI_z, z0, z1, z2, zm1, zI_add, zI_sub, zI_neg, zI_mul, zI_le, zI_lt, zI_eq, zI_tN, zI_inI]
    rw [e3]
    refine w_dnE (N := 0) (u := fun _ => 0) hp ta tb hab hq ?_ H Hb ?_ (fun l h1 h2 => by omega) k
    · simp (disch := omega) only [nI_z, z0, z1, z2, zm1, zI_add, zI_sub, zI_neg, zI_mul, zI_le, zI_lt, zI_eq, zI_tN, zI_inI]; omega
    · refine pl_ext fun i => ?_
      rw [mkP_co p (Nat.le_refl _), co_add, mkP_0]
      have : co (pmul pz q) i = 0 := by
        rw [co_mul]; apply sm_zero; intro j _; rw [co_z]; grind
      rw [this]; grind
  · have e3 : nI (sz p) - nI (sz q) = zI (((sz p + 1 - sz q : Nat) : Int) - 1) := by simp (disch := omega) only [nI_z, z0, z1, z2, zm1, zI_add, zI_sub, zI_neg, zI_mul, zI_le, zI_lt, zI_eq, zI_tN, zI_inI]; omega
    rw [e3]
    refine w_dn37 hp ta tb hab hq (N := sz p + 1 - sz q) (by omega) (sz p + 1 - sz q) (co p) (fun _ => 0) h (Nat.le_refl _) H Hb ?_ (fun l q1 q2 => absurd (show sz p + 1 - sz q + sz q - 1 ≤ l from q1) (by omega)) k
    refine pl_ext fun i => ?_
    rw [mkP_co p (Nat.le_refl _), co_add]
    have : co (pmul (mkP (fun j => if sz p + 1 - sz q ≤ j then 0 else 0) (sz p + 1 - sz q)) q) i = 0 := by
      rw [co_mul]; apply sm_zero; intro j _; rw [co_mkP]; simp only [ite_self]; grind
    rw [this]; grind
end
