set_option maxRecDepth 100000
/-! POLY: products -/
theorem conv_eq {p q : Pl Fp} {c : Fp} {l : Nat} : sm (fun t => if t ≤ l then co p t * c * co q (l - t) else 0) (sz p) = c * co (pmul p q) l := by
  rw [co_mul]
  have h1 : sm (fun t => if t ≤ l then co p t * c * co q (l - t) else 0) (sz p + (l + 1)) = sm (fun t => if t ≤ l then co p t * c * co q (l - t) else 0) (sz p) := sm_ext (by omega) (fun i hi _ => by
    split
    · rw [sz_le p i hi]; grind
    · rfl)
  have h2 : sm (fun t => if t ≤ l then co p t * c * co q (l - t) else 0) (sz p + (l + 1)) = sm (fun t => if t ≤ l then co p t * c * co q (l - t) else 0) (l + 1) := sm_ext (by omega) (fun i hi _ => by rw [if_neg (by omega)])
  rw [← h1, h2, ← sm_mul]
  apply sm_congr
  intro j hj
  rw [if_pos (by omega)]; grind
section
variable {g : GX} {d n : Nat} {h : Hp} {a b c : Nat}
theorem out2 (ta : lay a = (0, 3, 2)) (tb : lay b = (0, 3, 2)) (hab : a ≠ b) : b ∉ [a, a + 1] ∧ b + 1 ∉ [a, a + 1] := by
  constructor
  · simp only [List.mem_cons, List.not_mem_nil, or_false, not_or]; exact ⟨Ne.symm hab, pa_ne tb ta⟩
  · simp only [List.mem_cons, List.not_mem_nil, or_false, not_or]; exact ⟨Ne.symm (pa_ne ta tb), by omega⟩
theorem w_ap15 (hp : g.2.2.2.2 = true) (ta : lay a = (0, 3, 2)) (tb : lay b = (0, 3, 2)) (tc : lay c = (0, 3, 2)) (hab : a ≠ b) (hac : a ≠ c) {av : List Value} {Q : QT} {p q : Pl Fp} {x3 : Int32} (hp0 : 0 < sz p) (hq0 : 0 < sz q) (hT : sz p + sz q - 1 ≤ rm (a + 1)) : ∀ (k s : Nat) (f : Nat → Fp) (h : Hp), sz p + sz q - 1 ≤ s + k → PA h a s f → PI h b p → PI h c q → (∀ (h1 : Hp) (s1 : Nat) (f1 : Nat → Fp), Fr h h1 [a, a + 1] → PA h1 a s1 f1 → PI h1 b p → PI h1 c q → sz p + sz q - 1 ≤ s1 → mkP f1 s1 = mkP f s → W_X3_addProduct g d av Q n 56 [some (.ref a), some (.ref b), some (.ref c), some (.int x3), some (.int 0), none, none] [] h1) → W_X3_addProduct g d av Q n 15 [some (.ref a), some (.ref b), some (.ref c), some (.int x3), none, none, none] [] h := by
  intro k
  induction k with
  | zero =>
    intro s f h hk H Hb Hc q'
    have hl := H.lt
    have hr := rm_lt (a + 1)
    refine s_X3_addProduct_15 hp ta tb tc ⟨fun _ => q' h s f Fr.rf H Hb Hc (by omega) rfl, fun c' => absurd ?_ c'⟩
    rw [H.1, Hb.1, Hc.1, nI_z, nI_z, nI_z, z1, zI_add, zI_sub, zI_le (by omega) (by omega) (by omega) (by omega)]; omega
  | succ k ih =>
    intro s f h hk H Hb Hc q'
    have hl := H.lt
    have hr := rm_lt (a + 1)
    have hbl := Hb.lt
    have hcl := Hc.lt
    refine s_X3_addProduct_15 hp ta tb tc ?_
    rw [H.1, Hb.1, Hc.1]
    have ecmp : nI (sz p) + nI (sz q) - 1 ≤ nI s ↔ sz p + sz q - 1 ≤ s := by
      rw [nI_z, nI_z, nI_z, z1, zI_add, zI_sub, zI_le (by omega) (by omega) (by omega) (by omega)]; omega
    rw [ecmp]
    refine ⟨fun c' => q' h s f Fr.rf H Hb Hc c' rfl, fun c' h1 e1 => ⟨nI_inL (by omega) (by omega), fun h2 e2 => ?_⟩⟩
    rw [nI_tN (by omega)] at e2
    rw [nI_1] at e1
    have f2 : Fr h h2 [a, a + 1] := by
      rw [e2]
      exact Fr.put (by rw [e1]; exact Fr.rf.put (by simp)) (by simp)
    refine ih (s + 1) (fun j => if j < s then f j else 0) h2 (by omega) (by rw [e2, e1]; exact H.grow (by omega)) (Hb.fr f2 (out2 ta tb hab).1 (out2 ta tb hab).2) (Hc.fr f2 (out2 ta tc hac).1 (out2 ta tc hac).2) (fun h3 s3 f3 g1 g2 g3 g3' g4 g5 => q' h3 s3 f3 (f2.tr g1) g2 g3 g3' g4 (g5.trans ?_))
    rw [mkP_drop (by simp)]
    exact mkP_cong (fun j hj => by rw [if_pos hj])
theorem w_ap81 (hp : g.2.2.2.2 = true) (ta : lay a = (0, 3, 2)) (tb : lay b = (0, 3, 2)) (tc : lay c = (0, 3, 2)) (hac : a ≠ c) {av : List Value} {Q : QT} {q : Pl Fp} {x3 : Int32} {m : Fp} {i s : Nat} (his : i + sz q ≤ s) : ∀ (k j : Nat) (f : Nat → Fp) (h : Hp), j + k = sz q → PA h a s f → PI h c q → (∀ (h1 : Hp) (f1 : Nat → Fp), Fr h h1 [a, a + 1] → PA h1 a s f1 → (∀ l, l < s → f1 l = if i + j ≤ l then f l + m * co q (l - i) else f l) → W_X3_addProduct g d av Q n 136 [some (.ref a), some (.ref b), some (.ref c), some (.int x3), some (.int (nI i)), none, none] [] h1) → W_X3_addProduct g d av Q n 81 [some (.ref a), some (.ref b), some (.ref c), some (.int x3), some (.int (nI i)), some (.int (toI m)), some (.int (nI j))] [] h := by
  intro k
  induction k with
  | zero =>
    intro j f h hk H Hc q'
    have hcl := Hc.lt
    refine s_X3_addProduct_81 hp ta tb tc ⟨fun _ => q' h f Fr.rf H (fun l hl => ?_), fun c' => absurd ?_ c'⟩
    · split
      · rw [sz_le q (l - i) (by omega)]; grind
      · rfl
    · rw [Hc.1, nI_leI (by omega) (by omega)]; omega
  | succ k ih =>
    intro j f h hk H Hc q'
    have hl := H.lt
    have hr := rm_lt (a + 1)
    have hr2 := rm_lt (c + 1)
    have hcl := Hc.lt
    have hc1 := Hc.2.1
    have ha1 := H.2.1
    refine s_X3_addProduct_81 hp ta tb tc ⟨fun c' => absurd c' ?_, fun _ => ⟨fun c' => ?_, fun c' => ?_⟩⟩
    · rw [Hc.1, nI_leI (by omega) (by omega)]; omega
    · rw [toI_eq0] at c'
      refine q' h f Fr.rf H (fun l hl => ?_)
      split
      · rw [c']; grind
      · rfl
    · rw [nI_addz, nI_tN (by omega), nI_tN (by omega), Hc.2.2 j (by omega), H.2.2 (i + j) (by omega)]
      refine ⟨nI_inL (by omega) (by omega), nI_inL (by omega) (by omega), ok_times hp (ok_sum hp ⟨nI_inL (by omega) (by omega), fun h3 e3 => ?_⟩)⟩
      have f3 : Fr h h3 [a, a + 1] := by rw [e3]; exact Fr.rf.put (by simp)
      rw [nI_1]
      refine ih (j + 1) (fun l => if l = i + j then f (i + j) + m * co q j else f l) h3 (by omega) (by rw [e3]; exact H.upd) (Hc.fr f3 (out2 ta tc hac).1 (out2 ta tc hac).2) (fun h1 f1 g1 g2 g3 => q' h1 f1 (f3.tr g1) g2 (fun l hl => ?_))
      rw [g3 l hl]
      by_cases e : l = i + j
      · subst e
        rw [if_neg (by omega), if_pos rfl, if_pos (by omega), show i + j - i = j by omega]
      · by_cases e2 : i + j ≤ l
        · rw [if_pos (by omega), if_neg e, if_pos e2]
        · rw [if_neg (by omega), if_neg e, if_neg e2]
theorem w_ap56 (hp : g.2.2.2.2 = true) (ta : lay a = (0, 3, 2)) (tb : lay b = (0, 3, 2)) (tc : lay c = (0, 3, 2)) (hab : a ≠ b) (hac : a ≠ c) {av : List Value} {p q : Pl Fp} {x : Fp} {s : Nat} {Q : Hp → Prop} (hs : sz p + sz q - 1 ≤ s) (hq0 : 0 < sz q) : ∀ (k i : Nat) (f : Nat → Fp) (h : Hp), i + k = sz p → PA h a s f → PI h b p → PI h c q → (∀ h', Fr h h' [a, a + 1] → PI h' a (mkP (fun l => f l + sm (fun t => if i + t ≤ l then co p (i + t) * x * co q (l - (i + t)) else 0) k) s) → Q h') → W_X3_addProduct g d av (QV n Q) n 56 [some (.ref a), some (.ref b), some (.ref c), some (.int (toI x)), some (.int (nI i)), none, none] [] h := by
  intro k
  induction k with
  | zero =>
    intro i f h hik H Hb Hc q'
    have hbl := Hb.lt
    refine s_X3_addProduct_56 hp ta tb tc ⟨fun _ => ok_trim hp ta H (fun h' f' hpi => qV (q' h' (f'.mono (by simp)) ?_)), fun c' => absurd ?_ c'⟩
    · rw [mkP_cong (f' := f)]
      · exact hpi
      · intro j hj
        simp only [sm]; grind
    · rw [Hb.1, nI_leI (by omega) (by omega)]; omega
  | succ k ih =>
    intro i f h hik H Hb Hc q'
    have hl := H.lt
    have hr2 := rm_lt (b + 1)
    have hbl := Hb.lt
    have hb1 := Hb.2.1
    refine s_X3_addProduct_56 hp ta tb tc ⟨fun c' => absurd c' ?_, fun _ => ?_⟩
    · rw [Hb.1, nI_leI (by omega) (by omega)]; omega
    · rw [nI_tN (by omega), Hb.2.2 i (by omega)]
      refine ⟨nI_inL (by omega) (by omega), ok_times hp ?_⟩
      refine w_ap81 (m := co p i * x) (i := i) hp ta tb tc hac (by omega) (sz q) 0 f h (by omega) H Hc (fun h1 f1 g1 g2 g3 => ?_)
      refine s_X3_addProduct_136 hp ta tb tc ?_
      rw [nI_1]
      refine ih (i + 1) f1 h1 (by omega) g2 (Hb.fr g1 (out2 ta tb hab).1 (out2 ta tb hab).2) (Hc.fr g1 (out2 ta tc hac).1 (out2 ta tc hac).2) (fun h' f' hpi => q' h' (g1.tr f') ?_)
      rw [mkP_cong (f' := fun l => f1 l + sm (fun t => if i + 1 + t ≤ l then co p (i + 1 + t) * x * co q (l - (i + 1 + t)) else 0) k)]
      · exact hpi
      · intro l hl
        rw [sm_succ', g3 l hl]
        have e : sm (fun t => if i + (t + 1) ≤ l then co p (i + (t + 1)) * x * co q (l - (i + (t + 1))) else 0) k = sm (fun t => if i + 1 + t ≤ l then co p (i + 1 + t) * x * co q (l - (i + 1 + t)) else 0) k := sm_congr (fun t _ => by rw [show i + (t + 1) = i + 1 + t by omega])
        rw [e]
        generalize sm (fun t => if i + 1 + t ≤ l then co p (i + 1 + t) * x * co q (l - (i + 1 + t)) else 0) k = w
        simp only [Nat.add_zero]
        split <;> grind
/-- more by x p q -/
theorem ok_addProduct (hp : g.2.2.2.2 = true) (ta : lay a = (0, 3, 2)) (tb : lay b = (0, 3, 2)) (tc : lay c = (0, 3, 2)) (hab : a ≠ b) (hac : a ≠ c) {p0 p q : Pl Fp} {x : Fp} (H : PI h a p0) (Hb : PI h b p) (Hc : PI h c q) (hT : sz p + sz q - 1 ≤ rm (a + 1)) {Q : Hp → Prop} (k : ∀ h', Fr h h' [a, a + 1] → PI h' a (padd p0 (pmul (pC x) (pmul p q))) → Q h') : CallV g m_X3_addProduct (d + 1) [.ref a, .ref b, .ref c, .int (toI x)] n h Q := by
  have hbl := Hb.lt
  have hcl := Hc.lt
  have zr : p = pz ∨ q = pz → PI h a (padd p0 (pmul (pC x) (pmul p q))) := by
    intro e
    have : padd p0 (pmul (pC x) (pmul p q)) = p0 := pl_ext fun i => by
      rw [co_add, pC_mul]
      have : co (pmul p q) i = 0 := by
        rw [co_mul]
        apply sm_zero
        intro j _
        rcases e with e | e <;> rw [e, co_z] <;> grind
      rw [this]; grind
    rw [this]; exact H
  refine okV 3 rfl rfl (s_X3_addProduct_0 hp ta tb tc ?_)
  rw [Hb.1, Hc.1, z0, nI_z, nI_z, zI_eq (by omega) (by omega) (by omega) (by omega), zI_eq (by omega) (by omega) (by omega) (by omega)]
  refine ⟨fun c' => qV (k h Fr.rf (zr (Or.inl (sz_0 (by omega))))), fun c1 => ⟨fun c2 => ?_, fun c2 => qV (k h Fr.rf (zr (Or.inr (sz_0 (by omega)))))⟩⟩
  refine w_ap15 hp ta tb tc hab hac (by omega) (by omega) hT (sz p + sz q) (sz p0) (co p0) h (by omega) H Hb Hc (fun h1 s1 f1 g1 g2 g3 g3' g4 g5 => ?_)
  refine w_ap56 hp ta tb tc hab hac g4 (by omega) (sz p) 0 f1 h1 (by omega) g2 g3 g3' (fun h' f' hpi => k h' (g1.tr f') ?_)
  have e : mkP (fun l => f1 l + sm (fun t => if 0 + t ≤ l then co p (0 + t) * x * co q (l - (0 + t)) else 0) (sz p)) s1 = padd p0 (pmul (pC x) (pmul p q)) := pl_ext fun i => by
    have g6 : co (mkP f1 s1) i = co p0 i := by rw [g5, mkP_co p0 (Nat.le_refl _)]
    rw [co_mkP] at g6
    have e1 : sm (fun t => if 0 + t ≤ i then co p (0 + t) * x * co q (i - (0 + t)) else 0) (sz p) = x * co (pmul p q) i := by rw [← conv_eq]; exact sm_congr (fun t _ => by rw [Nat.zero_add])
    rw [co_mkP, co_add, pC_mul, ← g6, e1]
    by_cases hi : i < s1
    · rw [if_pos hi, if_pos hi]
    · rw [if_neg hi, if_neg hi, szle_mul (sz_le p) (sz_le q) i (by omega)]; grind
  rw [e] at hpi; exact hpi
theorem ok_product (hp : g.2.2.2.2 = true) (ta : lay a = (0, 3, 2)) (tb : lay b = (0, 3, 2)) (tc : lay c = (0, 3, 2)) (hab : a ≠ b) (hac : a ≠ c) {p q : Pl Fp} (Hb : PI h b p) (Hc : PI h c q) (hT : sz p + sz q - 1 ≤ rm (a + 1)) {Q : Hp → Prop} (k : ∀ h', Fr h h' [a, a + 1] → PI h' a (pmul p q) → Q h') : CallV g m_X3_product (d + 2) [.ref a, .ref b, .ref c] n h Q := by
  refine okV 0 rfl rfl (s_X3_product_0 hp ta tb tc (fun h1 e1 => ?_))
  have f1 : Fr h h1 [a, a + 1] := by rw [e1]; exact Fr.rf.put (by simp)
  have H1 : PI h1 a pz := by
    unfold PI
    rw [sz_z, e1]
    exact ⟨ri_same, Nat.zero_le _, fun i hi => absurd hi (Nat.not_lt_zero i)⟩
  rw [show (1 : Int32) = toI 1 from rfl]
  refine ok_addProduct hp ta tb tc hab hac H1 (Hb.fr f1 (out2 ta tb hab).1 (out2 ta tb hab).2) (Hc.fr f1 (out2 ta tc hac).1 (out2 ta tc hac).2) hT (fun h' f' hpi => qV (k h' (f1.tr f') ?_))
  have e : padd pz (pmul (pC 1) (pmul p q)) = pmul p q := pl_ext fun i => by rw [co_add, pC_mul, co_z]; grind
  rw [e] at hpi; exact hpi
end
