set_option maxRecDepth 100000
/-! POLY: division -/
theorem zI_inI {a : Int} {L : Nat} (h1 : -2147483648 ≤ a) (h2 : a < 2147483648) : vp_in (zI a) L ↔ 0 ≤ a ∧ a < L := by
  rw [vp_in_iff, zI_toInt h1 h2]
theorem nI_inI {k L : Nat} (h : k < 2147483648) : vp_in (nI k) L ↔ k < L := by
  rw [nI_z, zI_inI (by omega) (by omega)]; omega
theorem nI_sub1 {k : Nat} (h : 0 < k) : nI k - 1 = nI (k - 1) := by
  simp (disch := omega) only [nI_z, z0, z1, z2, zm1, zI_add, zI_sub, zI_neg, zI_mul, zI_le, zI_lt, zI_eq, zI_tN, zI_inI]; congr 1; omega
section
variable {g : GX} {d n : Nat} {h : Hp} {a b c : Nat}
theorem ok_max (hp : g.2.2.2.2 = true) {x y : Int} (h1 : -2147483648 ≤ x) (h2 : x < 2147483648) (h3 : -2147483648 ≤ y) (h4 : y < 2147483648) {Q : Int32 → Hp → Prop} (q : Q (zI (max x y)) h) : CallI g m_J3_max d [.int (zI x), .int (zI y)] n h Q := by
  refine okJ pf_max 0 rfl rfl (s_J3_max_0 hp ?_)
  simp (disch := omega) only [nI_z, z0, z1, z2, zm1, zI_add, zI_sub, zI_neg, zI_mul, zI_le, zI_lt, zI_eq, zI_tN, zI_inI]
  exact ⟨fun c => qI (by rw [show max x y = y by omega] at q; exact q), fun c => qI (by rw [show max x y = x by omega] at q; exact q)⟩
theorem ok_min (hp : g.2.2.2.2 = true) {x y : Int} (h1 : -2147483648 ≤ x) (h2 : x < 2147483648) (h3 : -2147483648 ≤ y) (h4 : y < 2147483648) {Q : Int32 → Hp → Prop} (q : Q (zI (min x y)) h) : CallI g m_J3_min d [.int (zI x), .int (zI y)] n h Q := by
  refine okJ pf_min 0 rfl rfl (s_J3_min_0 hp ?_)
  simp (disch := omega) only [nI_z, z0, z1, z2, zm1, zI_add, zI_sub, zI_neg, zI_mul, zI_le, zI_lt, zI_eq, zI_tN, zI_inI]
  exact ⟨fun c => qI (by rw [show min x y = y by omega] at q; exact q), fun c => qI (by rw [show min x y = x by omega] at q; exact q)⟩
theorem ok_maxN (hp : g.2.2.2.2 = true) {x y : Nat} (h2 : x < 2147483648) (h4 : y < 2147483648) {Q : Int32 → Hp → Prop} (q : Q (nI (max x y)) h) : CallI g m_J3_max d [.int (nI x), .int (nI y)] n h Q :=
  ok_max (x := x) (y := y) hp (by omega) (by omega) (by omega) (by omega) (by rw [show max (x : Int) (y : Int) = ((max x y : Nat) : Int) by omega]; exact q)
theorem ok_minN (hp : g.2.2.2.2 = true) {x y : Nat} (h2 : x < 2147483648) (h4 : y < 2147483648) {Q : Int32 → Hp → Prop} (q : Q (nI (min x y)) h) : CallI g m_J3_min d [.int (nI x), .int (nI y)] n h Q :=
  ok_min (x := x) (y := y) hp (by omega) (by omega) (by omega) (by omega) (by rw [show min (x : Int) (y : Int) = ((min x y : Nat) : Int) by omega]; exact q)
theorem pa_out (ta : lay a = (0, 3, 2)) (tc : lay c = (0, 3, 2)) (hab : b ≠ a) (tb : lay b = (0, 3, 2)) (hbc : b ≠ c) : b ∉ [a, a + 1, c, c + 1] ∧ b + 1 ∉ [a, a + 1, c, c + 1] := by
  have := pa_ne tb ta
  have := pa_ne tb tc
  have := pa_ne ta tb
  have := pa_ne tc tb
  simp only [List.mem_cons, List.not_mem_nil, or_false, not_or]
  omega
theorem w_dv79 (hp : g.2.2.2.2 = true) (ta : lay a = (0, 3, 2)) (tb : lay b = (0, 3, 2)) (tc : lay c = (0, 3, 2)) (hab : a ≠ b) {av : List Value} {Q : QT} {q : Pl Fp} {x4 : Int32} {m : Fp} {i s : Nat} (his : i + sz q ≤ s) : ∀ (k j : Nat) (f : Nat → Fp) (h : Hp), j + k = sz q → PA h a s f → PI h b q → (∀ (h1 : Hp) (f1 : Nat → Fp), Fr h h1 [a, a + 1] → PA h1 a s f1 → (∀ l, l < s → f1 l = if i + j ≤ l then f l - m * co q (l - i) else f l) → W_X3_divide g d av Q n 134 [some (.ref a), some (.ref b), some (.ref c), none, some (.int x4), some (.int (nI i)), none, none] [] h1) → W_X3_divide g d av Q n 79 [some (.ref a), some (.ref b), some (.ref c), none, some (.int x4), some (.int (nI i)), some (.int (toI m)), some (.int (nI j))] [] h := by
  intro k
  induction k with
  | zero =>
    intro j f h hk H Hc q'
    have hcl := Hc.lt
    refine s_X3_divide_79 hp ta tb tc ⟨fun _ => q' h f Fr.rf H (fun l hl => ?_), fun c' => absurd ?_ c'⟩
    · split
      · rw [sz_le q (l - i) (by omega)]; grind
      · rfl
    · rw [Hc.1, nI_leI (by omega) (by omega)]; omega
  | succ k ih =>
    intro j f h hk H Hc q'
    have hl := H.lt
    have hr := rm_lt (a + 1)
    have hr2 := rm_lt (b + 1)
    have hcl := Hc.lt
    have hc1 := Hc.2.1
    have ha1 := H.2.1
    refine s_X3_divide_79 hp ta tb tc ⟨fun c' => absurd c' ?_, fun _ => ⟨fun c' => ?_, fun c' => ?_⟩⟩
    · rw [Hc.1, nI_leI (by omega) (by omega)]; omega
    · rw [toI_eq0] at c'
      refine q' h f Fr.rf H (fun l hl => ?_)
      split
      · rw [c']; grind
      · rfl
    · rw [nI_addz, nI_tN (by omega), nI_tN (by omega), Hc.2.2 j (by omega), H.2.2 (i + j) (by omega)]
      refine ⟨nI_inL (by omega) (by omega), nI_inL (by omega) (by omega), ok_times hp (ok_less hp ⟨nI_inL (by omega) (by omega), fun h3 e3 => ?_⟩)⟩
      have f3 : Fr h h3 [a, a + 1] := by rw [e3]; exact Fr.rf.put (by simp)
      rw [nI_1]
      refine ih (j + 1) (fun l => if l = i + j then f (i + j) - m * co q j else f l) h3 (by omega) (by rw [e3]; exact H.upd) (Hc.fr f3 (out2 ta tb hab).1 (out2 ta tb hab).2) (fun h1 f1 g1 g2 g3 => q' h1 f1 (f3.tr g1) g2 (fun l hl => ?_))
      rw [g3 l hl]
      by_cases e : l = i + j
      · subst e
        rw [if_neg (by omega), if_pos rfl, if_pos (by omega), show i + j - i = j by omega]
      · by_cases e2 : i + j ≤ l
        · rw [if_pos (by omega), if_neg e, if_pos e2]
        · rw [if_neg (by omega), if_neg e, if_neg e2]
theorem w_dn79 (hp : g.2.2.2.2 = true) (ta : lay a = (0, 3, 2)) (tb : lay b = (0, 3, 2))  (hab : a ≠ b) {av : List Value} {Q : QT} {q : Pl Fp} {x4 : Int32} {m : Fp} {i s : Nat} (his : i + sz q ≤ s) : ∀ (k j : Nat) (f : Nat → Fp) (h : Hp), j + k = sz q → PA h a s f → PI h b q → (∀ (h1 : Hp) (f1 : Nat → Fp), Fr h h1 [a, a + 1] → PA h1 a s f1 → (∀ l, l < s → f1 l = if i + j ≤ l then f l - m * co q (l - i) else f l) → W_X3_divideN g d av Q n 134 [some (.ref a), some (.ref b), some (.null), none, some (.int x4), some (.int (nI i)), none, none] [] h1) → W_X3_divideN g d av Q n 79 [some (.ref a), some (.ref b), some (.null), none, some (.int x4), some (.int (nI i)), some (.int (toI m)), some (.int (nI j))] [] h := by
  intro k
  induction k with
  | zero =>
    intro j f h hk H Hc q'
    have hcl := Hc.lt
    refine s_X3_divideN_79 hp ta tb  ⟨fun _ => q' h f Fr.rf H (fun l hl => ?_), fun c' => absurd ?_ c'⟩
    · split
      · rw [sz_le q (l - i) (by omega)]; grind
      · rfl
    · rw [Hc.1, nI_leI (by omega) (by omega)]; omega
  | succ k ih =>
    intro j f h hk H Hc q'
    have hl := H.lt
    have hr := rm_lt (a + 1)
    have hr2 := rm_lt (b + 1)
    have hcl := Hc.lt
    have hc1 := Hc.2.1
    have ha1 := H.2.1
    refine s_X3_divideN_79 hp ta tb  ⟨fun c' => absurd c' ?_, fun _ => ⟨fun c' => ?_, fun c' => ?_⟩⟩
    · rw [Hc.1, nI_leI (by omega) (by omega)]; omega
    · rw [toI_eq0] at c'
      refine q' h f Fr.rf H (fun l hl => ?_)
      split
      · rw [c']; grind
      · rfl
    · rw [nI_addz, nI_tN (by omega), nI_tN (by omega), Hc.2.2 j (by omega), H.2.2 (i + j) (by omega)]
      refine ⟨nI_inL (by omega) (by omega), nI_inL (by omega) (by omega), ok_times hp (ok_less hp ⟨nI_inL (by omega) (by omega), fun h3 e3 => ?_⟩)⟩
      have f3 : Fr h h3 [a, a + 1] := by rw [e3]; exact Fr.rf.put (by simp)
      rw [nI_1]
      refine ih (j + 1) (fun l => if l = i + j then f (i + j) - m * co q j else f l) h3 (by omega) (by rw [e3]; exact H.upd) (Hc.fr f3 (out2 ta tb hab).1 (out2 ta tb hab).2) (fun h1 f1 g1 g2 g3 => q' h1 f1 (f3.tr g1) g2 (fun l hl => ?_))
      rw [g3 l hl]
      by_cases e : l = i + j
      · subst e
        rw [if_neg (by omega), if_pos rfl, if_pos (by omega), show i + j - i = j by omega]
      · by_cases e2 : i + j ≤ l
        · rw [if_pos (by omega), if_neg e, if_pos e2]
        · rw [if_neg (by omega), if_neg e, if_neg e2]
end
