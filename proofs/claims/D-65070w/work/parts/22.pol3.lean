set_option maxRecDepth 100000
/-! POLY: sums and products -/
theorem nI_addz (a b : Nat) : nI a + nI b = nI (a + b) := nI_add a b
section
variable {g : GX} {d n : Nat} {h : Hp} {a b : Nat}
theorem w_add0 (hp : g.2.2.2.2 = true) (ta : lay a = (0, 3, 2)) (tb : lay b = (0, 3, 2)) (hab : a ≠ b) {av : List Value} {Q : QT} {p : Pl Fp} {c : Fp} {u : Nat} (hT : sz p + u ≤ rm (a + 1)) : ∀ (k s : Nat) (f : Nat → Fp) (h : Hp), sz p + u ≤ s + k → PA h a s f → PI h b p → (∀ (h1 : Hp) (s1 : Nat) (f1 : Nat → Fp), Fr h h1 [a, a + 1] → PA h1 a s1 f1 → PI h1 b p → sz p + u ≤ s1 → mkP f1 s1 = mkP f s → W_X3_add g d av Q n 36 [some (.ref a), some (.ref b), some (.int (toI c)), some (.int (nI u)), some (.int 0)] [] h1) → W_X3_add g d av Q n 0 [some (.ref a), some (.ref b), some (.int (toI c)), some (.int (nI u)), none] [] h := by
  intro k
  induction k with
  | zero =>
    intro s f h hk H Hb q
    have hl := H.lt
    have hr := rm_lt (a + 1)
    refine s_X3_add_0 hp ta tb ⟨fun _ => q h s f Fr.rf H Hb (by omega) rfl, fun c' => absurd ?_ c'⟩
    rw [H.1, Hb.1, nI_addz, nI_leI (by omega) (by omega)]; omega
  | succ k ih =>
    intro s f h hk H Hb q
    have hl := H.lt
    have hr := rm_lt (a + 1)
    have hbl := Hb.lt
    have hbne : b ∉ [a, a + 1] := by simp only [List.mem_cons, List.not_mem_nil, or_false, not_or]; exact ⟨Ne.symm hab, pa_ne tb ta⟩
    have hbne1 : b + 1 ∉ [a, a + 1] := by simp only [List.mem_cons, List.not_mem_nil, or_false, not_or]; exact ⟨Ne.symm (pa_ne ta tb), by omega⟩
    refine s_X3_add_0 hp ta tb ?_
    rw [H.1, Hb.1, nI_addz, nI_leI (by omega) (by omega)]
    refine ⟨fun c' => q h s f Fr.rf H Hb c' rfl, fun c' h1 e1 => ⟨nI_inL (by omega) (by omega), fun h2 e2 => ?_⟩⟩
    rw [nI_tN (by omega)] at e2
    rw [nI_1] at e1
    have f2 : Fr h h2 [a, a + 1] := by
      rw [e2]
      exact Fr.put (by rw [e1]; exact Fr.rf.put (by simp)) (by simp)
    refine ih (s + 1) (fun j => if j < s then f j else 0) h2 (by omega) (by rw [e2, e1]; exact H.grow (by omega)) (Hb.fr f2 hbne hbne1) (fun h3 s3 f3 g1 g2 g3 g4 g5 => q h3 s3 f3 (f2.tr g1) g2 g3 g4 (g5.trans ?_))
    rw [mkP_drop (by simp)]
    exact mkP_cong (fun j hj => by rw [if_pos hj])
theorem w_add36 (hp : g.2.2.2.2 = true) (ta : lay a = (0, 3, 2)) (tb : lay b = (0, 3, 2)) (hab : a ≠ b) {av : List Value} {p : Pl Fp} {c : Fp} {u s : Nat} {Q : Hp → Prop} (hs : sz p + u ≤ s) : ∀ (k i : Nat) (f : Nat → Fp) (h : Hp), i + k = sz p → PA h a s f → PI h b p → (∀ h', Fr h h' [a, a + 1] → PI h' a (mkP (fun j => if u + i ≤ j then f j + co p (j - u) * c else f j) s) → Q h') → W_X3_add g d av (QV n Q) n 36 [some (.ref a), some (.ref b), some (.int (toI c)), some (.int (nI u)), some (.int (nI i))] [] h := by
  have hbne : b ∉ [a, a + 1] := by simp only [List.mem_cons, List.not_mem_nil, or_false, not_or]; exact ⟨Ne.symm hab, pa_ne tb ta⟩
  have hbne1 : b + 1 ∉ [a, a + 1] := by simp only [List.mem_cons, List.not_mem_nil, or_false, not_or]; exact ⟨Ne.symm (pa_ne ta tb), by omega⟩
  intro k
  induction k with
  | zero =>
    intro i f h hik H Hb q
    have hbl := Hb.lt
    refine s_X3_add_36 hp ta tb ⟨fun _ => ok_trim hp ta H (fun h' f' hpi => qV (q h' (f'.mono (by simp)) ?_)), fun c' => absurd ?_ c'⟩
    · rw [mkP_cong (f' := f)]
      · exact hpi
      · intro j hj
        split
        · rw [sz_le p (j - u) (by omega)]; grind
        · rfl
    · rw [Hb.1, nI_leI (by omega) (by omega)]; omega
  | succ k ih =>
    intro i f h hik H Hb q
    have hl := H.lt
    have hr := rm_lt (a + 1)
    have hr2 := rm_lt (b + 1)
    have hbl := Hb.lt
    have hb1 := Hb.2.1
    have ha1 := H.2.1
    refine s_X3_add_36 hp ta tb ⟨fun c' => absurd c' ?_, fun _ => ?_⟩
    · rw [Hb.1, nI_leI (by omega) (by omega)]; omega
    · rw [nI_addz, nI_tN (by omega), nI_tN (by omega), Hb.2.2 i (by omega), H.2.2 (i + u) (by omega)]
      refine ⟨nI_inL (by omega) (by omega), nI_inL (by omega) (by omega), ok_times hp (ok_sum hp ⟨nI_inL (by omega) (by omega), fun h4 e4 => ?_⟩)⟩
      have f4 : Fr h h4 [a, a + 1] := by rw [e4]; exact Fr.rf.put (by simp)
      rw [nI_1]
      refine ih (i + 1) (fun j => if j = i + u then f (i + u) + co p i * c else f j) h4 (by omega) (by rw [e4]; exact H.upd) (Hb.fr f4 hbne hbne1) (fun h' f' hpi => q h' (f4.tr f') ?_)
      rw [mkP_cong (f' := fun j => if u + (i + 1) ≤ j then (if j = i + u then f (i + u) + co p i * c else f j) + co p (j - u) * c else (if j = i + u then f (i + u) + co p i * c else f j))]
      · exact hpi
      · intro j hj
        by_cases e : j = i + u
        · subst e
          rw [if_pos (by omega), if_neg (by omega), if_pos rfl, show i + u - u = i by omega]
        · by_cases e2 : u + i ≤ j
          · rw [if_pos e2, if_pos (by omega), if_neg e]
          · rw [if_neg e2, if_neg (by omega), if_neg e]
/-- more by p c x^u -/
theorem ok_padd (hp : g.2.2.2.2 = true) (ta : lay a = (0, 3, 2)) (tb : lay b = (0, 3, 2)) (hab : a ≠ b) {p p0 : Pl Fp} {c : Fp} {u : Nat} (H : PI h a p0) (Hb : PI h b p) (hT : sz p + u ≤ rm (a + 1)) {Q : Hp → Prop} (q : ∀ h', Fr h h' [a, a + 1] → PI h' a (padd p0 (pmul (pC c) (pmul (pX u) p))) → Q h') : CallV g m_X3_add (d + 1) [.ref a, .ref b, .int (toI c), .int (nI u)] n h Q := by
  refine okV 1 rfl rfl (w_add0 hp ta tb hab hT (sz p + u) (sz p0) (co p0) h (by omega) H Hb (fun h1 s1 f1 g1 g2 g3 g4 g5 => ?_))
  refine w_add36 hp ta tb hab g4 (sz p) 0 f1 h1 (by omega) g2 g3 (fun h' f' hpi => q h' (g1.tr f') ?_)
  have e : mkP (fun j => if u + 0 ≤ j then f1 j + co p (j - u) * c else f1 j) s1 = padd p0 (pmul (pC c) (pmul (pX u) p)) := pl_ext fun i => by
    have g6 : co (mkP f1 s1) i = co p0 i := by rw [g5, mkP_co p0 (Nat.le_refl _)]
    rw [co_mkP] at g6
    rw [co_mkP, co_add, pC_mul, co_Xmul, ← g6]
    by_cases hi : i < s1
    · rw [if_pos hi, if_pos hi]
      by_cases hu : u ≤ i
      · rw [if_pos (by omega), if_pos hu]; grind
      · rw [if_neg (by omega), if_neg hu]; grind
    · rw [if_neg hi, if_neg hi]
      split
      · rw [sz_le p (i - u) (by omega)]; grind
      · grind
  rw [e] at hpi; exact hpi
end
