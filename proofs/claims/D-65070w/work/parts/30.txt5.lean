set_option maxRecDepth 100000
/-! TEXTS: the value of a text -/
abbrev RV : Type := (Nat × Itm) ⊕ (Nat × Nat)
def sbind (x : Option RV) (k : Nat → Itm → Option RV) : Option RV := match x with
  | none => none
  | some (Sum.inr f) => some (Sum.inr f)
  | some (Sum.inl (p, i)) => k p i
def vout (r : VR) (pl : Nat) (k : Itm → Option RV) : Option RV := match r with
  | Sum.inl i => k i
  | Sum.inr c => some (Sum.inr (c, pl))
def digV (t : Nat → Int32) : Nat → Nat → Nat → Nat × Nat
  | 0, a, v => (a, v)
  | k + 1, a, v => if ¬ t a < 48 ∧ ¬ 57 < t a then digV t k (a + 1) (10 * v + ((t a).toInt - 48).toNat) else (a, v)
def itN : Itm := (bC (pX 1), bC (pC 1), 1, 1, [])
def itK : Itm := (bX 1, bC (pC 1), 1, 1, [])
noncomputable def negI (i : Itm) : Itm := (bsc (-1) i.1, i.2.1, i.2.2.1, i.2.2.2.1, i.2.2.2.2)
noncomputable def sumI (op : Nat) (i j : Itm) : VR := cite (isT i.2.2.1 i.2.2.2.1 i.2.2.2.2 ∨ isT j.2.2.1 j.2.2.2.1 j.2.2.2.2) (Sum.inr 2) (cite (fitB (lowT (rkN op i.1 i.2.1 j.1 j.2.1) (rkD op i.1 i.2.1 j.1 j.2.1)) ∧ fitB (lowB (rkN op i.1 i.2.1 j.1 j.2.1) (rkD op i.1 i.2.1 j.1 j.2.1))) (Sum.inl (lowT (rkN op i.1 i.2.1 j.1 j.2.1) (rkD op i.1 i.2.1 j.1 j.2.1), lowB (rkN op i.1 i.2.1 j.1 j.2.1) (rkD op i.1 i.2.1 j.1 j.2.1), i.2.2.1, i.2.2.2.1, i.2.2.2.2)) (Sum.inr 4))
noncomputable def mulT (by' : Bool) (i j : Itm) : VR := cite (by' = true ∧ j.1 = bz) (Sum.inr 3) (orF (mulI by' i j) 4)
/-- values: E (0), U (1), W (2), B (3), the rests of E (4) and of U (5) behind a value -/
noncomputable def vp (t : Nat → Int32) (len : Nat) : Nat → Nat → Nat → Itm → Option RV
  | 0, _, _, _ => none
  | F + 1, 0, a, _ => sbind (vp t len F 1 (if nxc t len a = 45 then skp t len a + 1 else skp t len a) itN) (fun p i => vp t len F 4 p (if nxc t len a = 45 then negI i else i))
  | F + 1, 1, a, _ => sbind (vp t len F 2 a itN) (fun p i => vp t len F 5 p i)
  | F + 1, 2, a, _ => sbind (vp t len F 3 a itN) (fun p i => vout (if nxc t len p = 33 then facI i else Sum.inl i) (skp t len p) (fun i => if nxc t len (if nxc t len p = 33 then skp t len p + 1 else skp t len p) = 94 then sbind (vp t len F 3 (skp t len (if nxc t len p = 33 then skp t len p + 1 else skp t len p) + 1) itN) (fun p2 e => vout (powT i e) (skp t len (if nxc t len p = 33 then skp t len p + 1 else skp t len p)) (fun r => some (Sum.inl (p2, r)))) else some (Sum.inl (skp t len (if nxc t len p = 33 then skp t len p + 1 else skp t len p), i))))
  | F + 1, 3, a, _ => if ¬ nxc t len a < 48 ∧ ¬ 57 < nxc t len a then some (Sum.inl ((digV t (len - skp t len a) (skp t len a) 0).1, numI (nF (digV t (len - skp t len a) (skp t len a) 0).2))) else if nxc t len a = 110 then some (Sum.inl (skp t len a + 1, itN)) else if nxc t len a = 107 then some (Sum.inl (skp t len a + 1, itK)) else if nxc t len a = 67 then sbind (vp t len F 0 (skp t len (skp t len a + 1) + 1) itN) (fun p1 x => sbind (vp t len F 0 (skp t len p1 + 1) itN) (fun p2 y => vout (chI x y) (skp t len a) (fun r => some (Sum.inl (skp t len p2 + 1, r))))) else sbind (vp t len F 0 (skp t len a + 1) itN) (fun p1 x => some (Sum.inl (skp t len p1 + 1, x)))
  | F + 1, 4, a, i => if nxc t len a = 43 ∨ nxc t len a = 45 then sbind (vp t len F 1 (skp t len a + 1) itN) (fun p j => vout (sumI (if nxc t len a = 45 then 1 else 0) i j) (skp t len a) (fun r => vp t len F 4 p r)) else some (Sum.inl (skp t len a, i))
  | F + 1, _, a, i => if nxc t len a = 42 ∨ nxc t len a = 47 then sbind (vp t len F 2 (skp t len a + 1) itN) (fun p j => vout (mulT (decide (nxc t len a = 47)) i j) (skp t len a) (fun r => vp t len F 5 p r)) else some (Sum.inl (skp t len a, i))
theorem dig_same (t : Nat → Int32) (fr : Nat) : ∀ (k a v p : Nat), gdig t fr k a = some (true, p) → (digV t k a v).1 = p
  | 0, a, v, p, h => by
    have h : some (true, a) = some (true, p) := h
    injection h with h
    injection h with _ h
  | k + 1, a, v, p, h => by
    have h : (if ¬ t a < 48 ∧ ¬ 57 < t a then (if a - fr = 10 then some (false, a) else gdig t fr k (a + 1)) else some (true, a)) = some (true, p) := h
    show (if ¬ t a < 48 ∧ ¬ 57 < t a then digV t k (a + 1) (10 * v + ((t a).toInt - 48).toNat) else (a, v)).1 = p
    by_cases e : ¬ t a < 48 ∧ ¬ 57 < t a
    · rw [if_pos e] at h ⊢
      split at h
      · injection h with h
        injection h with h _
        cases h
      · exact dig_same t fr k (a + 1) _ p h
    · rw [if_neg e] at h ⊢
      injection h with h
      injection h with _ h
theorem gbind_true {x : Option (Bool × Nat)} {k : Nat → Option (Bool × Nat)} {p : Nat} (h : gbind x k = some (true, p)) : ∃ p1, x = some (true, p1) ∧ k p1 = some (true, p) := by
  rcases gbind_some h with ⟨p1, _, e⟩ | e
  · injection e with e _
    cases e
  · exact e
theorem gwant_true {t : Nat → Int32} {len : Nat} {c : Int32} {a p : Nat} (h : gwant t len c a = some (true, p)) : nxc t len a = c ∧ p = skp t len a + 1 := by
  unfold gwant at h
  split at h
  · rename_i e
    injection h with h
    injection h with _ h
    exact ⟨e, h.symm⟩
  · injection h with h
    injection h with h _
    cases h
theorem gopen_true {t : Nat → Int32} {len op a p : Nat} (h : gopen t len a op = some (true, p)) : nxc t len a = 40 ∧ op ≠ 20 ∧ p = skp t len a + 1 := by
  unfold gopen at h
  split at h
  · rename_i e
    split at h
    · injection h with h
      injection h with h _
      cases h
    · rename_i e2
      injection h with h
      injection h with _ h
      exact ⟨e, e2, h.symm⟩
  · injection h with h
    injection h with h _
    cases h
/-- a text of the grammar has a value or a flaw; the value ends where the text does -/
theorem vp_tot (t : Nat → Int32) (len : Nat) : ∀ (F tag a op p : Nat) (i : Itm), gp t len F tag a op = some (true, p) → ∃ r, vp t len F tag a i = some r ∧ ∀ p' i', r = Sum.inl (p', i') → p' = p := by
  intro F
  induction F with
  | zero => intro tag a op p i h; cases h
  | succ F ih =>
    intro tag a op p i h
    have bnd : ∀ (x : Option RV) (k : Nat → Itm → Option RV) (p1 : Nat), (∃ r, x = some r ∧ ∀ p' i', r = Sum.inl (p', i') → p' = p1) → (∀ i', ∃ r, k p1 i' = some r ∧ ∀ p' i'', r = Sum.inl (p', i'') → p' = p) → ∃ r, sbind x k = some r ∧ ∀ p' i'', r = Sum.inl (p', i'') → p' = p := by
      intro x k p1 ⟨r, e1, e2⟩ hk
      subst e1
      rcases r with ⟨p', i'⟩ | f
      · have := e2 p' i' rfl
        subst this
        exact hk i'
      · exact ⟨_, rfl, fun p' i' e => by cases e⟩
    have vo : ∀ (r : VR) (pl : Nat) (k : Itm → Option RV), (∀ i', ∃ r, k i' = some r ∧ ∀ p' i'', r = Sum.inl (p', i'') → p' = p) → ∃ r', vout r pl k = some r' ∧ ∀ p' i'', r' = Sum.inl (p', i'') → p' = p := by
      intro r pl k hk
      rcases r with i' | c
      · exact hk i'
      · exact ⟨_, rfl, fun p' i' e => by cases e⟩
    have one : ∀ (q : Nat) (i' : Itm), q = p → ∃ r : RV, some (Sum.inl (q, i')) = some r ∧ ∀ p' i'', r = Sum.inl (p', i'') → p' = p := by
      intro q i' e
      exact ⟨_, rfl, fun p' i'' e2 => by injection e2 with e2; injection e2 with e2 _; rw [← e2]; exact e⟩
    match tag with
    | 0 =>
      obtain ⟨p1, g1, g2⟩ := gbind_true h
      exact bnd _ _ p1 (ih 1 _ op p1 itN g1) (fun i' => ih 4 p1 op p _ g2)
    | 1 =>
      obtain ⟨p1, g1, g2⟩ := gbind_true h
      exact bnd _ _ p1 (ih 2 _ op p1 itN g1) (fun i' => ih 5 p1 op p _ g2)
    | 2 =>
      obtain ⟨p1, g1, g2⟩ := gbind_true h
      refine bnd _ _ p1 (ih 3 _ op p1 itN g1) (fun i' => vo _ _ _ (fun i2 => ?_))
      by_cases e : nxc t len (if nxc t len p1 = 33 then skp t len p1 + 1 else skp t len p1) = 94
      · rw [if_pos e] at g2 ⊢
        exact bnd _ _ p (ih 3 _ op p itN g2) (fun e' => vo _ _ _ (fun r => one _ _ rfl))
      · rw [if_neg e] at g2 ⊢
        injection g2 with g2
        injection g2 with _ g2
        exact one _ _ g2
    | 3 =>
      have h : (if ¬ nxc t len a < 48 ∧ ¬ 57 < nxc t len a then gdig t (skp t len a) (len - skp t len a) (skp t len a) else if nxc t len a = 110 ∨ nxc t len a = 107 then some (true, skp t len a + 1) else if nxc t len a = 67 then gbind (gopen t len (skp t len a + 1) op) (fun p => gbind (gp t len F 0 p (op + 1)) (fun p => gbind (gwant t len 44 p) (fun p => gbind (gp t len F 0 p (op + 1)) (fun p => gwant t len 41 p)))) else if nxc t len a = 40 then gbind (gopen t len (skp t len a) op) (fun p => gbind (gp t len F 0 p (op + 1)) (fun p => gwant t len 41 p)) else some (false, skp t len a)) = some (true, p) := h
      show ∃ r, (if ¬ nxc t len a < 48 ∧ ¬ 57 < nxc t len a then some (Sum.inl ((digV t (len - skp t len a) (skp t len a) 0).1, numI (nF (digV t (len - skp t len a) (skp t len a) 0).2))) else if nxc t len a = 110 then some (Sum.inl (skp t len a + 1, itN)) else if nxc t len a = 107 then some (Sum.inl (skp t len a + 1, itK)) else if nxc t len a = 67 then sbind (vp t len F 0 (skp t len (skp t len a + 1) + 1) itN) (fun p1 x => sbind (vp t len F 0 (skp t len p1 + 1) itN) (fun p2 y => vout (chI x y) (skp t len a) (fun r => some (Sum.inl (skp t len p2 + 1, r))))) else sbind (vp t len F 0 (skp t len a + 1) itN) (fun p1 x => some (Sum.inl (skp t len p1 + 1, x)))) = some r ∧ _
      by_cases e1 : ¬ nxc t len a < 48 ∧ ¬ 57 < nxc t len a
      · rw [if_pos e1] at h ⊢
        exact one _ _ (dig_same t _ _ _ 0 p h)
      · rw [if_neg e1] at h ⊢
        by_cases e2 : nxc t len a = 110
        · rw [if_pos (Or.inl e2)] at h
          rw [if_pos e2]
          injection h with h
          injection h with _ h
          exact one _ _ h
        · rw [if_neg e2]
          by_cases e3 : nxc t len a = 107
          · rw [if_pos (Or.inr e3)] at h
            rw [if_pos e3]
            injection h with h
            injection h with _ h
            exact one _ _ h
          · rw [if_neg (fun w => w.elim e2 e3)] at h
            rw [if_neg e3]
            by_cases e4 : nxc t len a = 67
            · rw [if_pos e4] at h ⊢
              obtain ⟨p1, g1, g2⟩ := gbind_true h
              obtain ⟨p2, g3, g4⟩ := gbind_true g2
              obtain ⟨p3, g5, g6⟩ := gbind_true g4
              obtain ⟨p4, g7, g8⟩ := gbind_true g6
              have w1 := (gopen_true g1).2.2
              have w2 := (gwant_true g5).2
              have w3 := (gwant_true g8).2
              rw [w1] at g3
              rw [w2] at g7
              refine bnd _ _ p2 (ih 0 _ _ p2 itN g3) (fun x => bnd _ _ p4 (ih 0 _ _ p4 itN g7) (fun y => vo _ _ _ (fun r => one _ _ w3.symm)))
            · rw [if_neg e4] at h ⊢
              by_cases e5 : nxc t len a = 40
              · rw [if_pos e5] at h
                obtain ⟨p1, g1, g2⟩ := gbind_true h
                obtain ⟨p2, g3, g4⟩ := gbind_true g2
                have w1 := (gopen_true g1).2.2
                have w3 := (gwant_true g4).2
                rw [w1, skp_skp] at g3
                exact bnd _ _ p2 (ih 0 _ _ p2 itN g3) (fun x => one _ _ w3.symm)
              · rw [if_neg e5] at h
                injection h with h
                injection h with h _
                cases h
    | 4 =>
      have h : (if nxc t len a = 43 ∨ nxc t len a = 45 then gbind (gp t len F 1 (skp t len a + 1) op) (fun p => gp t len F 4 p op) else some (true, skp t len a)) = some (true, p) := h
      show ∃ r, (if nxc t len a = 43 ∨ nxc t len a = 45 then sbind (vp t len F 1 (skp t len a + 1) itN) (fun p j => vout (sumI (if nxc t len a = 45 then 1 else 0) i j) (skp t len a) (fun r => vp t len F 4 p r)) else some (Sum.inl (skp t len a, i))) = some r ∧ _
      by_cases e : nxc t len a = 43 ∨ nxc t len a = 45
      · rw [if_pos e] at h ⊢
        obtain ⟨p1, g1, g2⟩ := gbind_true h
        exact bnd _ _ p1 (ih 1 _ op p1 itN g1) (fun j => vo _ _ _ (fun r => ih 4 p1 op p r g2))
      · rw [if_neg e] at h ⊢
        injection h with h
        injection h with _ h
        exact one _ _ h
    | n + 5 =>
      have h : (if nxc t len a = 42 ∨ nxc t len a = 47 then gbind (gp t len F 2 (skp t len a + 1) op) (fun p => gp t len F 5 p op) else some (true, skp t len a)) = some (true, p) := h
      show ∃ r, (if nxc t len a = 42 ∨ nxc t len a = 47 then sbind (vp t len F 2 (skp t len a + 1) itN) (fun p j => vout (mulT (decide (nxc t len a = 47)) i j) (skp t len a) (fun r => vp t len F 5 p r)) else some (Sum.inl (skp t len a, i))) = some r ∧ _
      by_cases e : nxc t len a = 42 ∨ nxc t len a = 47
      · rw [if_pos e] at h ⊢
        obtain ⟨p1, g1, g2⟩ := gbind_true h
        exact bnd _ _ p1 (ih 2 _ op p1 itN g1) (fun j => vo _ _ _ (fun r => ih 5 p1 op p r g2))
      · rw [if_neg e] at h ⊢
        injection h with h
        injection h with _ h
        exact one _ _ h
theorem gI_neg {i : Itm} (h : gI i) : gI (negI i) := by
  obtain ⟨g1, g2, g3, g4, g5, g6, g7, g8, g9⟩ := h
  have hne : (-1 : Fp) ≠ 0 := by decide
  refine ⟨?_, g2, ⟨Nat.le_trans (bsn_sc_le _ i.1) g3.1, Nat.le_trans (bsz_sc_le _ i.1) g3.2⟩, g4, g5, g6, g7, g8, fun w => ?_⟩
  · have := cop_sc hne fp_dom.2 g1
    rw [sc_1] at this
    exact this
  · by_cases z : i.1 = bz
    · exact g9 z
    · exact absurd w (sc_ne hne z)
theorem gI_sum {op : Nat} {i j r : Itm} (ho : op < 2) (hi : gI i) (hj : gI j) (h : sumI op i j = Sum.inl r) : gI r := by
  unfold sumI at h
  by_cases e : isT i.2.2.1 i.2.2.2.1 i.2.2.2.2 ∨ isT j.2.2.1 j.2.2.2.1 j.2.2.2.2
  · rw [cite_pos e] at h; cases h
  · rw [cite_neg e] at h
    by_cases f : fitB (lowT (rkN op i.1 i.2.1 j.1 j.2.1) (rkD op i.1 i.2.1 j.1 j.2.1)) ∧ fitB (lowB (rkN op i.1 i.2.1 j.1 j.2.1) (rkD op i.1 i.2.1 j.1 j.2.1))
    · rw [cite_pos f] at h
      injection h with h
      have hD : rkD op i.1 i.2.1 j.1 j.2.1 ≠ bz := by
        unfold rkD
        rw [if_pos ho]
        exact b_mulne hi.b hj.b
      have lw := low_is (rkN op i.1 i.2.1 j.1 j.2.1) hD
      rw [← h]
      exact ⟨lw.2.1, lw.2.2, f.1, f.2, hi.2.2.2.2.1, hi.2.2.2.2.2.1, hi.2.2.2.2.2.2.1, hi.2.2.2.2.2.2.2.1, fun _ => fun w => e (Or.inl w)⟩
    · rw [cite_neg f] at h; cases h
