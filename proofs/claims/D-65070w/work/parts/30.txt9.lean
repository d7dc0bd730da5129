set_option maxRecDepth 100000
/-! TEXTS: the grammar ends -/
theorem nx_lt {t : Nat → Int32} {len a : Nat} {c : Int32} (e : nxc t len a = c) (hc : c ≠ -1) : skp t len a < len := by
  apply Classical.byContradiction
  intro z
  unfold nxc at e
  rw [if_neg z] at e
  exact hc e.symm
theorem dig_pos {t : Nat → Int32} {fr : Nat} : ∀ (k a p : Nat), gdig t fr k a = some (true, p) → a ≤ p ∧ p ≤ a + k
  | 0, a, p, h => by
    have h : some (true, a) = some (true, p) := h
    injection h with h
    injection h with _ h
    omega
  | k + 1, a, p, h => by
    have h : (if ¬ t a < 48 ∧ ¬ 57 < t a then (if a - fr = 10 then some (false, a) else gdig t fr k (a + 1)) else some (true, a)) = some (true, p) := h
    split at h
    · split at h
      · injection h with h
        injection h with h _
        cases h
      · have := dig_pos k (a + 1) p h
        omega
    · injection h with h
      injection h with _ h
      omega
theorem gp_pos {t : Nat → Int32} {len : Nat} : ∀ (F tag a op p : Nat), gp t len F tag a op = some (true, p) → a ≤ len → a ≤ p ∧ p ≤ len := by
  intro F
  induction F with
  | zero => intro tag a op p h; cases h
  | succ F ih =>
    intro tag a op p h ha
    have hk := skp_le (t := t) ha
    have one : ∀ q, q ≤ len → skp t len q ≤ len := fun q hq => (skp_le hq).2
    match tag with
    | 0 =>
      obtain ⟨p1, g1, g2⟩ := gbind_true h
      have b1 : (if nxc t len a = 45 then skp t len a + 1 else skp t len a) ≤ len := by
        split
        · rename_i e; have := nx_lt e (by decide); omega
        · omega
      have b2' : a ≤ (if nxc t len a = 45 then skp t len a + 1 else skp t len a) := by split <;> omega
      have h1 := ih 1 _ op p1 g1 b1
      have h2 := ih 4 p1 op p g2 h1.2
      omega
    | 1 =>
      obtain ⟨p1, g1, g2⟩ := gbind_true h
      have h1 := ih 2 _ op p1 g1 ha
      have h2 := ih 5 p1 op p g2 h1.2
      omega
    | 2 =>
      obtain ⟨p1, g1, g2⟩ := gbind_true h
      have h1 := ih 3 _ op p1 g1 ha
      have k1 := skp_le (t := t) h1.2
      have b1 : (if nxc t len p1 = 33 then skp t len p1 + 1 else skp t len p1) ≤ len := by
        split
        · rename_i e; have := nx_lt e (by decide); omega
        · omega
      have b2' : p1 ≤ (if nxc t len p1 = 33 then skp t len p1 + 1 else skp t len p1) := by split <;> omega
      have k2 := skp_le (t := t) b1
      by_cases e : nxc t len (if nxc t len p1 = 33 then skp t len p1 + 1 else skp t len p1) = 94
      · rw [if_pos e] at g2
        have := nx_lt e (by decide)
        have h2 := ih 3 _ op p g2 (by omega)
        omega
      · rw [if_neg e] at g2
        injection g2 with g2
        injection g2 with _ g2
        omega
    | 3 =>
      have h : (if ¬ nxc t len a < 48 ∧ ¬ 57 < nxc t len a then gdig t (skp t len a) (len - skp t len a) (skp t len a) else if nxc t len a = 110 ∨ nxc t len a = 107 then some (true, skp t len a + 1) else if nxc t len a = 67 then gbind (gopen t len (skp t len a + 1) op) (fun p => gbind (gp t len F 0 p (op + 1)) (fun p => gbind (gwant t len 44 p) (fun p => gbind (gp t len F 0 p (op + 1)) (fun p => gwant t len 41 p)))) else if nxc t len a = 40 then gbind (gopen t len (skp t len a) op) (fun p => gbind (gp t len F 0 p (op + 1)) (fun p => gwant t len 41 p)) else some (false, skp t len a)) = some (true, p) := h
      split at h
      · have := dig_pos _ _ _ h; omega
      · split at h
        · rename_i e
          have := e.elim (fun e => nx_lt e (by decide)) (fun e => nx_lt e (by decide))
          injection h with h
          injection h with _ h
          omega
        · split at h
          · rename_i e
            have hl := nx_lt e (by decide)
            obtain ⟨p1, g1, g2⟩ := gbind_true h
            obtain ⟨p2, g3, g4⟩ := gbind_true g2
            obtain ⟨p3, g5, g6⟩ := gbind_true g4
            obtain ⟨p4, g7, g8⟩ := gbind_true g6
            have w1 := gopen_true g1
            have w2 := gwant_true g5
            have w3 := gwant_true g8
            have l1 := nx_lt w1.1 (by decide)
            have s1 := skp_le (t := t) (len := len) (a := skp t len a + 1) (by omega)
            have h1 := ih 0 p1 _ p2 g3 (by omega)
            have l2 := nx_lt w2.1 (by decide)
            have s2 := skp_le (t := t) h1.2
            have h2 := ih 0 p3 _ p4 g7 (by omega)
            have l3 := nx_lt w3.1 (by decide)
            have s3 := skp_le (t := t) h2.2
            omega
          · split at h
            · rename_i e
              obtain ⟨p1, g1, g2⟩ := gbind_true h
              obtain ⟨p2, g3, g4⟩ := gbind_true g2
              have w1 := gopen_true g1
              have w3 := gwant_true g4
              have l1 := nx_lt w1.1 (by decide)
              rw [skp_skp] at l1 w1
              have h1 := ih 0 p1 _ p2 g3 (by omega)
              have l3 := nx_lt w3.1 (by decide)
              have s3 := skp_le (t := t) h1.2
              omega
            · injection h with h
              injection h with h _
              cases h
    | 4 =>
      have h : (if nxc t len a = 43 ∨ nxc t len a = 45 then gbind (gp t len F 1 (skp t len a + 1) op) (fun p => gp t len F 4 p op) else some (true, skp t len a)) = some (true, p) := h
      split at h
      · rename_i e
        have hl := e.elim (fun e => nx_lt e (by decide)) (fun e => nx_lt e (by decide))
        obtain ⟨p1, g1, g2⟩ := gbind_true h
        have h1 := ih 1 _ op p1 g1 (by omega)
        have h2 := ih 4 p1 op p g2 h1.2
        omega
      · injection h with h
        injection h with _ h
        omega
    | n + 5 =>
      have h : (if nxc t len a = 42 ∨ nxc t len a = 47 then gbind (gp t len F 2 (skp t len a + 1) op) (fun p => gp t len F 5 p op) else some (true, skp t len a)) = some (true, p) := h
      split at h
      · rename_i e
        have hl := e.elim (fun e => nx_lt e (by decide)) (fun e => nx_lt e (by decide))
        obtain ⟨p1, g1, g2⟩ := gbind_true h
        have h1 := ih 2 _ op p1 g1 (by omega)
        have h2 := ih 5 p1 op p g2 h1.2
        omega
      · injection h with h
        injection h with _ h
        omega
def rkT (tag : Nat) : Nat := match tag with
  | 0 => 3
  | 1 => 2
  | 2 => 1
  | _ => 0
theorem gdig_ex (t : Nat → Int32) (fr : Nat) : ∀ k a, ∃ r, gdig t fr k a = some r
  | 0, a => ⟨_, rfl⟩
  | k + 1, a => by
    show ∃ r, (if ¬ t a < 48 ∧ ¬ 57 < t a then (if a - fr = 10 then some (false, a) else gdig t fr k (a + 1)) else some (true, a)) = some r
    split
    · split
      · exact ⟨_, rfl⟩
      · exact gdig_ex t fr k (a + 1)
    · exact ⟨_, rfl⟩
theorem gwant_ex (t : Nat → Int32) (len : Nat) (c : Int32) (a : Nat) : ∃ r, gwant t len c a = some r := by
  unfold gwant; split <;> exact ⟨_, rfl⟩
theorem gopen_ex (t : Nat → Int32) (len a op : Nat) : ∃ r, gopen t len a op = some r := by
  unfold gopen
  split
  · split <;> exact ⟨_, rfl⟩
  · exact ⟨_, rfl⟩
theorem gbind_ex {x : Option (Bool × Nat)} {k : Nat → Option (Bool × Nat)} (hx : ∃ r, x = some r) (hk : ∀ p, x = some (true, p) → ∃ r, k p = some r) : ∃ r, gbind x k = some r := by
  obtain ⟨⟨b, p⟩, e⟩ := hx
  subst e
  cases b with
  | false => exact ⟨_, rfl⟩
  | true => exact hk p rfl
theorem gp_tot {t : Nat → Int32} {len : Nat} : ∀ (F tag a op : Nat), a ≤ len → 8 * (len - a) + rkT tag < F → ∃ r, gp t len F tag a op = some r := by
  intro F
  induction F with
  | zero => intro tag a op _ h; omega
  | succ F ih =>
    intro tag a op ha hF
    have hk := skp_le (t := t) ha
    match tag with
    | 0 =>
      have hF : 8 * (len - a) + 3 < F + 1 := hF
      have b1 : (if nxc t len a = 45 then skp t len a + 1 else skp t len a) ≤ len := by
        split
        · rename_i e; have := nx_lt e (by decide); omega
        · omega
      have b2' : a ≤ (if nxc t len a = 45 then skp t len a + 1 else skp t len a) := by split <;> omega
      refine gbind_ex (ih 1 _ op b1 (by show _ + 2 < F; omega)) (fun p hp => ?_)
      have := gp_pos _ _ _ _ _ hp b1
      exact ih 4 p op this.2 (by show _ + 0 < F; omega)
    | 1 =>
      have hF : 8 * (len - a) + 2 < F + 1 := hF
      refine gbind_ex (ih 2 _ op ha (by show _ + 1 < F; omega)) (fun p hp => ?_)
      have := gp_pos _ _ _ _ _ hp ha
      exact ih 5 p op this.2 (by show _ + 0 < F; omega)
    | 2 =>
      have hF : 8 * (len - a) + 1 < F + 1 := hF
      refine gbind_ex (ih 3 _ op ha (by show _ + 0 < F; omega)) (fun p hp => ?_)
      have h1 := gp_pos _ _ _ _ _ hp ha
      have k1 := skp_le (t := t) h1.2
      have b1 : (if nxc t len p = 33 then skp t len p + 1 else skp t len p) ≤ len := by
        split
        · rename_i e; have := nx_lt e (by decide); omega
        · omega
      have b2' : p ≤ (if nxc t len p = 33 then skp t len p + 1 else skp t len p) := by split <;> omega
      have k2 := skp_le (t := t) b1
      by_cases e : nxc t len (if nxc t len p = 33 then skp t len p + 1 else skp t len p) = 94
      · rw [if_pos e]
        have := nx_lt e (by decide)
        exact ih 3 _ op (by omega) (by show _ + 0 < F; omega)
      · rw [if_neg e]
        exact ⟨_, rfl⟩
    | 3 =>
      have hF : 8 * (len - a) + 0 < F + 1 := hF
      show ∃ r, (if ¬ nxc t len a < 48 ∧ ¬ 57 < nxc t len a then gdig t (skp t len a) (len - skp t len a) (skp t len a) else if nxc t len a = 110 ∨ nxc t len a = 107 then some (true, skp t len a + 1) else if nxc t len a = 67 then gbind (gopen t len (skp t len a + 1) op) (fun p => gbind (gp t len F 0 p (op + 1)) (fun p => gbind (gwant t len 44 p) (fun p => gbind (gp t len F 0 p (op + 1)) (fun p => gwant t len 41 p)))) else if nxc t len a = 40 then gbind (gopen t len (skp t len a) op) (fun p => gbind (gp t len F 0 p (op + 1)) (fun p => gwant t len 41 p)) else some (false, skp t len a)) = some r
      split
      · exact gdig_ex _ _ _ _
      · split
        · exact ⟨_, rfl⟩
        · split
          · rename_i e
            have hl := nx_lt e (by decide)
            refine gbind_ex (gopen_ex _ _ _ _) (fun p1 g1 => ?_)
            have w1 := gopen_true g1
            have l1 := nx_lt w1.1 (by decide)
            have s1 := skp_le (t := t) (len := len) (a := skp t len a + 1) (by omega)
            refine gbind_ex (ih 0 p1 _ (by omega) (by show _ + 3 < F; omega)) (fun p2 g3 => ?_)
            have h1 := gp_pos _ _ _ _ _ g3 (by omega)
            refine gbind_ex (gwant_ex _ _ _ _) (fun p3 g5 => ?_)
            have w2 := gwant_true g5
            have l2 := nx_lt w2.1 (by decide)
            have s2 := skp_le (t := t) h1.2
            refine gbind_ex (ih 0 p3 _ (by omega) (by show _ + 3 < F; omega)) (fun p4 g7 => gwant_ex _ _ _ _)
          · split
            · rename_i e
              have hl := nx_lt e (by decide)
              refine gbind_ex (gopen_ex _ _ _ _) (fun p1 g1 => ?_)
              have w1 := gopen_true g1
              rw [skp_skp] at w1
              exact gbind_ex (ih 0 p1 _ (by omega) (by show _ + 3 < F; omega)) (fun p2 g3 => gwant_ex _ _ _ _)
            · exact ⟨_, rfl⟩
    | 4 =>
      have hF : 8 * (len - a) + 0 < F + 1 := hF
      show ∃ r, (if nxc t len a = 43 ∨ nxc t len a = 45 then gbind (gp t len F 1 (skp t len a + 1) op) (fun p => gp t len F 4 p op) else some (true, skp t len a)) = some r
      split
      · rename_i e
        have hl := e.elim (fun e => nx_lt e (by decide)) (fun e => nx_lt e (by decide))
        refine gbind_ex (ih 1 _ op (by omega) (by show _ + 2 < F; omega)) (fun p hp => ?_)
        have := gp_pos _ _ _ _ _ hp (by omega)
        exact ih 4 p op this.2 (by show _ + 0 < F; omega)
      · exact ⟨_, rfl⟩
    | n + 5 =>
      have hF : 8 * (len - a) + rkT (n + 5) < F + 1 := hF
      show ∃ r, (if nxc t len a = 42 ∨ nxc t len a = 47 then gbind (gp t len F 2 (skp t len a + 1) op) (fun p => gp t len F 5 p op) else some (true, skp t len a)) = some r
      split
      · rename_i e
        have hl := e.elim (fun e => nx_lt e (by decide)) (fun e => nx_lt e (by decide))
        refine gbind_ex (ih 2 _ op (by omega) (by show _ + 1 < F; omega)) (fun p hp => ?_)
        have := gp_pos _ _ _ _ _ hp (by omega)
        exact ih 5 p op this.2 (by show _ + 0 < F; omega)
      · exact ⟨_, rfl⟩
/-- the grammar's answer for a whole tape, its value -/
noncomputable def gram (t : Nat → Int32) (len : Nat) : Bool × Nat := Classical.choose (gp_tot (t := t) (len := len) (8 * len + 10) 0 0 0 (Nat.zero_le _) (by show 8 * (len - 0) + 3 < _; omega))
theorem gram_is (t : Nat → Int32) (len : Nat) : gp t len (8 * len + 10) 0 0 0 = some (gram t len) := Classical.choose_spec (gp_tot (t := t) (len := len) (8 * len + 10) 0 0 0 (Nat.zero_le _) (by show 8 * (len - 0) + 3 < _; omega))
