set_option maxRecDepth 100000
/-! ALGEBRA: resultants -/
section
variable {R : Type}
/-- n lines of p (degree m), m lines of q (degree n), the greatest powers first -/
def syl [Lean.Grind.CommRing R] (m n : Nat) (p q : Nat → R) (i c : Nat) : R := if i < n then (if i ≤ c ∧ c ≤ i + m then p (m + i - c) else 0) else (if i - n ≤ c ∧ c ≤ i then q (i - c) else 0)
theorem syl_lo [Lean.Grind.CommRing R] {m n : Nat} {p q : Nat → R} {i : Nat} (h : i < n) (c : Nat) : syl m n p q i c = if i ≤ c ∧ c ≤ i + m then p (m + i - c) else 0 := by unfold syl; rw [if_pos h]
theorem syl_hi [Lean.Grind.CommRing R] {m n : Nat} {p q : Nat → R} {i : Nat} (h : n ≤ i) (c : Nat) : syl m n p q i c = if i - n ≤ c ∧ c ≤ i then q (i - c) else 0 := by unfold syl; rw [if_neg (by omega)]
theorem sgn_add [Lean.Grind.CommRing R] (a b : Nat) : (sgn (a + b) : R) = sgn a * sgn b := by
  induction b with
  | zero => show (sgn a : R) = sgn a * 1; grind
  | succ b ih => show (- sgn (a + b) : R) = sgn a * (- sgn b); rw [ih]; grind
theorem sgn_even [Lean.Grind.CommRing R] (a : Nat) : (sgn (2 * a) : R) = 1 := by
  rw [show 2 * a = a + a by omega, sgn_add, sgn_sq]
theorem syl_n0 [Lean.Grind.CommRing R] (m : Nat) (p q : Nat → R) : det m (syl m 0 p q) = q 0 ^ m := by
  refine det_tri m _ (fun i j hi hj => ?_) (fun k => q 0 ^ k) (Lean.Grind.Semiring.pow_zero _) (fun k hk => ?_)
  · unfold syl; rw [if_neg (by omega), if_neg (by omega)]
  · unfold syl; rw [if_neg (by omega), if_pos (by omega), Nat.sub_self]
    exact Lean.Grind.Semiring.pow_succ _ _
theorem syl_m0 [Lean.Grind.CommRing R] (n : Nat) (p q : Nat → R) : det n (syl 0 n p q) = p 0 ^ n := by
  refine det_tri n _ (fun i j hi hj => ?_) (fun k => p 0 ^ k) (Lean.Grind.Semiring.pow_zero _) (fun k hk => ?_)
  · unfold syl; rw [if_pos hi, if_neg (by omega)]
  · unfold syl; rw [if_pos hk, if_pos (by omega), show 0 + k - k = 0 by omega]
    exact Lean.Grind.Semiring.pow_succ _ _
/-- p's head is 0 -/
theorem syl_p0 [Lean.Grind.CommRing R] (m n : Nat) (p q : Nat → R) (h : p (m + 1) = 0) : det (m + 1 + n) (syl (m + 1) n p q) = sgn n * q n * det (m + n) (syl m n p q) := by
  rw [show m + 1 + n = m + n + 1 by omega]
  show sm (fun i => sgn i * syl (m + 1) n p q i 0 * det (m + n) (fun r c => syl (m + 1) n p q (sk i r) (c + 1))) (m + n + 1) = _
  rw [sm_one (k := n) (by omega) (fun i hi hne => by
    have : syl (m + 1) n p q i 0 = 0 := by
      unfold syl
      by_cases e : i < n
      · rw [if_pos e]
        split
        · rw [show m + 1 + i - 0 = m + 1 by omega, h]
        · rfl
      · rw [if_neg e, if_neg (by omega)]
    rw [this]; grind)]
  have e1 : syl (m + 1) n p q n 0 = q n := by
    unfold syl; rw [if_neg (by omega), if_pos (by omega), Nat.sub_zero]
  have e2 : det (m + n) (fun r c => syl (m + 1) n p q (sk n r) (c + 1)) = det (m + n) (syl m n p q) := det_congr _ _ _ (fun r c _ _ => by
    unfold syl sk
    by_cases e : r < n
    · rw [if_pos e, if_pos e, if_pos e]
      by_cases e3 : r ≤ c ∧ c ≤ r + m
      · rw [if_pos e3, if_pos (by omega), show m + 1 + r - (c + 1) = m + r - c by omega]
      · rw [if_neg e3]
        split
        · rw [show m + 1 + r - (c + 1) = m + 1 by omega, h]
        · rfl
    · rw [if_neg e, if_neg (by omega), if_neg e]
      by_cases e3 : r - n ≤ c ∧ c ≤ r
      · rw [if_pos e3, if_pos (by omega), show r + 1 - (c + 1) = r - c by omega]
      · rw [if_neg e3, if_neg (by omega)])
  rw [e1, e2]
/-- q's head is 0 -/
theorem syl_q0 [Lean.Grind.CommRing R] (m n : Nat) (p q : Nat → R) (h : q (n + 1) = 0) : det (m + (n + 1)) (syl m (n + 1) p q) = p m * det (m + n) (syl m n p q) := by
  show sm (fun i => sgn i * syl m (n + 1) p q i 0 * det (m + n) (fun r c => syl m (n + 1) p q (sk i r) (c + 1))) (m + n + 1) = _
  rw [sm_one (k := 0) (by omega) (fun i hi hne => by
    have : syl m (n + 1) p q i 0 = 0 := by
      unfold syl
      by_cases e : i < n + 1
      · rw [if_pos e, if_neg (by omega)]
      · rw [if_neg e]
        split
        · rw [show i - 0 = n + 1 by omega, h]
        · rfl
    rw [this]; grind)]
  have e1 : syl m (n + 1) p q 0 0 = p m := by
    unfold syl; rw [if_pos (by omega), if_pos (by omega)]; rfl
  have e2 : det (m + n) (fun r c => syl m (n + 1) p q (sk 0 r) (c + 1)) = det (m + n) (syl m n p q) := det_congr _ _ _ (fun r c _ _ => by
    unfold syl sk
    rw [if_neg (Nat.not_lt_zero r)]
    by_cases e : r < n
    · rw [if_pos (by omega), if_pos e]
      by_cases e3 : r ≤ c ∧ c ≤ r + m
      · rw [if_pos e3, if_pos (by omega), show m + (r + 1) - (c + 1) = m + r - c by omega]
      · rw [if_neg e3, if_neg (by omega)]
    · rw [if_neg (by omega), if_neg e]
      by_cases e3 : r - n ≤ c ∧ c ≤ r
      · rw [if_pos e3, if_pos (by omega), show r + 1 - (c + 1) = r - c by omega]
      · rw [if_neg e3]
        split
        · rw [show r + 1 - (c + 1) = n + 1 by omega, h]
        · rfl)
  rw [e1, e2]
  show (1 : R) * p m * _ = _
  grind
/-- p and a multiple of q by a power -/
theorem syl_addp [Lean.Grind.CommRing R] {m n t : Nat} (hmn : t + n ≤ m) (p q : Nat → R) (c : R) (hq : ∀ j, n < j → q j = 0) : det (m + n) (syl m n (fun j => p j + c * (if t ≤ j then q (j - t) else 0)) q) = det (m + n) (syl m n p q) := by
  have key : ∀ k, k ≤ n → det (m + n) (fun i => if i < k then syl m n (fun j => p j + c * (if t ≤ j then q (j - t) else 0)) q i else syl m n p q i) = det (m + n) (syl m n p q) := by
    intro k
    induction k with
    | zero => intro _; rfl
    | succ k ih =>
      intro hk
      rw [← ih (by omega)]
      have h1 := (det_alt (R := R) (m + n)).addrow (i := k) (j := n + (m - n - t + k)) (by omega) (by omega) (by omega) (fun i => if i < k then syl m n (fun j => p j + c * (if t ≤ j then q (j - t) else 0)) q i else syl m n p q i) c
      refine Eq.trans (det_congr _ _ _ (fun i j hi hj => ?_)) h1
      by_cases e : i = k
      · subst e
        simp only [udt_same]
        rw [if_pos (by omega), if_neg (by omega), if_neg (by omega)]
        rw [syl_lo (show i < n by omega), syl_lo (show i < n by omega), syl_hi (show n ≤ n + (m - n - t + i) by omega)]
        by_cases e1 : i ≤ j ∧ j ≤ i + m
        · rw [if_pos e1, if_pos e1]
          congr 2
          by_cases e2 : n + (m - n - t + i) - n ≤ j ∧ j ≤ n + (m - n - t + i)
          · rw [if_pos e2, if_pos (by omega), show m + i - j - t = n + (m - n - t + i) - j by omega]
          · rw [if_neg e2]
            split
            · exact hq _ (by omega)
            · rfl
        · rw [if_neg e1, if_neg e1, if_neg (by omega)]; grind
      · rw [udt_ne e]
        by_cases e1 : i < k
        · rw [if_pos (by omega), if_pos e1]
        · rw [if_neg (by omega), if_neg e1]
  rw [← key n (Nat.le_refl _)]
  refine det_congr _ _ _ (fun i j hi hj => ?_)
  by_cases e : i < n
  · rw [if_pos e]
  · rw [if_neg e]; unfold syl; rw [if_neg e, if_neg e]
/-- q and a multiple of p by a power -/
theorem syl_addq [Lean.Grind.CommRing R] {m n t : Nat} (hmn : t + m ≤ n) (p q : Nat → R) (c : R) (hp : ∀ j, m < j → p j = 0) : det (m + n) (syl m n p (fun j => q j + c * (if t ≤ j then p (j - t) else 0))) = det (m + n) (syl m n p q) := by
  have key : ∀ k, k ≤ m → det (m + n) (fun i => if i < n + k then syl m n p (fun j => q j + c * (if t ≤ j then p (j - t) else 0)) i else syl m n p q i) = det (m + n) (syl m n p q) := by
    intro k
    induction k with
    | zero =>
      intro _
      refine det_congr _ _ _ (fun i j hi hj => ?_)
      by_cases e : i < n
      · rw [if_pos (by omega)]; unfold syl; rw [if_pos e, if_pos e]
      · rw [if_neg (by omega)]
    | succ k ih =>
      intro hk
      rw [← ih (by omega)]
      have h1 := (det_alt (R := R) (m + n)).addrow (i := n + k) (j := n - m - t + k) (by omega) (by omega) (by omega) (fun i => if i < n + k then syl m n p (fun j => q j + c * (if t ≤ j then p (j - t) else 0)) i else syl m n p q i) c
      refine Eq.trans (det_congr _ _ _ (fun i j hi hj => ?_)) h1
      by_cases e : i = n + k
      · subst e
        simp only [udt_same]
        rw [if_pos (by omega), if_neg (by omega), if_pos (by omega)]
        rw [syl_hi (show n ≤ n + k by omega), syl_hi (show n ≤ n + k by omega), syl_lo (show n - m - t + k < n by omega)]
        by_cases e1 : n + k - n ≤ j ∧ j ≤ n + k
        · rw [if_pos e1, if_pos e1]
          congr 2
          by_cases e2 : n - m - t + k ≤ j ∧ j ≤ n - m - t + k + m
          · rw [if_pos e2, if_pos (by omega), show n + k - j - t = m + (n - m - t + k) - j by omega]
          · rw [if_neg e2]
            split
            · exact hp _ (by omega)
            · rfl
        · rw [if_neg e1, if_neg e1, if_neg (by omega)]; grind
      · rw [udt_ne e]
        by_cases e1 : i < n + k
        · rw [if_pos (by omega), if_pos e1]
        · rw [if_neg (by omega), if_neg e1]
  rw [← key m (Nat.le_refl _)]
  refine det_congr _ _ _ (fun i j hi hj => ?_)
  rw [if_pos (by omega)]
theorem syl_pz [Lean.Grind.CommRing R] {m n : Nat} (hn : 0 < n) (p q : Nat → R) (hp : ∀ j, p j = 0) : det (m + n) (syl m n p q) = 0 := by
  have h1 := (det_alt (R := R) (m + n)).scale (i := 0) (by omega) (syl m n p q) 0 (fun _ => 0)
  have h2 : det (m + n) (syl m n p q) = det (m + n) (udt (syl m n p q) 0 (fun _ => 0 * 0)) := det_congr _ _ _ (fun i j _ _ => by
    unfold udt
    split
    · rename_i e
      rw [e]; unfold syl; rw [if_pos hn]
      split
      · rw [hp]; grind
      · grind
    · rfl)
  rw [h2]; exact h1.trans (by grind)
theorem syl_qz [Lean.Grind.CommRing R] {m n : Nat} (hm : 0 < m) (p q : Nat → R) (hq : ∀ j, q j = 0) : det (m + n) (syl m n p q) = 0 := by
  have h1 := (det_alt (R := R) (m + n)).scale (i := n) (by omega) (syl m n p q) 0 (fun _ => 0)
  have h2 : det (m + n) (syl m n p q) = det (m + n) (udt (syl m n p q) n (fun _ => 0 * 0)) := det_congr _ _ _ (fun i j _ _ => by
    unfold udt
    split
    · rename_i e
      rw [e]; unfold syl; rw [if_neg (by omega)]
      split
      · rw [hq]; grind
      · grind
    · rfl)
  rw [h2]; exact h1.trans (by grind)
/-- p by its rest -/
theorem syl_modp [Lean.Grind.CommRing R] {m n : Nat} {f g s r : Pl R} (hg : szle g (n + 1)) (hs : szle s (m + 1 - n)) (e : f = padd (pmul s g) r) : det (m + n) (syl m n (co f) (co g)) = det (m + n) (syl m n (co r) (co g)) := by
  have key : ∀ k, k ≤ m + 1 - n → det (m + n) (syl m n (co (padd (pmul (mkP (co s) k) g) r)) (co g)) = det (m + n) (syl m n (co r) (co g)) := by
    intro k
    induction k with
    | zero =>
      intro _
      have : padd (pmul (mkP (co s) 0) g) r = r := pl_ext fun i => by
        have e0 : mkP (co s) 0 = pz := pl_ext fun i => by rw [co_mkP, co_z, if_neg (by omega)]
        rw [e0, (szmul_z g).2, co_add, co_z]; grind
      rw [this]
    | succ k ih =>
      intro hk
      rw [← ih (by omega), ← syl_addp (t := k) (by omega) (co (padd (pmul (mkP (co s) k) g) r)) (co g) (co s k) (fun j hj => hg j (by omega))]
      congr 2
      funext j
      have e1 : pmul (mkP (co s) (k + 1)) g = padd (pmul (mkP (co s) k) g) (pmul (pC (co s k)) (pmul (pX k) g)) := by
        have e2 : mkP (co s) (k + 1) = padd (mkP (co s) k) (pmul (pC (co s k)) (pX k)) := pl_ext fun i => by
          rw [co_add, pC_mul, co_X, co_mkP, co_mkP]
          by_cases q1 : i < k
          · rw [if_pos q1, if_pos (by omega), if_neg (by omega)]; grind
          · by_cases q2 : i = k
            · rw [if_neg q1, if_pos (by omega), if_pos q2, q2]; grind
            · rw [if_neg q1, if_neg (by omega), if_neg q2]; grind
        rw [e2]
        letI := plRing R
        have : ∀ A B C D : Pl R, (A + B * C) * D = A * D + B * (C * D) := by intros; grind
        exact this _ _ _ _
      rw [e1, co_add, co_add, co_add, pC_mul, co_Xmul]
      grind
  rw [← key _ (Nat.le_refl _), e]
  congr 4
  refine congrArg (fun x => pmul x g) (pl_ext fun i => ?_)
  rw [co_mkP]
  split
  · rfl
  · exact hs i (by omega)
theorem syl_modq [Lean.Grind.CommRing R] {m n : Nat} {f g s r : Pl R} (hf : szle f (m + 1)) (hs : szle s (n + 1 - m)) (e : g = padd (pmul s f) r) : det (m + n) (syl m n (co f) (co g)) = det (m + n) (syl m n (co f) (co r)) := by
  have key : ∀ k, k ≤ n + 1 - m → det (m + n) (syl m n (co f) (co (padd (pmul (mkP (co s) k) f) r))) = det (m + n) (syl m n (co f) (co r)) := by
    intro k
    induction k with
    | zero =>
      intro _
      have : padd (pmul (mkP (co s) 0) f) r = r := pl_ext fun i => by
        have e0 : mkP (co s) 0 = pz := pl_ext fun i => by rw [co_mkP, co_z, if_neg (by omega)]
        rw [e0, (szmul_z f).2, co_add, co_z]; grind
      rw [this]
    | succ k ih =>
      intro hk
      rw [← ih (by omega), ← syl_addq (t := k) (by omega) (co f) (co (padd (pmul (mkP (co s) k) f) r)) (co s k) (fun j hj => hf j (by omega))]
      congr 2
      funext j
      have e1 : pmul (mkP (co s) (k + 1)) f = padd (pmul (mkP (co s) k) f) (pmul (pC (co s k)) (pmul (pX k) f)) := by
        have e2 : mkP (co s) (k + 1) = padd (mkP (co s) k) (pmul (pC (co s k)) (pX k)) := pl_ext fun i => by
          rw [co_add, pC_mul, co_X, co_mkP, co_mkP]
          by_cases q1 : i < k
          · rw [if_pos q1, if_pos (by omega), if_neg (by omega)]; grind
          · by_cases q2 : i = k
            · rw [if_neg q1, if_pos (by omega), if_pos q2, q2]; grind
            · rw [if_neg q1, if_neg (by omega), if_neg q2]; grind
        rw [e2]
        letI := plRing R
        have : ∀ A B C D : Pl R, (A + B * C) * D = A * D + B * (C * D) := by intros; grind
        exact this _ _ _ _
      rw [e1, co_add, co_add, co_add, pC_mul, co_Xmul]
      grind
  rw [← key _ (Nat.le_refl _), e]
  congr 4
  refine congrArg (fun x => pmul x f) (pl_ext fun i => ?_)
  rw [co_mkP]
  split
  · rfl
  · exact hs i (by omega)
/-- degrees that are too high for what is there -/
theorem syl_dropp [Lean.Grind.CommRing R] (n e : Nat) (p q : Nat → R) : ∀ k, (∀ j, e < j → p j = 0) → det (e + k + n) (syl (e + k) n p q) = (sgn n * q n) ^ k * det (e + n) (syl e n p q) := by
  intro k
  induction k with
  | zero => intro _; rw [Lean.Grind.Semiring.pow_zero]; show det (e + n) (syl e n p q) = _; grind
  | succ k ih =>
    intro h
    rw [show e + (k + 1) = e + k + 1 by omega, syl_p0 (e + k) n p q (h _ (by omega)), ih h, Lean.Grind.Semiring.pow_succ]; grind
theorem syl_dropq [Lean.Grind.CommRing R] (m e : Nat) (p q : Nat → R) : ∀ k, (∀ j, e < j → q j = 0) → det (m + (e + k)) (syl m (e + k) p q) = p m ^ k * det (m + e) (syl m e p q) := by
  intro k
  induction k with
  | zero => intro _; rw [Lean.Grind.Semiring.pow_zero]; show det (m + e) (syl m e p q) = _; grind
  | succ k ih =>
    intro h
    rw [show e + (k + 1) = e + k + 1 by omega, syl_q0 m (e + k) p q (h _ (by omega)), ih h, Lean.Grind.Semiring.pow_succ]; grind
theorem sgn_pow [Lean.Grind.CommRing R] (a b : Nat) : (sgn a : R) ^ b = sgn (a * b) := by
  induction b with
  | zero => rw [Lean.Grind.Semiring.pow_zero]; rfl
  | succ b ih => rw [Lean.Grind.Semiring.pow_succ, ih, Nat.mul_succ, sgn_add]
end
