set_option maxRecDepth 100000
/-! ALGEBRA: more unknowns than equations; a number in n out of two without common divisor -/
section
variable {K : Type}
theorem sm_skip [Lean.Grind.CommRing K] (f : Nat → K) (j0 : Nat) : ∀ n, j0 ≤ n → sm f (n + 1) = sm (fun j => f (if j < j0 then j else j + 1)) n + f j0 := by
  intro n
  induction n with
  | zero =>
    intro h
    rw [show j0 = 0 by omega]
    simp only [sm]
  | succ n ih =>
    intro h
    by_cases e : j0 = n + 1
    · show sm f (n + 1) + f (n + 1) = _
      rw [e]
      congr 1
      exact sm_congr (fun i hi => by rw [if_pos hi])
    · show sm f (n + 1) + f (n + 1) = sm (fun j => f (if j < j0 then j else j + 1)) n + f (if n < j0 then n else n + 1) + f j0
      rw [ih (by omega), if_neg (by omega)]
      grind
theorem lin_sol [Lean.Grind.CommRing K] (hF : Fld K) : ∀ (m n : Nat) (A : Nat → Nat → K), m < n → ∃ x : Nat → K, (∃ j, j < n ∧ x j ≠ 0) ∧ ∀ i, i < m → sm (fun j => A i j * x j) n = 0 := by
  intro m
  induction m with
  | zero => intro n A h; exact ⟨fun _ => 1, ⟨0, h, hF.1.2⟩, fun i hi => absurd hi (Nat.not_lt_zero i)⟩
  | succ m ih =>
    intro n A h
    by_cases hz : ∀ j, j < n → A m j = 0
    · obtain ⟨x, h1, h2⟩ := ih n A (by omega)
      refine ⟨x, h1, fun i hi => ?_⟩
      by_cases e : i < m
      · exact h2 i e
      · rw [show i = m by omega]
        exact sm_zero (fun j hj => by rw [hz j hj]; grind)
    · obtain ⟨j0, hj0⟩ := Classical.not_forall.mp hz
      obtain ⟨hlt, hne⟩ := Classical.not_imp.mp hj0
      obtain ⟨v, hv⟩ := hF.2 _ hne
      obtain ⟨y, ⟨j1, hj1, hy1⟩, h2⟩ := ih (n - 1) (fun i j => A i (if j < j0 then j else j + 1) - A i j0 * v * A m (if j < j0 then j else j + 1)) (by omega)
      refine ⟨fun j => if j = j0 then - v * sm (fun j => A m (if j < j0 then j else j + 1) * y j) (n - 1) else if j < j0 then y j else y (j - 1), ⟨if j1 < j0 then j1 else j1 + 1, by split <;> omega, ?_⟩, fun i hi => ?_⟩
      · by_cases e : j1 < j0
        · simp only [if_pos e]; rw [if_neg (by omega)]; exact hy1
        · simp only [if_neg e]; rw [if_neg (by omega), if_neg (by omega)]; simpa using hy1
      · have hs := sm_skip (fun j => A i j * (if j = j0 then - v * sm (fun j => A m (if j < j0 then j else j + 1) * y j) (n - 1) else if j < j0 then y j else y (j - 1))) j0 (n - 1) (by omega)
        rw [show n - 1 + 1 = n by omega] at hs
        refine hs.trans ?_
        simp only [if_true]
        have e1 : sm (fun j => A i (if j < j0 then j else j + 1) * (if (if j < j0 then j else j + 1) = j0 then - v * sm (fun j => A m (if j < j0 then j else j + 1) * y j) (n - 1) else if (if j < j0 then j else j + 1) < j0 then y (if j < j0 then j else j + 1) else y ((if j < j0 then j else j + 1) - 1))) (n - 1) = sm (fun j => A i (if j < j0 then j else j + 1) * y j) (n - 1) := by
          apply sm_congr
          intro j _
          by_cases e : j < j0
          · simp only [if_pos e]; rw [if_neg (by omega)]
          · simp only [if_neg e]; rw [if_neg (by omega), if_neg (by omega)]; simp
        rw [e1]
        by_cases e : i < m
        · have h3 := h2 i e
          have e2 : sm (fun j => (A i (if j < j0 then j else j + 1) - A i j0 * v * A m (if j < j0 then j else j + 1)) * y j) (n - 1) = sm (fun j => A i (if j < j0 then j else j + 1) * y j + (- (A i j0 * v)) * (A m (if j < j0 then j else j + 1) * y j)) (n - 1) := sm_congr (fun j _ => by grind)
          rw [e2, sm_add, sm_mul] at h3
          generalize sm (fun j => A i (if j < j0 then j else j + 1) * y j) (n - 1) = S at h3 ⊢
          generalize sm (fun j => A m (if j < j0 then j else j + 1) * y j) (n - 1) = T at h3 ⊢
          rw [← h3]; grind
        · rw [show i = m by omega]
          generalize sm (fun j => A m (if j < j0 then j else j + 1) * y j) (n - 1) = T
          have : A m j0 * (-v * T) = - (A m j0 * v) * T := by grind
          rw [this, hv]; grind
/-- linear conditions, fewer than unknowns -/
theorem lin_sol' [Lean.Grind.CommRing K] (hF : Fld K) {m n : Nat} (φ : Nat → (Nat → K) → K) (h1 : ∀ i x y, φ i (fun j => x j + y j) = φ i x + φ i y) (h2 : ∀ i c x, φ i (fun j => c * x j) = c * φ i x) (hmn : m < n) : ∃ x : Nat → K, (∃ j, x j ≠ 0) ∧ (∀ j, n ≤ j → x j = 0) ∧ ∀ i, i < m → φ i x = 0 := by
  obtain ⟨x, ⟨j1, hj1, hx1⟩, h3⟩ := lin_sol hF m n (fun i j => φ i (fun l => if l = j then 1 else 0)) hmn
  refine ⟨fun j => if j < n then x j else 0, ⟨j1, by simp only [if_pos hj1]; exact hx1⟩, fun j hj => if_neg (by omega), fun i hi => ?_⟩
  have key : ∀ k, φ i (fun j => if j < k then x j else 0) = sm (fun j => φ i (fun l => if l = j then 1 else 0) * x j) k := by
    intro k
    induction k with
    | zero =>
      have e : (fun j => if j < 0 then x j else 0) = fun j => (0 : K) * x j := funext fun j => by rw [if_neg (by omega)]; grind
      rw [e, h2]; simp only [sm]; grind
    | succ k ih =>
      have e : (fun j => if j < k + 1 then x j else 0) = fun j => (if j < k then x j else 0) + x k * (if j = k then 1 else 0) := funext fun j => by
        by_cases e1 : j < k
        · rw [if_pos e1, if_pos (by omega), if_neg (by omega)]; grind
        · by_cases e2 : j = k
          · rw [if_neg e1, if_pos (by omega), if_pos e2, e2]; grind
          · rw [if_neg e1, if_neg (by omega), if_neg e2]; grind
      rw [e, h1, ih]
      have := h2 i (x k) (fun j => if j = k then 1 else 0)
      rw [this]
      show _ = sm (fun j => φ i (fun l => if l = j then 1 else 0) * x j) k + φ i (fun l => if l = k then 1 else 0) * x k
      grind
  rw [key]; exact h3 i hi
end
/-- the words of polynomials in n and k -/
def bco (F : Bi) (j : Nat) : Un := @co Un (plRing Fp) F j
def badd (F G : Bi) : Bi := @padd Un (plRing Fp) F G
def bsub (F G : Bi) : Bi := @psub Un (plRing Fp) F G
def bmul (F G : Bi) : Bi := @pmul Un (plRing Fp) F G
def bC (c : Un) : Bi := @pC Un (plRing Fp) c
def bX (k : Nat) : Bi := @pX Un (plRing Fp) k
def bz : Bi := @pz Un (plRing Fp)
noncomputable def bsz (F : Bi) : Nat := @sz Un (plRing Fp) F
noncomputable def bhd (F : Bi) : Un := @hd Un (plRing Fp) F
def bmk (f : Nat → Un) (n : Nat) : Bi := @mkP Un (plRing Fp) f n
def bdv (F G : Bi) : Prop := @dv Bi (@plRing Un (plRing Fp)) F G
def bprim (F : Bi) : Prop := @prim Un (plRing Fp) F
def udv (p q : Un) : Prop := @dv Un (plRing Fp) p q
theorem b_ext {F G : Bi} (h : ∀ j, bco F j = bco G j) : F = G := @pl_ext Un (plRing Fp) F G h
theorem bco_add (F G : Bi) (j : Nat) : bco (badd F G) j = padd (bco F j) (bco G j) := rfl
theorem bco_sub (F G : Bi) (j : Nat) : bco (bsub F G) j = psub (bco F j) (bco G j) := rfl
theorem bco_C (c : Un) (j : Nat) : bco (bC c) j = if j = 0 then c else pz := rfl
theorem bco_X (k j : Nat) : bco (bX k) j = if j = k then pC 1 else pz := rfl
theorem bco_z (j : Nat) : bco bz j = pz := @co_z Un (plRing Fp) j
theorem bco_mk (f : Nat → Un) (n j : Nat) : bco (bmk f n) j = if j < n then f j else pz := rfl
theorem bco_Cmul (c : Un) (F : Bi) (j : Nat) : bco (bmul (bC c) F) j = pmul c (bco F j) := @pC_mul Un (plRing Fp) c F j
theorem bco_Xmul (k : Nat) (F : Bi) (j : Nat) : bco (bmul (bX k) F) j = if k ≤ j then bco F (j - k) else pz := @co_Xmul Un (plRing Fp) k F j
theorem bco_mul (F G : Bi) (j : Nat) : bco (bmul F G) j = @sm Un (plRing Fp) (fun l => pmul (bco F l) (bco G (j - l))) (j + 1) := rfl
theorem bsz_le (F : Bi) (j : Nat) (h : bsz F ≤ j) : bco F j = pz := @sz_le Un (plRing Fp) F j h
theorem bsz_min {F : Bi} {n : Nat} (h : ∀ j, n ≤ j → bco F j = pz) : bsz F ≤ n := @sz_min Un (plRing Fp) F n h
theorem bsz_z : bsz bz = 0 := @sz_z Un (plRing Fp)
theorem bsz_0 {F : Bi} (h : bsz F = 0) : F = bz := @sz_0 Un (plRing Fp) F h
theorem bsz_pos {F : Bi} (h : F ≠ bz) : 0 < bsz F := @sz_pos Un (plRing Fp) F h
theorem bsz_mul {F G : Bi} (h1 : F ≠ bz) (h2 : G ≠ bz) : bsz (bmul F G) = bsz F + bsz G - 1 ∧ bhd (bmul F G) = pmul (bhd F) (bhd G) := @sz_mul Un (plRing Fp) un_dom F G h1 h2
theorem bhd_ne {F : Bi} (h : F ≠ bz) : bhd F ≠ pz := @hd_ne Un (plRing Fp) F h
theorem sm_co (f : Nat → Un) (n i : Nat) : co (@sm Un (plRing Fp) f n) i = sm (fun l => co (f l) i) n := by
  induction n with
  | zero => exact co_z i
  | succ n ih =>
    show co (padd (@sm Un (plRing Fp) f n) (f n)) i = _
    rw [co_add, ih]; rfl
theorem sm_szle {f : Nat → Un} {n N : Nat} (h : ∀ l, l < n → szle (f l) N) : szle (@sm Un (plRing Fp) f n) N := fun i hi => by
  rw [sm_co]; exact sm_zero (fun l hl => h l hl i hi)
theorem bmul_szN {F G : Bi} {a b : Nat} (h1 : ∀ j, szle (bco F j) a) (h2 : ∀ j, szle (bco G j) b) (j : Nat) : szle (bco (bmul F G) j) (a + b - 1) := by
  rw [bco_mul]
  exact sm_szle (fun l _ => szle_mul (h1 l) (h2 (j - l)))
/-- a polynomial in n and k out of a row of numbers: E numbers for each power of k, from the place s on -/
def bun (E s m : Nat) (x : Nat → Fp) : Bi := bmk (fun j => mkP (fun e => x ((s + j) * E + e)) E) m
theorem bun_co (E s m : Nat) (x : Nat → Fp) (j i : Nat) : co (bco (bun E s m x) j) i = if j < m ∧ i < E then x ((s + j) * E + i) else 0 := by
  unfold bun
  rw [bco_mk]
  by_cases h : j < m
  · rw [if_pos h, co_mkP]
    by_cases h2 : i < E
    · rw [if_pos h2, if_pos ⟨h, h2⟩]
    · rw [if_neg h2, if_neg (fun q => h2 q.2)]
  · rw [if_neg h, co_z, if_neg (fun q => h q.1)]
theorem bun_add (E s m : Nat) (x y : Nat → Fp) : bun E s m (fun j => x j + y j) = badd (bun E s m x) (bun E s m y) := b_ext fun j => pl_ext fun i => by
  rw [bco_add, co_add, bun_co, bun_co, bun_co]
  split <;> grind
theorem bun_mul (E s m : Nat) (c : Fp) (x : Nat → Fp) : bun E s m (fun j => c * x j) = bmul (bC (pC c)) (bun E s m x) := b_ext fun j => pl_ext fun i => by
  rw [bco_Cmul, pC_mul, bun_co, bun_co]
  split <;> grind
theorem bun_sz (E s m : Nat) (x : Nat → Fp) : bsz (bun E s m x) ≤ m := bsz_min fun j hj => by
  unfold bun; rw [bco_mk, if_neg (by omega)]
theorem bun_szN (E s m : Nat) (x : Nat → Fp) (j : Nat) : szle (bco (bun E s m x) j) E := fun i hi => by
  rw [bun_co, if_neg (fun q => absurd q.2 (by omega))]
/-- two without common divisor: a number in n out of them, of a bounded degree -/
theorem res_ex {A B : Bi} {d : Nat} (hA : A ≠ bz) (hB : B ≠ bz) (hdA : ∀ j, szle (bco A j) d) (hdB : ∀ j, szle (bco B j) d) (hco : @copr Bi (@plRing Un (plRing Fp)) A B) : ∃ (U V : Bi) (r : Un), r ≠ pz ∧ badd (bmul U A) (bmul V B) = bC r ∧ sz r ≤ (bsz A + bsz B) * d + d := by
  letI i1 := plRing Fp
  letI i2 : Lean.Grind.CommRing Bi := @plRing Un (plRing Fp)
  have hA0 := bsz_pos hA
  have hB0 := bsz_pos hB
  have hd0 : 0 < d := by
    refine Nat.pos_of_ne_zero fun z => ?_
    exact hA (b_ext fun j => by rw [bco_z]; exact sz_0 (Nat.le_zero.mp (sz_min (by rw [← z]; exact hdA j))))
  by_cases h1 : bsz A = 1
  · refine ⟨bC (pC 1), bz, bco A 0, ?_, ?_, ?_⟩
    · exact @sz_top Un i1 A 0 h1
    · have e : A = bC (bco A 0) := @sz_1C Un i1 A (by show bsz A ≤ 1; omega)
      have : ∀ X Y : Bi, 1 * X + 0 * Y = X := by intros; grind
      exact (this A B).trans e
    · have := sz_min (hdA 0)
      have := Nat.le_mul_of_pos_left d (show 0 < bsz A + bsz B by omega)
      omega
  by_cases h2 : bsz B = 1
  · refine ⟨bz, bC (pC 1), bco B 0, ?_, ?_, ?_⟩
    · exact @sz_top Un i1 B 0 h2
    · have e : B = bC (bco B 0) := @sz_1C Un i1 B (by show bsz B ≤ 1; omega)
      have : ∀ X Y : Bi, 0 * X + 1 * Y = Y := by intros; grind
      exact (this A B).trans e
    · have := sz_min (hdB 0)
      have := Nat.le_mul_of_pos_left d (show 0 < bsz A + bsz B by omega)
      omega
  obtain ⟨l, hl⟩ : ∃ l, bsz A = l + 1 := ⟨bsz A - 1, by omega⟩
  obtain ⟨m, hm⟩ : ∃ m, bsz B = m + 1 := ⟨bsz B - 1, by omega⟩
  obtain ⟨E, hE⟩ : ∃ E, E = (l + m) * d + 1 := ⟨_, rfl⟩
  have eW : ∀ x y : Nat → Fp, badd (bmul (bun E 0 m (fun j => x j + y j)) A) (bmul (bun E m l (fun j => x j + y j)) B) = badd (badd (bmul (bun E 0 m x) A) (bmul (bun E m l x) B)) (badd (bmul (bun E 0 m y) A) (bmul (bun E m l y) B)) := by
    intro x y
    rw [bun_add, bun_add]
    have : ∀ X Y Z W P Q : Bi, (X + Y) * P + (Z + W) * Q = (X * P + Z * Q) + (Y * P + W * Q) := by intros; grind
    exact this _ _ _ _ _ _
  have eM : ∀ (c : Fp) (x : Nat → Fp), badd (bmul (bun E 0 m (fun j => c * x j)) A) (bmul (bun E m l (fun j => c * x j)) B) = bmul (bC (pC c)) (badd (bmul (bun E 0 m x) A) (bmul (bun E m l x) B)) := by
    intro c x
    rw [bun_mul, bun_mul]
    have : ∀ X Z P Q C : Bi, (C * X) * P + (C * Z) * Q = C * (X * P + Z * Q) := by intros; grind
    exact this _ _ _ _ _
  obtain ⟨x, ⟨j1, hj1⟩, hx0, hx⟩ := lin_sol' fp_fld (m := (l + m - 1) * (E + d)) (n := (l + m) * E) (fun i x => co (bco (badd (bmul (bun E 0 m x) A) (bmul (bun E m l x) B)) (i / (E + d) + 1)) (i % (E + d))) (fun i x y => by rw [eW, bco_add, co_add]) (fun i c x => by rw [eM, bco_Cmul, pC_mul]) (by
    obtain ⟨k, hk⟩ : ∃ k, l + m = k + 1 := ⟨l + m - 1, by omega⟩
    rw [hk] at hE ⊢
    rw [show k + 1 - 1 = k by omega, Nat.mul_add, Nat.add_mul, Nat.one_mul]
    rw [Nat.add_mul, Nat.one_mul] at hE
    omega)
  have hWs : ∀ j, szle (bco (badd (bmul (bun E 0 m x) A) (bmul (bun E m l x) B)) j) (E + d - 1) := fun j => by
    rw [bco_add]
    exact szle_add (bmul_szN (bun_szN E 0 m x) hdA j) (bmul_szN (bun_szN E m l x) hdB j)
  have hszW : ∀ {F G : Bi} {a b : Nat}, bsz F ≤ a → bsz G ≤ b → ∀ j, a + b - 1 ≤ j → bco (bmul F G) j = pz := by
    intro F G a b h3 h4 j hj
    exact @szle_mul Un i1 F G a b (fun i hi => bsz_le F i (by omega)) (fun i hi => bsz_le G i (by omega)) j hj
  have hW : badd (bmul (bun E 0 m x) A) (bmul (bun E m l x) B) = bC (bco (badd (bmul (bun E 0 m x) A) (bmul (bun E m l x) B)) 0) := by
    refine b_ext fun j => ?_
    rw [bco_C]
    by_cases e : j = 0
    · rw [if_pos e, e]
    · rw [if_neg e]
      refine pl_ext fun i => ?_
      rw [co_z]
      by_cases hi : E + d - 1 ≤ i
      · exact hWs j i hi
      · by_cases hj : l + m ≤ j
        · rw [bco_add, co_add, hszW (bun_sz E 0 m x) (Nat.le_of_eq hl) j (by omega), hszW (bun_sz E m l x) (Nat.le_of_eq hm) j (by omega), co_z]; grind
        · have hEd : i < E + d := by omega
          have h3 := hx ((j - 1) * (E + d) + i) (by
            have : j - 1 < l + m - 1 := by omega
            have h4 := Nat.mul_le_mul_right (E + d) (show j - 1 + 1 ≤ l + m - 1 by omega)
            rw [Nat.add_mul, Nat.one_mul] at h4
            omega)
          rw [Nat.mul_comm (j - 1) (E + d), Nat.mul_add_div (by omega), Nat.div_eq_of_lt hEd, Nat.mul_add_mod, Nat.mod_eq_of_lt hEd, show j - 1 + 0 + 1 = j by omega] at h3
          exact h3
  refine ⟨bun E 0 m x, bun E m l x, bco (badd (bmul (bun E 0 m x) A) (bmul (bun E m l x) B)) 0, fun hr => ?_, hW, ?_⟩
  · rw [hr] at hW
    have hW0 : bmul (bun E 0 m x) A = bmul (bsub bz (bun E m l x)) B := by
      have : ∀ X Y Z W : Bi, X * Y + Z * W = 0 → X * Y = (0 - Z) * W := by
        intro X Y Z W h
        have : X * Y = X * Y + Z * W - Z * W := by grind
        rw [this, h]; grind
      exact this _ _ _ _ hW
    have h3 : bdv B (bun E 0 m x) := by
      refine @euclid Bi i2 bi_dom bi_gcd B A (bun E 0 m x) (copr_symm hco) ?_
      refine ⟨bsub bz (bun E m l x), ?_⟩
      have e : A * bun E 0 m x = bmul (bun E 0 m x) A := Lean.Grind.CommSemiring.mul_comm _ _
      rw [e, hW0]
      exact Lean.Grind.CommSemiring.mul_comm _ _
    have hU : bun E 0 m x = bz := Classical.byContradiction fun hne => by
      have h5 : bsz B ≤ bsz (bun E 0 m x) := @dv_sz Un i1 un_dom _ _ h3 hne
      have := bun_sz E 0 m x
      omega
    have hV : bun E m l x = bz := by
      rw [hU] at hW
      have e : ∀ X Y Z : Bi, 0 * X + Y * Z = Y * Z := by intros; grind
      have h5 : bun E m l x * B = 0 := (e A _ _).symm.trans hW
      rcases bi_dom.1 _ _ h5 with h6 | h6
      · exact h6
      · exact absurd h6 hB
    have hjE : j1 < (l + m) * E := Nat.not_le.mp fun q => hj1 (hx0 j1 q)
    have hE0 : 0 < E := by omega
    have hjd : j1 / E < l + m := Nat.div_lt_of_lt_mul (by rw [Nat.mul_comm]; exact hjE)
    have hmod := Nat.mod_lt j1 hE0
    have hdm := Nat.div_add_mod j1 E
    by_cases h6 : j1 / E < m
    · have h7 := bun_co E 0 m x (j1 / E) (j1 % E)
      rw [hU, bco_z, co_z, if_pos ⟨h6, hmod⟩, Nat.zero_add, Nat.mul_comm, hdm] at h7
      exact hj1 h7.symm
    · have h7 := bun_co E m l x (j1 / E - m) (j1 % E)
      rw [hV, bco_z, co_z, if_pos ⟨by omega, hmod⟩, show m + (j1 / E - m) = j1 / E by omega, Nat.mul_comm, hdm] at h7
      exact hj1 h7.symm
  · have h3 := sz_min (hWs 0)
    rw [hl, hm]
    have e : (l + 1 + (m + 1)) * d = (l + m) * d + d + d := by
      rw [show l + 1 + (m + 1) = l + m + 1 + 1 by omega, Nat.add_mul, Nat.add_mul, Nat.one_mul]
    rw [e]
    generalize (l + m) * d = z at hE ⊢
    omega
