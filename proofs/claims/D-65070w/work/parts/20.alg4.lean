set_option maxRecDepth 100000
/-! ALGEBRA 4: the numbers modulo 2147483647, a field: every number but 0 is a power of 7 -/
abbrev Fp : Type := Fin 2147483647
theorem php : ∀ (n : Nat) (f : Nat → Nat), (∀ i, i < n → f i < n) → (∀ i j, i < n → j < n → f i = f j → i = j) → ∀ y, y < n → ∃ i, i < n ∧ f i = y
  | 0, _, _, _, y, hy => absurd hy (Nat.not_lt_zero y)
  | n + 1, f, hf, inj, y, hy => by
    -- swap f n with n
    have hfn := hf n (Nat.lt_succ_self n)
    let g : Nat → Nat := fun i => if f i = n then f n else f i
    have hg : ∀ i, i < n → g i < n := by
      intro i hi
      show (if f i = n then f n else f i) < n
      have hi' := hf i (by omega)
      split
      · rename_i e
        have : f n ≠ n := fun q => by
          have := inj i n (by omega) (by omega) (by rw [e, q])
          omega
        omega
      · omega
    have hi : ∀ i j, i < n → j < n → g i = g j → i = j := by
      intro i j h1 h2 h3
      have h3' : (if f i = n then f n else f i) = (if f j = n then f n else f j) := h3
      split at h3' <;> split at h3'
      · rename_i a b
        exact inj i j (by omega) (by omega) (by rw [a, b])
      · have := inj n j (by omega) (by omega) h3'
        omega
      · have := inj i n (by omega) (by omega) h3'
        omega
      · exact inj i j (by omega) (by omega) h3'
    by_cases hyn : f n = y
    · exact ⟨n, by omega, hyn⟩
    · by_cases hy2 : y = n
      · -- y = n is not f n: it is some f i
        by_cases hx : ∃ i, i < n ∧ f i = n
        · obtain ⟨i, h1, h2⟩ := hx
          exact ⟨i, by omega, by rw [h2, hy2]⟩
        · obtain ⟨i, h1, h2⟩ := php n g hg hi (f n) (by omega)
          have h2' : (if f i = n then f n else f i) = f n := h2
          rw [if_neg (fun q => hx ⟨i, h1, q⟩)] at h2'
          have := inj i n (by omega) (by omega) h2'
          omega
      · obtain ⟨i, h1, h2⟩ := php n g hg hi y (by omega)
        have h2' : (if f i = n then f n else f i) = y := h2
        split at h2'
        · exact absurd h2' hyn
        · exact ⟨i, by omega, h2'⟩
def pwm (b : Nat) : Nat → Nat → Nat
  | 0, _ => 1
  | k + 1, e => if e = 0 then 1 else if e % 2 = 1 then b * pwm (b * b % 2147483647) k (e / 2) % 2147483647 else pwm (b * b % 2147483647) k (e / 2) % 2147483647
theorem pwm_ok : ∀ (k e b : Nat), e < 2 ^ k → pwm b k e % 2147483647 = b ^ e % 2147483647
  | 0, e, b, h => by
    have : e = 0 := by simpa using h
    subst this
    simp [pwm]
  | k + 1, e, b, h => by
    unfold pwm
    by_cases e0 : e = 0
    · subst e0; simp
    · rw [if_neg e0]
      have ih := pwm_ok k (e / 2) (b * b % 2147483647) (by rw [Nat.pow_succ] at h; omega)
      have hpow : (b * b % 2147483647) ^ (e / 2) % 2147483647 = b ^ (2 * (e / 2)) % 2147483647 := by
        rw [← Nat.pow_mod, Nat.pow_mul, Nat.pow_two]
      rw [hpow] at ih
      split
      · rename_i ho
        rw [Nat.mod_mod, Nat.mul_mod, ih, ← Nat.mul_mod, Nat.mul_comm, ← Nat.pow_succ, show (2 * (e / 2)).succ = e by omega]
      · rw [Nat.mod_mod, ih, show 2 * (e / 2) = e by omega]
theorem fp_pow_val (b : Fp) (e : Nat) : (b ^ e).val = b.val ^ e % 2147483647 := by
  induction e with
  | zero => rfl
  | succ e ih =>
    rw [Lean.Grind.Semiring.pow_succ, Fin.val_mul, ih, Nat.pow_succ, Nat.mod_mul_mod]
theorem fp_pow_eq (b : Fp) {e k : Nat} (h : e < 2 ^ k) {c : Nat} (hc : pwm b.val k e % 2147483647 = c) : (b ^ e).val = c := by
  rw [fp_pow_val, ← pwm_ok k e b.val h, hc]
theorem g7_1 : (7 : Fp) ^ 2147483646 = 1 := Fin.ext (fp_pow_eq (k := 31) 7 (by decide) (by decide +kernel))
theorem g7_q : ∀ q ∈ [2, 3, 7, 11, 31, 151, 331], (7 : Fp) ^ (2147483646 / q) ≠ 1 := by
  intro q hq h
  have hv : ((7 : Fp) ^ (2147483646 / q)).val = 1 := by rw [h]; rfl
  have hlt : 2147483646 / q < 2 ^ 31 := Nat.lt_of_le_of_lt (Nat.div_le_self _ _) (by decide)
  rw [fp_pow_eq (k := 31) 7 hlt rfl] at hv
  have chk : ∀ q ∈ [2, 3, 7, 11, 31, 151, 331], pwm 7 31 (2147483646 / q) % 2147483647 ≠ 1 := by decide +kernel
  exact chk q hq hv
theorem fp_pow_mul (b : Fp) (i j : Nat) : b ^ (i * j) = (b ^ i) ^ j := by
  induction j with
  | zero => rfl
  | succ j ih => rw [Nat.mul_succ, pow_add', ih, Lean.Grind.Semiring.pow_succ]
theorem fp_one_pow (j : Nat) : (1 : Fp) ^ j = 1 := by
  induction j with
  | zero => rfl
  | succ j ih => rw [Lean.Grind.Semiring.pow_succ, ih]; rfl
theorem smallp {q : Nat} (hq : q ∈ [2, 3, 7, 11, 31, 151, 331]) : ∀ d, d ∣ q → d = 1 ∨ d = q := by
  intro d hd
  have chk : ∀ q ∈ [2, 3, 7, 11, 31, 151, 331], ∀ d, d < q + 1 → q % d = 0 → d = 1 ∨ d = q := by decide +kernel
  have hle : d ≤ q := Nat.le_of_dvd (by simp at hq; omega) hd
  exact chk q hq d (by omega) (Nat.mod_eq_zero_of_dvd hd)
/-- a number above 1 that divides 2147483646 has one of its primes -/
theorem div_prime {m : Nat} (hm : m ∣ 2147483646) (h1 : m ≠ 1) : ∃ q ∈ [2, 3, 7, 11, 31, 151, 331], q ∣ m := by
  by_cases hx : ∃ q ∈ [2, 3, 7, 11, 31, 151, 331], q ∣ m
  · exact hx
  · exfalso
    have hc : ∀ q ∈ [2, 3, 7, 11, 31, 151, 331], Nat.Coprime m q := by
      intro q hq
      rcases smallp hq (Nat.gcd m q) (Nat.gcd_dvd_right m q) with e | e
      · exact e
      · exact absurd ⟨q, hq, by have := Nat.gcd_dvd_left m q; rwa [e] at this⟩ hx
    have c2 := hc 2 (by simp)
    have c3 := hc 3 (by simp)
    have c7 := hc 7 (by simp)
    have c11 := hc 11 (by simp)
    have c31 := hc 31 (by simp)
    have c151 := hc 151 (by simp)
    have c331 := hc 331 (by simp)
    have hall : Nat.Coprime m 2147483646 := by
      have e : 2147483646 = 2 * (3 * (3 * (7 * (11 * (31 * (151 * 331)))))) := by decide
      rw [e]
      exact c2.mul_right (c3.mul_right (c3.mul_right (c7.mul_right (c11.mul_right (c31.mul_right (c151.mul_right c331))))))
    have : m = 1 := by
      have h2 := Nat.gcd_eq_left hm
      rw [hall] at h2
      exact h2.symm
    exact h1 this
theorem fp_7inv : (7 : Fp) * 7 ^ 2147483645 = 1 := by
  have h : (7 : Fp) ^ 2147483646 = 7 ^ 2147483645 * 7 := Lean.Grind.Semiring.pow_succ 7 2147483645
  rw [g7_1] at h
  rw [Lean.Grind.CommSemiring.mul_comm]
  exact h.symm
theorem pow_mul_pow {R : Type} [Lean.Grind.CommRing R] (a b : R) (i : Nat) : (a * b) ^ i = a ^ i * b ^ i := by
  induction i with
  | zero => rw [Lean.Grind.Semiring.pow_zero, Lean.Grind.Semiring.pow_zero, Lean.Grind.Semiring.pow_zero]; grind
  | succ i ih => rw [Lean.Grind.Semiring.pow_succ, ih, Lean.Grind.Semiring.pow_succ, Lean.Grind.Semiring.pow_succ]; grind
theorem fp_7cancel {i j : Nat} (hij : i ≤ j) (h : (7 : Fp) ^ i = 7 ^ j) : (7 : Fp) ^ (j - i) = 1 := by
  obtain ⟨u, hu⟩ : ∃ u : Fp, 7 * u = 1 := ⟨_, fp_7inv⟩
  have h1 : (7 : Fp) ^ j = 7 ^ i * 7 ^ (j - i) := by rw [← pow_add', show i + (j - i) = j by omega]
  have h2 : (7 : Fp) ^ i * u ^ i = 1 := by rw [← pow_mul_pow, hu]; exact fp_one_pow i
  generalize (7 : Fp) ^ (j - i) = w at h1 ⊢
  generalize (7 : Fp) ^ i = v at h h1 h2
  generalize (7 : Fp) ^ j = z at h h1
  subst h
  have h3 : u ^ i * v = u ^ i * (v * w) := by rw [← h1]
  generalize u ^ i = y at h2 h3
  have h4 : y * v = 1 := by grind
  grind
theorem fp_order {k : Nat} (h0 : 0 < k) (hk : k < 2147483646) : (7 : Fp) ^ k ≠ 1 := by
  intro h
  obtain ⟨o, ⟨ho1, ho2⟩, hmin⟩ := least_ex (P := fun o => 0 < o ∧ (7 : Fp) ^ o = 1) ⟨k, h0, h⟩
  have hok : o ≤ k := Nat.not_lt.mp fun q => hmin k q ⟨h0, h⟩
  have hpm : ∀ a b : Nat, (7 : Fp) ^ (o * a + b) = 7 ^ b := by
    intro a b
    rw [pow_add', fp_pow_mul, ho2, fp_one_pow]
    grind
  have hdvd : o ∣ 2147483646 := by
    have e := hpm (2147483646 / o) (2147483646 % o)
    rw [Nat.div_add_mod, g7_1] at e
    by_cases hz : 2147483646 % o = 0
    · exact Nat.dvd_of_mod_eq_zero hz
    · exact absurd ⟨Nat.pos_of_ne_zero hz, e.symm⟩ (hmin _ (Nat.mod_lt _ ho1))
  obtain ⟨m, hm⟩ := hdvd
  have hm1 : m ≠ 1 := by
    intro e
    subst e
    omega
  obtain ⟨q, hq, r, hr⟩ := div_prime (m := m) ⟨o, by rw [Nat.mul_comm]; exact hm⟩ hm1
  apply g7_q q hq
  have hqp : 0 < q := by simp at hq; omega
  have : 2147483646 / q = o * r + 0 := by
    rw [hm, hr, show o * (q * r) = (o * r) * q by rw [Nat.mul_comm q r, Nat.mul_assoc], Nat.mul_div_cancel _ hqp]
    rfl
  rw [this, hpm]
  rfl
theorem fp_7ne (i : Nat) : (7 : Fp) ^ i ≠ 0 := by
  obtain ⟨u, hu⟩ : ∃ u : Fp, 7 * u = 1 := ⟨_, fp_7inv⟩
  intro h
  have h2 : (7 : Fp) ^ i * u ^ i = 1 := by rw [← pow_mul_pow, hu]; exact fp_one_pow i
  rw [h] at h2
  have : (0 : Fp) = 1 := by rw [← h2]; grind
  exact absurd this (by decide)
theorem fp_val_pos {a : Fp} (h : a ≠ 0) : 0 < a.val := by
  rcases Nat.eq_zero_or_pos a.val with e | e
  · exact absurd (Fin.ext e) h
  · exact e
theorem fp_gen {a : Fp} (ha : a ≠ 0) : ∃ i : Nat, (7 : Fp) ^ i = a := by
  have h1 := php 2147483646 (fun i => ((7 : Fp) ^ i).val - 1) (fun i hi => by
      have := ((7 : Fp) ^ i).isLt
      have := fp_val_pos (fp_7ne i)
      show ((7 : Fp) ^ i).val - 1 < 2147483646
      omega) (fun i j hi hj e => by
      have e1 := fp_val_pos (fp_7ne i)
      have e2 := fp_val_pos (fp_7ne j)
      have e3 : ((7 : Fp) ^ i).val = ((7 : Fp) ^ j).val := by
        have e' : ((7 : Fp) ^ i).val - 1 = ((7 : Fp) ^ j).val - 1 := e
        omega
      have e4 : (7 : Fp) ^ i = 7 ^ j := Fin.ext e3
      rcases Nat.lt_trichotomy i j with c | c | c
      · exact absurd (fp_7cancel (by omega) e4) (fp_order (by omega) (by omega))
      · exact c
      · exact absurd (fp_7cancel (by omega) e4.symm) (fp_order (by omega) (by omega)))
  have hp := fp_val_pos ha
  have hl := a.isLt
  obtain ⟨i, hi, e⟩ := h1 (a.val - 1) (by omega)
  refine ⟨i, Fin.ext ?_⟩
  have e1 := fp_val_pos (fp_7ne i)
  have e' : ((7 : Fp) ^ i).val - 1 = a.val - 1 := e
  omega
/-- Fermat -/
theorem fp_fermat {a : Fp} (ha : a ≠ 0) : a ^ 2147483646 = 1 := by
  obtain ⟨i, rfl⟩ := fp_gen ha
  rw [← fp_pow_mul, Nat.mul_comm, fp_pow_mul, g7_1, fp_one_pow]
theorem fp_inv {a : Fp} (ha : a ≠ 0) : a * a ^ 2147483645 = 1 := by
  have h := fp_fermat ha
  have e : a ^ 2147483646 = a ^ 2147483645 * a := Lean.Grind.Semiring.pow_succ a 2147483645
  rw [e] at h
  generalize a ^ 2147483645 = w at h ⊢
  grind
theorem fp_dom : Dom Fp := by
  refine ⟨fun a b h => ?_, by decide⟩
  by_cases ha : a = 0
  · exact Or.inl ha
  · right
    have h1 := fp_inv ha
    generalize a ^ 2147483645 = w at h1
    grind
