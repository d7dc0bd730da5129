set_option maxRecDepth 100000
/-! ALGEBRA: sizes of determinants, how many roots, squares -/
def nsm (w : Nat → Nat) : Nat → Nat
  | 0 => 0
  | n + 1 => nsm w n + w n
theorem nsm_congr {w v : Nat → Nat} : ∀ n, (∀ i, i < n → w i = v i) → nsm w n = nsm v n := by
  intro n
  induction n with
  | zero => intro _; rfl
  | succ n ih =>
    intro h
    show nsm w n + w n = nsm v n + v n
    rw [ih (fun i hi => h i (by omega)), h n (by omega)]
theorem nsm_skip (w : Nat → Nat) (j0 : Nat) : ∀ n, j0 ≤ n → nsm w (n + 1) = nsm (fun j => w (sk j0 j)) n + w j0 := by
  intro n
  induction n with
  | zero =>
    intro h
    rw [show j0 = 0 by omega]
    rfl
  | succ n ih =>
    intro h
    by_cases e : j0 = n + 1
    · show nsm w (n + 1) + w (n + 1) = _
      rw [e]
      congr 1
      exact nsm_congr _ (fun i hi => by unfold sk; rw [if_pos hi])
    · show nsm w (n + 1) + w (n + 1) = nsm (fun j => w (sk j0 j)) n + w (sk j0 n) + w j0
      rw [ih (by omega)]
      have : sk j0 n = n + 1 := by unfold sk; rw [if_neg (by omega)]
      rw [this]; omega
theorem sgn_szle (i : Nat) : szle (@sgn Un (plRing Fp) i) 1 := by
  induction i with
  | zero => exact fun i hi => if_neg (by omega)
  | succ i ih => exact fun j hj => by show co (pneg (@sgn Un (plRing Fp) i)) j = 0; rw [co_neg, ih j hj]; grind
theorem det_szle : ∀ (n : Nat) (A : Nat → Nat → Un) (w : Nat → Nat), (∀ i j, i < n → j < n → szle (A i j) (w i + 1)) → szle (@det Un (plRing Fp) n A) (nsm w n + 1) := by
  intro n
  induction n with
  | zero => intro A w _; exact fun i hi => if_neg (by show ¬ i = 0; have : 0 + 1 ≤ i := hi; omega)
  | succ n ih =>
    intro A w h
    refine sm_szle (fun i hi => ?_)
    have h1 := ih (fun r c => A (sk i r) (c + 1)) (fun r => w (sk i r)) (fun r c hr hc => h _ _ (sk_lt hr) (by omega))
    have h2 := szle_mul (szle_mul (sgn_szle i) (h i 0 hi (by omega))) h1
    refine szle_mono h2 ?_
    rw [nsm_skip w i n (by omega)]
    omega
noncomputable def cnt (P : Nat → Prop) : Nat → Nat
  | 0 => 0
  | n + 1 => cnt P n + @ite Nat (P n) (Classical.propDecidable _) 1 0
theorem cnt_yes {P : Nat → Prop} {n : Nat} (h : P n) : cnt P (n + 1) = cnt P n + 1 := by
  show cnt P n + @ite Nat (P n) (Classical.propDecidable _) 1 0 = _
  rw [if_pos h]
theorem cnt_no {P : Nat → Prop} {n : Nat} (h : ¬ P n) : cnt P (n + 1) = cnt P n := by
  show cnt P n + @ite Nat (P n) (Classical.propDecidable _) 1 0 = _
  rw [if_neg h]; rfl
theorem cnt_le (P : Nat → Prop) (n : Nat) : cnt P n ≤ n := by
  induction n with
  | zero => exact Nat.le_refl _
  | succ n ih =>
    by_cases h : P n
    · rw [cnt_yes h]; omega
    · rw [cnt_no h]; omega
theorem cnt_not (P : Nat → Prop) (n : Nat) : cnt P n + cnt (fun t => ¬ P t) n = n := by
  induction n with
  | zero => rfl
  | succ n ih =>
    by_cases h : P n
    · rw [cnt_yes h, cnt_no (P := fun t => ¬ P t) (by simpa using h)]; omega
    · rw [cnt_no h, cnt_yes (P := fun t => ¬ P t) h]; omega
theorem cnt_enum (P : Nat → Prop) : ∀ n, ∃ x : Nat → Nat, (∀ i, i < cnt P n → x i < n ∧ P (x i)) ∧ ∀ i j, i < cnt P n → j < cnt P n → x i = x j → i = j := by
  intro n
  induction n with
  | zero => exact ⟨fun _ => 0, fun i hi => absurd hi (Nat.not_lt_zero i), fun i j hi => absurd hi (Nat.not_lt_zero i)⟩
  | succ n ih =>
    obtain ⟨x, h1, h2⟩ := ih
    by_cases h : P n
    · rw [cnt_yes h]
      refine ⟨fun i => if i < cnt P n then x i else n, fun i hi => ?_, fun i j hi hj e => ?_⟩
      · by_cases q : i < cnt P n
        · simp only [if_pos q]; exact ⟨by have := (h1 i q).1; omega, (h1 i q).2⟩
        · simp only [if_neg q]; exact ⟨by omega, h⟩
      · by_cases q1 : i < cnt P n
        · by_cases q2 : j < cnt P n
          · simp only [if_pos q1, if_pos q2] at e; exact h2 i j q1 q2 e
          · simp only [if_pos q1, if_neg q2] at e; have := (h1 i q1).1; omega
        · by_cases q2 : j < cnt P n
          · simp only [if_neg q1, if_pos q2] at e; have := (h1 j q2).1; omega
          · omega
    · rw [cnt_no h]
      exact ⟨x, fun i hi => ⟨by have := (h1 i hi).1; omega, (h1 i hi).2⟩, h2⟩
def nF (n : Nat) : Fp := Fin.ofNat 2147483647 n
theorem nF_val {n : Nat} (h : n < 2147483647) : (nF n).val = n := Nat.mod_eq_of_lt h
theorem nF_inj {m n : Nat} (hm : m < 2147483647) (hn : n < 2147483647) (e : nF m = nF n) : m = n := by
  rw [← nF_val hm, ← nF_val hn, e]
theorem cnt_roots {p : Un} (hp : p ≠ pz) {n : Nat} (hn : n ≤ 2147483647) : cnt (fun t => ev p (nF t) = 0) n < sz p := by
  refine Nat.not_le.mp fun hle => hp ?_
  obtain ⟨x, h1, h2⟩ := cnt_enum (fun t => ev p (nF t) = 0) n
  exact roots_le fp_dom (cnt (fun t => ev p (nF t) = 0) n) (fun i => nF (x i)) p (fun i j hi hj e => h2 i j hi hj (nF_inj (by have := (h1 i hi).1; omega) (by have := (h1 j hj).1; omega) e)) (fun i hi => (h1 i hi).2) hle
theorem fp_half {a : Fp} (ha : a ≠ 0) : a ^ 1073741823 = 1 ∨ a ^ 1073741823 = -1 := by
  have h1 : a ^ 1073741823 * a ^ 1073741823 = 1 := by
    rw [← pow_add', show 1073741823 + 1073741823 = 2147483646 from rfl]; exact fp_fermat ha
  generalize a ^ 1073741823 = x at h1
  have h2 : (x - 1) * (x + 1) = 0 := by grind
  rcases fp_dom.1 _ _ h2 with h | h
  · left; grind
  · right; grind
theorem fp_m1half : (-1 : Fp) ^ 1073741823 = -1 := by
  have h : ∀ k : Nat, (-1 : Fp) ^ (2 * k + 1) = -1 := by
    intro k
    induction k with
    | zero => rfl
    | succ k ih => rw [show 2 * (k + 1) + 1 = 2 * k + 1 + 2 by omega, pow_add', ih]; rfl
  exact h 536870911
theorem fp_halfneg (a : Fp) : ((-a : Fp) ^ (1073741823 : Nat) : Fp) = -1 * (a ^ (1073741823 : Nat) : Fp) := by
  have e : (-a : Fp) = -1 * a := by grind
  rw [e, pow_mul_pow (-1 : Fp) a 1073741823, fp_m1half]
theorem fp_0half : (0 : Fp) ^ 1073741823 = 0 := by
  rw [show 1073741823 = 1073741822 + 1 from rfl, pow_add', show (0 : Fp) ^ 1 = 0 from rfl]; grind
theorem fp_m1ne : (-1 : Fp) ≠ 1 := by decide
