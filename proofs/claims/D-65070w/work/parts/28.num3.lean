set_option maxRecDepth 100000
/-! NUMBERS: rest, small, abs, powers with signs, factorials -/
theorem I32_z (x : Int32) : x = zI x.toInt := by
  apply Int32.toInt_inj.mp
  have h1 := Int32.le_toInt x
  have h2 := Int32.toInt_lt x
  rw [zI_toInt (by simpa using h1) (by simpa using h2)]
theorem xor_sign (x : Int32) : (0 : Int32) ≤ x ^^^ 2147483647 ↔ 0 ≤ x.toInt := by
  rw [Int32.le_iff_toInt_le]
  have h1 : ∀ y : Int32, (0 : Int32).toInt ≤ y.toInt ↔ y.toBitVec.msb = false := by
    intro y
    have e : (0 : Int32).toInt = 0 := by decide
    rw [e, BitVec.msb_eq_toInt]
    show 0 ≤ y.toBitVec.toInt ↔ _
    simp
  rw [h1, Int32.toBitVec_xor, BitVec.msb_xor]
  have h2 := h1 x
  have e : (0 : Int32).toInt = 0 := by decide
  rw [e] at h2
  rw [h2]
  have e3 : (2147483647 : Int32).toBitVec.msb = false := by decide
  rw [e3]
  simp
theorem divP {z : Int} (h1 : -2147483648 ≤ z) (h2 : z < 2147483648) : zI z / 2147483647 = zI (if z = 2147483647 then 1 else if z ≤ -2147483647 then -1 else 0) := by
  apply Int32.toInt_inj.mp
  rw [Int32.toInt_div, zI_toInt h1 h2, zI_toInt (by split <;> (try split) <;> omega) (by split <;> (try split) <;> omega)]
  rw [show (2147483647 : Int32).toInt = 2147483647 by decide]
  split
  · rename_i e; rw [e]; decide
  · split
    · rcases (show z = -2147483647 ∨ z = -2147483648 by omega) with e | e <;> (rw [e]; decide)
    · have : z.tdiv 2147483647 = 0 := by
        by_cases hz : 0 ≤ z
        · exact Int.tdiv_eq_zero_of_lt hz (by omega)
        · have : z.tdiv 2147483647 = -((-z).tdiv 2147483647) := by rw [Int.neg_tdiv]; omega
          rw [this, Int.tdiv_eq_zero_of_lt (by omega) (by omega)]; rfl
      rw [this]; decide
theorem fI_val (z : Int) (h1 : -2147483648 ≤ z) (h2 : z < 2147483648) : toI (fI (zI z)) = zI (z % 2147483647) := by
  unfold fI toI
  rw [zI_toInt h1 h2, Fin.val_ofNat, nI_z]
  have h3 := Int.emod_nonneg z (show (2147483647 : Int) ≠ 0 by decide)
  have h4 := Int.emod_lt_of_pos z (show (0 : Int) < 2147483647 by decide)
  rw [Nat.mod_eq_of_lt (by omega)]
  congr 1
  omega
/-- as a number from -HALF to HALF -/
def sml (x : Fp) : Int := if x.val ≤ 1073741823 then (x.val : Int) else (x.val : Int) - 2147483647
/-- a power that may be below 0 -/
def spw (u : Fp) (e : Int) : Fp := if e < 0 then iv (u ^ (-e).toNat) else u ^ e.toNat
section
variable {g : GX} {d n : Nat} {h : Hp} {Q : Int32 → Hp → Prop}
theorem ok_rest (hp : g.2.2.2.2 = true) {x : Int32} (q : Q (toI (fI x)) h) : CallI g m_X0_rest (d + 1) [.int x] n h Q := by
  have b1 : -2147483648 ≤ x.toInt := by simpa using Int32.le_toInt x
  have b2 : x.toInt < 2147483648 := by simpa using Int32.toInt_lt x
  refine okI 0 rfl rfl (s_X0_rest_0 hp (okJ pf_floorMod 1 rfl rfl (s_J3_floorMod_0 hp ⟨by decide, ?_⟩)))
  rw [xor_sign]
  have ex := I32_z x
  generalize x.toInt = z at ex b1 b2 ⊢
  subst ex
  rw [fI_val z b1 b2] at q
  rw [divP b1 b2]
  have eP : (2147483647 : Int32) = zI 2147483647 := rfl
  rw [eP, zI_mul, zI_sub, zI_add, z0]
  refine ⟨fun c => qI (qI ?_), fun c => ⟨fun c2 => qI (qI ?_), fun c2 => qI (qI ?_)⟩⟩
  · have e : z - (if z = 2147483647 then 1 else if z ≤ -2147483647 then -1 else 0) * 2147483647 = z % 2147483647 := by
      split
      · rename_i e; rw [e]; decide
      · rw [if_neg (by omega)]
        have := Int.emod_eq_of_lt c (show z < 2147483647 by omega)
        omega
    rw [e]; exact q
  · rw [zI_eq (by split <;> (try split) <;> omega) (by split <;> (try split) <;> omega) (by omega) (by omega)] at c2
    have e : z - (if z = 2147483647 then 1 else if z ≤ -2147483647 then -1 else 0) * 2147483647 = z % 2147483647 := by
      rw [c2]
      split at c2
      · omega
      · split at c2 <;> omega
    rw [e]; exact q
  · rw [zI_eq (by split <;> (try split) <;> omega) (by split <;> (try split) <;> omega) (by omega) (by omega)] at c2
    have e : z - (if z = 2147483647 then 1 else if z ≤ -2147483647 then -1 else 0) * 2147483647 + 2147483647 = z % 2147483647 := by
      split at c2
      · omega
      · rename_i n1
        rw [if_neg n1]
        split at c2
        · rename_i n2; rw [if_pos n2]; omega
        · rename_i n2; rw [if_neg n2]; omega
    rw [e]; exact q
theorem ok_small (hp : g.2.2.2.2 = true) {x : Fp} (q : Q (zI (sml x)) h) : CallI g m_X0_small d [.int (toI x)] n h Q := by
  have hx := x.isLt
  refine okI 0 rfl rfl (s_X0_small_0 hp ?_)
  unfold toI
  rw [show (1073741823 : Int32) = nI 1073741823 from rfl, nI_leI (by omega) (by omega)]
  unfold sml at q
  refine ⟨fun c => qI ?_, fun c => qI ?_⟩
  · rw [if_pos c] at q; exact q
  · rw [if_neg c] at q
    rw [nI_z, show (2147483647 : Int32) = zI 2147483647 from rfl, zI_sub]; exact q
theorem sml_bd (x : Fp) : -1073741823 ≤ sml x ∧ sml x ≤ 1073741823 := by
  have hx := x.isLt
  unfold sml
  split <;> omega
theorem ok_abs (hp : g.2.2.2.2 = true) {z : Int} (h1 : -2147483648 < z) (h2 : z < 2147483648) (q : Q (nI z.natAbs) h) : CallI g m_J3_abs d [.int (zI z)] n h Q := by
  refine okJ pf_abs 0 rfl rfl (s_J3_abs_0 hp ?_)
  rw [z0, zI_le (by omega) (by omega) (by omega) (by omega), zI_neg]
  refine ⟨fun c => qI ?_, fun c => qI ?_⟩
  · rw [nI_z, show ((z.natAbs : Nat) : Int) = z by omega] at q; exact q
  · rw [nI_z, show ((z.natAbs : Nat) : Int) = -z by omega] at q; exact q
theorem ok_signedPower (hp : g.2.2.2.2 = true) {u : Fp} {e : Int} (h1 : -2147483648 < e) (h2 : e < 2147483648) (q : Q (toI (spw u e)) h) : CallI g m_X0_signedPower (d + 3) [.int (toI u), .int (zI e)] n h Q := by
  refine okI 0 rfl rfl (s_X0_signedPower_0 hp ?_)
  rw [z0, zI_le (by omega) (by omega) (by omega) (by omega), zI_neg]
  unfold spw at q
  refine ⟨fun c => ?_, fun c => ?_⟩
  · rw [if_neg (by omega)] at q
    rw [show zI e = nI e.toNat by rw [nI_z]; congr 1; omega, nI_l (by omega)]
    exact ok_power hp (by omega) (qI q)
  · rw [if_pos (by omega)] at q
    rw [show zI (-e) = nI (-e).toNat by rw [nI_z]; congr 1; omega, nI_l (by omega)]
    exact ok_power hp (by omega) (ok_inverse hp (qI q))
theorem w_fact (hp : g.2.2.2.2 = true) {av : List Value} {m : Nat} (hm : m < 1000000) (q : Q (toI (facF m)) h) : ∀ (k i : Nat), i + k = m + 1 → 1 ≤ i → W_X0_factorial g d av (QI n Q) n 4 [some (.int (nI m)), some (.int (toI (facF (i - 1)))), some (.int (nI i))] [] h := by
  intro k
  induction k with
  | zero =>
    intro i hi _
    refine s_X0_factorial_4 hp ⟨fun _ => qI ?_, fun c => absurd ?_ c⟩
    · rw [show i - 1 = m by omega]; exact q
    · simp (disch := omega) only [nI_addz, nI_1, nI_leI, nI_ltI, nI_eq, nI_tN, nI_inI]; omega
  | succ k ih =>
    intro i hi h1
    refine s_X0_factorial_4 hp ⟨fun c => absurd c ?_, fun _ => ?_⟩
    · simp (disch := omega) only [nI_addz, nI_1, nI_leI, nI_ltI, nI_eq, nI_tN, nI_inI]; omega
    · rw [← toI_nF (m := i) (by omega)]
      refine ok_times hp ?_
      rw [toI_nF (m := i) (by omega), nI_1]
      have e : facF (i - 1) * nF i = facF (i + 1 - 1) := by
        obtain ⟨t, rfl⟩ : ∃ t, i = t + 1 := ⟨i - 1, by omega⟩
        rfl
      rw [e]
      exact ih (i + 1) (by omega) (by omega)
theorem nF_1 : nF 1 = 1 := by decide
theorem facF_1 : facF 1 = 1 := by
  show (1 : Fp) * nF 1 = 1
  rw [nF_1]; grind
theorem ok_factorial (hp : g.2.2.2.2 = true) {m : Nat} (hm : m < 1000000) (q : Q (toI (facF m)) h) : CallI g m_X0_factorial (d + 1) [.int (nI m)] n h Q := by
  refine okI 2 rfl rfl (s_X0_factorial_0 hp ?_)
  have e1 : (1 : Int32) = toI (facF (2 - 1)) := by rw [show 2 - 1 = 1 from rfl, facF_1]; rfl
  by_cases h0 : m = 0
  · subst h0
    refine s_X0_factorial_4 hp ⟨fun _ => qI q, fun c => absurd (by decide) c⟩
  · rw [e1]
    exact w_fact hp hm q (m - 1) 2 (by omega) (by omega)
theorem ok_within (hp : g.2.2.2.2 = true) {x y z : Int32} (q1 : ¬ x < y → ¬ z < x → Q 1 h) (q0 : (x < y ∨ z < x) → Q 0 h) : CallI g m_X0_within d [.int x, .int y, .int z] n h Q :=
  okI 0 rfl rfl (s_X0_within_0 hp ⟨fun c => qI (q0 (Or.inl c)), fun c => ⟨fun c2 => qI (q0 (Or.inr c2)), fun c2 => qI (q1 c c2)⟩⟩)
end
