set_option maxRecDepth 100000
/-! NUMBERS: what the methods of numbers answer, of both classes; ints as numbers modulo 2147483647 -/
theorem pf_lI {a : Nat} (h : a < 2 ^ 63) : (lN a).toInt = (a : Int) := lg_ofNat_toInt h
theorem pf_shr {a d : Nat} {D : Int64} (hD : (D.toBitVec.smod 64).toNat = d) (h : a < 2 ^ 62) : lN a >>> D = lN (a / 2 ^ d) := by
  have hd : a / 2 ^ d ≤ a := Nat.div_le_self _ _
  apply Int64.toInt_inj.mp
  have e : (lN a >>> D).toInt = (lN a).toInt >>> d := by
    rw [← hD]
    exact BitVec.toInt_sshiftRight ..
  rw [e, Int.shiftRight_eq_div_pow, pf_lI (by omega), pf_lI (by omega)]
  rfl
theorem wb_tb (n : Nat) : (lN n).toBitVec = BitVec.ofNat 64 n := rfl
theorem wb_inj {a b : Int64} (h : a.toBitVec = b.toBitVec) : a = b := Int64.toBitVec_inj.mp h
theorem wb_and {a b : Nat} (ha : a < 2 ^ 64) (hb : b < 2 ^ 64) : lN a &&& lN b = lN (a &&& b) := by
  apply wb_inj
  rw [Int64.toBitVec_and, wb_tb, wb_tb, wb_tb]
  apply BitVec.eq_of_toNat_eq
  rw [BitVec.toNat_and, BitVec.toNat_ofNat, BitVec.toNat_ofNat, BitVec.toNat_ofNat, Nat.mod_eq_of_lt ha, Nat.mod_eq_of_lt hb, Nat.mod_eq_of_lt (Nat.and_lt_two_pow _ hb)]
theorem wb_1 {a : Nat} (ha : a < 2 ^ 64) : lN a &&& (1 : Int64) = lN (a % 2) := by
  rw [show (1 : Int64) = lN 1 from rfl, wb_and ha (by decide), show (1 : Nat) = 2 ^ 1 - 1 from rfl, Nat.and_two_pow_sub_one_eq_mod]
theorem ent_pad {av : List Value} {k i : Nat} {v : Value} (h : (entL av ++ List.replicate k none)[i]? = some (some v)) : (entL av)[i]? = some (some v) := by
  by_cases hi : i < (entL av).length
  · rwa [List.getElem?_append_left hi] at h
  · rw [List.getElem?_append_right (by omega), List.getElem?_replicate] at h
    split at h <;> simp at h
section
variable {g : GX} {mt : Mth} {d : Nat} {av : List Value} {n : Nat} {h : Hp} {ls : LV}
theorem okN {Q : QT} {mc ms : Nat} (pad : Nat) (hlen : Nat.ble (lg_sl (av' g.2.2.2.1 av)).length mt.2.2.1 = true) (e : entL av ++ List.replicate pad none = ls) (k : RJ g mt d mc ms av Q 0 ls [] n h 0 0) (hy : plainName mt.1.cls = true := by decide) : CallN g mt d mc ms av n h Q :=
  CallN.of hy (Nat.le_of_ble_eq_true hlen) (fun s hR => by rw [hR.1]; omega) (fun i v hv => ent_pad (by rw [e]; exact hv)) k
theorem okI {Q : Int32 → Hp → Prop} (pad : Nat) (hlen : Nat.ble (lg_sl (av' g.2.2.2.1 av)).length mt.2.2.1 = true) (e : entL av ++ List.replicate pad none = ls) (k : RJ g mt d 0 0 av (QI n Q) 0 ls [] n h 0 0) (hy : plainName mt.1.cls = true := by decide) : CallI g mt d av n h Q := okN pad hlen e k hy
theorem okV {Q : Hp → Prop} (pad : Nat) (hlen : Nat.ble (lg_sl (av' g.2.2.2.1 av)).length mt.2.2.1 = true) (e : entL av ++ List.replicate pad none = ls) (k : RJ g mt d 0 0 av (QV n Q) 0 ls [] n h 0 0) (hy : plainName mt.1.cls = true := by decide) : CallV g mt d av n h Q := okN pad hlen e k hy
theorem okR {Q : Nat → Hp → Prop} (pad : Nat) (hlen : Nat.ble (lg_sl (av' g.2.2.2.1 av)).length mt.2.2.1 = true) (e : entL av ++ List.replicate pad none = ls) (k : RJ g mt d 0 0 av (QR n Q) 0 ls [] n h 0 0) (hy : plainName mt.1.cls = true := by decide) : CallR g mt d av n h Q := okN pad hlen e k hy
theorem qI {Q : Int32 → Hp → Prop} {v : Int32} (q : Q v h) : QI n Q (some (.int v)) n h := ⟨v, rfl, rfl, q⟩
theorem qV {Q : Hp → Prop} (q : Q h) : QV n Q none n h := ⟨rfl, rfl, q⟩
theorem qR {Q : Nat → Hp → Prop} {v : Nat} (q : Q v h) : QR n Q (some (.ref v)) n h := ⟨v, rfl, rfl, q⟩
end
def toI (x : Fp) : Int32 := nI x.val
theorem toI_lt (x : Fp) : x.val < 2147483647 := x.isLt
theorem toI_64 (x : Fp) : (toI x).toInt64 = lN x.val := nI_l (by have := x.isLt; omega)
theorem toI_int (x : Fp) : (toI x).toInt = (x.val : Int) := nI_toInt (by have := x.isLt; omega)
theorem toI_inj {x y : Fp} (e : toI x = toI y) : x = y := by
  have h1 := toI_int x
  have h2 := toI_int y
  rw [e, h2] at h1
  exact Fin.ext (by omega)
theorem toI_0 : toI 0 = 0 := rfl
theorem toI_1 : toI 1 = 1 := rfl
theorem toI_m1 : toI (-1) = 2147483646 := by decide +kernel
theorem toI_eq0 {x : Fp} : toI x = 0 ↔ x = 0 := ⟨fun e => toI_inj (e.trans toI_0.symm), fun e => by rw [e]; rfl⟩
theorem Pl64 : (2147483647 : Int64) = lN 2147483647 := rfl
theorem P32 : (2147483647 : Int32) = nI 2147483647 := rfl
section
variable {g : GX} {d n : Nat} {h : Hp} {Q : Int32 → Hp → Prop}
theorem sum_val (x y : Fp) : toI (x + y) = if x.val + y.val < 2147483647 then nI (x.val + y.val) else nI (x.val + y.val - 2147483647) := by
  unfold toI
  rw [Fin.val_add]
  have h1 := x.isLt
  have h2 := y.isLt
  split
  · rw [Nat.mod_eq_of_lt (by assumption)]
  · rw [Nat.mod_eq_sub_mod (by omega), Nat.mod_eq_of_lt (by omega)]
theorem lcmp_lt {a b : Nat} (ha : a < 2 ^ 63) (hb : b < 2 ^ 63) : lg_cmp (lN a) (lN b) < 0 ↔ a < b := by rw [lg_cmp_lt, pk_lLT ha hb]
theorem ok_sum (hp : g.2.2.2.2 = true) {x y : Fp} (q : Q (toI (x + y)) h) : CallI g m_X0_sum d [.int (toI x), .int (toI y)] n h Q := by
  have h1 := x.isLt
  have h2 := y.isLt
  refine okI 2 rfl rfl (s_X0_sum_0 hp ?_)
  rw [toI_64, toI_64, lN_add, Pl64, lcmp_lt (by omega) (by omega)]
  rw [sum_val] at q
  refine ⟨fun c => ?_, fun c => ?_⟩
  · rw [if_pos c] at q
    rw [lN_i]; exact qI q
  · rw [if_neg c] at q
    rw [lN_sub (by omega), lN_i]; exact qI q
theorem sub_val (x y : Fp) : toI (x - y) = if y.val ≤ x.val then nI (x.val - y.val) else nI (x.val + 2147483647 - y.val) := by
  unfold toI
  rw [Fin.sub_def]
  have h1 := x.isLt
  have h2 := y.isLt
  show nI ((2147483647 - y.val + x.val) % 2147483647) = _
  split
  · rw [show 2147483647 - y.val + x.val = (x.val - y.val) + 2147483647 by omega, Nat.add_mod_right, Nat.mod_eq_of_lt (by omega)]
  · rw [Nat.mod_eq_of_lt (by omega), show 2147483647 - y.val + x.val = x.val + 2147483647 - y.val by omega]
theorem ok_less (hp : g.2.2.2.2 = true) {x y : Fp} (q : Q (toI (x - y)) h) : CallI g m_X0_less d [.int (toI x), .int (toI y)] n h Q := by
  have h1 := x.isLt
  have h2 := y.isLt
  refine okI 0 rfl rfl (s_X0_less_0 hp ?_)
  rw [sub_val] at q
  unfold toI
  rw [nI_ltI (by omega) (by omega)]
  refine ⟨fun c => ?_, fun c => ?_⟩
  · rw [if_neg (by omega)] at q
    have e : nI x.val - nI y.val + 2147483647 = nI (x.val + 2147483647 - y.val) := by
      rw [P32, ← pk_sub (show y.val ≤ x.val + 2147483647 by omega), ← nI_add]
      grind
    rw [e]; exact qI q
  · rw [if_pos (by omega)] at q
    rw [pk_sub (by omega)]; exact qI q
theorem ok_times (hp : g.2.2.2.2 = true) {x y : Fp} (q : Q (toI (x * y)) h) : CallI g m_X0_times d [.int (toI x), .int (toI y)] n h Q := by
  have h1 := x.isLt
  have h2 := y.isLt
  refine okI 0 rfl rfl (s_X0_times_0 hp ?_)
  have hb : x.val * y.val < 2 ^ 63 := by
    have : x.val * y.val ≤ 2147483647 * 2147483647 := Nat.mul_le_mul (by omega) (by omega)
    omega
  rw [toI_64, toI_64, lN_mul, Pl64, pk_lRem hb (by decide) (by decide), lN_i]
  exact qI q
theorem lcmp_le {a b : Nat} (ha : a < 2 ^ 63) (hb : b < 2 ^ 63) : lg_cmp (lN a) (lN b) ≤ 0 ↔ a ≤ b := by rw [lg_cmp_le, pk_lLE ha hb]
theorem lcmp_eq {a b : Nat} (ha : a < 2 ^ 63) (hb : b < 2 ^ 63) : lg_cmp (lN a) (lN b) = 0 ↔ a = b := by rw [lg_cmp_eq, pk_lEQ ha hb]
theorem shr1 {a : Nat} (h : a < 2 ^ 62) : lN a >>> ((1 : Int32).toInt64 &&& 63) = lN (a / 2) := pf_shr (d := 1) (by decide) h
theorem pow_even (b : Fp) (e : Nat) (h : e % 2 = 0) : (b * b) ^ (e / 2) = b ^ e := by
  have h1 : b * b = b ^ 2 := by grind
  rw [h1, ← fp_pow_mul, show 2 * (e / 2) = e by omega]
theorem pow_odd (b : Fp) (e : Nat) (h : e % 2 = 1) : b * (b * b) ^ (e / 2) = b ^ e := by
  have h1 : b * b = b ^ 2 := by grind
  rw [h1, ← fp_pow_mul]
  have h2 : b ^ e = b ^ (2 * (e / 2)) * b := by rw [← Lean.Grind.Semiring.pow_succ, show 2 * (e / 2) + 1 = e by omega]
  rw [h2]
  generalize b ^ (2 * (e / 2)) = w
  grind
theorem ok_power_loop (hp : g.2.2.2.2 = true) {av : List Value} : ∀ (e : Nat), e < 2 ^ 62 → ∀ (r b : Fp), Q (toI (r * b ^ e)) h → W_X0_power g d av (QI n Q) n 8 [none, none, none, some (.int (toI r)), some (.int (toI b)), some (.long (lN e)), none] [] h := by
  intro e
  induction e using Nat.strongRecOn with
  | _ e ih =>
    intro he r b q
    have j34 : ∀ r' : Fp, 0 < e → r' * (b * b) ^ (e / 2) = r * b ^ e → W_X0_power g d av (QI n Q) n 34 [none, none, none, none, some (.int (toI b)), some (.long (lN e)), none] [.int (toI r')] h := by
      intro r' h0 hr
      refine s_X0_power_34 hp (ok_times hp ?_)
      rw [shr1 he]
      exact ih (e / 2) (by omega) (by omega) r' (b * b) (by rw [hr]; exact q)
    refine s_X0_power_8 hp ⟨fun c => ?_, fun c => ?_⟩
    · rw [show (0 : Int64) = lN 0 from rfl, lcmp_le (by omega) (by decide)] at c
      have e0 : e = 0 := by omega
      subst e0
      have : r * b ^ 0 = r := by rw [Lean.Grind.Semiring.pow_zero]; grind
      rw [this] at q
      exact qI q
    · rw [show (0 : Int64) = lN 0 from rfl, lcmp_le (by omega) (by decide)] at c
      rw [wb_1 (by omega), show (1 : Int64) = lN 1 from rfl, lcmp_eq (by omega) (by decide)]
      refine ⟨fun c2 => j34 r (by omega) (by rw [pow_even b e (by omega)]), fun c2 => ok_times hp (j34 (r * b) (by omega) ?_)⟩
      rw [← pow_odd b e c2]
      generalize (b * b) ^ (e / 2) = w
      grind
theorem ok_power (hp : g.2.2.2.2 = true) {x : Fp} {e : Nat} (he : e < 2 ^ 62) (q : Q (toI (x ^ e)) h) : CallI g m_X0_power (d + 1) [.int (toI x), .long (lN e)] n h Q := by
  refine okI 4 rfl rfl (s_X0_power_0 hp ?_)
  refine ok_power_loop hp e he 1 x ?_
  have : 1 * x ^ e = x ^ e := by grind
  rw [this]; exact q
/-- the inverse (of 0: 0) -/
def iv (x : Fp) : Fp := x ^ 2147483645
theorem iv_mul {x : Fp} (hx : x ≠ 0) : x * iv x = 1 := fp_inv hx
theorem ok_inverse (hp : g.2.2.2.2 = true) {x : Fp} (q : Q (toI (iv x)) h) : CallI g m_X0_inverse (d + 2) [.int (toI x)] n h Q := by
  refine okI 0 rfl rfl (s_X0_inverse_0 hp ?_)
  exact ok_power (e := 2147483645) hp (by decide) (qI q)
/-- any int, as a number -/
def fI (v : Int32) : Fp := Fin.ofNat 2147483647 (v.toInt % 2147483647).toNat
end
