set_option maxRecDepth 100000
/-! TEXTS WRITTEN: numbers, powers, parts -/
def ndg (v : Nat) : Nat → Nat → Nat
  | 0, k => k
  | F + 1, k => if v / 10 ^ k < 10 then k else ndg v F (k + 1)
def dgk (v : Nat) : Nat → List Int32
  | 0 => [nI (48 + v % 10)]
  | k + 1 => nI (48 + v / 10 ^ (k + 1) % 10) :: dgk v k
/-- the decimal figures -/
def numS (v : Nat) : List Int32 := dgk v (ndg v 10 0)
def powS (c : Int32) (e : Nat) : List Int32 := c :: (if 1 < e then 94 :: numS e else [])
def numB (v : Fp) (i j : Nat) : Bool := decide ((sml v).natAbs ≠ 1 ∨ (i = 0 ∧ j = 0))
def partS (v : Fp) (i j : Nat) (first : Bool) : List Int32 := (if sml v < 0 then [45] else if first = true then [] else [43]) ++ ((if numB v i j = true then numS (sml v).natAbs else []) ++ ((if 0 < i then (if numB v i j = true then [42] else []) ++ powS 110 i else []) ++ (if 0 < j then (if numB v i j = true ∨ 0 < i then [42] else []) ++ powS 107 j else [])))
def ascii (L : List Int32) : Prop := ∀ c, c ∈ L → 0 ≤ c.toInt ∧ c.toInt ≤ 127
theorem ascii_nil : ascii [] := fun c h => by cases h
theorem ascii_cons {c : Int32} {L : List Int32} (h : 0 ≤ c.toInt ∧ c.toInt ≤ 127) (hL : ascii L) : ascii (c :: L) := fun x hx => by
  rcases List.mem_cons.mp hx with e | e
  · rw [e]; exact h
  · exact hL x e
theorem ascii_app {L M : List Int32} (h : ascii L) (h2 : ascii M) : ascii (L ++ M) := fun x hx => by
  rcases List.mem_append.mp hx with e | e
  · exact h x e
  · exact h2 x e
theorem ascii_1 {c : Int32} (h : 0 ≤ c.toInt ∧ c.toInt ≤ 127) : ascii [c] := ascii_cons h ascii_nil
theorem ascii_ite {p : Prop} [Decidable p] {L M : List Int32} (h : ascii L) (h2 : ascii M) : ascii (if p then L else M) := by
  split
  · exact h
  · exact h2
theorem dgk_ascii (v : Nat) : ∀ k, ascii (dgk v k)
  | 0 => ascii_1 (by rw [nI_toInt (by omega)]; omega)
  | k + 1 => by
    have hm : v / 10 ^ (k + 1) % 10 < 10 := Nat.mod_lt _ (by omega)
    exact ascii_cons (by rw [nI_toInt (by omega)]; omega) (dgk_ascii v k)
theorem dgk_len (v : Nat) : ∀ k, (dgk v k).length = k + 1
  | 0 => rfl
  | k + 1 => by show (dgk v k).length + 1 = _; rw [dgk_len v k]
theorem ndg_le (v : Nat) : ∀ F k, ndg v F k ≤ k + F
  | 0, k => Nat.le_refl _
  | F + 1, k => by
    show (if v / 10 ^ k < 10 then k else ndg v F (k + 1)) ≤ _
    split
    · omega
    · have := ndg_le v F (k + 1); omega
theorem numS_ascii (v : Nat) : ascii (numS v) := dgk_ascii v _
theorem numS_len (v : Nat) : (numS v).length ≤ 11 := by
  unfold numS; rw [dgk_len]; have := ndg_le v 10 0; omega
theorem powS_ascii {c : Int32} (h : 0 ≤ c.toInt ∧ c.toInt ≤ 127) (e : Nat) : ascii (powS c e) := ascii_cons h (ascii_ite (ascii_cons (by decide) (numS_ascii e)) ascii_nil)
theorem powS_len (c : Int32) (e : Nat) : (powS c e).length ≤ 13 := by
  unfold powS
  have := numS_len e
  simp only [List.length_cons]
  split
  · simp only [List.length_cons]; omega
  · simp
theorem partS_ascii (v : Fp) (i j : Nat) (b : Bool) : ascii (partS v i j b) := by
  unfold partS
  refine ascii_app (ascii_ite (ascii_1 (by decide)) (ascii_ite ascii_nil (ascii_1 (by decide)))) (ascii_app (ascii_ite (numS_ascii _) ascii_nil) (ascii_app (ascii_ite (ascii_app (ascii_ite (ascii_1 (by decide)) ascii_nil) (powS_ascii (by decide) _)) ascii_nil) (ascii_ite (ascii_app (ascii_ite (ascii_1 (by decide)) ascii_nil) (powS_ascii (by decide) _)) ascii_nil)))
theorem len_ite {p : Prop} [Decidable p] {L M : List Int32} {k : Nat} (h : L.length ≤ k) (h2 : M.length ≤ k) : (if p then L else M).length ≤ k := by
  split
  · exact h
  · exact h2
theorem partS_len (v : Fp) (i j : Nat) (b : Bool) : (partS v i j b).length ≤ 60 := by
  unfold partS
  have p1 := powS_len 110 i
  have p2 := powS_len 107 j
  have a1 : (if sml v < 0 then [(45 : Int32)] else if b = true then [] else [43]).length ≤ 1 := len_ite (by simp) (len_ite (by simp) (by simp))
  have a2 : (if numB v i j = true then numS (sml v).natAbs else []).length ≤ 11 := len_ite (numS_len _) (by simp)
  have a3 : (if 0 < i then (if numB v i j = true then [(42 : Int32)] else []) ++ powS 110 i else []).length ≤ 14 := by
    refine len_ite ?_ (by simp)
    have : (if numB v i j = true then [(42 : Int32)] else []).length ≤ 1 := len_ite (by simp) (by simp)
    rw [List.length_append]; omega
  have a4 : (if 0 < j then (if numB v i j = true ∨ 0 < i then [(42 : Int32)] else []) ++ powS 107 j else []).length ≤ 14 := by
    refine len_ite ?_ (by simp)
    have : (if numB v i j = true ∨ 0 < i then [(42 : Int32)] else []).length ≤ 1 := len_ite (by simp) (by simp)
    rw [List.length_append]; omega
  simp only [List.length_append]
  omega
/-- the draft so far -/
def DR (h : Hp) (L : List Int32) : Prop := ri h 0 23 = nI L.length ∧ L.length ≤ 1000000000 ∧ ascii L ∧ ∀ i c, i < 4000 → L[i]? = some c → ri h 90 i = c
/-- only the draft changed -/
def Fdr (h h' : Hp) : Prop := Fr h h' [0, 90] ∧ ∀ k, k ≠ 23 → ri h' 0 k = ri h 0 k
section
variable {g : GX} {d n : Nat} {h h' h1 h2 : Hp} {L : List Int32}
theorem Fdr.rf : Fdr h h := ⟨Fr.rf, fun _ _ => rfl⟩
theorem Fdr.tr (f : Fdr h h1) (e : Fdr h1 h2) : Fdr h h2 := ⟨f.1.tr e.1, fun k hk => (e.2 k hk).trans (f.2 k hk)⟩
theorem l90 : lay 90 = (1, 4000, 1) := by decide +kernel
theorem i8_ascii {c : Int32} (h : 0 ≤ c.toInt ∧ c.toInt ≤ 127) : c.toInt8.toInt32 = c := by
  apply Int32.toInt_inj.mp
  rw [Int8.toInt_toInt32, Int32.toInt_toInt8]
  simp only [Int.bmod]; omega
theorem ok_say (hp : g.2.2.2.2 = true) (D : DR h L) {c : Int32} (hc : 0 ≤ c.toInt ∧ c.toInt ≤ 127) (hl : L.length + 1 ≤ 1000000000) {Q : Hp → Prop} (q : ∀ h', Fdr h h' → DR h' (L ++ [c]) → Q h') : CallV g m_X0_say d [.ref 0, .int c] n h Q := by
  have e1 := D.1
  refine okV 0 rfl rfl (s_X0_say_0 hp ?_)
  rw [e1, show (4000 : Int32) = nI 4000 from rfl, nI_leI (by omega) (by omega), i8_ascii hc, nI_tN (by omega)]
  have asc := ascii_app D.2.2.1 (ascii_1 hc)
  refine ⟨fun c1 => s_X0_say_21 hp (fun h1 e => ?_), fun c1 => ⟨nI_inL (by omega) (by omega), fun h1 e => s_X0_say_21 hp (fun h2 e' => ?_)⟩⟩
  · rw [e1, show (1 : Int32) = nI 1 from rfl, nI_addz] at e
    refine qV (q h1 ⟨by rw [e]; exact Fr.rf.put (by simp) (okp_o l0 (Or.inr (by decide))), fun k hk => by rw [e, ri_ne' hk]⟩ ⟨by rw [e, ri_same]; simp, by simp; omega, asc, fun i x hi hx => ?_⟩)
    rw [e, ri_ne (by omega)]
    rw [List.getElem?_append_left (by omega)] at hx
    exact D.2.2.2 i x hi hx
  · have e3 : ri h1 0 23 = nI L.length := by rw [e, ri_ne (by omega)]; exact e1
    rw [e3, show (1 : Int32) = nI 1 from rfl, nI_addz] at e'
    refine qV (q h2 ⟨by rw [e', e]; exact (Fr.rf.put (by simp) (okp_a l90 (by decide))).put (by simp) (okp_o l0 (Or.inr (by decide))), fun k hk => by rw [e', ri_ne' hk, e, ri_ne (by omega)]⟩ ⟨by rw [e', ri_same]; simp, by simp; omega, asc, fun i x hi hx => ?_⟩)
    rw [e', ri_ne (by omega), e]
    by_cases c2 : i = L.length
    · subst c2
      rw [List.getElem?_append_right (Nat.le_refl _), Nat.sub_self] at hx
      have : c = x := by simpa using hx
      rw [ri_same, this]
    · have hl2 : i < L.length := by
        have := (List.getElem?_eq_some_iff.mp hx).1
        simp at this; omega
      rw [List.getElem?_append_left hl2] at hx
      rw [ri_ne' c2]
      exact D.2.2.2 i x hi hx
theorem nI_div {a b : Nat} (ha : a < 2147483648) (hb : b < 2147483648) : nI a / nI b = nI (a / b) := by
  apply Int32.toInt_inj.mp
  have h1 : a / b ≤ a := Nat.div_le_self _ _
  rw [Int32.toInt_div, nI_toInt ha, nI_toInt hb, nI_toInt (by omega)]
  have e : (a : Int).tdiv (b : Int) = ((a / b : Nat) : Int) := rfl
  rw [e]
  generalize a / b = q at h1 ⊢
  show Int.bmod (q : Int) 4294967296 = q
  simp only [Int.bmod]; omega
theorem w_syn18 (hp : g.2.2.2.2 = true) {av : List Value} {v : Nat} (hv : v < 2147483648) {Q : Hp → Prop} : ∀ (k : Nat) (L : List Int32) (h : Hp), k ≤ 9 → DR h L → L.length + k + 1 ≤ 1000000000 → (∀ h', Fdr h h' → DR h' (L ++ dgk v k) → Q h') → W_X0_sayNumber g d av (QV n Q) n 18 [some (.ref 0), some (.int (nI v)), some (.int (nI (10 ^ k)))] [] h := by
  intro k
  induction k with
  | zero =>
    intro L h hk D hl q
    refine s_X0_sayNumber_18 hp ⟨fun c => absurd c (by decide), fun _ => ⟨by decide, ?_⟩⟩
    have hm : v % 10 < 10 := Nat.mod_lt _ (by omega)
    have ev : (48 : Int32) + (nI v / nI (10 ^ 0) - nI v / nI (10 ^ 0) / 10 * 10) = nI (48 + v % 10) := by
      rw [show nI (10 ^ 0) = nI 1 from rfl, nI_div hv (by omega), Nat.div_one, show (10 : Int32) = nI 10 from rfl, nI_div hv (by omega), nI_mulz, show (48 : Int32) = nI 48 from rfl, nI_z (v), nI_z (v / 10 * 10), zI_sub, nI_z 48, zI_add, nI_z]
      congr 1; omega
    rw [ev]
    refine ok_say hp D (by rw [nI_toInt (by omega)]; omega) (by omega) (fun h1 f1 D1 => ?_)
    rw [show nI (10 ^ 0) / 10 = nI 0 by decide]
    exact s_X0_sayNumber_18 hp ⟨fun _ => qV (q h1 f1 D1), fun c => absurd (by decide) c⟩
  | succ k ih =>
    intro L h hk D hl q
    have hp9 : (10 : Nat) ^ (k + 1) ≤ 10 ^ 9 := Nat.pow_le_pow_right (by omega) hk
    have hp0 : 0 < (10 : Nat) ^ (k + 1) := Nat.pow_pos (by omega)
    have h9 : (10 : Nat) ^ 9 = 1000000000 := rfl
    have hm : v / 10 ^ (k + 1) % 10 < 10 := Nat.mod_lt _ (by omega)
    have hd : v / 10 ^ (k + 1) ≤ v := Nat.div_le_self _ _
    refine s_X0_sayNumber_18 hp ⟨fun c => absurd c ?_, fun _ => ⟨?_, ?_⟩⟩
    · rw [show (0 : Int32) = nI 0 from rfl, nI_leI (by omega) (by omega)]; omega
    · rw [show (0 : Int32) = nI 0 from rfl, nI_eq (by omega) (by omega)]; omega
    · have ev : (48 : Int32) + (nI v / nI (10 ^ (k + 1)) - nI v / nI (10 ^ (k + 1)) / 10 * 10) = nI (48 + v / 10 ^ (k + 1) % 10) := by
        rw [nI_div hv (by omega), show (10 : Int32) = nI 10 from rfl, nI_div (by omega) (by omega), nI_mulz, show (48 : Int32) = nI 48 from rfl, nI_z (v / 10 ^ (k + 1)), nI_z (v / 10 ^ (k + 1) / 10 * 10), zI_sub, nI_z 48, zI_add, nI_z]
        congr 1; omega
      rw [ev]
      refine ok_say hp D (by rw [nI_toInt (by omega)]; omega) (by omega) (fun h1 f1 D1 => ?_)
      have e10 : nI (10 ^ (k + 1)) / 10 = nI (10 ^ k) := by
        rw [show (10 : Int32) = nI 10 from rfl, nI_div (by omega) (by omega), Nat.pow_succ, Nat.mul_div_cancel _ (by omega)]
      rw [e10]
      refine ih (L ++ [nI (48 + v / 10 ^ (k + 1) % 10)]) h1 (by omega) D1 (by simp; omega) (fun h' f' D' => q h' (f1.tr f') ?_)
      rw [List.append_assoc] at D'
      exact D'
theorem w_syn2 (hp : g.2.2.2.2 = true) {av : List Value} {v : Nat} (hv : v < 2147483648) {Q : Hp → Prop} (D : DR h L) (hl : L.length + 20 ≤ 1000000000) (q : ∀ h', Fdr h h' → DR h' (L ++ numS v) → Q h') : ∀ (F k : Nat), k + F = 10 → ndg v F k = ndg v 10 0 → W_X0_sayNumber g d av (QV n Q) n 2 [some (.ref 0), some (.int (nI v)), some (.int (nI (10 ^ k)))] [] h := by
  intro F
  induction F with
  | zero =>
    intro k hk e
    exfalso
    have hk : k = 10 := by omega
    subst hk
    -- ten figures are enough
    have e2 : ndg v 10 0 = 10 := e.symm
    have : ∀ F k, k + F = 10 → k ≤ 9 → ndg v F k ≤ 9 := by
      intro F
      induction F with
      | zero => intro k h1 h2; omega
      | succ F ih =>
        intro k h1 h2
        show (if v / 10 ^ k < 10 then k else ndg v F (k + 1)) ≤ 9
        split
        · exact h2
        · rename_i c
          by_cases h9 : k = 9
          · exfalso; apply c; rw [h9]
            have : (10 : Nat) ^ 9 = 1000000000 := rfl
            rw [this]; omega
          · exact ih (k + 1) (by omega) (by omega)
    have := this 10 0 (by omega) (by omega)
    omega
  | succ F ih =>
    intro k hk e
    have hp9 : (10 : Nat) ^ k ≤ 10 ^ 9 := Nat.pow_le_pow_right (by omega) (by omega)
    have hp0 : 0 < (10 : Nat) ^ k := Nat.pow_pos (by omega)
    have h9 : (10 : Nat) ^ 9 = 1000000000 := rfl
    have hd : v / 10 ^ k ≤ v := Nat.div_le_self _ _
    have e' : (if v / 10 ^ k < 10 then k else ndg v F (k + 1)) = ndg v 10 0 := e
    refine s_X0_sayNumber_2 hp ⟨?_, ?_⟩
    · rw [show (0 : Int32) = nI 0 from rfl, nI_eq (by omega) (by omega)]; omega
    · rw [nI_div hv (by omega), show (10 : Int32) = nI 10 from rfl, nI_ltI (by omega) (by omega)]
      refine ⟨fun c => ?_, fun c => ?_⟩
      · rw [if_pos c] at e'
        refine w_syn18 hp hv k L h (by omega) D (by omega) (fun h' f' D' => q h' f' ?_)
        unfold numS; rw [← e']; exact D'
      · rw [if_neg c] at e'
        have hk9 : k ≠ 9 := by
          intro w; subst w; rw [h9] at c; omega
        rw [nI_mulz, ← Nat.pow_succ]
        exact ih (k + 1) (by omega) e'
theorem ok_sayNumber (hp : g.2.2.2.2 = true) {v : Nat} (hv : v < 2147483648) (D : DR h L) (hl : L.length + 20 ≤ 1000000000) {Q : Hp → Prop} (q : ∀ h', Fdr h h' → DR h' (L ++ numS v) → Q h') : CallV g m_X0_sayNumber (d + 1) [.ref 0, .int (nI v)] n h Q :=
  okV 1 rfl rfl (s_X0_sayNumber_0 hp (w_syn2 hp hv D hl q 10 0 (by omega) rfl))
theorem ok_sayPower (hp : g.2.2.2.2 = true) {c : Int32} (hc : 0 ≤ c.toInt ∧ c.toInt ≤ 127) {e : Nat} (he : e < 2147483648) (D : DR h L) (hl : L.length + 30 ≤ 1000000000) {Q : Hp → Prop} (q : ∀ h', Fdr h h' → DR h' (L ++ powS c e) → Q h') : CallV g m_X0_sayPower (d + 2) [.ref 0, .int c, .int (nI e)] n h Q := by
  refine okV 0 rfl rfl (s_X0_sayPower_0 hp (ok_say hp D hc (by omega) (fun h1 f1 D1 => ?_)))
  rw [show (1 : Int32) = nI 1 from rfl, nI_leI he (by omega)]
  unfold powS at q
  refine ⟨fun w => ?_, fun w => ok_say hp D1 (by decide) (by simp; omega) (fun h2 f2 D2 => ok_sayNumber hp he D2 (by simp; omega) (fun h3 f3 D3 => ?_))⟩
  · rw [if_neg (by omega)] at q
    exact qV (q h1 f1 D1)
  · rw [if_pos (by omega)] at q
    refine qV (q h3 ((f1.tr f2).tr f3) ?_)
    simp only [List.append_assoc, List.cons_append, List.nil_append] at D3
    exact D3
end
