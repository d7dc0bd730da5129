set_option maxRecDepth 100000
/-! TERMS MOVED: n + v or k + v -/
def lZ (z : Int) : Int64 := Int64.ofInt z
theorem lZ_add (a b : Int) : lZ a + lZ b = lZ (a + b) := (Int64.ofInt_add a b).symm
theorem lZ_mul (a b : Int) : lZ a * lZ b = lZ (a * b) := (Int64.ofInt_mul a b).symm
theorem lZ_neg (a : Int) : - lZ a = lZ (-a) := (Int64.ofInt_neg a).symm
theorem lZ_toInt {a : Int} (h1 : -9223372036854775808 ≤ a) (h2 : a < 9223372036854775808) : (lZ a).toInt = a := Int64.toInt_ofInt_of_le (by simpa using h1) (by simpa using h2)
theorem zI_64 {a : Int} (h1 : -2147483648 ≤ a) (h2 : a < 2147483648) : (zI a).toInt64 = lZ a := by
  apply Int64.toInt_inj.mp
  rw [Int32.toInt_toInt64, zI_toInt h1 h2, lZ_toInt (by omega) (by omega)]
theorem lZ_32 {a : Int} (h1 : -2147483648 ≤ a) (h2 : a < 2147483648) : (lZ a).toInt32 = zI a := by
  apply Int32.toInt_inj.mp
  rw [Int64.toInt_toInt32, lZ_toInt (by omega) (by omega), zI_toInt h1 h2]
  simp only [Int.bmod]; omega
theorem lZ_N (a : Nat) : lZ a = lN a := rfl
theorem lcmpZ_lt {a b : Int} (h1 : -9223372036854775808 ≤ a) (h2 : a < 9223372036854775808) (h3 : -9223372036854775808 ≤ b) (h4 : b < 9223372036854775808) : lg_cmp (lZ a) (lZ b) < 0 ↔ a < b := by
  rw [lg_cmp_lt, Int64.lt_iff_toInt_lt, lZ_toInt h1 h2, lZ_toInt h3 h4]
theorem lcmpZ_le {a b : Int} (h1 : -9223372036854775808 ≤ a) (h2 : a < 9223372036854775808) (h3 : -9223372036854775808 ≤ b) (h4 : b < 9223372036854775808) : lg_cmp (lZ a) (lZ b) ≤ 0 ↔ a ≤ b := by
  rw [lg_cmp_le, Int64.le_iff_toInt_le, lZ_toInt h1 h2, lZ_toInt h3 h4]
theorem lcmpZ_ge {a b : Int} (h1 : -9223372036854775808 ≤ a) (h2 : a < 9223372036854775808) (h3 : -9223372036854775808 ≤ b) (h4 : b < 9223372036854775808) : (0 : Int32) ≤ lg_cmp (lZ a) (lZ b) ↔ b ≤ a := by
  have h := lcmpZ_lt h1 h2 h3 h4
  rw [← Int32.not_lt, h]; omega
/-- the step that a factorial's number moves by, the moved one -/
def mvS (alK : Bool) (q : Q4) : Int := if alK = true then q.2.1 else q.1
def mvc (alK : Bool) (st : Int) (q : Q4) : Int := q.2.2.1 + st * mvS alK q
def mvQ (alK : Bool) (st : Int) (q : Q4) : Q4 := (q.1, q.2.1, mvc alK st q, q.2.2.2)
def mvOK (alK : Bool) (st : Int) (L : List Q4) : Prop := ∀ q, q ∈ L → -50 ≤ mvc alK st q ∧ mvc alK st q ≤ 50
def opK (alK : Bool) : Nat := if alK = true then 1 else 0
noncomputable def mvN (alK : Bool) (v : Fp) (i : Itm) : Bi := bsc (spw (if alK = true then i.2.2.2.1 else i.2.2.1) (sml v)) (chN (opK alK) i.1 i.2.1 v)
noncomputable def mvD (alK : Bool) (v : Fp) (i : Itm) : Bi := chD (opK alK) i.1 i.2.1 v
noncomputable def mvI (alK : Bool) (v : Fp) (i : Itm) : Option Itm := cite (mvOK alK (sml v) i.2.2.2.2 ∧ fitB (lowT (mvN alK v i) (mvD alK v i)) ∧ fitB (lowB (mvN alK v i) (mvD alK v i))) (some (lowT (mvN alK v i) (mvD alK v i), lowB (mvN alK v i) (mvD alK v i), i.2.2.1, i.2.2.2.1, i.2.2.2.2.map (mvQ alK (sml v)))) none
theorem chD_ne {alK : Bool} {T B : Bi} {v : Fp} (h : B ≠ bz) : chD (opK alK) T B v ≠ bz := by
  unfold chD opK
  cases alK with
  | true => rw [if_pos rfl, if_neg (by decide), if_pos rfl]; exact shK_ne v h
  | false => rw [if_neg (show ¬ false = true by decide), if_pos rfl]; exact shN_ne v h
theorem chN_ne {alK : Bool} {T B : Bi} {v : Fp} (h : T ≠ bz) : chN (opK alK) T B v ≠ bz := by
  unfold chN opK
  cases alK with
  | true => rw [if_pos rfl, if_neg (by decide), if_pos rfl]; exact shK_ne v h
  | false => rw [if_neg (show ¬ false = true by decide), if_pos rfl]; exact shN_ne v h
theorem lowT_ne {F G : Bi} (hF : F ≠ bz) (hG : G ≠ bz) : lowT F G ≠ bz := fun e => by
  have h := (low_is F hG).1
  rw [e, b_mulz] at h
  exact b_mulne hF (low_is F hG).ne h.symm
theorem spw_ne {u : Fp} (hu : u ≠ 0) (e : Int) : spw u e ≠ 0 := by
  have pw : ∀ k : Nat, u ^ k ≠ 0 := by
    intro k
    induction k with
    | zero => rw [show u ^ 0 = 1 from Lean.Grind.Semiring.pow_zero u]; decide
    | succ k ih =>
      rw [Lean.Grind.Semiring.pow_succ]
      intro w
      rcases fp_dom.1 _ _ w with w | w
      · exact ih w
      · exact hu w
  unfold spw
  split
  · exact iv_ne (pw _)
  · exact pw _
theorem gI_mv {alK : Bool} {v : Fp} {i r : Itm} (gi : gI i) (hT : i.1 ≠ bz) (h : mvI alK v i = some r) : gI r := by
  unfold mvI at h
  by_cases c : mvOK alK (sml v) i.2.2.2.2 ∧ fitB (lowT (mvN alK v i) (mvD alK v i)) ∧ fitB (lowB (mvN alK v i) (mvD alK v i))
  · rw [cite_pos c] at h
    have e := (Option.some.inj h).symm
    have hD : mvD alK v i ≠ bz := chD_ne gi.b
    have hN : mvN alK v i ≠ bz := sc_ne (spw_ne (by split; exact gi.2.2.2.2.2.1; exact gi.2.2.2.2.1) _) (chN_ne hT)
    have gd := low_good (F := mvN alK v i) hD
    rw [e]
    refine ⟨gd.1, gd.2, c.2.1, c.2.2, gi.2.2.2.2.1, gi.2.2.2.2.2.1, fun q hq => ?_, ?_, fun w => absurd w (lowT_ne hN hD)⟩
    · obtain ⟨p, hp, rfl⟩ := List.mem_map.mp hq
      have g := gi.2.2.2.2.2.2.1 p hp
      exact ⟨⟨g.1.1, g.1.2.1, c.1 p hp⟩, g.2⟩
    · have : szF (i.2.2.2.2.map (mvQ alK (sml v))) = szF i.2.2.2.2 := by
        unfold szF; rw [List.map_map]; rfl
      show szF (i.2.2.2.2.map (mvQ alK (sml v))) ≤ 12
      rw [this]; exact gi.2.2.2.2.2.2.2.1
  · rw [cite_neg c] at h; cases h
section
variable {g : GX} {d n : Nat} {h h' : Hp} {a c : Nat}
theorem mvS_bd {alK : Bool} {q : Q4} (g : gq q) : -3 ≤ mvS alK q ∧ mvS alK q ≤ 3 := by
  have := g.1
  unfold lnQ at this
  unfold mvS
  split <;> omega
theorem mul_bd {s t : Int} (hs : -1073741823 ≤ s ∧ s ≤ 1073741823) (ht : -3 ≤ t ∧ t ≤ 3) : -4000000000 ≤ s * t ∧ s * t ≤ 4000000000 := by
  rcases (show t = -3 ∨ t = -2 ∨ t = -1 ∨ t = 0 ∨ t = 1 ∨ t = 2 ∨ t = 3 by omega) with e | e | e | e | e | e | e <;> subst e <;> omega
theorem t80 : lay 80 = (0, 5, 8) := by decide +kernel
theorem l88 : lay 88 = (1, 60, 0) := by decide +kernel
/-- the factorials' numbers of the result are moved -/
theorem w_mt189 (hp : g.2.2.2.2 = true) (ta : lay a = (0, 5, 8)) (ha : 90 < a) {av : List Value} {alK : Bool} {st : Int} (hst : -1073741823 ≤ st ∧ st ≤ 1073741823) {i : Itm} (gi : gI i) (ok : mvOK alK st i.2.2.2.2) {x y : Fp} {Q : Int32 → Hp → Prop} : ∀ (k j : Nat) (h : Hp), j + k = i.2.2.2.2.length → IIt h a i → ri h 80 1 = toI x → ri h 80 2 = toI y → FA h 80 ((i.2.2.2.2.take j).map (mvQ alK st) ++ i.2.2.2.2.drop j) → (∀ h', Fr h h' [88] → ri h' 80 1 = toI x → ri h' 80 2 = toI y → FA h' 80 (i.2.2.2.2.map (mvQ alK st)) → Q 1 h') → W_X0_moveTerm g d av (QI n Q) n 189 [some (.ref 0), some (.ref a), some (.int (if alK = true then 1 else 0)), none, some (.long (lZ st)), none, none, some (.int (nI j)), none] [] h := by
  intro k
  induction k with
  | zero =>
    intro j h hj H hx hy F q
    have l60 : i.2.2.2.2.length ≤ 60 := H.2.2.2.2.1
    have e3 : ri h a 3 = nI i.2.2.2.2.length := H.2.2.2.1
    refine s_X0_moveTerm_189 hp ta ⟨fun _ => qI (q h Fr.rf hx hy ?_), fun c => absurd ?_ c⟩
    · rw [List.take_of_length_le (by omega), List.drop_eq_nil_of_le (by omega), List.append_nil] at F
      exact F
    · rw [e3, nI_leI (by omega) (by omega)]; omega
  | succ k ih =>
    intro j h hj H hx hy F q
    have l60 : i.2.2.2.2.length ≤ 60 := H.2.2.2.2.1
    have e3 : ri h a 3 = nI i.2.2.2.2.length := H.2.2.2.1
    have er := List.getElem?_eq_getElem (l := i.2.2.2.2) (i := j) (by omega)
    have ed : i.2.2.2.2.drop j = i.2.2.2.2[j] :: i.2.2.2.2.drop (j + 1) := List.drop_eq_getElem_cons (by omega)
    have et : i.2.2.2.2.take (j + 1) = i.2.2.2.2.take j ++ [i.2.2.2.2[j]] := (List.take_append_getElem (by omega)).symm
    generalize i.2.2.2.2[j] = q4 at er ed et
    have mem := FA.mem er
    have g4 := gi.2.2.2.2.2.2.1 q4 mem
    have A := H.2.2.2.2.2.2 j q4 er
    have lt : (i.2.2.2.2.take j).length = j := by rw [List.length_take]; omega
    have eF : ((i.2.2.2.2.take j).map (mvQ alK st) ++ i.2.2.2.2.drop j)[j]? = some q4 := by
      rw [List.getElem?_append_right (by rw [List.length_map, lt]; omega), List.length_map, lt, Nat.sub_self, ed]; rfl
    have F8 := (F.2.2.2 j q4 eF).2.2.1
    have sb := mvS_bd (alK := alK) g4
    have mb := mul_bd hst sb
    have okq := ok q4 mem
    unfold mvc at okq
    have c50 := g4.1.2.2
    have j232 : ∀ z : Int32, z = zI (mvS alK q4) → W_X0_moveTerm g d av (QI n Q) n 232 [some (.ref 0), some (.ref a), some (.int (if alK = true then 1 else 0)), none, some (.long (lZ st)), none, none, some (.int (nI j)), none] [.int z, .long (lZ st), .int (ri h 88 j), .int (nI j), .ref 88] h := by
      intro z ez
      subst ez
      refine s_X0_moveTerm_232 hp ta l88 ⟨nI_inL (by omega) (by omega), fun h1 e1 => ?_⟩
      have e8 : ri h 88 j = zI q4.2.2.1 := F8
      rw [e8, nI_tN (by omega), zI_64 (by omega) (by omega), lZ_mul, lZ_32 (by omega) (by omega), zI_add] at e1
      rw [show (1 : Int32) = nI 1 from rfl, nI_addz]
      have f1 : Fr h h1 [88] := by rw [e1]; exact Fr.rf.put (by simp) (okp_a l88 (by decide))
      have n1 : ∀ x k, x ≠ 88 → ri h1 x k = ri h x k := fun x k hx => f1.gi (by simpa using hx) k
      refine ih (j + 1) h1 (by omega) (H.fr2 f1 (fun x h1 h2 => by simp; omega)) (by rw [n1 80 1 (by omega)]; exact hx) (by rw [n1 80 2 (by omega)]; exact hy) ?_ (fun h' f' => q h' (f1.tr f'))
      have eN : (i.2.2.2.2.take (j + 1)).map (mvQ alK st) ++ i.2.2.2.2.drop (j + 1) = ((i.2.2.2.2.take j).map (mvQ alK st) ++ i.2.2.2.2.drop j).set j (mvQ alK st q4) := by
        rw [et, ed, List.map_append, List.append_assoc, List.set_append_right _ _ (by rw [List.length_map, lt]; omega), List.length_map, lt, Nat.sub_self]; rfl
      rw [eN]
      refine ⟨by rw [n1 80 3 (by omega), List.length_set]; exact F.1, by rw [List.length_set]; exact F.2.1, fun r hr => ?_, fun y r hy => ?_⟩
      · rcases List.mem_or_eq_of_mem_set hr with c | c
        · exact F.2.2.1 r c
        · rw [c]
          have b4 := F.2.2.1 q4 (FA.mem eF)
          refine ⟨b4.1, b4.2.1, ?_, b4.2.2.2⟩
          show -1000000 ≤ mvc alK st q4 ∧ mvc alK st q4 ≤ 1000000
          unfold mvc; omega
      · rw [List.getElem?_set] at hy
        by_cases c : j = y
        · subst c
          rw [if_pos rfl] at hy
          have er : mvQ alK st q4 = r := by
            split at hy
            · exact Option.some.inj hy
            · cases hy
          rw [← er]
          have Fj := F.2.2.2 j q4 eF
          refine ⟨by rw [n1 (80 + 6) _ (by omega)]; exact Fj.1, by rw [n1 (80 + 7) _ (by omega)]; exact Fj.2.1, ?_, by rw [n1 (80 + 9) _ (by omega)]; exact Fj.2.2.2⟩
          show ri h1 88 j = zI (mvc alK st q4)
          rw [e1, ri_same]; rfl
        · rw [if_neg c] at hy
          have Fy := F.2.2.2 y r hy
          refine ⟨by rw [n1 (80 + 6) _ (by omega)]; exact Fy.1, by rw [n1 (80 + 7) _ (by omega)]; exact Fy.2.1, ?_, by rw [n1 (80 + 9) _ (by omega)]; exact Fy.2.2.2⟩
          show ri h1 88 y = _
          rw [e1, ri_ne' (fun w => c w.symm)]; exact Fy.2.2.1
    refine s_X0_moveTerm_189 hp ta ⟨fun c => absurd c ?_, fun _ => ⟨nI_inL (by omega) (by omega), ?_⟩⟩
    · rw [e3, nI_leI (by omega) (by omega)]; omega
    · rw [powB, nI_tN (by omega), A.1, A.2.1]
      refine ⟨fun c => ⟨nI_inL (by omega) (by omega), j232 _ ?_⟩, fun c => ⟨nI_inL (by omega) (by omega), j232 _ ?_⟩⟩
      · unfold mvS; rw [c, if_neg (by decide)]
      · unfold mvS; rw [if_pos (by simpa using c)]
/-- whether all stay in bounds -/
theorem w_mt10 (hp : g.2.2.2.2 = true) (ta : lay a = (0, 5, 8)) {av : List Value} {alK : Bool} {st : Int} (hst : -1073741823 ≤ st ∧ st ≤ 1073741823) {i : Itm} (gi : gI i) (H : IIt h a i) {x3 : Int32} {Q : Int32 → Hp → Prop} (q0 : ¬ mvOK alK st i.2.2.2.2 → Q 0 h) (q : mvOK alK st i.2.2.2.2 → W_X0_moveTerm g d av (QI n Q) n 91 [some (.ref 0), some (.ref a), some (.int (if alK = true then 1 else 0)), some (.int x3), some (.long (lZ st)), none, none, none, none] [.int (nI (opK alK)), .ref 0] h) : ∀ (k j : Nat), j + k = i.2.2.2.2.length → (∀ l r, l < j → i.2.2.2.2[l]? = some r → -50 ≤ mvc alK st r ∧ mvc alK st r ≤ 50) → W_X0_moveTerm g d av (QI n Q) n 10 [some (.ref 0), some (.ref a), some (.int (if alK = true then 1 else 0)), some (.int x3), some (.long (lZ st)), none, some (.int (nI j)), none, none] [] h := by
  have l60 : i.2.2.2.2.length ≤ 60 := H.2.2.2.2.1
  have e3 : ri h a 3 = nI i.2.2.2.2.length := H.2.2.2.1
  intro k
  induction k with
  | zero =>
    intro j hj hL
    have ok : mvOK alK st i.2.2.2.2 := fun r hr => by
      obtain ⟨l, hl⟩ := List.getElem?_of_mem hr
      exact hL l r (by have := FA.lt hl; omega) hl
    have q := q ok
    unfold opK at q
    refine s_X0_moveTerm_10 hp ta ⟨fun _ => ?_, fun c => absurd ?_ c⟩
    · rw [powB]
      refine ⟨fun c => ?_, fun c => ?_⟩
      · rw [c, if_neg (by decide)] at q ⊢; exact q
      · have ct : alK = true := by simpa using c
        rw [ct, if_pos rfl] at q ⊢; exact q
    · rw [e3, nI_leI (by omega) (by omega)]; omega
  | succ k ih =>
    intro j hj hL
    have er := List.getElem?_eq_getElem (l := i.2.2.2.2) (i := j) (by omega)
    generalize i.2.2.2.2[j] = q4 at er
    have mem := FA.mem er
    have g4 := gi.2.2.2.2.2.2.1 q4 mem
    have A := H.2.2.2.2.2.2 j q4 er
    have sb := mvS_bd (alK := alK) g4
    have mb := mul_bd hst sb
    have c50 := g4.1.2.2
    have j50 : ∀ z : Int32, z = zI (mvS alK q4) → W_X0_moveTerm g d av (QI n Q) n 50 [some (.ref 0), some (.ref a), some (.int (if alK = true then 1 else 0)), some (.int x3), some (.long (lZ st)), none, some (.int (nI j)), none, none] [.int z, .long (lZ st), .long (zI q4.2.2.1).toInt64] h := by
      intro z ez
      subst ez
      refine s_X0_moveTerm_50 hp ta ?_
      rw [zI_64 (by omega) (by omega), zI_64 (by omega) (by omega), lZ_mul, lZ_add, show (-50 : Int64) = lZ (-50) from rfl, show (50 : Int64) = lZ 50 from rfl, lcmpZ_lt (by omega) (by omega) (by omega) (by omega), lcmpZ_le (by omega) (by omega) (by omega) (by omega)]
      refine ⟨fun c => qI (q0 (fun ok => ?_)), fun c => ⟨fun c2 => ?_, fun c2 => qI (q0 (fun ok => ?_))⟩⟩
      · have := ok q4 mem; unfold mvc at this; omega
      · rw [show (1 : Int32) = nI 1 from rfl, nI_addz]
        refine ih (j + 1) (by omega) (fun l r hl hr => ?_)
        by_cases e : l = j
        · subst e
          rw [er] at hr
          have := Option.some.inj hr
          subst this
          unfold mvc; omega
        · exact hL l r (by omega) hr
      · have := ok q4 mem; unfold mvc at this; omega
    refine s_X0_moveTerm_10 hp ta ⟨fun c => absurd c ?_, fun _ => ⟨nI_inL (by omega) (by omega), ?_⟩⟩
    · rw [e3, nI_leI (by omega) (by omega)]; omega
    · rw [powB, nI_tN (by omega), A.1, A.2.1, A.2.2.1]
      refine ⟨fun c => ⟨nI_inL (by omega) (by omega), j50 _ ?_⟩, fun c => ⟨nI_inL (by omega) (by omega), j50 _ ?_⟩⟩
      · unfold mvS; rw [c, if_neg (by decide)]
      · unfold mvS; rw [if_pos (by simpa using c)]
abbrev Lmt : List Nat := [39, 40, 41, 42, 43, 44, 45, 46, 103, 104, 832, 833, 80, 82, 83, 84, 85, 86, 87, 88, 89, 1, 3, 4, 5, 6, 7, 8, 9, 10, 11, 12, 13, 14, 15, 16, 17, 18, 19, 20, 21, 22, 23, 24, 25, 26, 27, 28, 29, 30, 31, 32, 33, 34, 35, 36, 37, 38]
/-- a term moved, in the result -/
theorem ok_moveTerm (hp : g.2.2.2.2 = true) (ta : lay a = (0, 5, 8)) (ha : (104 < a ∧ a + 9 < 832) ∨ 833 < a) (K : Kp h) {alK : Bool} {v : Fp} {i : Itm} (gi : gI i) (H : IIt h a i) {Q : Int32 → Hp → Prop} (q1 : ∀ r, mvI alK v i = some r → ∀ h', Fr h h' Lmt → IIt h' 80 r → Q 1 h') (q0 : mvI alK v i = none → ∀ h', Fr h h' Lmt → Q 0 h') : CallI g m_X0_moveTerm (d + 11) [.ref 0, .ref a, .int (if alK = true then 1 else 0), .int (toI v)] n h Q := by
  have sb := sml_bd v
  have bad : ¬ (mvOK alK (sml v) i.2.2.2.2 ∧ fitB (lowT (mvN alK v i) (mvD alK v i)) ∧ fitB (lowB (mvN alK v i) (mvD alK v i))) → mvI alK v i = none := fun w => by unfold mvI; rw [cite_neg w]
  refine okI 5 rfl rfl (s_X0_moveTerm_0 hp ta (ok_small hp ?_))
  rw [zI_64 (by omega) (by omega)]
  refine w_mt10 hp ta sb gi H (fun w => q0 (bad (fun u => w u.1)) h Fr.rf) (fun ok => ?_) i.2.2.2.2.length 0 (by omega) (fun l r hl _ => absurd hl (Nat.not_lt_zero _))
  have hD : mvD alK v i ≠ bz := chD_ne gi.b
  have hop : opK alK < 9 := by unfold opK; split <;> omega
  refine s_X0_moveTerm_91 hp ta l0 (ok_layChange hp (it_1 ta) (by omega) K hop gi.2.2.1 gi.2.2.2.1 H.1 (fun _ h1 f1 A1 B1 => ?_) (fun w => absurd w hD))
  have F1 : Fr h h1 Lmt := f1.mono (by simp)
  have H1 : IIt h1 a i := H.fr2 f1 (fun x h1 h2 => by simp; omega)
  rw [show (0 : Int64) = lZ 0 from rfl, lcmpZ_ge (by omega) (by omega) (by omega) (by omega), powB, show ri h1 a 1 = toI i.2.2.1 from H1.2.1, show ri h1 a 2 = toI i.2.2.2.1 from H1.2.2.1]
  have j159 : ∀ w : Fp, w = spw (if alK = true then i.2.2.2.1 else i.2.2.1) (sml v) → W_X0_moveTerm g (d + 10) [.ref 0, .ref a, .int (if alK = true then 1 else 0), .int (toI v)] (QI n Q) n 159 [some (.ref 0), some (.ref a), some (.int (if alK = true then 1 else 0)), none, some (.long (lZ (sml v))), none, none, none, none] [.int (toI w), .ref 39] h1 := by
    intro w ew
    subst ew
    have sN := chN_sz (op := opK alK) (v := v) gi.2.2.1 gi.2.2.2.1
    have sD := chD_sz (op := opK alK) (T := i.1) (v := v) gi.2.2.2.1
    refine s_X0_moveTerm_159 hp ta t39 (ok_dscale hp t39 A1 (fun h2 f2 A2 => ?_))
    have F2 : Fr h h2 Lmt := F1.tr (f2.mono (by simp))
    have pN := ppB_bsn (mvN alK v i)
    have cN := bsn_sc_le (spw (if alK = true then i.2.2.2.1 else i.2.2.1) (sml v)) (chN (opK alK) i.1 i.2.1 v)
    have pD : bsn (mvN alK v i) ≤ 49 := by unfold mvN; omega
    refine ok_give (F := mvN alK v i) (G := mvD alK v i) hp t81 (F2.kp K) hD A2 ((B1.fr f2 (by decide) (by decide))) (by omega) (fun f1' f2' h3 f3 R3 => ⟨fun _ => ?_, fun c => absurd c (by decide)⟩) (fun w h3 f3 => ⟨fun c => absurd rfl c, fun _ => qI (q0 (bad (fun u => w u.2)) h3 (F2.tr (f3.mono (fun x hx => by simp only [Lrd, Lmt, List.mem_cons, List.not_mem_nil, or_false] at hx ⊢; omega))))⟩)
    have F3 : Fr h h3 Lmt := F2.tr (f3.mono (fun x hx => by simp only [Lgv, Lrd, Lmt, List.mem_cons, List.not_mem_nil, or_false] at hx ⊢; omega))
    have H3 : IIt h3 a i := H.fr2 F3 (fun x h1 h2 => by simp; omega)
    refine ok_copyParts hp t80 ta (by omega) H3.2.1 H3.2.2.1 H3.2.2.2 (fun h4 f4 x4 y4 L4 => ?_)
    have F4 : Fr h h4 Lmt := F3.tr (f4.mono (fun x hx => by simp only [Lcp, Lmt, List.mem_cons, List.not_mem_nil, or_false] at hx ⊢; omega))
    have H4 : IIt h4 a i := H.fr2 F4 (fun x h1 h2 => by simp; omega)
    have R4 : RI h4 81 (lowT (mvN alK v i) (mvD alK v i)) (lowB (mvN alK v i) (mvD alK v i)) := R3.fr f4 (by simp) (by simp) (by simp) (by simp)
    refine w_mt189 hp ta (by omega) sb gi ok i.2.2.2.2.length 0 h4 (by omega) H4 x4 y4 (by rw [List.take_zero, List.drop_zero]; exact L4) (fun h5 f5 x5 y5 L5 => ?_)
    have er : mvI alK v i = some (lowT (mvN alK v i) (mvD alK v i), lowB (mvN alK v i) (mvD alK v i), i.2.2.1, i.2.2.2.1, i.2.2.2.2.map (mvQ alK (sml v))) := by unfold mvI; rw [cite_pos ⟨ok, f1', f2'⟩]
    refine q1 _ er h5 (F4.tr (f5.mono (by simp))) ⟨R4.fr f5 (by decide) (by decide) (by decide) (by decide), x5, y5, L5⟩
  have j154 : ∀ u : Fp, u = (if alK = true then i.2.2.2.1 else i.2.2.1) → 0 ≤ sml v → W_X0_moveTerm g (d + 10) [.ref 0, .ref a, .int (if alK = true then 1 else 0), .int (toI v)] (QI n Q) n 154 [some (.ref 0), some (.ref a), some (.int (if alK = true then 1 else 0)), none, some (.long (lZ (sml v))), none, none, none, none] [.int (toI u), .ref 39] h1 := by
    intro u eu hs
    refine s_X0_moveTerm_154 hp ta t39 ?_
    rw [show sml v = ((sml v).toNat : Int) by omega, lZ_N]
    refine ok_power hp (by omega) ?_
    rw [← lZ_N, show (((sml v).toNat : Nat) : Int) = sml v by omega]
    exact j159 _ (by unfold spw; rw [if_neg (by omega), ← eu])
  have j127 : ∀ u : Fp, u = (if alK = true then i.2.2.2.1 else i.2.2.1) → sml v < 0 → W_X0_moveTerm g (d + 10) [.ref 0, .ref a, .int (if alK = true then 1 else 0), .int (toI v)] (QI n Q) n 127 [some (.ref 0), some (.ref a), some (.int (if alK = true then 1 else 0)), none, some (.long (lZ (sml v))), none, none, none, none] [.int (toI u), .ref 39] h1 := by
    intro u eu hs
    refine s_X0_moveTerm_127 hp ta t39 ?_
    rw [lZ_neg, show -sml v = ((-sml v).toNat : Int) by omega, lZ_N]
    refine ok_power hp (by omega) (ok_inverse hp ?_)
    exact j159 _ (by unfold spw; rw [if_pos hs, ← eu])
  refine ⟨fun c => ⟨fun ca => j154 _ (by rw [ca, if_neg (by decide)]) c, fun ca => j154 _ (by rw [if_pos (by simpa using ca)]) c⟩, fun c => ⟨fun ca => j127 _ (by rw [ca, if_neg (by decide)]) (by omega), fun ca => j127 _ (by rw [if_pos (by simpa using ca)]) (by omega)⟩⟩
end
