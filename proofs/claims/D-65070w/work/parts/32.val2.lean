set_option maxRecDepth 100000
/-! VALUES of items, sums -/
def finV (o : Option (Fp × Bool)) (w : Fp) : Option Fp := match o with
  | none => none
  | some (v, z) => some (if z = true then 0 else v * w)
/-- the sum of values at k = lo, lo + 1, .. (m of them) -/
noncomputable def sumV (i : Itm) (n : Int32) (lo : Nat) : Nat → Option Fp
  | 0 => some 0
  | m + 1 => match sumV i n lo m with
    | none => none
    | some s => match valI i n (nI (lo + m)) with
      | none => none
      | some v => some (s + v)
theorem sumV_none {i : Itm} {n : Int32} {lo m : Nat} (h : sumV i n lo m = none) : ∀ k, sumV i n lo (m + k) = none
  | 0 => h
  | k + 1 => by
    show (match sumV i n lo (m + k) with | none => none | some s => match valI i n (nI (lo + (m + k))) with | none => none | some v => some (s + v)) = none
    rw [sumV_none h k]
section
variable {g : GX} {d n : Nat} {h h' : Hp} {a : Nat}
theorem w_val181 (hp : g.2.2.2.2 = true) (ta : lay a = (0, 5, 8)) {av : List Value} {i : Itm} {n0 k0 : Nat} (hn : n0 ≤ 500) (hk : k0 ≤ 500) (Ha : IIt h a i) {v : Fp} {z : Bool} {Q : Int32 → Hp → Prop} (q : Q (toI (if z = true then 0 else v * (i.2.2.1 ^ n0 * i.2.2.2.1 ^ k0))) h) : W_X0_valueOf g (d + 1) av (QI n Q) n 181 [none, some (.ref a), some (.int (nI n0)), some (.int (nI k0)), some (.int (toI v)), some (.int (if z = true then 1 else 0)), none, none] [] h := by
  refine s_X0_valueOf_181 hp ta ⟨fun _ => ?_, fun c => absurd c (toI_m v)⟩
  cases z with
  | true => exact ⟨fun w => absurd w (by decide), fun _ => qI (by rw [if_pos rfl] at q; exact q)⟩
  | false =>
    refine ⟨fun _ => ?_, fun w => absurd rfl w⟩
    rw [if_neg (by decide)] at q
    rw [Ha.2.1, nI_l (by omega), nI_l (by omega)]
    refine ok_power hp (by omega) ?_
    rw [show ri h a 2 = toI i.2.2.2.1 from Ha.2.2.1]
    exact ok_power hp (by omega) (ok_times hp (ok_times hp (qI q)))
theorem w_val64 (hp : g.2.2.2.2 = true) (ta : lay a = (0, 5, 8)) (h92 : a + 9 < 92 ∨ 92 < a) {av : List Value} {i : Itm} {n0 k0 : Nat} (hn : n0 ≤ 500) (hk : k0 ≤ 500) (gi : gI i) {Q : Int32 → Hp → Prop} : ∀ (m j : Nat) (v : Fp) (z : Bool) (h : Hp), j + m = i.2.2.2.2.length → Kp h → IIt h a i → (∀ h', Fr h h' [92] → Q (oI (finV (valL n0 k0 (i.2.2.2.2.drop j) v z) (i.2.2.1 ^ n0 * i.2.2.2.1 ^ k0))) h') → W_X0_valueOf g (d + 3) av (QI n Q) n 64 [some (.ref 0), some (.ref a), some (.int (nI n0)), some (.int (nI k0)), some (.int (toI v)), some (.int (if z = true then 1 else 0)), some (.int (nI j)), none] [] h := by
  intro m
  induction m with
  | zero =>
    intro j v z h hj K Ha q
    have l60 := Ha.2.2.2.2.1
    refine s_X0_valueOf_64 hp ta ⟨fun _ => w_val181 hp ta hn hk Ha ?_, fun c => absurd ?_ c⟩
    · have q := q h Fr.rf
      rw [List.drop_of_length_le (by omega)] at q
      exact q
    · rw [Ha.2.2.2.1]; simp (disch := omega) only [nI_addz, nI_1, nI_leI, nI_ltI, nI_eq, nI_tN, nI_inI]; omega
  | succ m ih =>
    intro j v z h hj K Ha q
    have l60 := Ha.2.2.2.2.1
    have hlt : j < i.2.2.2.2.length := by omega
    have er : i.2.2.2.2[j]? = some i.2.2.2.2[j] := List.getElem?_eq_getElem hlt
    rw [List.drop_eq_getElem_cons hlt] at q
    generalize i.2.2.2.2[j] = r at er q
    obtain ⟨r6, r7, r8, r9⟩ := Ha.2.2.2.2.2.2 j r er
    obtain ⟨⟨b1, b2', b3⟩, _⟩ := gi.2.2.2.2.2.2.1 r (FA.mem er)
    have be := szF_mem (FA.mem er)
    have be2 := gi.2.2.2.2.2.2.2.1
    have hin : vp_in (nI j) 60 := nI_inL (by omega) (by omega)
    have p1 : -1500 ≤ r.1 * (n0 : Int) ∧ r.1 * (n0 : Int) ≤ 1500 := by
      rcases (show r.1 = -3 ∨ r.1 = -2 ∨ r.1 = -1 ∨ r.1 = 0 ∨ r.1 = 1 ∨ r.1 = 2 ∨ r.1 = 3 by omega) with e | e | e | e | e | e | e <;> (rw [e]; omega)
    have p2 : -1500 ≤ r.2.1 * (k0 : Int) ∧ r.2.1 * (k0 : Int) ≤ 1500 := by
      rcases (show r.2.1 = -3 ∨ r.2.1 = -2 ∨ r.2.1 = -1 ∨ r.2.1 = 0 ∨ r.2.1 = 1 ∨ r.2.1 = 2 ∨ r.2.1 = 3 by omega) with e | e | e | e | e | e | e <;> (rw [e]; omega)
    have q : ∀ h', Fr h h' [92] → Q (oI (finV (if r.1 * n0 + r.2.1 * k0 + r.2.2.1 < 0 then (if 0 < r.2.2.2 then none else valL n0 k0 (i.2.2.2.2.drop (j + 1)) v true) else valL n0 k0 (i.2.2.2.2.drop (j + 1)) (v * spw (facF (r.1 * n0 + r.2.1 * k0 + r.2.2.1).toNat) r.2.2.2) z) (i.2.2.1 ^ n0 * i.2.2.2.1 ^ k0))) h' := q
    have eM : zI r.1 * nI n0 + zI r.2.1 * nI k0 + zI r.2.2.1 = zI (r.1 * n0 + r.2.1 * k0 + r.2.2.1) := by rw [nI_z, nI_z, zI_mul, zI_mul, zI_add, zI_add]
    refine s_X0_valueOf_64 hp ta ⟨fun c => absurd c ?_, fun _ => ⟨fun c => absurd c (toI_m v), fun _ => ⟨hin, hin, hin, ?_⟩⟩⟩
    · rw [Ha.2.2.2.1]; simp (disch := omega) only [nI_addz, nI_1, nI_leI, nI_ltI, nI_eq, nI_tN, nI_inI]; omega
    · rw [nI_tN (by omega), r6, r7, r8, r9, eM, z0, zI_le (by omega) (by omega) (by omega) (by omega), zI_le (by omega) (by omega) (by omega) (by omega)]
      have pm : -3050 ≤ r.1 * (n0 : Int) + r.2.1 * (k0 : Int) + r.2.2.1 ∧ r.1 * (n0 : Int) + r.2.1 * (k0 : Int) + r.2.2.1 ≤ 3050 := by omega
      generalize r.1 * (n0 : Int) + r.2.1 * (k0 : Int) + r.2.2.1 = mm at q pm ⊢
      have o92 : ∀ x, a ≤ x → x ≤ a + 9 → x ∉ [92] := fun x h1 h2 => by simp; omega
      -- not below 0
      have up : 0 ≤ mm → W_X0_valueOf g (d + 3) av (QI n Q) n 140 [some (.ref 0), some (.ref a), some (.int (nI n0)), some (.int (nI k0)), some (.int (toI v)), none, some (.int (nI j)), some (.int (zI mm))] [.int (if z = true then 1 else 0)] h := by
        intro hm
        rw [if_neg (by omega)] at q
        refine s_X0_valueOf_140 hp ta ⟨fun _ => ?_, fun w => absurd ?_ w⟩
        · rw [show zI mm = nI mm.toNat by rw [nI_z]; congr 1; omega]
          refine ok_factorialOf hp K (by omega) (fun h1 f1 => ⟨hin, ?_⟩)
          have Ha1 := Ha.fr2 f1 o92
          obtain ⟨_, _, _, r91⟩ := Ha1.2.2.2.2.2.2 j r er
          rw [nI_tN (by omega), r91]
          refine ok_signedPower hp (by omega) (by omega) (ok_times hp (s_X0_valueOf_173 hp ta ?_))
          rw [nI_1]
          exact ih (j + 1) _ z h1 (by omega) (f1.kp K) Ha1 (fun h' f' => q h' (f1.tr f'))
        · rw [z0, zI_le (by omega) (by omega) (by omega) (by omega)]; exact hm
      have dn : mm < 0 → r.2.2.2 ≤ 0 → W_X0_valueOf g (d + 3) av (QI n Q) n 135 [some (.ref 0), some (.ref a), some (.int (nI n0)), some (.int (nI k0)), some (.int (toI v)), none, some (.int (nI j)), some (.int (zI mm))] [] h := by
        intro hm he
        rw [if_pos hm, if_neg (by omega)] at q
        refine s_X0_valueOf_135 hp ta (s_X0_valueOf_140 hp ta ⟨fun w => absurd w ?_, fun _ => s_X0_valueOf_173 hp ta ?_⟩)
        · rw [z0, zI_le (by omega) (by omega) (by omega) (by omega)]; omega
        · rw [nI_1]
          exact ih (j + 1) v true h (by omega) K Ha q
      refine ⟨fun hm => ?_, fun hm => ⟨hin, fun he => ?_, fun he => qI ?_⟩⟩
      · refine s_X0_valueOf_125 hp ta ?_
        have up := up hm
        cases z with
        | true => exact ⟨fun _ => s_X0_valueOf_135 hp ta up, fun w => absurd w (by decide)⟩
        | false => exact ⟨fun w => absurd rfl w, fun _ => ⟨fun _ => up, fun w => absurd (by rw [z0, zI_le (by omega) (by omega) (by omega) (by omega)]; exact hm) w⟩⟩
      · have dn := dn (by omega) he
        refine s_X0_valueOf_125 hp ta ⟨fun _ => dn, fun _ => ⟨fun w => absurd w ?_, fun _ => dn⟩⟩
        rw [z0, zI_le (by omega) (by omega) (by omega) (by omega)]; omega
      · rw [if_pos (by omega), if_pos (by omega)] at q
        exact q h Fr.rf
theorem ok_valueOf (hp : g.2.2.2.2 = true) (ta : lay a = (0, 5, 8)) (h92 : a + 9 < 92 ∨ 92 < a) (K : Kp h) {i : Itm} (gi : gI i) (Ha : IIt h a i) {x y : Int32} {Q : Int32 → Hp → Prop} (q : ∀ h', Fr h h' [92] → Q (oI (valI i x y)) h') : CallI g m_X0_valueOf (d + 4) [.ref 0, .ref a, .int x, .int y] n h Q := by
  have bx : -2147483648 ≤ x.toInt ∧ x.toInt < 2147483648 := ⟨by simpa using Int32.le_toInt x, by simpa using Int32.toInt_lt x⟩
  have bY : -2147483648 ≤ y.toInt ∧ y.toInt < 2147483648 := ⟨by simpa using Int32.le_toInt y, by simpa using Int32.toInt_lt y⟩
  refine okI 4 rfl rfl (s_X0_valueOf_0 hp ta (ok_isTerm hp ta Ha.2.1 Ha.2.2.1 Ha.2.2.2 (fun hT => ⟨fun _ => ?_, fun w => absurd w (by decide)⟩) (fun hT => ⟨fun w => absurd rfl w, fun _ => ?_⟩)))
  · have eV : valI i x y = (if (0 ≤ x.toInt ∧ x.toInt ≤ 500) ∧ 0 ≤ y.toInt ∧ y.toInt ≤ 500 then valT i x.toInt.toNat y.toInt.toNat else none) := by unfold valI; rw [cite_pos hT]
    have ex := I32_z x
    have ey := I32_z y
    rw [eV] at q
    generalize x.toInt = u at ex bx q
    generalize y.toInt = w at ey bY q
    subst ex ey
    rw [show (500 : Int32) = zI 500 from rfl, z0]
    refine ok_withinZ hp bx.1 bx.2 (by omega) (by omega) (by omega) (by omega) (fun a1 a2 => ⟨fun w => absurd w (by decide), fun _ => ?_⟩) (fun c => ⟨fun _ => qI ?_, fun w => absurd rfl w⟩)
    · refine ok_withinZ hp bY.1 bY.2 (by omega) (by omega) (by omega) (by omega) (fun b1 b2' => ⟨fun _ => ?_, fun w => absurd w (by decide)⟩) (fun c => ⟨fun w => absurd rfl w, fun _ => qI ?_⟩)
      · rw [if_pos ⟨⟨a1, a2⟩, b1, b2'⟩] at q
        rw [show zI u = toI (nF u.toNat) by rw [toI_nF (by omega), nI_z]; congr 1; omega, show zI w = toI (nF w.toNat) by rw [toI_nF (by omega), nI_z]; congr 1; omega]
        refine ok_valueOf2 hp (it_1 ta) Ha.1 ?_
        rw [toI_nF (by omega), toI_nF (by omega)]
        have eT : valT i u.toNat w.toNat = (match vR i.1 i.2.1 (nF u.toNat) (nF w.toNat) with
          | none => none
          | some v => finV (valL u.toNat w.toNat i.2.2.2.2 v false) (i.2.2.1 ^ u.toNat * i.2.2.2.1 ^ w.toNat)) := by
          unfold valT finV
          rfl
        rw [eT] at q
        cases hv : vR i.1 i.2.1 (nF u.toNat) (nF w.toNat) with
        | none =>
          rw [hv] at q
          have l60 := Ha.2.2.2.2.1
          have last : ∀ av, W_X0_valueOf g (d + 3) av (QI n Q) n 181 [none, some (.ref a), some (.int (nI u.toNat)), some (.int (nI w.toNat)), some (.int (-1)), some (.int 0), none, none] [] h := fun av => s_X0_valueOf_181 hp ta ⟨fun c => absurd rfl c, fun _ => qI (q h Fr.rf)⟩
          exact s_X0_valueOf_64 hp ta ⟨fun _ => last _, fun _ => ⟨fun _ => last _, fun c => absurd rfl c⟩⟩
        | some v =>
          rw [hv] at q
          refine w_val64 (z := false) hp ta h92 (by omega) (by omega) gi i.2.2.2.2.length 0 v h (by omega) K Ha (fun h' f' => q h' f')
      · rw [if_neg (fun z => c z.2)] at q; exact q h Fr.rf
    · rw [if_neg (fun z => c z.1)] at q; exact q h Fr.rf
  · have eV : valI i x y = vR i.1 i.2.1 (fI x) (fI y) := by unfold valI; rw [cite_neg hT]
    rw [eV] at q
    exact ok_rest hp (ok_rest hp (ok_valueOf2 hp (it_1 ta) Ha.1 (qI (q h Fr.rf))))
theorem w_sumOf (hp : g.2.2.2.2 = true) (ta : lay a = (0, 5, 8)) (h92 : a + 9 < 92 ∨ 92 < a) {av : List Value} {i : Itm} (gi : gI i) {x : Int32} {lo hi : Nat} (hlo : lo ≤ 1000) (hhi : hi ≤ 1000) {Q : Int32 → Hp → Prop} : ∀ (k m : Nat) (s : Fp) (h : Hp), m + k = hi + 1 - lo → Kp h → IIt h a i → sumV i x lo m = some s → (∀ h', Fr h h' [92] → Q (oI (sumV i x lo (hi + 1 - lo))) h') → W_X0_sumOf g (d + 4) av (QI n Q) n 6 [some (.ref 0), some (.ref a), some (.int x), none, some (.int (nI hi)), some (.int (toI s)), some (.int (nI (lo + m))), none] [] h := by
  have o92 : ∀ x, a ≤ x → x ≤ a + 9 → x ∉ [92] := fun x h1 h2 => by simp; omega
  intro k
  induction k with
  | zero =>
    intro m s h hm K Ha hs q
    refine s_X0_sumOf_6 hp ta ⟨fun _ => qI ?_, fun c => absurd ?_ c⟩
    · have q := q h Fr.rf
      rw [show hi + 1 - lo = m by omega, hs] at q
      exact q
    · simp (disch := omega) only [nI_addz, nI_1, nI_leI, nI_ltI, nI_eq, nI_tN, nI_inI]; omega
  | succ k ih =>
    intro m s h hm K Ha hs q
    refine s_X0_sumOf_6 hp ta ⟨fun c => absurd c ?_, fun _ => ok_valueOf hp ta h92 K gi Ha (fun h1 f1 => ?_)⟩
    · simp (disch := omega) only [nI_addz, nI_1, nI_leI, nI_ltI, nI_eq, nI_tN, nI_inI]; omega
    · rw [oI_m]
      have e1 : sumV i x lo (m + 1) = (match valI i x (nI (lo + m)) with | none => none | some v => some (s + v)) := by
        show (match sumV i x lo m with | none => none | some s => match valI i x (nI (lo + m)) with | none => none | some v => some (s + v)) = _
        rw [hs]
      cases hv : valI i x (nI (lo + m)) with
      | none =>
        rw [hv] at e1
        refine ⟨fun w => absurd rfl w, fun _ => qI ?_⟩
        have := sumV_none e1 k
        rw [show m + 1 + k = hi + 1 - lo by omega] at this
        have q := q h1 f1
        rw [this] at q
        exact q
      | some v =>
        rw [hv] at e1
        refine ⟨fun _ => ok_sum hp ?_, fun w => by cases w⟩
        rw [nI_1, Nat.add_assoc]
        exact ih (m + 1) (s + v) h1 (by omega) (f1.kp K) (Ha.fr2 f1 o92) e1 (fun h' f' => q h' (f1.tr f'))
theorem ok_sumOf (hp : g.2.2.2.2 = true) (ta : lay a = (0, 5, 8)) (h92 : a + 9 < 92 ∨ 92 < a) (K : Kp h) {i : Itm} (gi : gI i) (Ha : IIt h a i) {x : Int32} {lo hi : Nat} (hlo : lo ≤ 1000) (hhi : hi ≤ 1000) {Q : Int32 → Hp → Prop} (q : ∀ h', Fr h h' [92] → Q (oI (sumV i x lo (hi + 1 - lo))) h') : CallI g m_X0_sumOf (d + 5) [.ref 0, .ref a, .int x, .int (nI lo), .int (nI hi)] n h Q :=
  okI 3 rfl rfl (s_X0_sumOf_0 hp ta (w_sumOf hp ta h92 gi hlo hhi (hi + 1 - lo) 0 0 h (by omega) K Ha rfl q))
end
