set_option maxRecDepth 100000
/-! OPERATIONS of the house: the simple ones -/
def slS (S : SS) (x : Int32) (k : Nat → SS × Int32) : SS × Int32 := match sOf x with
  | none => (S, -1)
  | some s => k s
theorem slS_n {S : SS} {k : Nat → SS × Int32} {s : Nat} (hs : s < 12) : slS S (nI s) k = k s := by
  unfold slS; rw [sOf_n hs]
theorem slS_no {S : SS} {k : Nat → SS × Int32} {x : Int32} (h : ∀ s : Nat, s < 12 → x ≠ nI s) : slS S x k = (S, -1) := by
  unfold slS; rw [sOf_none h]
/-- what is told behind an operation: the answer, the new state -/
def Pub (h : Hp) (r : SS × Int32) (Q : Int32 → Hp → Prop) : Prop := ∀ h', Cz h h' → SI h' r.1 → Q r.2 h'
def itmS (v : SV) : Option Itm := match v with
  | some (Sum.inl i) => some i
  | _ => none
def ratS (v : SV) : Option (Bi × Bi) := match v with
  | some (Sum.inl i) => some (i.1, i.2.1)
  | some (Sum.inr (Sum.inl (T, B, _))) => some (T, B)
  | _ => none
def recS (v : SV) : Option (List Un) := match v with
  | some (Sum.inr (Sum.inl (_, _, a))) => some a
  | some (Sum.inr (Sum.inr (a, _, _))) => some a
  | _ => none
section
variable {g : GX} {d n : Nat} {h h' h1 : Hp} {S : SS} {s : Nat}
theorem Pub.same {r : Int32} {Q : Int32 → Hp → Prop} (q : Pub h (S, r) Q) (I : SI h S) : Q r h := q h Cz.rf I
theorem SI.slot (I : SI h S) (hs : s < 12) : (S.sl s = none ∧ ri h (slc s) 0 = nI 0) ∨ (∃ i, S.sl s = svI i ∧ IIt h (slc s + 1) i ∧ gI i ∧ ri h (slc s) 0 = nI (kdI i) ∧ (kdI i = 1 ∨ kdI i = 2)) ∨ (∃ T B a, S.sl s = svR T B a ∧ RI h (slc s + 2) T B ∧ LA h (slc s) a ∧ gR T B ∧ gA a 4 ∧ ri h (slc s) 0 = nI 3) ∨ (∃ a m f, S.sl s = svW a m f ∧ SLI h (slc s) (svW a m f) ∧ gS (svW a m f) ∧ ri h (slc s) 0 = nI 4) := by
  have k := I.kd s hs
  have l := I.sl s hs
  have g := I.gd.2.2.2.2.1 s hs
  match e : S.sl s with
  | none => rw [e] at k; exact Or.inl ⟨rfl, k⟩
  | some (Sum.inl i) => rw [e] at k l g; exact Or.inr (Or.inl ⟨i, rfl, l, g, k, kdI_12 i⟩)
  | some (Sum.inr (Sum.inl (T, B, a))) => rw [e] at k l g; exact Or.inr (Or.inr (Or.inl ⟨T, B, a, rfl, l.1, l.2, g.1, g.2, k⟩))
  | some (Sum.inr (Sum.inr (a, m, f))) => rw [e] at k l g; exact Or.inr (Or.inr (Or.inr ⟨a, m, f, rfl, l, g, k⟩))
theorem nI_ne {a b : Nat} (ha : a < 2147483648) (hb : b < 2147483648) (h : a ≠ b) : nI a ≠ nI b := fun e => h ((nI_eq ha hb).mp e)
theorem ok_hasItem (hp : g.2.2.2.2 = true) (I : SI h S) (hs : s < 12) {Q : Int32 → Hp → Prop} (q1 : ∀ i, S.sl s = svI i → IIt h (slc s + 1) i → gI i → ri h (slc s) 0 = nI (kdI i) → Q 1 h) (q0 : itmS (S.sl s) = none → (ri h (slc s) 0 = nI 0 ∨ ri h (slc s) 0 = nI 3 ∨ ri h (slc s) 0 = nI 4) → Q 0 h) : CallI g m_X0_hasItem d [.ref 0, .int (nI s)] n h Q := by
  refine okI 0 rfl rfl (s_X0_hasItem_0 hp ⟨nI_inL hs (by omega), fun r1 e1 => ?_⟩)
  rw [nI_tN (by omega)] at e1
  subst e1
  have tail : ∀ (P : Prop), (vp_in (nI s) 12 ∧ ∀ r2, r2 = 1185 + 27 * (nI s).toNatClampNeg → P) ↔ (vp_in (nI s) 12 ∧ P) := fun P => ⟨fun w => ⟨w.1, w.2 _ rfl⟩, fun w => ⟨w.1, fun _ _ => w.2⟩⟩
  rcases I.slot hs with ⟨e, k⟩ | ⟨i, e, H, gi, k, kk⟩ | ⟨T, B, a, e, H, H2, _, _, k⟩ | ⟨a, m, f, e, H, gs, k⟩
  · have k' : ri h (1185 + 27 * s) 0 = nI 0 := k
    rw [k']
    refine ⟨fun c => absurd c (by decide), fun _ => ⟨nI_inL hs (by omega), fun r2 e2 => ?_⟩⟩
    rw [nI_tN (by omega)] at e2; subst e2
    rw [k']
    exact ⟨fun _ => qI (q0 (by rw [e]; rfl) (Or.inl k)), fun c => absurd c (by decide)⟩
  · have k' : ri h (1185 + 27 * s) 0 = nI (kdI i) := k
    rw [k']
    rcases kk with w | w
    · rw [w]
      exact ⟨fun _ => qI (q1 i e H gi k), fun c => absurd rfl c⟩
    · rw [w]
      refine ⟨fun c => absurd c (by decide), fun _ => ⟨nI_inL hs (by omega), fun r2 e2 => ?_⟩⟩
      rw [nI_tN (by omega)] at e2; subst e2
      rw [k', w]
      exact ⟨fun c => absurd rfl c, fun _ => qI (q1 i e H gi k)⟩
  · have k' : ri h (1185 + 27 * s) 0 = nI 3 := k
    rw [k']
    refine ⟨fun c => absurd c (by decide), fun _ => ⟨nI_inL hs (by omega), fun r2 e2 => ?_⟩⟩
    rw [nI_tN (by omega)] at e2; subst e2
    rw [k']
    exact ⟨fun _ => qI (q0 (by rw [e]; rfl) (Or.inr (Or.inl k))), fun c => absurd c (by decide)⟩
  · have k' : ri h (1185 + 27 * s) 0 = nI 4 := k
    rw [k']
    refine ⟨fun c => absurd c (by decide), fun _ => ⟨nI_inL hs (by omega), fun r2 e2 => ?_⟩⟩
    rw [nI_tN (by omega)] at e2; subst e2
    rw [k']
    exact ⟨fun _ => qI (q0 (by rw [e]; rfl) (Or.inr (Or.inr k))), fun c => absurd c (by decide)⟩
/-- place, kind, drop -/
def S_place (S : SS) : SS × Int32 := (S, S.pl)
noncomputable def S_kind (S : SS) (x : Int32) : SS × Int32 := slS S x (fun s => (S, nI (kdS (S.sl s))))
noncomputable def S_drop (S : SS) (x : Int32) : SS × Int32 := slS S x (fun s => (S.put s sv0, nI (kdS (S.sl s))))
theorem ok_S_place (hp : g.2.2.2.2 = true) (I : SI h S) {Q : Int32 → Hp → Prop} (q : Pub h (S_place S) Q) : CallI g m_X0_place d [.ref 0] n h Q := by
  refine okI 0 rfl rfl (s_X0_place_0 hp ?_)
  rw [I.pl]
  exact qI (q.same I)
theorem ok_S_kind (hp : g.2.2.2.2 = true) (I : SI h S) {x : Int32} {Q : Int32 → Hp → Prop} (q : Pub h (S_kind S x) Q) : CallI g m_X0_kind (d + 1) [.ref 0, .int x] n h Q := by
  unfold S_kind at q
  refine okI 0 rfl rfl (s_X0_kind_0 hp (ok_isSlot hp (fun s hs e => ?_) (fun e => ?_)))
  · subst e
    rw [slS_n hs] at q
    refine ⟨fun c => absurd c (by decide), fun _ => ⟨nI_inL hs (by omega), fun r2 e2 => ?_⟩⟩
    rw [nI_tN (by omega)] at e2; subst e2
    rw [I.kd s hs]
    exact qI (q.same I)
  · rw [slS_no e] at q
    exact ⟨fun _ => qI (q.same I), fun c => absurd rfl c⟩
theorem Cz.sl (hs : s < 12) {k : Nat} {v : Int32} : Cz h (wi h (slc s) k v) := Cz.rf.put (by have : slc s = 1185 + 27 * s := rfl; omega)
theorem ok_S_drop (hp : g.2.2.2.2 = true) (I : SI h S) {x : Int32} {Q : Int32 → Hp → Prop} (q : Pub h (S_drop S x) Q) : CallI g m_X0_drop (d + 1) [.ref 0, .int x] n h Q := by
  unfold S_drop at q
  refine okI 1 rfl rfl (s_X0_drop_0 hp (ok_isSlot hp (fun s hs e => ?_) (fun e => ?_)))
  · subst e
    rw [slS_n hs] at q
    refine ⟨fun _ => ⟨nI_inL hs (by omega), fun r2 e2 => ⟨nI_inL hs (by omega), fun r3 e3 h4 e4 => ?_⟩⟩, fun c => absurd c (by decide)⟩
    rw [nI_tN (by omega)] at e2 e3; subst e2; subst e3
    rw [I.kd s hs]
    have hsc : slc s = 1185 + 27 * s := rfl
    refine qI (q h4 (by rw [e4]; exact Cz.sl hs) (I.put hs (v := sv0) (by rw [e4]; exact Wq.put hs (by omega) (okp_o (slc_lay hs) (Or.inr (by decide)))) trivial (by rw [e4, ri_same]; rfl) trivial))
  · rw [slS_no e] at q
    exact ⟨fun c => absurd rfl c, fun _ => qI (q.same I)⟩
/-- text: a sign of it; again on the tape -/
def S_written (S : SS) (x : Int32) : SS × Int32 := (S, if 0 ≤ x.toInt ∧ x.toInt < S.xl then S.x x.toInt.toNat else -1)
theorem I32_nn {x : Int32} (h : ¬ x < 0) : ∃ k : Nat, k < 2147483648 ∧ x = nI k := (I32_cases x).resolve_left h
theorem I32_neg {x : Int32} (h : x < 0) : x.toInt < 0 := Int32.lt_iff_toInt_lt.mp h
theorem ok_S_written (hp : g.2.2.2.2 = true) (I : SI h S) {x : Int32} {Q : Int32 → Hp → Prop} (q : Pub h (S_written S x) Q) : CallI g m_X0_written d [.ref 0, .int x] n h Q := by
  have g3 := I.gd.2.2.1
  refine okI 0 rfl rfl (s_X0_written_0 hp ⟨fun c => ?_, fun c => ?_⟩)
  · have := I32_neg c
    have e : S_written S x = (S, -1) := by unfold S_written; rw [if_neg (by omega)]
    rw [e] at q; exact qI (q.same I)
  · obtain ⟨k, hk, rfl⟩ := I32_nn c
    have ht := nI_toInt hk
    rw [I.xs, nI_leI (by omega) hk]
    refine ⟨fun c2 => ?_, fun c2 => ⟨nI_inL (by omega) (by omega), ?_⟩⟩
    · have e : S_written S (nI k) = (S, -1) := by unfold S_written; rw [if_neg (by omega)]
      rw [e] at q; exact qI (q.same I)
    · have e : S_written S (nI k) = (S, S.x k) := by unfold S_written; rw [if_pos (by omega), ht]; rfl
      rw [e] at q
      rw [nI_tN hk, I.xt k (by omega)]; exact qI (q.same I)
def SS.tape (S : SS) (t : Nat → Int32) (len : Nat) : SS := SS.mk t len S.pl S.x S.xl S.sl S.fd S.rt
def S_again (S : SS) : SS × Int32 := if S.xl ≤ 400 then (S.tape S.x S.xl, nI S.xl) else (S, -2)
/-- a new tape -/
theorem SI.tape (I : SI h S) {t : Nat → Int32} {len : Nat} (e : ∀ x, x ≠ 0 → x ≠ 77 → h1.1 x = h.1 x) (e0 : ∀ k, k ≠ 12 → ri h1 0 k = ri h 0 k) (er : h1.2 = h.2) (K : Kp h1) (T : TP h1 t len) (hb : byt t len) : SI h1 (S.tape t len) := by
  have g : ∀ x k, x ≠ 0 → x ≠ 77 → ri h1 x k = ri h x k := fun x k a b => gi1 (e x a b) k
  refine ⟨K, I.bp.eq er, I.lp.eq er, T, by rw [e0 17 (by omega)]; exact I.pl, by rw [e0 25 (by omega)]; exact I.xs, fun i hi => by rw [g 91 _ (by omega) (by omega)]; exact I.xt i hi, fun s hs => ?_, fun s hs => ?_, by rw [e0 69 (by omega)]; exact I.fs, fun i hi => by rw [g 1114 _ (by omega) (by omega)]; exact I.fd i hi, by rw [e0 73 (by omega)]; exact I.rs, fun i hi => by rw [g 1177 _ (by omega) (by omega)]; exact I.rt i hi, T.2.1, hb, I.gd.2.2⟩
  · have hsc : slc s = 1185 + 27 * s := rfl
    rw [g _ _ (by omega) (by omega)]; exact I.kd s hs
  · have hsc : slc s = 1185 + 27 * s := rfl
    exact (I.sl s hs).c (I.gd.2.2.2.2.1 s hs) (fun x h1 h2 k => g _ _ (by omega) (by omega))
theorem fitsB {x : Int32} (h : -128 ≤ x.toInt ∧ x.toInt ≤ 127) : fits .byte (.int x) = true := by
  show (decide (-128 ≤ x) && decide (x ≤ 127)) = true
  rw [Bool.and_eq_true, decide_eq_true_eq, decide_eq_true_eq, Int32.le_iff_toInt_le, Int32.le_iff_toInt_le]
  exact h
theorem l77 : lay 77 = (1, 400, 1) := by decide +kernel
theorem ok_S_again (hp : g.2.2.2.2 = true) (I : SI h S) {Q : Int32 → Hp → Prop} (q : Pub h (S_again S) Q) : CallI g m_X0_again (d + 1) [.ref 0] n h Q := by
  have g3 := I.gd.2.2.1
  have g4 := I.gd.2.2.2.1
  refine okI 0 rfl rfl (s_X0_again_0 hp ?_)
  rw [I.xs, show (400 : Int32) = nI 400 from rfl, nI_leI (by omega) (by omega), nI_tN (by omega), tN0]
  unfold S_again at q
  refine ⟨fun c => ?_, fun c => ?_⟩
  · rw [if_pos c] at q
    refine ⟨by decide, by decide, fun w => nI_pos (by omega) w, by omega, by omega, fun i hi => fitsB ?_, fun h1 e1 h2 e2 => ?_⟩
    · rw [Nat.zero_add, I.xt i hi]
      have := g4 i hi; omega
    · have f1 : ∀ x, x ≠ 77 → h1.1 x = h.1 x := fun x hx => by
        rw [e1]; funext y
        show ri (cpy h 91 0 77 0 S.xl) x y = ri h x y
        rw [ri_cpy, if_neg (fun w => hx w.1)]
      have x1 : ri h1 0 25 = nI S.xl := by rw [gi1 (f1 0 (by omega))]; exact I.xs
      rw [x1] at e2
      have r2 : ri h2 0 12 = nI S.xl := by rw [e2, ri_same]
      rw [r2]
      refine qI (q h2 ?_ (I.tape (fun x a b => ?_) (fun k hk => ?_) ?_ ?_ ⟨r2, by omega, fun i hi => ?_⟩ (fun i hi => ?_)))
      · have c1 : Cz h h1 := ⟨fun x hx => f1 x (by omega), fun x _ => by rw [e1]; rfl⟩
        rw [e2]; exact c1.put (by omega)
      · rw [e2, wi_ne1 a]; exact f1 x b
      · rw [e2, ri_ne' hk, gi1 (f1 0 (by omega))]
      · rw [e2, e1]; rfl
      · rw [e2, e1]; exact (I.kp.cp (fun k => okp_a l77 (by decide))).put (okp_o l0 (Or.inr (by decide)))
      · rw [e2, ri_ne (by omega), e1, ri_cpy, if_pos (by omega), Nat.zero_add, Nat.sub_zero]; exact I.xt i hi
      · have := g4 i hi; omega
  · rw [if_neg c] at q
    exact qI (q.same I)
/-- type -/
def tyB (y : Int64) (k : Int32) : Int32 := ((y >>> (((8 : Int32) * k).toInt64 &&& 63)).toInt32).toInt8.toInt32
def S_type (S : SS) (y : Int64) (x : Int32) : SS × Int32 := if (1 ≤ x.toInt ∧ x.toInt ≤ 8) ∧ S.len + x.toInt.toNat ≤ 400 then (S.tape (fun i => if i < S.len then S.t i else tyB y (zI (x.toInt - 1 - ((i : Int) - S.len)))) (S.len + x.toInt.toNat), nI (S.len + x.toInt.toNat)) else (S, -1)
theorem i8_bd (x : Int8) : -128 ≤ x.toInt32.toInt ∧ x.toInt32.toInt ≤ 127 := by
  rw [Int8.toInt_toInt32]
  have h1 := Int8.le_toInt x
  have h2 := Int8.toInt_lt x
  omega
theorem w_type (hp : g.2.2.2.2 = true) {av : List Value} {y : Int64} {t : Nat → Int32} {len m : Nat} (hl : len + m ≤ 400) {Q : Int32 → Hp → Prop} : ∀ (k j : Nat) (h : Hp), j + k = m → Kp h → TP h (fun i => if i < len then t i else tyB y (zI ((m : Int) - 1 - ((i : Int) - len)))) (len + j) → (∀ h', (∀ x, x ≠ 0 → x ≠ 77 → h'.1 x = h.1 x) → (∀ k, k ≠ 12 → ri h' 0 k = ri h 0 k) → h'.2 = h.2 → Kp h' → TP h' (fun i => if i < len then t i else tyB y (zI ((m : Int) - 1 - ((i : Int) - len)))) (len + m) → Q (nI (len + m)) h') → W_X0_type g d av (QI n Q) n 30 [some (.ref 0), some (.long y), none, none, some (.int (zI ((k : Int) - 1)))] [] h := by
  intro k
  induction k with
  | zero =>
    intro j h hj K T q
    have e : j = m := by omega
    subst e
    refine s_X0_type_30 hp ⟨fun _ => ?_, fun c => absurd ?_ c⟩
    · rw [T.1]
      exact qI (q h (fun _ _ _ => rfl) (fun _ _ => rfl) rfl K T)
    · simp (disch := omega) only [nI_z, z0, z1, z2, zm1, zI_add, zI_sub, zI_neg, zI_mul, zI_le, zI_lt, zI_eq, zI_tN, zI_inI]; omega
  | succ k ih =>
    intro j h hj K T q
    refine s_X0_type_30 hp ⟨fun c => absurd c ?_, fun _ h1 e1 => ⟨?_, fun h2 e2 => ?_⟩⟩
    · simp (disch := omega) only [nI_z, z0, z1, z2, zm1, zI_add, zI_sub, zI_neg, zI_mul, zI_le, zI_lt, zI_eq, zI_tN, zI_inI]; omega
    · rw [T.1]; exact nI_inL (by omega) (by omega)
    · rw [T.1] at e1 e2
      rw [nI_tN (by omega)] at e2
      rw [show zI (((k + 1 : Nat) : Int) - 1) + -1 = zI ((k : Int) - 1) by simp (disch := omega) only [nI_z, z0, z1, z2, zm1, zI_add, zI_sub, zI_neg, zI_mul, zI_le, zI_lt, zI_eq, zI_tN, zI_inI]; congr 1; omega]
      have x1 : ∀ x, x ≠ 0 → x ≠ 77 → h2.1 x = h.1 x := fun x a b => by rw [e2, wi_ne1 b, e1, wi_ne1 a]
      have x2 : ∀ k, k ≠ 12 → ri h2 0 k = ri h 0 k := fun k hk => by rw [e2, ri_ne (by omega), e1, ri_ne' hk]
      have x3 : h2.2 = h.2 := by rw [e2, e1]; rfl
      refine ih (j + 1) h2 (by omega) ?_ ⟨?_, by omega, fun i hi => ?_⟩ (fun h' a b c K' T' => q h' (fun x p r => (a x p r).trans (x1 x p r)) (fun k hk => (b k hk).trans (x2 k hk)) (c.trans x3) K' T')
      · rw [e2, e1]; exact (K.put (okp_o l0 (Or.inr (by decide)))).put (okp_a l77 (by decide))
      · rw [e2, ri_ne (by omega), e1, ri_same, show (1 : Int32) = nI 1 from rfl, nI_addz]; rfl
      · by_cases hi' : i = len + j
        · subst hi'
          rw [e2, ri_same]
          show _ = if len + j < len then t (len + j) else _
          rw [if_neg (by omega)]
          unfold tyB
          rw [show ((k + 1 : Nat) : Int) - 1 = (m : Int) - 1 - (((len + j : Nat) : Int) - len) by omega]
        · rw [e2, ri_ne' hi', e1, ri_ne (by omega)]
          exact T.2.2 i (by omega)
theorem ok_S_type (hp : g.2.2.2.2 = true) (I : SI h S) {y : Int64} {x : Int32} {Q : Int32 → Hp → Prop} (q : Pub h (S_type S y x) Q) : CallI g m_X0_type (d + 1) [.ref 0, .long y, .int x] n h Q := by
  have g1 := I.gd.1
  have hb := I.gd.2.1
  have T := I.tp
  have ex := I32_z x
  have b1 := Int32.le_toInt x
  have b2 := Int32.toInt_lt x
  generalize ez : x.toInt = z at ex b1 b2
  have nb1 : -2147483648 ≤ z := by simpa using b1
  have nb2 : z < 2147483648 := by simpa using b2
  have bad : ¬ ((1 ≤ z ∧ z ≤ 8) ∧ S.len + z.toNat ≤ 400) → Q (-1) h := fun w => by
    unfold S_type at q
    rw [ez, if_neg w] at q
    exact q.same I
  refine okI 1 rfl rfl (s_X0_type_0 hp ?_)
  subst ex
  rw [T.1]
  refine ⟨fun c => qI (bad ?_), fun c => ⟨fun c2 => qI (bad ?_), fun c2 => ?_⟩⟩
  · have : z < 1 := by have := c; rwa [z1, zI_lt nb1 nb2 (by omega) (by omega)] at this
    omega
  · have : 8 < z := by have := c2; rwa [show (8 : Int32) = zI 8 from rfl, zI_lt (by omega) (by omega) nb1 nb2] at this
    omega
  · have h1 : ¬ z < 1 := by have := c; rwa [z1, zI_lt nb1 nb2 (by omega) (by omega)] at this
    have h2 : ¬ 8 < z := by have := c2; rwa [show (8 : Int32) = zI 8 from rfl, zI_lt (by omega) (by omega) nb1 nb2] at this
    obtain ⟨m, rfl⟩ : ∃ m : Nat, z = m := ⟨z.toNat, by omega⟩
    rw [← nI_z, nI_addz, show (400 : Int32) = nI 400 from rfl, nI_leI (by omega) (by omega)]
    refine ⟨fun c3 => ?_, fun c3 => qI (bad (by omega))⟩
    rw [show nI m - 1 = zI ((m : Int) - 1) by simp (disch := omega) only [nI_z, z0, z1, z2, zm1, zI_add, zI_sub, zI_neg, zI_mul, zI_le, zI_lt, zI_eq, zI_tN, zI_inI]]
    refine w_type hp (t := S.t) (len := S.len) (m := m) c3 m 0 h (by omega) I.kp ⟨T.1, by omega, fun i hi => ?_⟩ (fun h' a b c K' T' => ?_)
    · show ri h 77 i = if i < S.len then S.t i else _
      rw [if_pos (by omega)]; exact T.2.2 i (by omega)
    · unfold S_type at q
      rw [ez, if_pos ⟨⟨by omega, by omega⟩, by rw [Int.toNat_natCast]; exact c3⟩, Int.toNat_natCast] at q
      refine q h' ⟨fun x hx => a x (by omega) (by omega), fun x _ => by rw [c]⟩ (I.tape a b c K' T' (fun i hi => ?_))
      show -128 ≤ (if i < S.len then S.t i else _).toInt ∧ (if i < S.len then S.t i else _).toInt ≤ 127
      split
      · exact hb i (by assumption)
      · exact i8_bd _
/-- feed, clear, root -/
def SS.feed (S : SS) (l : List Fp) : SS := SS.mk S.t S.len S.pl S.x S.xl S.sl l S.rt
theorem SI.feed (I : SI h S) {l : List Fp} (e : ∀ x, x ≠ 0 → x ≠ 1114 → h1.1 x = h.1 x) (e0 : ∀ k, k ≠ 69 → ri h1 0 k = ri h 0 k) (er : h1.2 = h.2) (K : Kp h1) (hl : l.length ≤ 60) (l1 : ri h1 0 69 = nI l.length) (l2 : ∀ i, i < l.length → ri h1 1114 i = toI (l.getD i 0)) : SI h1 (S.feed l) := by
  have g : ∀ x k, x ≠ 0 → x ≠ 1114 → ri h1 x k = ri h x k := fun x k a b => gi1 (e x a b) k
  refine ⟨K, I.bp.eq er, I.lp.eq er, ⟨by rw [e0 12 (by omega)]; exact I.tp.1, I.tp.2.1, fun i hi => by rw [g 77 _ (by omega) (by omega)]; exact I.tp.2.2 i hi⟩, by rw [e0 17 (by omega)]; exact I.pl, by rw [e0 25 (by omega)]; exact I.xs, fun i hi => by rw [g 91 _ (by omega) (by omega)]; exact I.xt i hi, fun s hs => ?_, fun s hs => ?_, l1, l2, by rw [e0 73 (by omega)]; exact I.rs, fun i hi => by rw [g 1177 _ (by omega) (by omega)]; exact I.rt i hi, I.gd.1, I.gd.2.1, I.gd.2.2.1, I.gd.2.2.2.1, I.gd.2.2.2.2.1, hl, I.gd.2.2.2.2.2.2⟩
  · have hsc : slc s = 1185 + 27 * s := rfl
    rw [g _ _ (by omega) (by omega)]; exact I.kd s hs
  · have hsc : slc s = 1185 + 27 * s := rfl
    exact (I.sl s hs).c (I.gd.2.2.2.2.1 s hs) (fun x h1 h2 k => g _ _ (by omega) (by omega))
def S_feed (S : SS) (x : Int32) : SS × Int32 := if S.fd.length = 60 then (S, -2) else (S.feed (S.fd ++ [fI x]), nI (S.fd.length + 1))
def S_clear (S : SS) : SS × Int32 := (S.feed [], nI S.fd.length)
def S_root (S : SS) (x : Int32) : SS × Int32 := (S, if 0 ≤ x.toInt ∧ x.toInt < S.rt.length then toI (S.rt.getD x.toInt.toNat 0) else -1)
theorem l1114 : lay 1114 = (1, 60, 0) := by decide +kernel
theorem getD_app_l {l m : List Fp} {i : Nat} (h : i < l.length) : (l ++ m).getD i 0 = l.getD i 0 := getD_l h
theorem getD_app_r {l : List Fp} {v : Fp} : (l ++ [v]).getD l.length 0 = v := getD_r
theorem ok_S_feed (hp : g.2.2.2.2 = true) (I : SI h S) {x : Int32} {Q : Int32 → Hp → Prop} (q : Pub h (S_feed S x) Q) : CallI g m_X0_feed (d + 2) [.ref 0, .int x] n h Q := by
  have g6 := I.gd.2.2.2.2.2.1
  unfold S_feed at q
  refine okI 0 rfl rfl (s_X0_feed_0 hp ?_)
  rw [I.fs, show (60 : Int32) = nI 60 from rfl, nI_eq (by omega) (by omega)]
  refine ⟨fun c h1 e1 => ok_rest hp ⟨nI_inL (by omega) (by omega), fun h3 e3 => ?_⟩, fun c => ?_⟩
  · rw [if_neg c] at q
    rw [nI_tN (by omega)] at e3
    rw [show (1 : Int32) = nI 1 from rfl, nI_addz] at e1
    have r3 : ri h3 0 69 = nI (S.fd.length + 1) := by rw [e3, ri_ne (by omega), e1, ri_same]
    rw [r3]
    refine qI (q h3 ?_ (I.feed (fun x a b => ?_) (fun k hk => ?_) ?_ ?_ (by simp; omega) (by rw [r3]; simp) (fun i hi => ?_)))
    · rw [e3, e1]; exact (Cz.rf.put (by omega)).put (by omega)
    · rw [e3, wi_ne1 b, e1, wi_ne1 a]
    · rw [e3, ri_ne (by omega), e1, ri_ne' hk]
    · rw [e3, e1]; rfl
    · rw [e3, e1]; exact (I.kp.put (okp_o l0 (Or.inr (by decide)))).put (okp_a l1114 (by decide))
    · have hi' : i < S.fd.length + 1 := by simpa using hi
      by_cases c2 : i = S.fd.length
      · subst c2
        rw [e3, ri_same, getD_app_r]
      · rw [e3, ri_ne' c2, e1, ri_ne (by omega), getD_app_l (by omega)]
        exact I.fd i (by omega)
  · rw [if_pos c] at q
    exact qI (q.same I)
theorem ok_S_clear (hp : g.2.2.2.2 = true) (I : SI h S) {Q : Int32 → Hp → Prop} (q : Pub h (S_clear S) Q) : CallI g m_X0_clear d [.ref 0] n h Q := by
  refine okI 1 rfl rfl (s_X0_clear_0 hp (fun h1 e1 => ?_))
  rw [I.fs]
  refine qI (q h1 (by rw [e1]; exact Cz.rf.put (by omega)) (I.feed (fun x a _ => by rw [e1, wi_ne1 a]) (fun k hk => by rw [e1, ri_ne' hk]) (by rw [e1]; rfl) (by rw [e1]; exact I.kp.put (okp_o l0 (Or.inr (by decide)))) (by simp) (by rw [e1, ri_same]; rfl) (fun i hi => by simp at hi)))
theorem ok_S_root (hp : g.2.2.2.2 = true) (I : SI h S) {x : Int32} {Q : Int32 → Hp → Prop} (q : Pub h (S_root S x) Q) : CallI g m_X0_root d [.ref 0, .int x] n h Q := by
  have g3 := I.gd.2.2.2.2.2.2
  refine okI 0 rfl rfl (s_X0_root_0 hp ⟨fun c => ?_, fun c => ?_⟩)
  · have := I32_neg c
    have e : S_root S x = (S, -1) := by unfold S_root; rw [if_neg (by omega)]
    rw [e] at q; exact qI (q.same I)
  · obtain ⟨k, hk, rfl⟩ := I32_nn c
    have ht := nI_toInt hk
    rw [I.rs, nI_leI (by omega) hk]
    refine ⟨fun c2 => ?_, fun c2 => ⟨nI_inL (by omega) (by omega), ?_⟩⟩
    · have e : S_root S (nI k) = (S, -1) := by unfold S_root; rw [if_neg (by omega)]
      rw [e] at q; exact qI (q.same I)
    · have e : S_root S (nI k) = (S, toI (S.rt.getD k 0)) := by unfold S_root; rw [if_pos (by omega), ht]; rfl
      rw [e] at q
      rw [nI_tN hk, I.rt k (by omega)]; exact qI (q.same I)
end
