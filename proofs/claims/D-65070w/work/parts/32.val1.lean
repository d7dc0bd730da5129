set_option maxRecDepth 100000
/-! VALUES of items -/
def oI (o : Option Fp) : Int32 := match o with
  | none => -1
  | some v => toI v
theorem toI_m (v : Fp) : toI v ≠ -1 := fun e => by
  have h1 := toI_int v
  rw [e] at h1
  have h2 : (-1 : Int32).toInt = -1 := by decide
  omega
theorem oI_m (o : Option Fp) : oI o = -1 ↔ o = none := by
  cases o with
  | none => exact ⟨fun _ => rfl, fun _ => rfl⟩
  | some v => exact ⟨fun e => absurd e (toI_m v), fun e => by cases e⟩
/-- the value of T by B -/
noncomputable def vR (T B : Bi) (x y : Fp) : Option Fp := cite (ev (bat x B) y = 0) none (some (ev (bat x T) y * iv (ev (bat x B) y)))
/-- the factorials' part: a product, and whether it is 0 -/
def valL (n k : Int) : List Q4 → Fp → Bool → Option (Fp × Bool)
  | [], v, z => some (v, z)
  | q :: L, v, z => if q.1 * n + q.2.1 * k + q.2.2.1 < 0 then (if 0 < q.2.2.2 then none else valL n k L v true) else valL n k L (v * spw (facF (q.1 * n + q.2.1 * k + q.2.2.1).toNat) q.2.2.2) z
/-- the value of an item at ints -/
noncomputable def valT (i : Itm) (n k : Nat) : Option Fp := match vR i.1 i.2.1 (nF n) (nF k) with
  | none => none
  | some v => match valL n k i.2.2.2.2 v false with
    | none => none
    | some (w, z) => some (if z = true then 0 else w * (i.2.2.1 ^ n * i.2.2.2.1 ^ k))
noncomputable def valI (i : Itm) (n k : Int32) : Option Fp := cite (isT i.2.2.1 i.2.2.2.1 i.2.2.2.2) (if (0 ≤ n.toInt ∧ n.toInt ≤ 500) ∧ 0 ≤ k.toInt ∧ k.toInt ≤ 500 then valT i n.toInt.toNat k.toInt.toNat else none) (vR i.1 i.2.1 (fI n) (fI k))
section
variable {g : GX} {d n : Nat} {h h' : Hp} {a : Nat}
theorem w_fof (hp : g.2.2.2.2 = true) {av : List Value} {m : Nat} (hm : m < 3200) {Q : Int32 → Hp → Prop} : ∀ (k i : Nat) (h : Hp), i + k = 3200 → 1 ≤ i → (∀ j, j < i → ri h 92 j = toI (facF j)) → (∀ h', h'.2 = h.2 → (∀ x, x ≠ 92 → h'.1 x = h.1 x) → (∀ j, j < 3200 → ri h' 92 j = toI (facF j)) → Q (toI (facF m)) h') → W_X0_factorialOf g d av (QI n Q) n 18 [some (.ref 0), some (.int (nI m)), some (.int (nI i))] [] h := by
  intro k
  induction k with
  | zero =>
    intro i h hi h1 Hj q
    refine s_X0_factorialOf_18 hp ⟨fun _ => ⟨nI_inL hm (by omega), ?_⟩, fun c => absurd ?_ c⟩
    · rw [nI_tN (by omega), Hj m (by omega)]
      exact qI (q h rfl (fun _ _ => rfl) (fun j hj => Hj j (by omega)))
    · simp (disch := omega) only [nI_addz, nI_1, nI_leI, nI_ltI, nI_eq, nI_tN, nI_inI]; omega
  | succ k ih =>
    intro i h hi h1 Hj q
    refine s_X0_factorialOf_18 hp ⟨fun c => absurd c ?_, fun _ => ?_⟩
    · simp (disch := omega) only [nI_addz, nI_1, nI_leI, nI_ltI, nI_eq, nI_tN, nI_inI]; omega
    · rw [nI_sub1 (by omega), nI_tN (by omega), nI_tN (by omega), Hj (i - 1) (by omega), ← toI_nF (m := i) (by omega)]
      refine ⟨nI_inL (by omega) (by omega), ok_times hp ?_⟩
      rw [toI_nF (m := i) (by omega), nI_1]
      refine ⟨nI_inL (by omega) (by omega), fun h2 e2 => ?_⟩
      have e : facF (i - 1) * nF i = facF i := by
        obtain ⟨t, rfl⟩ : ∃ t, i = t + 1 := ⟨i - 1, by omega⟩
        rfl
      rw [e] at e2
      refine ih (i + 1) h2 (by omega) (by omega) (fun j hj => ?_) (fun h' k1 k2 k3 => q h' (by rw [k1, e2]; rfl) (fun x hx => by rw [k2 x hx, e2]; exact wi_ne1 hx) k3)
      rw [e2, ri_wi]
      by_cases ej : j = i
      · rw [if_pos ⟨rfl, ej⟩, ej]
      · rw [if_neg (fun z => ej z.2)]; exact Hj j (by omega)
theorem ok_factorialOf (hp : g.2.2.2.2 = true) (K : Kp h) {m : Nat} (hm : m < 3200) {Q : Int32 → Hp → Prop} (q : ∀ h', Fr h h' [92] → Q (toI (facF m)) h') : CallI g m_X0_factorialOf (d + 1) [.ref 0, .int (nI m)] n h Q := by
  have full : (∀ k, k < 3200 → ri h 92 k = toI (facF k)) → ri h 92 0 ≠ 0 := fun w z => by
    rw [w 0 (by omega)] at z
    exact fp_dom.2 (toI_eq0.mp z)
  refine okI 1 rfl rfl (s_X0_factorialOf_0 hp ⟨nI_inL (k := 0) (by omega) (by omega), fun c => ⟨nI_inL hm (by omega), ?_⟩, fun c => ⟨nI_inL (k := 0) (by omega) (by omega), fun h1 e1 => ?_⟩⟩)
  · have w := K.2.2.resolve_left c
    rw [nI_tN (by omega), w m hm]
    exact qI (q h Fr.rf)
  · have e1 : h1 = wi h 92 0 1 := e1
    refine w_fof hp hm 3199 1 h1 (by omega) (by omega) (fun j hj => ?_) (fun h' k1 k2 k3 => q h' ⟨by rw [k1, e1]; rfl, fun x hx => ?_, fun K => ⟨fun x tx => ?_, fun k hk => ?_, Or.inr k3⟩⟩)
    · rw [show j = 0 by omega, e1, ri_same]; rfl
    · have hx : x ≠ 92 := by simpa using hx
      rw [k2 x hx, e1]
      exact wi_ne1 hx
    · have hx : x ≠ 92 := fun e => by rw [e, l92] at tx; cases tx
      show h'.1 x 0 = _
      rw [k2 x hx, e1, wi_ne1 hx]
      exact K.1 x tx
    · show h'.1 38 k = _ ∨ h'.1 38 k = _
      rw [k2 38 (by decide), e1, wi_ne1 (by decide)]
      exact K.2.1 k hk
theorem ok_valueOf2 (hp : g.2.2.2.2 = true) (ta : lay a = (0, 6, 2)) {T B : Bi} {x y : Fp} (H : RI h a T B) {Q : Int32 → Hp → Prop} (q : Q (oI (vR T B x y)) h) : CallI g m_X0_valueOf_2 (d + 3) [.ref a, .int (toI x), .int (toI y)] n h Q := by
  refine okI 1 rfl rfl (s_X0_valueOf_2_0 hp ta (ok_dvalue hp (lf_6_1 ta) H.2 ?_))
  rw [toI_eq0]
  unfold vR at q
  refine ⟨fun c => ok_dvalue hp (lf_6_0 ta) H.1 (ok_inverse hp (ok_times hp (qI ?_))), fun c => qI ?_⟩
  · rw [cite_neg c] at q; exact q
  · rw [cite_pos c] at q; exact q
end
