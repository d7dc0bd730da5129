set_option maxRecDepth 100000
/-! ITEMS: a ratio, two bases, factorials in their order -/
abbrev Q4 : Type := Int × Int × Int × Int
def lexlt (r q : Q4) : Prop := r.1 < q.1 ∨ (r.1 = q.1 ∧ (r.2.1 < q.2.1 ∨ (r.2.1 = q.2.1 ∧ r.2.2.1 < q.2.2.1)))
def lexle (r q : Q4) : Bool := decide (r.1 < q.1) || (decide (r.1 = q.1) && (decide (r.2.1 < q.2.1) || (decide (r.2.1 = q.2.1) && decide (r.2.2.1 < q.2.2.1))))
theorem lexle_iff (r q : Q4) : lexle r q = true ↔ lexlt r q := by
  unfold lexle lexlt
  simp
def keyEq (r q : Q4) : Prop := r.1 = q.1 ∧ r.2.1 = q.2.1 ∧ r.2.2.1 = q.2.2.1
def fpos (q : Q4) : List Q4 → Nat
  | [] => 0
  | r :: L => if lexle r q = true then fpos q L + 1 else 0
theorem fpos_eq (q : Q4) : ∀ (L : List Q4) (i : Nat), i ≤ L.length → (∀ j r, j < i → L[j]? = some r → lexlt r q) → (∀ r, L[i]? = some r → ¬ lexlt r q) → fpos q L = i
  | [], i, h, _, _ => by
    show 0 = i
    simp at h
    omega
  | r :: L, 0, _, _, h2 => by
    show (if lexle r q = true then fpos q L + 1 else 0) = 0
    rw [if_neg]
    intro z
    exact h2 r rfl ((lexle_iff r q).mp z)
  | r :: L, i + 1, h, h1, h2 => by
    show (if lexle r q = true then fpos q L + 1 else 0) = i + 1
    rw [if_pos ((lexle_iff r q).mpr (h1 0 r (by omega) rfl)), fpos_eq q L i (by simpa using h) (fun j r hj e => h1 (j + 1) r (by omega) (by simpa using e)) (fun r e => h2 r (by simpa using e))]
/-- one factorial more -/
def insF (q : Q4) (L : List Q4) : List Q4 := match L[fpos q L]? with
  | some r => if r.1 = q.1 ∧ r.2.1 = q.2.1 ∧ r.2.2.1 = q.2.2.1 then (if r.2.2.2 + q.2.2.2 = 0 then L.eraseIdx (fpos q L) else L.set (fpos q L) (r.1, r.2.1, r.2.2.1, r.2.2.2 + q.2.2.2)) else L.insertIdx (fpos q L) q
  | none => L.insertIdx (fpos q L) q
def bq (q : Q4) : Prop := (-1000000 ≤ q.1 ∧ q.1 ≤ 1000000) ∧ (-1000000 ≤ q.2.1 ∧ q.2.1 ≤ 1000000) ∧ (-1000000 ≤ q.2.2.1 ∧ q.2.2.1 ≤ 1000000) ∧ (-1000000 ≤ q.2.2.2 ∧ q.2.2.2 ≤ 1000000)
def szF (L : List Q4) : Nat := (L.map (fun q => q.2.2.2.natAbs)).sum
/-- the factorials in an item's cells -/
def FA (h : Hp) (a : Nat) (L : List Q4) : Prop := ri h a 3 = nI L.length ∧ L.length ≤ 60 ∧ (∀ q, q ∈ L → bq q) ∧ ∀ i q, L[i]? = some q → ri h (a + 6) i = zI q.1 ∧ ri h (a + 7) i = zI q.2.1 ∧ ri h (a + 8) i = zI q.2.2.1 ∧ ri h (a + 9) i = zI q.2.2.2
/-- the cell a of an Item -/
def II (h : Hp) (a : Nat) (T B : Bi) (x y : Fp) (L : List Q4) : Prop := RI h (a + 1) T B ∧ ri h a 1 = toI x ∧ ri h a 2 = toI y ∧ FA h a L
abbrev Lit (a : Nat) : List Nat := [a, a + 2, a + 3, a + 4, a + 5, a + 6, a + 7, a + 8, a + 9]
theorem okp_a {x k L j : Nat} (t : lay x = (1, L, j)) (h : L ≠ 2000 ∧ L ≠ 3200) : okp x k := by
  refine ⟨Or.inr (fun e => ?_), fun e => ?_, fun e => ?_⟩
  · rw [t] at e; cases e
  · rw [e, l38] at t; injection t with _ t; injection t with t; exact h.1 t.symm
  · rw [e, l92] at t; injection t with _ t; injection t with t; exact h.2 t.symm
section
variable {g : GX} {d n : Nat} {h h' : Hp} {a b c : Nat}
theorem FA.fr {L : List Q4} {M : List Nat} (H : FA h a L) (f : Fr h h' M) (o : ∀ x, x ∈ [a, a + 6, a + 7, a + 8, a + 9] → x ∉ M) : FA h' a L := by
  refine ⟨by rw [f.gi (o a (by simp))]; exact H.1, H.2.1, H.2.2.1, fun i q e => ?_⟩
  rw [f.gi (o (a + 6) (by simp)), f.gi (o (a + 7) (by simp)), f.gi (o (a + 8) (by simp)), f.gi (o (a + 9) (by simp))]
  exact H.2.2.2 i q e
theorem II.fr {T B : Bi} {x y : Fp} {L : List Q4} {M : List Nat} (H : II h a T B x y L) (f : Fr h h' M) (o : ∀ x, x ∈ Lit a → x ∉ M) : II h' a T B x y L := by
  refine ⟨H.1.fr f (o _ (by simp)) (o _ (by simp)) (o _ (by simp)) (o _ (by simp)), by rw [f.gi (o a (by simp))]; exact H.2.1, by rw [f.gi (o a (by simp))]; exact H.2.2.1, H.2.2.2.fr f (fun x hx => o x (by simp at hx ⊢; omega))⟩
theorem ok_plain (hp : g.2.2.2.2 = true) (ta : lay a = (0, 5, 8)) {Q : Hp → Prop} (q : ∀ h', Fr h h' [a] → ri h' a 1 = toI 1 → ri h' a 2 = toI 1 → FA h' a [] → Q h') : CallV g m_X5_plain d [.ref a] n h Q := by
  refine okV 0 rfl rfl (s_X5_plain_0 hp ta (fun h1 e1 h2 e2 h3 e3 => qV (q h3 ?_ ?_ ?_ ?_)))
  · rw [e3]
    exact Fr.put (by rw [e2]; exact Fr.put (by rw [e1]; exact Fr.rf.put (by simp) (okp_o ta (Or.inr (by decide)))) (by simp) (okp_o ta (Or.inr (by decide)))) (by simp) (okp_o ta (Or.inr (by decide)))
  · rw [e3, ri_ne' (by decide), e2, ri_ne' (by decide), e1, ri_same]; rfl
  · rw [e3, ri_ne' (by decide), e2, ri_same]; rfl
  · exact ⟨by rw [e3, ri_same]; rfl, by simp, fun q hq => absurd hq (by simp), fun i q e => absurd e (by simp)⟩
theorem ok_iset (hp : g.2.2.2.2 = true) (ta : lay a = (0, 5, 8)) (K : Kp h) {v : Fp} {Q : Hp → Prop} (q : ∀ h', Fr h h' (Lit a) → II h' a (bC (pC v)) (bC (pC 1)) 1 1 [] → Q h') : CallV g m_X5_set (d + 4) [.ref a, .int (toI v)] n h Q := by
  refine okV 0 rfl rfl (s_X5_set_0 hp ta (ok_plain hp ta (fun h1 f1 p1 p2 p3 => ?_)))
  refine ok_rset hp (it_1 ta) (f1.kp K) (fun h2 f2 H2 => qV (q h2 ((f1.mono (by simp)).tr (f2.mono (by simp))) ⟨H2, by rw [f2.gi (by simp; omega)]; exact p1, by rw [f2.gi (by simp; omega)]; exact p2, p3.fr f2 (fun z hz => by simp at hz ⊢; omega)⟩))
theorem ri_cpy (h : Hp) (a p b q m x y : Nat) : ri (cpy h a p b q m) x y = if x = b ∧ q ≤ y ∧ y < q + m then ri h a (p + (y - q)) else ri h x y := rfl
theorem Fr.cp {h h1 : Hp} {L : List Nat} (f : Fr h h1 L) {a p b q m : Nat} (hb : b ∈ L) (o : ∀ k, okp b k) : Fr h (cpy h1 a p b q m) L := ⟨f.1, fun x hx => by
  funext y
  have hne : x ≠ b := fun e => hx (by rw [e]; exact hb)
  show (if x = b ∧ _ then _ else _) = _
  rw [if_neg (fun z => hne z.1), f.2.1 x hx], fun K => (f.2.2 K).cp o⟩
theorem tN0 : (0 : Int32).toNatClampNeg = 0 := rfl
/-- the cells of bases and factorials -/
abbrev Lcp (a : Nat) : List Nat := [a, a + 6, a + 7, a + 8, a + 9]
theorem ok_copyParts (hp : g.2.2.2.2 = true) (ta : lay a = (0, 5, 8)) (tb : lay b = (0, 5, 8)) (hab : a ≠ b) {x y : Fp} {L : List Q4} (Hx : ri h b 1 = toI x) (Hy : ri h b 2 = toI y) (HL : FA h b L) {Q : Hp → Prop} (q : ∀ h', Fr h h' (Lcp a) → ri h' a 1 = toI x → ri h' a 2 = toI y → FA h' a L → Q h') : CallV g m_X5_copyParts (d + 1) [.ref a, .ref b] n h Q := by
  have far := it_far ta tb hab
  have l60 := HL.2.1
  have o6 := fun k => okp_a (k := k) (lf_5_4 ta) (by decide)
  have o7 := fun k => okp_a (k := k) (lf_5_5 ta) (by decide)
  have o8 := fun k => okp_a (k := k) (lf_5_6 ta) (by decide)
  have o9 := fun k => okp_a (k := k) (lf_5_7 ta) (by decide)
  have oa := fun k => okp_o (k := k) ta (Or.inr (by decide))
  refine okV 0 rfl rfl (s_X5_copyParts_0 hp ta tb (fun h1 e1 h2 e2 h3 e3 => ?_))
  have f1 : Fr h h1 (Lcp a) := by rw [e1]; exact Fr.rf.put (by simp) (oa _)
  have f2 : Fr h h2 (Lcp a) := by rw [e2]; exact f1.put (by simp) (oa _)
  have f3 : Fr h h3 (Lcp a) := by rw [e3]; exact f2.put (by simp) (oa _)
  have c3 : ri h3 a 3 = nI L.length := by rw [e3, ri_same, f2.gi (by simp; omega)]; exact HL.1
  rw [c3, tN0, nI_tN (by omega)]
  refine ⟨by decide, by decide, nI_pos (by omega), by omega, by omega, fun h4 e4 => ?_⟩
  have c4 : ri h4 a 3 = nI L.length := by rw [e4, ri_cpy, if_neg (by omega)]; exact c3
  rw [c4, nI_tN (by omega)]
  refine ⟨by decide, by decide, nI_pos (by omega), by omega, by omega, fun h5 e5 => ?_⟩
  have c5 : ri h5 a 3 = nI L.length := by rw [e5, ri_cpy, if_neg (by omega)]; exact c4
  rw [c5, nI_tN (by omega)]
  refine ⟨by decide, by decide, nI_pos (by omega), by omega, by omega, fun h6 e6 => ?_⟩
  have c6 : ri h6 a 3 = nI L.length := by rw [e6, ri_cpy, if_neg (by omega)]; exact c5
  rw [c6, nI_tN (by omega)]
  refine ⟨by decide, by decide, nI_pos (by omega), by omega, by omega, fun h7 e7 => qV ?_⟩
  have f4 : Fr h h4 (Lcp a) := by rw [e4]; exact f3.cp (by simp) o6
  have f5 : Fr h h5 (Lcp a) := by rw [e5]; exact f4.cp (by simp) o7
  have f6 : Fr h h6 (Lcp a) := by rw [e6]; exact f5.cp (by simp) o8
  have f7 : Fr h h7 (Lcp a) := by rw [e7]; exact f6.cp (by simp) o9
  have ga : ∀ k, ri h7 a k = ri h3 a k := fun k => by
    rw [e7, ri_cpy, if_neg (by omega), e6, ri_cpy, if_neg (by omega), e5, ri_cpy, if_neg (by omega), e4, ri_cpy, if_neg (by omega)]
  refine q h7 f7 ?_ ?_ ⟨by rw [ga]; exact c3, l60, HL.2.2.1, fun i r er => ?_⟩
  · rw [ga, e3, ri_ne' (by decide), e2, ri_ne' (by decide), e1, ri_same]; exact Hx
  · rw [ga, e3, ri_ne' (by decide), e2, ri_same, f1.gi (by simp; omega)]; exact Hy
  · have hi : i < L.length := by
      apply Nat.not_le.mp
      intro z
      rw [List.getElem?_eq_none z] at er
      cases er
    obtain ⟨r6, r7, r8, r9⟩ := HL.2.2.2 i r er
    refine ⟨?_, ?_, ?_, ?_⟩
    · rw [e7, ri_cpy, if_neg (by omega), e6, ri_cpy, if_neg (by omega), e5, ri_cpy, if_neg (by omega), e4, ri_cpy, if_pos ⟨rfl, by omega, by omega⟩, f3.gi (by simp; omega), show 0 + (i - 0) = i by omega]; exact r6
    · rw [e7, ri_cpy, if_neg (by omega), e6, ri_cpy, if_neg (by omega), e5, ri_cpy, if_pos ⟨rfl, by omega, by omega⟩, f4.gi (by simp; omega), show 0 + (i - 0) = i by omega]; exact r7
    · rw [e7, ri_cpy, if_neg (by omega), e6, ri_cpy, if_pos ⟨rfl, by omega, by omega⟩, f5.gi (by simp; omega), show 0 + (i - 0) = i by omega]; exact r8
    · rw [e7, ri_cpy, if_pos ⟨rfl, by omega, by omega⟩, f6.gi (by simp; omega), show 0 + (i - 0) = i by omega]; exact r9
theorem ok_icopy (hp : g.2.2.2.2 = true) (ta : lay a = (0, 5, 8)) (tb : lay b = (0, 5, 8)) (hab : a ≠ b) (K : Kp h) {T B : Bi} {x y : Fp} {L : List Q4} (H : II h b T B x y L) {Q : Hp → Prop} (q : ∀ h', Fr h h' (Lit a) → II h' a T B x y L → Q h') : CallV g m_X5_copy (d + 3) [.ref a, .ref b] n h Q := by
  have far := it_far ta tb hab
  refine okV 0 rfl rfl (s_X5_copy_0 hp ta tb (ok_rcopy hp (it_1 ta) (it_1 tb) (by omega) K H.1 (fun h1 f1 H1 => ?_)))
  refine ok_copyParts hp ta tb hab (by rw [f1.gi (by simp; omega)]; exact H.2.1) (by rw [f1.gi (by simp; omega)]; exact H.2.2.1) (H.2.2.2.fr f1 (fun z hz => by simp at hz ⊢; omega)) (fun h2 f2 p1 p2 p3 => qV (q h2 ((f1.mono (by simp)).tr (f2.mono (by simp))) ⟨H1.fr f2 (by simp; omega) (by simp; omega) (by simp; omega) (by simp; omega), p1, p2, p3⟩))
/-- a term: not a ratio alone -/
def isT (x y : Fp) (L : List Q4) : Prop := x ≠ 1 ∨ y ≠ 1 ∨ L ≠ []
theorem ok_isTerm (hp : g.2.2.2.2 = true) (ta : lay a = (0, 5, 8)) {x y : Fp} {L : List Q4} (Hx : ri h a 1 = toI x) (Hy : ri h a 2 = toI y) (HL : FA h a L) {Q : Int32 → Hp → Prop} (q1 : isT x y L → Q 1 h) (q0 : ¬ isT x y L → Q 0 h) : CallI g m_X5_isTerm d [.ref a] n h Q := by
  have l60 := HL.2.1
  refine okI 0 rfl rfl (s_X5_isTerm_0 hp ta ?_)
  rw [Hx, Hy, HL.1]
  have e1 : ∀ z : Fp, toI z = (1 : Int32) ↔ z = 1 := fun z => ⟨fun e => toI_inj (e.trans toI_1.symm), fun e => by rw [e]; rfl⟩
  have e2 : nI L.length ≤ (0 : Int32) ↔ L = [] := by
    rw [show (0 : Int32) = nI 0 from rfl, nI_leI (by omega) (by omega)]
    constructor
    · intro z; exact List.length_eq_zero_iff.mp (by omega)
    · intro z; rw [z]; simp
  rw [e1, e1, e2]
  exact ⟨fun c => qI (q1 (Or.inl c)), fun c => ⟨fun c2 => qI (q1 (Or.inr (Or.inl c2))), fun c2 => ⟨fun c3 => qI (q0 (fun z => z.elim (fun w => w c) (fun w => w.elim (fun w => w c2) (fun w => w c3)))), fun c3 => qI (q1 (Or.inr (Or.inr c3)))⟩⟩⟩
theorem w_sizes (hp : g.2.2.2.2 = true) (ta : lay a = (0, 5, 8)) {av : List Value} {L : List Q4} (HL : FA h a L) {Q : Int32 → Hp → Prop} (q : Q (nI (szF L)) h) : ∀ (k i s : Nat), i + k = L.length → s + szF (L.drop i) = szF L → s ≤ i * 1000000 → W_X5_sizes g d av (QI n Q) n 4 [some (.ref a), some (.int (nI s)), some (.int (nI i))] [] h := by
  have l60 := HL.2.1
  intro k
  induction k with
  | zero =>
    intro i s hi hs hb
    refine s_X5_sizes_4 hp ta ⟨fun _ => qI ?_, fun c => absurd ?_ c⟩
    · rw [List.drop_of_length_le (by omega)] at hs
      rw [show s = szF L by simpa [szF] using hs]; exact q
    · rw [HL.1]; simp (disch := omega) only [nI_addz, nI_1, nI_leI, nI_ltI, nI_eq, nI_tN, nI_inI]; omega
  | succ k ih =>
    intro i s hi hs hb
    have hlt : i < L.length := by omega
    have er : L[i]? = some L[i] := List.getElem?_eq_getElem hlt
    obtain ⟨_, _, _, r9⟩ := HL.2.2.2 i _ er
    have hbq := HL.2.2.1 L[i] (List.getElem_mem hlt)
    refine s_X5_sizes_4 hp ta ⟨fun c => absurd c ?_, fun _ => ⟨nI_inL (by omega) (by omega), ?_⟩⟩
    · rw [HL.1]; simp (disch := omega) only [nI_addz, nI_1, nI_leI, nI_ltI, nI_eq, nI_tN, nI_inI]; omega
    · rw [nI_tN (by omega), r9]
      obtain ⟨_, _, _, hb4⟩ := hbq
      refine ok_abs hp (by omega) (by omega) ?_
      rw [nI_addz, nI_1]
      refine ih (i + 1) _ (by omega) ?_ (by omega)
      rw [List.drop_eq_getElem_cons hlt] at hs
      simp only [szF, List.map_cons, List.sum_cons] at hs ⊢
      omega
theorem ok_sizes (hp : g.2.2.2.2 = true) (ta : lay a = (0, 5, 8)) {L : List Q4} (HL : FA h a L) {Q : Int32 → Hp → Prop} (q : Q (nI (szF L)) h) : CallI g m_X5_sizes (d + 1) [.ref a] n h Q :=
  okI 2 rfl rfl (s_X5_sizes_0 hp ta (w_sizes hp ta HL q L.length 0 0 (by omega) (by simp) (by omega)))
end
