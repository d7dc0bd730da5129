set_option maxRecDepth 100000
/-! DUO: open, grow, copy, rows, heads, scaled -/
/-- sizes, and the numbers at places S -/
def DQ (h : Hp) (a N K : Nat) (F : Nat → Nat → Fp) (S : Nat → Nat → Prop) : Prop := ri h a 0 = nI (wd a) ∧ ri h a 2 = nI N ∧ ri h a 3 = nI K ∧ N ≤ wd a ∧ K ≤ hg a ∧ ∀ j i, j < K → i < N → S j i → ri h (a + 1) (j * wd a + i) = toI (F j i)
section
variable {h h' : Hp} {a N K : Nat} {F : Nat → Nat → Fp} {S : Nat → Nat → Prop}
theorem DQ.w (H : DQ h a N K F S) : ri h a 0 = nI (wd a) := H.1
theorem DQ.n (H : DQ h a N K F S) : ri h a 2 = nI N := H.2.1
theorem DQ.k (H : DQ h a N K F S) : ri h a 3 = nI K := H.2.2.1
theorem DQ.nl (H : DQ h a N K F S) : N ≤ wd a := H.2.2.2.1
theorem DQ.kl (H : DQ h a N K F S) : K ≤ hg a := H.2.2.2.2.1
theorem DQ.ltn (H : DQ h a N K F S) : N ≤ 1300 := Nat.le_trans H.nl (wd_le a)
theorem DQ.ltk (H : DQ h a N K F S) : K ≤ 150 := Nat.le_trans H.kl (hg_le a)
theorem DQ.put (H : DQ h a N K F S) {j i : Nat} (hi : i < N) : DQ (wi h (a + 1) (j * wd a + i) (toI (F j i))) a N K F (fun j' i' => S j' i' ∨ (j' = j ∧ i' = i)) := by
  have h1 := H.nl
  refine ⟨by rw [ri_ne (by omega)]; exact H.w, by rw [ri_ne (by omega)]; exact H.n, by rw [ri_ne (by omega)]; exact H.k, H.nl, H.kl, fun j' i' hj' hi' hs => ?_⟩
  rw [ri_wi]
  by_cases e : j' = j ∧ i' = i
  · rw [if_pos ⟨rfl, by rw [e.1, e.2]⟩, e.1, e.2]
  · rw [if_neg (fun q => e (dx_inj (by omega) (by omega) q.2))]; exact H.2.2.2.2.2 j' i' hj' hi' (hs.elim id (fun q => absurd q e))
theorem DQ.mono {S' : Nat → Nat → Prop} (H : DQ h a N K F S) (e : ∀ j i, j < K → i < N → S' j i → S j i) : DQ h a N K F S' := ⟨H.w, H.n, H.k, H.nl, H.kl, fun j i hj hi hs => H.2.2.2.2.2 j i hj hi (e j i hj hi hs)⟩
theorem DQ.da (H : DQ h a N K F S) (e : ∀ j i, j < K → i < N → S j i) : DA h a N K F := ⟨H.w, H.n, H.k, H.nl, H.kl, fun j i hj hi => H.2.2.2.2.2 j i hj hi (e j i hj hi)⟩
theorem DQ.inx (H : DQ h a N K F S) {j i : Nat} (hj : j < K) (hi : i < N) : vp_in (nI j * ri h a 0 + nI i) (rm (a + 1)) := by
  have := H.nl; have := H.kl
  exact dx_in H.w (by omega) (by omega)
theorem DQ.tn (H : DQ h a N K F S) {j i : Nat} (hj : j < K) (hi : i < N) : (nI j * ri h a 0 + nI i).toNatClampNeg = j * wd a + i := by
  have := H.nl; have := H.kl
  exact dx_tn H.w (by omega) (by omega)
theorem DQ.fr {L : List Nat} (H : DQ h a N K F S) (e : Fr h h' L) (h1 : a ∉ L) (h2 : a + 1 ∉ L) : DQ h' a N K F S := ⟨by rw [e.gi h1]; exact H.w, by rw [e.gi h1]; exact H.n, by rw [e.gi h1]; exact H.k, H.nl, H.kl, fun j i hj hi hs => by rw [e.gi h2]; exact H.2.2.2.2.2 j i hj hi hs⟩
end
section
variable {g : GX} {d n : Nat} {h : Hp} {a b c : Nat}
theorem w_op23 (hp : g.2.2.2.2 = true) (t : lay a = (0, 4, 4)) {av : List Value} {Q : QT} {N K j : Nat} (hj : j < K) : ∀ (k i : Nat) (h : Hp), i + k = N → DQ h a N K (fun _ _ => 0) (fun j' i' => j' < j ∨ (j' = j ∧ i' < i)) → (∀ h1, Fr h h1 [a, a + 1] → DQ h1 a N K (fun _ _ => 0) (fun j' _ => j' < j + 1) → W_X4_open g d av Q n 12 [some (.ref a), none, none, some (.int (nI (j + 1))), none] [] h1) → W_X4_open g d av Q n 23 [some (.ref a), none, none, some (.int (nI j)), some (.int (nI i))] [] h := by
  intro k
  induction k with
  | zero =>
    intro i h hi H q
    have hn := H.ltn
    refine s_X4_open_23 hp t ⟨fun _ => ?_, fun c => absurd ?_ c⟩
    · rw [nI_1]; exact q h Fr.rf (H.mono (fun j' i' _ h2 h3 => by omega))
    · rw [H.n]; simp (disch := omega) only [nI_addz, nI_1, nI_leI, nI_ltI, nI_eq, nI_tN, nI_inI]; omega
  | succ k ih =>
    intro i h hi H q
    have hn := H.ltn
    refine s_X4_open_23 hp t ⟨fun c => absurd c ?_, fun _ => ⟨H.inx hj (by omega), fun h1 e1 => ?_⟩⟩
    · rw [H.n]; simp (disch := omega) only [nI_addz, nI_1, nI_leI, nI_ltI, nI_eq, nI_tN, nI_inI]; omega
    · rw [H.tn hj (by omega)] at e1
      have f1 : Fr h h1 [a, a + 1] := by rw [e1]; exact Fr.rf.put (by simp)
      rw [nI_1]
      refine ih (i + 1) h1 (by omega) ?_ (fun h' k1 k2 => q h' (f1.tr k1) k2)
      rw [e1]
      exact (H.put (j := j) (i := i) (by omega)).mono (fun j' i' _ _ h3 => by omega)
theorem w_op12 (hp : g.2.2.2.2 = true) (t : lay a = (0, 4, 4)) {av : List Value} {Q : Hp → Prop} {N K : Nat} : ∀ (k j : Nat) (h : Hp), j + k = K → DQ h a N K (fun _ _ => 0) (fun j' _ => j' < j) → (∀ h1, Fr h h1 [a, a + 1] → DA h1 a N K (fun _ _ => 0) → Q h1) → W_X4_open g d av (QV n Q) n 12 [some (.ref a), none, none, some (.int (nI j)), none] [] h := by
  intro k
  induction k with
  | zero =>
    intro j h hj H q
    have hk := H.ltk
    refine s_X4_open_12 hp t ⟨fun _ => qV (q h Fr.rf (H.da (fun j' i' h1 _ => by omega))), fun c => absurd ?_ c⟩
    rw [H.k]; simp (disch := omega) only [nI_addz, nI_1, nI_leI, nI_ltI, nI_eq, nI_tN, nI_inI]; omega
  | succ k ih =>
    intro j h hj H q
    have hk := H.ltk
    refine s_X4_open_12 hp t ⟨fun c => absurd c ?_, fun _ => ?_⟩
    · rw [H.k]; simp (disch := omega) only [nI_addz, nI_1, nI_leI, nI_ltI, nI_eq, nI_tN, nI_inI]; omega
    · refine w_op23 hp t (N := N) (K := K) (by omega) N 0 h (by omega) (H.mono (fun j' i' _ _ h3 => by omega)) (fun h1 f1 H1 => ih (j + 1) h1 (by omega) H1 (fun h' k1 k2 => q h' (f1.tr k1) k2))
theorem ok_open (hp : g.2.2.2.2 = true) (t : lay a = (0, 4, 4)) (hw : ri h a 0 = nI (wd a)) {N K : Nat} (hN : N ≤ wd a) (hK : K ≤ hg a) {Q : Hp → Prop} (q : ∀ h', Fr h h' [a, a + 1] → DA h' a N K (fun _ _ => 0) → Q h') : CallV g m_X4_open d [.ref a, .int (nI N), .int (nI K)] n h Q := by
  refine okV 2 rfl rfl (s_X4_open_0 hp t (fun h1 e1 h2 e2 => ?_))
  have f2 : Fr h h2 [a, a + 1] := by
    rw [e2]
    exact Fr.put (by rw [e1]; exact Fr.rf.put (by simp)) (by simp)
  refine w_op12 hp t (N := N) (K := K) K 0 h2 (by omega) ?_ (fun h' k1 k2 => q h' (f2.tr k1) k2)
  rw [e2, e1]
  exact ⟨by rw [ri_ne' (by decide), ri_ne' (by decide)]; exact hw, by rw [ri_ne' (by decide)]; exact ri_same, ri_same, hN, hK, fun j i _ _ hs => absurd hs (Nat.not_lt_zero j)⟩
theorem w_gr61 (hp : g.2.2.2.2 = true) (t : lay a = (0, 4, 4)) {av : List Value} {Q : QT} {x3 x4 : Int32} {N K j : Nat} {F : Nat → Nat → Fp} {S : Nat → Nat → Prop} (hj : j < K) (hF : ∀ j i, ¬ S j i → F j i = 0) : ∀ (k i : Nat) (h : Hp), i + k = N → (∀ i', i ≤ i' → ¬ S j i') → DQ h a N K F (fun j' i' => S j' i' ∨ j' < j ∨ (j' = j ∧ i' < i)) → (∀ h1, Fr h h1 [a, a + 1] → DQ h1 a N K F (fun j' i' => S j' i' ∨ j' < j + 1) → W_X4_grow g d av Q n 38 [some (.ref a), none, none, some (.int x3), some (.int x4), some (.int (nI (j + 1))), none] [] h1) → W_X4_grow g d av Q n 61 [some (.ref a), none, none, some (.int x3), some (.int x4), some (.int (nI j)), some (.int (nI i))] [] h := by
  intro k
  induction k with
  | zero =>
    intro i h hi hS H q
    have hn := H.ltn
    refine s_X4_grow_61 hp t ⟨fun _ => ?_, fun c => absurd ?_ c⟩
    · rw [nI_1]
      refine q h Fr.rf (H.mono (fun j' i' _ h2 h3 => h3.elim Or.inl (fun h3 => Or.inr ?_)))
      omega
    · rw [H.n]; simp (disch := omega) only [nI_addz, nI_1, nI_leI, nI_ltI, nI_eq, nI_tN, nI_inI]; omega
  | succ k ih =>
    intro i h hi hS H q
    have hn := H.ltn
    refine s_X4_grow_61 hp t ⟨fun c => absurd c ?_, fun _ => ⟨H.inx hj (by omega), fun h1 e1 => ?_⟩⟩
    · rw [H.n]; simp (disch := omega) only [nI_addz, nI_1, nI_leI, nI_ltI, nI_eq, nI_tN, nI_inI]; omega
    · rw [H.tn hj (by omega), show (0 : Int32) = toI (F j i) by rw [hF j i (hS i (Nat.le_refl _))]; rfl] at e1
      have f1 : Fr h h1 [a, a + 1] := by rw [e1]; exact Fr.rf.put (by simp)
      rw [nI_1]
      refine ih (i + 1) h1 (by omega) (fun i' hi' => hS i' (by omega)) ?_ (fun h' k1 k2 => q h' (f1.tr k1) k2)
      rw [e1]
      refine (H.put (j := j) (i := i) (by omega)).mono (fun j' i' _ _ h3 => ?_)
      rcases h3 with h3 | h3
      · exact Or.inl (Or.inl h3)
      · by_cases e : j' = j ∧ i' = i
        · exact Or.inr e
        · exact Or.inl (Or.inr (by omega))
theorem w_gr38 (hp : g.2.2.2.2 = true) (t : lay a = (0, 4, 4)) {av : List Value} {Q : Hp → Prop} {N K N0 K0 : Nat} {F : Nat → Nat → Fp} (hN : N0 ≤ N) (hK : K0 ≤ K) (hF : ∀ j i, ¬ (j < K0 ∧ i < N0) → F j i = 0) : ∀ (k j : Nat) (h : Hp), j + k = K → DQ h a N K F (fun j' i' => (j' < K0 ∧ i' < N0) ∨ j' < j) → (∀ h1, Fr h h1 [a, a + 1] → DA h1 a N K F → Q h1) → W_X4_grow g d av (QV n Q) n 38 [some (.ref a), none, none, some (.int (nI N0)), some (.int (nI K0)), some (.int (nI j)), none] [] h := by
  intro k
  induction k with
  | zero =>
    intro j h hj H q
    have hk := H.ltk
    refine s_X4_grow_38 hp t ⟨fun _ => qV (q h Fr.rf (H.da (fun j' i' h1 _ => Or.inr (by omega)))), fun c => absurd ?_ c⟩
    rw [H.k]; simp (disch := omega) only [nI_addz, nI_1, nI_leI, nI_ltI, nI_eq, nI_tN, nI_inI]; omega
  | succ k ih =>
    intro j h hj H q
    have hk := H.ltk
    have hn := H.ltn
    refine s_X4_grow_38 hp t ⟨fun c => absurd c ?_, fun _ => ?_⟩
    · rw [H.k]; simp (disch := omega) only [nI_addz, nI_1, nI_leI, nI_ltI, nI_eq, nI_tN, nI_inI]; omega
    · rw [nI_leI (by omega) (by omega)]
      refine ⟨fun c => s_X4_grow_59 hp t ?_, fun c => s_X4_grow_59 hp t ?_⟩
      · refine w_gr61 hp t (S := fun j i => j < K0 ∧ i < N0) (j := j) (by omega) hF N 0 h (by omega) (fun i' _ z => absurd z.1 (by omega)) (H.mono (fun j' i' _ _ h3 => h3.elim Or.inl (fun h3 => Or.inr (by omega)))) (fun h1 f1 H1 => ih (j + 1) h1 (by omega) H1 (fun h' k1 k2 => q h' (f1.tr k1) k2))
      · refine w_gr61 hp t (S := fun j i => j < K0 ∧ i < N0) (j := j) (by omega) hF (N - N0) N0 h (by omega) (fun i' hi' z => absurd z.2 (by omega)) (H.mono (fun j' i' _ _ h3 => ?_)) (fun h1 f1 H1 => ih (j + 1) h1 (by omega) H1 (fun h' k1 k2 => q h' (f1.tr k1) k2))
        rcases h3 with h3 | h3 | h3
        · exact Or.inl h3
        · exact Or.inr h3
        · exact Or.inl (by omega)
/-- rooms for more, all 0 there -/
theorem ok_grow (hp : g.2.2.2.2 = true) (t : lay a = (0, 4, 4)) {N K N1 K1 : Nat} {f : Nat → Nat → Fp} (H : DA h a N K f) (hN : N1 ≤ wd a) (hK : K1 ≤ hg a) {Q : Hp → Prop} (q : ∀ h', Fr h h' [a, a + 1] → DA h' a (max N N1) (max K K1) (fun j i => if j < K ∧ i < N then f j i else 0) → Q h') : CallV g m_X4_grow (d + 1) [.ref a, .int (nI N1), .int (nI K1)] n h Q := by
  have hn := H.ltn
  have hk := H.ltk
  have h1 := wd_le a
  have h2 := hg_le a
  refine okV 4 rfl rfl (s_X4_grow_0 hp t ?_)
  rw [H.n, H.k]
  refine ok_maxN hp (by omega) (by omega) (fun h1 e1 => ?_)
  have e3 : ri h1 a 3 = nI K := by rw [e1, ri_ne' (by decide)]; exact H.k
  rw [e3]
  refine ok_maxN hp (by omega) (by omega) (fun h2 e2 => ?_)
  have f2 : Fr h h2 [a, a + 1] := by
    rw [e2]
    exact Fr.put (by rw [e1]; exact Fr.rf.put (by simp)) (by simp)
  refine w_gr38 hp t (N := max N N1) (K := max K K1) (F := fun j i => if j < K ∧ i < N then f j i else 0) (by omega) (by omega) (fun j i z => if_neg z) (max K K1) 0 h2 (by omega) ?_ (fun h' k1 k2 => q h' (f2.tr k1) k2)
  rw [e2, e1]
  refine ⟨by rw [ri_ne' (by decide), ri_ne' (by decide)]; exact H.w, by rw [ri_ne' (by decide)]; exact ri_same, ri_same, by have := H.nl; omega, by have := H.kl; omega, fun j i _ _ hs => ?_⟩
  have hs' : j < K ∧ i < N := hs.elim id (fun z => absurd z (Nat.not_lt_zero j))
  rw [ri_ne (by omega), ri_ne (by omega)]
  show ri h (a + 1) (j * wd a + i) = toI (if j < K ∧ i < N then f j i else 0)
  rw [if_pos hs']
  exact H.at hs'.1 hs'.2
theorem w_dcopy (hp : g.2.2.2.2 = true) (ta : lay a = (0, 4, 4)) (tb : lay b = (0, 4, 4)) (hab : a ≠ b) {av : List Value} {Q : Hp → Prop} {N K : Nat} {f : Nat → Nat → Fp} : ∀ (k j : Nat) (h : Hp), j + k = K → DQ h a N K f (fun j' _ => j' < j) → DA h b N K f → (∀ h1, Fr h h1 [a, a + 1] → DA h1 a N K f → Q h1) → W_X4_copy g d av (QV n Q) n 18 [some (.ref a), some (.ref b), some (.int (nI j))] [] h := by
  have o1 : b ∉ [a, a + 1] := by
    have := da_ne tb ta
    simp only [List.mem_cons, List.not_mem_nil, or_false, not_or]; omega
  have o2 : b + 1 ∉ [a, a + 1] := by
    have := da_ne ta tb
    simp only [List.mem_cons, List.not_mem_nil, or_false, not_or]; omega
  intro k
  induction k with
  | zero =>
    intro j h hj H Hb q
    have hk := H.ltk
    refine s_X4_copy_18 hp ta tb ⟨fun _ => qV (q h Fr.rf (H.da (fun j' i' h1 _ => by omega))), fun c => absurd ?_ c⟩
    rw [H.k]; simp (disch := omega) only [nI_addz, nI_1, nI_leI, nI_ltI, nI_eq, nI_tN, nI_inI]; omega
  | succ k ih =>
    intro j h hj H Hb q
    have hk := H.ltk
    have hn := H.ltn
    have hra := rm_lt (a + 1)
    have hrb := rm_lt (b + 1)
    refine s_X4_copy_18 hp ta tb ⟨fun c => absurd c ?_, fun _ => ?_⟩
    · rw [H.k]; simp (disch := omega) only [nI_addz, nI_1, nI_leI, nI_ltI, nI_eq, nI_tN, nI_inI]; omega
    · have ba : j * wd a + N ≤ rm (a + 1) := by
        have h1 : hg a * wd a ≤ rm (a + 1) := (wh_ok (rm (a + 1))).1
        have h2 : (j + 1) * wd a ≤ hg a * wd a := Nat.mul_le_mul_right _ (by have := H.kl; omega)
        rw [Nat.succ_mul] at h2
        have := H.nl
        omega
      have bb : j * wd b + N ≤ rm (b + 1) := by
        have h1 : hg b * wd b ≤ rm (b + 1) := (wh_ok (rm (b + 1))).1
        have h2 : (j + 1) * wd b ≤ hg b * wd b := Nat.mul_le_mul_right _ (by have := Hb.kl; omega)
        rw [Nat.succ_mul] at h2
        have := Hb.nl
        omega
      rw [H.w, Hb.w, H.n, nI_mulz, nI_mulz, nI_tN (by omega), nI_tN (by omega), nI_tN (by omega)]
      refine ⟨nI_pos (by omega), nI_pos (by omega), nI_pos (by omega), bb, ba, fun h1 e1 => ?_⟩
      have f1 : Fr h h1 [a, a + 1] := ⟨by rw [e1]; rfl, fun x hx => by
        rw [e1]
        funext y
        simp only [List.mem_cons, List.not_mem_nil, or_false, not_or] at hx
        simp [cpy, hx.2], fun K => by rw [e1]; exact K.cp (fun k => nk4 ta)⟩
      rw [nI_1]
      refine ih (j + 1) h1 (by omega) ?_ (Hb.fr f1 o1 o2) (fun h' k1 k2 => q h' (f1.tr k1) k2)
      have g0 : ∀ y, ri h1 a y = ri h a y := by
        intro y
        rw [e1]
        show (if a = a + 1 ∧ _ then _ else _) = _
        rw [if_neg (fun z => absurd z.1 (by omega))]
        rfl
      refine ⟨by rw [g0]; exact H.w, by rw [g0]; exact H.n, by rw [g0]; exact H.k, H.nl, H.kl, fun j' i' hj' hi' hs => ?_⟩
      rw [e1]
      show (if a + 1 = a + 1 ∧ j * wd a ≤ j' * wd a + i' ∧ j' * wd a + i' < j * wd a + N then h.1 (b + 1) (j * wd b + (j' * wd a + i' - j * wd a)) else h.1 (a + 1) (j' * wd a + i')) = _
      have hna := H.nl
      by_cases e : j' = j
      · subst e
        rw [if_pos ⟨rfl, by omega, by omega⟩, show j' * wd b + (j' * wd a + i' - j' * wd a) = j' * wd b + i' by omega]
        exact Hb.at hj' hi'
      · rw [if_neg]
        · exact H.2.2.2.2.2 j' i' hj' hi' (by omega)
        · intro z
          have h2 : (j' + 1) * wd a ≤ j * wd a := Nat.mul_le_mul_right _ (by omega)
          rw [Nat.succ_mul] at h2
          omega
theorem ok_dcopyA (hp : g.2.2.2.2 = true) (ta : lay a = (0, 4, 4)) (tb : lay b = (0, 4, 4)) (hab : a ≠ b) (hw : ri h a 0 = nI (wd a)) {N K : Nat} {f : Nat → Nat → Fp} (H : DA h b N K f) (h1 : N ≤ wd a) (h2 : K ≤ hg a) {Q : Hp → Prop} (q : ∀ h', Fr h h' [a, a + 1] → DA h' a N K f → Q h') : CallV g m_X4_copy (d + 1) [.ref a, .ref b] n h Q := by
  have o0 := da_ne tb ta
  refine okV 1 rfl rfl (s_X4_copy_0 hp ta tb (fun h3 e3 h4 e4 => ?_))
  have f3 : Fr h h3 [a, a + 1] := by rw [e3]; exact Fr.rf.put (by simp)
  have f4 : Fr h h4 [a, a + 1] := by rw [e4]; exact f3.put (by simp)
  have o1 : b ∉ [a, a + 1] := by
    simp only [List.mem_cons, List.not_mem_nil, or_false, not_or]; omega
  have o2 : b + 1 ∉ [a, a + 1] := by
    have := da_ne ta tb
    simp only [List.mem_cons, List.not_mem_nil, or_false, not_or]; omega
  refine w_dcopy hp ta tb hab K 0 h4 (by omega) ?_ (H.fr f4 o1 o2) (fun h' k1 k2 => q h' (f4.tr k1) k2)
  rw [f3.gi o1, H.k] at e4
  rw [H.n] at e3
  rw [e4, e3]
  exact ⟨by rw [ri_ne' (by decide), ri_ne' (by decide)]; exact hw, by rw [ri_ne' (by decide)]; exact ri_same, ri_same, h1, h2, fun j i _ _ hs => absurd hs (Nat.not_lt_zero j)⟩
theorem ok_dcopy (hp : g.2.2.2.2 = true) (ta : lay a = (0, 4, 4)) (tb : lay b = (0, 4, 4)) (hab : a ≠ b) (hw : ri h a 0 = nI (wd a)) {F : Bi} (H : DI h b F) (h1 : bsn F ≤ wd a) (h2 : bsz F ≤ hg a) {Q : Hp → Prop} (q : ∀ h', Fr h h' [a, a + 1] → DI h' a F → Q h') : CallV g m_X4_copy (d + 1) [.ref a, .ref b] n h Q := ok_dcopyA hp ta tb hab hw H h1 h2 q
theorem b2_C (v : Fp) (f : Nat → Nat → Fp) (h : f 0 0 = v) : b2 f 1 1 = bC (pC v) := cc_ext fun j i => by
  rw [cc_b2]
  unfold cc
  rw [bco_C]
  by_cases e : j = 0
  · rw [if_pos e, co_C]
    by_cases e2 : i = 0
    · rw [if_pos e2, if_pos (by omega), e, e2, h]
    · rw [if_neg e2, if_neg (by omega)]
  · rw [if_neg e, co_z, if_neg (by omega)]
theorem ok_dset (hp : g.2.2.2.2 = true) (t : lay a = (0, 4, 4)) (hw : ri h a 0 = nI (wd a)) (h1 : 1 ≤ wd a) (h2 : 1 ≤ hg a) {v : Fp} {Q : Hp → Prop} (q : ∀ h', Fr h h' [a, a + 1] → DI h' a (bC (pC v)) → Q h') : CallV g m_X4_set (d + 2) [.ref a, .int (toI v)] n h Q := by
  have hr := dx_lt (a := a) (j := 0) (i := 0) (by omega) (by omega)
  have hr2 := rm_lt (a + 1)
  refine okV 0 rfl rfl (s_X4_set_0 hp t (ok_open hp t hw (N := 1) (K := 1) h1 h2 (fun h3 f3 H3 => ⟨nI_inL (k := 0) (by omega) (by omega), fun h4 e4 => ?_⟩)))
  have H4 : DA h4 a 1 1 (fun j' i' => if j' = 0 ∧ i' = 0 then v else 0) := by
    have := H3.upd (j := 0) (i := 0) (v := v) (by omega)
    rw [show 0 * wd a + 0 = 0 by omega] at this
    rw [e4]; exact this
  have f4 : Fr h h4 [a, a + 1] := by rw [e4]; exact f3.put (by simp)
  refine ok_dtrim hp t H4 (fun h5 f5 H5 => qV (q h5 (f4.tr (f5.mono (by simp))) ?_))
  rw [b2_C v _ (by simp)] at H5
  exact H5
theorem w_row26 (hp : g.2.2.2.2 = true) (ta : lay a = (0, 4, 4)) (tc : lay c = (0, 3, 2)) {av : List Value} {Q : Hp → Prop} {N K j s : Nat} {f : Nat → Nat → Fp} (hj : s = 0 ∨ (j < K ∧ s = N)) (hs : s ≤ rm (c + 1)) : ∀ (k i : Nat) (h : Hp), i + k = s → DA h a N K f → ri h c 1 = nI s → (∀ i', i' < i → ri h (c + 1) i' = toI (f j i')) → (∀ h1, Fr h h1 [c, c + 1] → PI h1 c (mkP (f j) s) → Q h1) → W_X4_row g d av (QV n Q) n 26 [some (.ref a), some (.int (nI j)), some (.ref c), some (.int (nI i))] [] h := by
  have o := dp_ne ta tc
  intro k
  induction k with
  | zero =>
    intro i h hi H Hs Hi q
    have hr := rm_lt (c + 1)
    refine s_X4_row_26 hp ta tc ⟨fun _ => ok_trim hp tc (s := s) (f := f j) ⟨Hs, hs, fun i' hi' => Hi i' (by omega)⟩ (fun h1 f1 H1 => qV (q h1 (f1.mono (by simp)) H1)), fun c => absurd ?_ c⟩
    rw [Hs]; simp (disch := omega) only [nI_addz, nI_1, nI_leI, nI_ltI, nI_eq, nI_tN, nI_inI]; omega
  | succ k ih =>
    intro i h hi H Hs Hi q
    have hr := rm_lt (c + 1)
    refine s_X4_row_26 hp ta tc ⟨fun c' => absurd c' ?_, fun _ => ?_⟩
    · rw [Hs]; simp (disch := omega) only [nI_addz, nI_1, nI_leI, nI_ltI, nI_eq, nI_tN, nI_inI]; omega
    · rw [H.rd (by omega) (by omega), nI_tN (by omega), nI_1]
      refine ⟨H.inx (by omega) (by omega), nI_inL (by omega) (by omega), fun h1 e1 => ?_⟩
      have f1 : Fr h h1 [c, c + 1] := by rw [e1]; exact Fr.rf.put (by simp)
      refine ih (i + 1) h1 (by omega) (H.fr f1 ?_ ?_) ?_ (fun i' hi' => ?_) (fun h' k1 k2 => q h' (f1.tr k1) k2)
      · simp only [List.mem_cons, List.not_mem_nil, or_false, not_or]; omega
      · simp only [List.mem_cons, List.not_mem_nil, or_false, not_or]; omega
      · rw [e1, ri_ne (by omega)]; exact Hs
      · rw [e1]
        by_cases e : i' = i
        · rw [e, ri_same]
        · rw [ri_ne' e]; exact Hi i' (by omega)
theorem ok_rowA (hp : g.2.2.2.2 = true) (ta : lay a = (0, 4, 4)) (tc : lay c = (0, 3, 2)) {N K j : Nat} {f : Nat → Nat → Fp} (H : DA h a N K f) (hj : j < 2147483648) (hN : N ≤ rm (c + 1)) {Q : Hp → Prop} (q : ∀ h', Fr h h' [c, c + 1] → PI h' c (if j < K then mkP (f j) N else pz) → Q h') : CallV g m_X4_row (d + 1) [.ref a, .int (nI j), .ref c] n h Q := by
  have o := dp_ne ta tc
  have hk := H.ltk
  have j21 : ∀ s, (s = 0 ∨ (j < K ∧ s = N)) → (∀ h', Fr h h' [c, c + 1] → PI h' c (mkP (f j) s) → Q h') → W_X4_row g d [.ref a, .int (nI j), .ref c] (QV n Q) n 21 [some (.ref a), some (.int (nI j)), some (.ref c), none] [.int (nI s), .ref c] h := by
    intro s hs q'
    refine s_X4_row_21 hp ta tc tc (fun h1 e1 => ?_)
    have f1 : Fr h h1 [c, c + 1] := by rw [e1]; exact Fr.rf.put (by simp)
    refine w_row26 hp ta tc hs (by omega) s 0 h1 (by omega) (H.fr f1 ?_ ?_) (by rw [e1]; exact ri_same) (fun i' hi' => absurd hi' (Nat.not_lt_zero i')) (fun h' k1 k2 => q' h' (f1.tr k1) k2)
    · simp only [List.mem_cons, List.not_mem_nil, or_false, not_or]; omega
    · simp only [List.mem_cons, List.not_mem_nil, or_false, not_or]; omega
  refine okV 1 rfl rfl (s_X4_row_0 hp ta tc ?_)
  rw [H.k, nI_leI (by omega) hj]
  refine ⟨fun c' => absurd c' (nI_pos hj), fun _ => ⟨fun c' => s_X4_row_20 hp ta tc tc (j21 0 (Or.inl rfl) (fun h' k1 k2 => q h' k1 ?_)), fun c' => ?_⟩⟩
  · rw [if_neg (by omega)]; rw [mkP_0] at k2; exact k2
  · rw [H.n]
    refine j21 N (Or.inr ⟨by omega, rfl⟩) (fun h' k1 k2 => q h' k1 ?_)
    rw [if_pos (by omega)]; exact k2
theorem ok_row (hp : g.2.2.2.2 = true) (ta : lay a = (0, 4, 4)) (tc : lay c = (0, 3, 2)) {F : Bi} {j : Nat} (H : DI h a F) (hj : j < 2147483648) (hN : bsn F ≤ rm (c + 1)) {Q : Hp → Prop} (q : ∀ h', Fr h h' [c, c + 1] → PI h' c (bco F j) → Q h') : CallV g m_X4_row (d + 1) [.ref a, .int (nI j), .ref c] n h Q := by
  refine ok_rowA hp ta tc H hj hN (fun h' k1 k2 => q h' k1 ?_)
  have e : (if j < bsz F then mkP (cc F j) (bsn F) else pz) = bco F j := by
    split
    · exact mkP_co (bco F j) (bsn_le F j)
    · exact (bsz_le F j (by omega)).symm
  rw [e] at k2; exact k2
theorem ok_rowM (hp : g.2.2.2.2 = true) (ta : lay a = (0, 4, 4)) (tc : lay c = (0, 3, 2)) {N K : Nat} {f : Nat → Nat → Fp} {x : Int32} (H : DA h a N K f) (hx : x < 0) {Q : Hp → Prop} (q : ∀ h', Fr h h' [c, c + 1] → PI h' c pz → Q h') : CallV g m_X4_row (d + 1) [.ref a, .int x, .ref c] n h Q := by
  refine okV 1 rfl rfl (s_X4_row_0 hp ta tc ⟨fun _ => s_X4_row_20 hp ta tc tc (s_X4_row_21 hp ta tc tc (fun h1 e1 => ?_)), fun c' => absurd hx c'⟩)
  have f1 : Fr h h1 [c, c + 1] := by rw [e1]; exact Fr.rf.put (by simp)
  have e2 : ri h1 c 1 = nI 0 := by rw [e1]; exact ri_same
  refine s_X4_row_26 hp ta tc ⟨fun _ => ok_trim hp tc (s := 0) (f := fun _ => 0) ⟨e2, Nat.zero_le _, fun i' hi' => absurd hi' (Nat.not_lt_zero i')⟩ (fun h2 f2 H2 => qV (q h2 (f1.tr (f2.mono (by simp))) (by rw [mkP_0] at H2; exact H2))), fun c' => absurd ?_ c'⟩
  rw [e2]; decide
theorem w_putRow (hp : g.2.2.2.2 = true) (ta : lay a = (0, 4, 4)) (tc : lay c = (0, 3, 2)) {av : List Value} {Q : Hp → Prop} {N K j : Nat} {p : Un} (hj : j < K) : ∀ (k i : Nat) (f : Nat → Nat → Fp) (h : Hp), i + k = N → DA h a N K f → PI h c p → (∀ h1, Fr h h1 [a, a + 1] → DA h1 a N K (fun j' i' => if j' = j ∧ i ≤ i' then co p i' else f j' i') → Q h1) → W_X4_putRow g d av (QV n Q) n 2 [some (.ref a), some (.int (nI j)), some (.ref c), some (.int (nI i))] [] h := by
  have o := dp_ne ta tc
  intro k
  induction k with
  | zero =>
    intro i f h hi H Hc q
    have hn := H.ltn
    refine s_X4_putRow_2 hp ta tc ⟨fun _ => qV (q h Fr.rf (H.cong (fun j' i' _ hi' => ?_))), fun c => absurd ?_ c⟩
    · rw [if_neg (by omega)]
    · rw [H.n]; simp (disch := omega) only [nI_addz, nI_1, nI_leI, nI_ltI, nI_eq, nI_tN, nI_inI]; omega
  | succ k ih =>
    intro i f h hi H Hc q
    have hn := H.ltn
    refine s_X4_putRow_2 hp ta tc ⟨fun c' => absurd c' ?_, fun _ => ?_⟩
    · rw [H.n]; simp (disch := omega) only [nI_addz, nI_1, nI_leI, nI_ltI, nI_eq, nI_tN, nI_inI]; omega
    · refine ok_get hp tc Hc (by omega) ⟨H.inx hj (by omega), fun h1 e1 => ?_⟩
      rw [H.tn hj (by omega)] at e1
      have f1 : Fr h h1 [a, a + 1] := by rw [e1]; exact Fr.rf.put (by simp)
      rw [nI_1]
      refine ih (i + 1) (fun j' i' => if j' = j ∧ i' = i then co p i else f j' i') h1 (by omega) (by rw [e1]; exact H.upd (by omega)) (Hc.fr f1 ?_ ?_) (fun h' k1 k2 => q h' (f1.tr k1) (k2.cong (fun j' i' _ _ => ?_)))
      · simp only [List.mem_cons, List.not_mem_nil, or_false, not_or]; omega
      · simp only [List.mem_cons, List.not_mem_nil, or_false, not_or]; omega
      · by_cases e : j' = j ∧ i' = i
        · rw [if_neg (by omega), if_pos e, if_pos (by omega), e.2]
        · by_cases e2 : j' = j ∧ i + 1 ≤ i'
          · rw [if_pos e2, if_pos (by omega)]
          · rw [if_neg e2, if_neg e, if_neg (by omega)]
theorem ok_putRow (hp : g.2.2.2.2 = true) (ta : lay a = (0, 4, 4)) (tc : lay c = (0, 3, 2)) {N K j : Nat} {f : Nat → Nat → Fp} {p : Un} (H : DA h a N K f) (Hc : PI h c p) (hj : j < K) {Q : Hp → Prop} (q : ∀ h', Fr h h' [a, a + 1] → DA h' a N K (fun j' i' => if j' = j then co p i' else f j' i') → Q h') : CallV g m_X4_putRow (d + 1) [.ref a, .int (nI j), .ref c] n h Q :=
  okV 1 rfl rfl (s_X4_putRow_0 hp ta tc (w_putRow hp ta tc hj N 0 f h (by omega) H Hc (fun h' k1 k2 => q h' k1 (k2.cong (fun j' i' _ _ => by simp)))))
theorem w_dhead (hp : g.2.2.2.2 = true) (t : lay a = (0, 4, 4)) {av : List Value} {F : Bi} (H : DI h a F) (hF : F ≠ bz) {Q : Int32 → Hp → Prop} (q : Q (toI (hd (bhd F))) h) : ∀ (k : Nat), k ≤ bsn F → sz (bhd F) ≤ k → W_X4_head g d av (QI n Q) n 7 [some (.ref a), some (.int (zI ((k : Int) - 1)))] [] h := by
  have hn := H.ltn
  have hk := H.ltk
  have hpos := bsz_pos hF
  have hne : bhd F ≠ pz := bhd_ne hF
  have e0 : ri h a 3 - 1 = nI (bsz F - 1) := by rw [H.k, nI_sub1 hpos]
  intro k
  induction k with
  | zero =>
    intro h1 h2
    exact absurd (sz_0 (Nat.le_zero.mp h2)) hne
  | succ k ih =>
    intro h1 h2
    rw [show ((k + 1 : Nat) : Int) - 1 = (k : Int) by omega]
    have e1 : (zI (k : Int)) = nI k := rfl
    have e2 : cc F (bsz F - 1) k = co (bhd F) k := rfl
    rw [e1]
    refine s_X4_head_7 hp t ⟨fun c => absurd c (nI_pos (by omega)), fun _ => ?_⟩
    rw [e0, H.rd (by omega) (by omega), toI_eq0]
    refine ⟨H.inx (by omega) (by omega), fun c => ?_, fun c => ?_⟩
    · refine s_X4_head_38 hp t ⟨fun _ => ?_, fun c2 => absurd ?_ c2⟩
      · rw [e0, H.rd (by omega) (by omega)]
        refine ⟨H.inx (by omega) (by omega), qI ?_⟩
        have e3 : hd (bhd F) = cc F (bsz F - 1) k := by
          rw [e2] at c ⊢
          have h3 := sz_co c
          have h4 : sz (bhd F) = k + 1 := by omega
          unfold hd
          rw [h4]; rfl
        rw [e3] at q; exact q
      · rw [show (0 : Int32) = nI 0 from rfl]; simp (disch := omega) only [nI_addz, nI_1, nI_leI, nI_ltI, nI_eq, nI_tN, nI_inI]; omega
    · rw [show nI k + (-1 : Int32) = zI ((k : Int) - 1) by simp (disch := omega) only [nI_z, z0, z1, z2, zm1, zI_add, zI_sub, zI_neg, zI_mul, zI_le, zI_lt, zI_eq, zI_tN, zI_inI]; congr 1]
      refine ih (by omega) (sz_min (fun i hi => ?_))
      by_cases e : i = k
      · rw [e, ← e2]; exact c
      · exact sz_le _ i (by omega)
theorem ok_dhead (hp : g.2.2.2.2 = true) (t : lay a = (0, 4, 4)) {F : Bi} (H : DI h a F) {Q : Int32 → Hp → Prop} (q : Q (toI (hd (bhd F))) h) : CallI g m_X4_head d [.ref a] n h Q := by
  refine okI 1 rfl rfl (s_X4_head_0 hp t ?_)
  by_cases hF : F = bz
  · subst hF
    have e1 : ri h a 2 - 1 = zI (-1) := by rw [H.n, bsn_z]; rfl
    rw [e1]
    have e2 : bhd bz = pz := @hd_z Un (plRing Fp)
    rw [e2, hd_z] at q
    refine s_X4_head_7 hp t ⟨fun _ => s_X4_head_38 hp t ⟨fun c => absurd c (by decide), fun _ => qI q⟩, fun c => absurd (by decide) c⟩
  · have hn := H.ltn
    have e1 : ri h a 2 - 1 = zI ((bsn F : Int) - 1) := by rw [H.n]; simp (disch := omega) only [nI_z, z0, z1, z2, zm1, zI_add, zI_sub, zI_neg, zI_mul, zI_le, zI_lt, zI_eq, zI_tN, zI_inI]
    rw [e1]
    exact w_dhead hp t H hF q (bsn F) (Nat.le_refl _) (bsn_le F _)
/-- all numbers times one -/
noncomputable def bsc (c : Fp) (F : Bi) : Bi := bmul (bC (pC c)) F
theorem cc_sc (c : Fp) (F : Bi) (j i : Nat) : cc (bsc c F) j i = c * cc F j i := by
  unfold cc bsc
  rw [bco_Cmul, pC_mul]
theorem w_dsc12 (hp : g.2.2.2.2 = true) (t : lay a = (0, 4, 4)) {av : List Value} {Q : QT} {N K j : Nat} {x : Fp} (hj : j < K) : ∀ (k i : Nat) (f : Nat → Nat → Fp) (h : Hp), i + k = N → DA h a N K f → (∀ h1, Fr h h1 [a, a + 1] → DA h1 a N K (fun j' i' => if j' = j ∧ i ≤ i' then f j' i' * x else f j' i') → W_X4_scale g d av Q n 2 [some (.ref a), some (.int (toI x)), some (.int (nI (j + 1))), none] [] h1) → W_X4_scale g d av Q n 12 [some (.ref a), some (.int (toI x)), some (.int (nI j)), some (.int (nI i))] [] h := by
  intro k
  induction k with
  | zero =>
    intro i f h hi H q
    have hn := H.ltn
    refine s_X4_scale_12 hp t ⟨fun _ => ?_, fun c => absurd ?_ c⟩
    · rw [nI_1]
      refine q h Fr.rf (H.cong (fun j' i' _ hi' => ?_))
      rw [if_neg (by omega)]
    · rw [H.n]; simp (disch := omega) only [nI_addz, nI_1, nI_leI, nI_ltI, nI_eq, nI_tN, nI_inI]; omega
  | succ k ih =>
    intro i f h hi H q
    have hn := H.ltn
    refine s_X4_scale_12 hp t ⟨fun c' => absurd c' ?_, fun _ => ?_⟩
    · rw [H.n]; simp (disch := omega) only [nI_addz, nI_1, nI_leI, nI_ltI, nI_eq, nI_tN, nI_inI]; omega
    · rw [H.rd hj (by omega), H.tn hj (by omega), nI_1]
      refine ⟨H.inx hj (by omega), ok_times hp ⟨H.inx hj (by omega), fun h1 e1 => ?_⟩⟩
      have f1 : Fr h h1 [a, a + 1] := by rw [e1]; exact Fr.rf.put (by simp)
      refine ih (i + 1) (fun j' i' => if j' = j ∧ i' = i then f j i * x else f j' i') h1 (by omega) (by rw [e1]; exact H.upd (by omega)) (fun h' k1 k2 => q h' (f1.tr k1) (k2.cong (fun j' i' _ _ => ?_)))
      by_cases e : j' = j ∧ i' = i
      · rw [if_neg (by omega), if_pos e, if_pos (by omega), e.1, e.2]
      · by_cases e2 : j' = j ∧ i + 1 ≤ i'
        · rw [if_pos e2, if_neg e, if_pos (by omega)]
        · rw [if_neg e2, if_neg e, if_neg (by omega)]
theorem w_dsc2 (hp : g.2.2.2.2 = true) (t : lay a = (0, 4, 4)) {av : List Value} {Q : Hp → Prop} {N K : Nat} {x : Fp} : ∀ (k j : Nat) (f : Nat → Nat → Fp) (h : Hp), j + k = K → DA h a N K f → (∀ h1, Fr h h1 [a, a + 1] → DI h1 a (b2 (fun j' i' => if j ≤ j' then f j' i' * x else f j' i') N K) → Q h1) → W_X4_scale g (d + 1) av (QV n Q) n 2 [some (.ref a), some (.int (toI x)), some (.int (nI j)), none] [] h := by
  intro k
  induction k with
  | zero =>
    intro j f h hj H q
    have hk := H.ltk
    refine s_X4_scale_2 hp t ⟨fun _ => ok_dtrim hp t H (fun h1 f1 H1 => qV (q h1 (f1.mono (by simp)) ?_)), fun c => absurd ?_ c⟩
    · rw [b2_cong (f' := f) (fun j' i' hj' _ => by rw [if_neg (by omega)])]; exact H1
    · rw [H.k]; simp (disch := omega) only [nI_addz, nI_1, nI_leI, nI_ltI, nI_eq, nI_tN, nI_inI]; omega
  | succ k ih =>
    intro j f h hj H q
    have hk := H.ltk
    refine s_X4_scale_2 hp t ⟨fun c => absurd c ?_, fun _ => ?_⟩
    · rw [H.k]; simp (disch := omega) only [nI_addz, nI_1, nI_leI, nI_ltI, nI_eq, nI_tN, nI_inI]; omega
    · refine w_dsc12 hp t (by omega) N 0 f h (by omega) H (fun h1 f1 H1 => ih (j + 1) _ h1 (by omega) H1 (fun h' k1 k2 => q h' (f1.tr k1) ?_))
      rw [b2_cong (f' := fun j' i' => if j + 1 ≤ j' then (if j' = j ∧ 0 ≤ i' then f j' i' * x else f j' i') * x else (if j' = j ∧ 0 ≤ i' then f j' i' * x else f j' i'))]
      · exact k2
      · intro j' i' _ _
        by_cases e : j' = j
        · rw [if_pos (by omega), if_neg (by omega), if_pos (by omega)]
        · by_cases e2 : j + 1 ≤ j'
          · rw [if_pos (by omega), if_pos e2, if_neg (by omega)]
          · rw [if_neg (by omega), if_neg e2, if_neg (by omega)]
theorem ok_dscale (hp : g.2.2.2.2 = true) (t : lay a = (0, 4, 4)) {F : Bi} {x : Fp} (H : DI h a F) {Q : Hp → Prop} (q : ∀ h', Fr h h' [a, a + 1] → DI h' a (bsc x F) → Q h') : CallV g m_X4_scale (d + 2) [.ref a, .int (toI x)] n h Q := by
  refine okV 2 rfl rfl (s_X4_scale_0 hp t (w_dsc2 hp t (bsz F) 0 (cc F) h (by omega) H (fun h' k1 k2 => q h' k1 ?_)))
  have e : b2 (fun j' i' => if 0 ≤ j' then cc F j' i' * x else cc F j' i') (bsn F) (bsz F) = bsc x F := cc_ext fun j i => by
    rw [cc_b2, cc_sc]
    split
    · rw [if_pos (Nat.zero_le _)]; grind
    · rw [cc_out (by omega)]; grind
  rw [e] at k2; exact k2
end
