set_option maxRecDepth 100000
/-! DUO: polynomials in n and k as rows of numbers -/
theorem wh_ok (r : Nat) : (wh r).2 * (wh r).1 ≤ r ∧ (wh r).1 ≤ 1300 ∧ (wh r).2 ≤ 150 := by
  unfold wh
  (repeat' split) <;> simp <;> omega
theorem wd_le (a : Nat) : wd a ≤ 1300 := (wh_ok _).2.1
theorem hg_le (a : Nat) : hg a ≤ 150 := (wh_ok _).2.2
theorem dx_lt {a j i : Nat} (hj : j < hg a) (hi : i < wd a) : j * wd a + i < rm (a + 1) := by
  have h1 : hg a * wd a ≤ rm (a + 1) := (wh_ok (rm (a + 1))).1
  have h2 : (j + 1) * wd a ≤ hg a * wd a := Nat.mul_le_mul_right _ hj
  rw [Nat.succ_mul] at h2
  omega
theorem dx_inj {w j i j' i' : Nat} (hi : i < w) (hi' : i' < w) (e : j * w + i = j' * w + i') : j = j' ∧ i = i' := by
  have h1 : ∀ {j i : Nat}, i < w → (j * w + i) / w = j := by
    intro j i hi
    rw [Nat.mul_comm, Nat.mul_add_div (by omega), Nat.div_eq_of_lt hi]; omega
  have h2 : j = j' := by rw [← h1 (j := j) hi, e, h1 hi']
  subst h2
  exact ⟨rfl, by omega⟩
theorem nI_mulz (a b : Nat) : nI a * nI b = nI (a * b) := by
  rw [nI_z, nI_z, nI_z, zI_mul, Int.natCast_mul]
def DA (h : Hp) (a N K : Nat) (f : Nat → Nat → Fp) : Prop := ri h a 0 = nI (wd a) ∧ ri h a 2 = nI N ∧ ri h a 3 = nI K ∧ N ≤ wd a ∧ K ≤ hg a ∧ ∀ j i, j < K → i < N → ri h (a + 1) (j * wd a + i) = toI (f j i)
theorem dx_in {h : Hp} {a j i : Nat} (hw : ri h a 0 = nI (wd a)) (hj : j < hg a) (hi : i < wd a) : vp_in (nI j * ri h a 0 + nI i) (rm (a + 1)) := by
  rw [hw, nI_mulz, nI_addz]
  exact nI_inL (dx_lt hj hi) (by have := rm_lt (a + 1); omega)
theorem dx_tn {h : Hp} {a j i : Nat} (hw : ri h a 0 = nI (wd a)) (hj : j < hg a) (hi : i < wd a) : (nI j * ri h a 0 + nI i).toNatClampNeg = j * wd a + i := by
  rw [hw, nI_mulz, nI_addz]
  exact nI_tN (by have := rm_lt (a + 1); have := dx_lt hj hi; omega)
section
variable {h h' : Hp} {a N K : Nat} {f : Nat → Nat → Fp}
theorem DA.w (H : DA h a N K f) : ri h a 0 = nI (wd a) := H.1
theorem DA.n (H : DA h a N K f) : ri h a 2 = nI N := H.2.1
theorem DA.k (H : DA h a N K f) : ri h a 3 = nI K := H.2.2.1
theorem DA.nl (H : DA h a N K f) : N ≤ wd a := H.2.2.2.1
theorem DA.kl (H : DA h a N K f) : K ≤ hg a := H.2.2.2.2.1
theorem DA.at (H : DA h a N K f) {j i : Nat} (hj : j < K) (hi : i < N) : ri h (a + 1) (j * wd a + i) = toI (f j i) := H.2.2.2.2.2 j i hj hi
theorem DA.rd (H : DA h a N K f) {j i : Nat} (hj : j < K) (hi : i < N) : ri h (a + 1) (nI j * ri h a 0 + nI i).toNatClampNeg = toI (f j i) := by
  have := H.nl; have := H.kl
  rw [dx_tn H.w (by omega) (by omega), H.at hj hi]
theorem DA.inx (H : DA h a N K f) {j i : Nat} (hj : j < K) (hi : i < N) : vp_in (nI j * ri h a 0 + nI i) (rm (a + 1)) := by
  have := H.nl; have := H.kl
  exact dx_in H.w (by omega) (by omega)
theorem DA.tn (H : DA h a N K f) {j i : Nat} (hj : j < K) (hi : i < N) : (nI j * ri h a 0 + nI i).toNatClampNeg = j * wd a + i := by
  have := H.nl; have := H.kl
  exact dx_tn H.w (by omega) (by omega)
theorem DA.upd (H : DA h a N K f) {j i : Nat} {v : Fp} (hi : i < N) : DA (wi h (a + 1) (j * wd a + i) (toI v)) a N K (fun j' i' => if j' = j ∧ i' = i then v else f j' i') := by
  have h1 := H.nl
  refine ⟨by rw [ri_ne (by omega)]; exact H.w, by rw [ri_ne (by omega)]; exact H.n, by rw [ri_ne (by omega)]; exact H.k, H.nl, H.kl, fun j' i' hj' hi' => ?_⟩
  show ri (wi h (a + 1) (j * wd a + i) (toI v)) (a + 1) (j' * wd a + i') = toI (if j' = j ∧ i' = i then v else f j' i')
  rw [ri_wi]
  by_cases e : j' = j ∧ i' = i
  · rw [if_pos ⟨rfl, by rw [e.1, e.2]⟩, if_pos e]
  · rw [if_neg (fun q => e (dx_inj (by omega) (by omega) q.2)), if_neg e]; exact H.at hj' hi'
theorem DA.cong {f' : Nat → Nat → Fp} (H : DA h a N K f) (e : ∀ j i, j < K → i < N → f j i = f' j i) : DA h a N K f' := ⟨H.w, H.n, H.k, H.nl, H.kl, fun j i hj hi => by rw [← e j i hj hi]; exact H.at hj hi⟩
theorem DA.fr {L : List Nat} (H : DA h a N K f) (e : Fr h h' L) (h1 : a ∉ L) (h2 : a + 1 ∉ L) : DA h' a N K f := ⟨by rw [e.gi h1]; exact H.w, by rw [e.gi h1]; exact H.n, by rw [e.gi h1]; exact H.k, H.nl, H.kl, fun j i hj hi => by rw [e.gi h2]; exact H.at hj hi⟩
theorem DA.ltn (H : DA h a N K f) : N ≤ 1300 := Nat.le_trans H.nl (wd_le a)
theorem DA.ltk (H : DA h a N K f) : K ≤ 150 := Nat.le_trans H.kl (hg_le a)
end
def cc (F : Bi) (j i : Nat) : Fp := co (bco F j) i
theorem cc_ext {F G : Bi} (h : ∀ j i, cc F j i = cc G j i) : F = G := b_ext fun j => pl_ext fun i => h j i
def b2 (f : Nat → Nat → Fp) (N K : Nat) : Bi := bmk (fun j => mkP (f j) N) K
theorem cc_b2 (f : Nat → Nat → Fp) (N K j i : Nat) : cc (b2 f N K) j i = if j < K ∧ i < N then f j i else 0 := by
  unfold cc b2
  rw [bco_mk]
  by_cases h : j < K
  · rw [if_pos h, co_mkP]
    by_cases h2 : i < N
    · rw [if_pos h2, if_pos ⟨h, h2⟩]
    · rw [if_neg h2, if_neg (fun q => h2 q.2)]
  · rw [if_neg h, co_z, if_neg (fun q => h q.1)]
theorem cc_z (j i : Nat) : cc bz j i = 0 := by unfold cc; rw [bco_z, co_z]
theorem b2_cong {f f' : Nat → Nat → Fp} {N K : Nat} (e : ∀ j i, j < K → i < N → f j i = f' j i) : b2 f N K = b2 f' N K := cc_ext fun j i => by
  rw [cc_b2, cc_b2]
  split
  · exact e j i (by omega) (by omega)
  · rfl
def mxN (f : Nat → Nat) : Nat → Nat
  | 0 => 0
  | n + 1 => max (mxN f n) (f n)
theorem mxN_le (f : Nat → Nat) : ∀ (n j : Nat), j < n → f j ≤ mxN f n
  | 0, j, h => absurd h (Nat.not_lt_zero j)
  | n + 1, j, h => by
    have := mxN_le f n j
    show f j ≤ max (mxN f n) (f n)
    by_cases e : j = n
    · rw [e]; omega
    · have := this (by omega); omega
theorem mxN_min (f : Nat → Nat) (m : Nat) : ∀ (n : Nat), (∀ j, j < n → f j ≤ m) → mxN f n ≤ m
  | 0, _ => Nat.zero_le _
  | n + 1, h => by
    have h1 := mxN_min f m n (fun j hj => h j (by omega))
    have h2 := h n (by omega)
    show max (mxN f n) (f n) ≤ m
    omega
/-- one more than the degree in n -/
noncomputable def bsn (F : Bi) : Nat := mxN (fun j => sz (bco F j)) (bsz F)
theorem bsn_le (F : Bi) (j : Nat) : sz (bco F j) ≤ bsn F := by
  by_cases h : j < bsz F
  · exact mxN_le (fun j => sz (bco F j)) (bsz F) j h
  · rw [bsz_le F j (by omega), sz_z]; omega
theorem cc_co {F : Bi} {j i : Nat} (h : cc F j i ≠ 0) : j < bsz F ∧ i < bsn F := by
  constructor
  · apply Nat.not_le.mp
    intro q
    apply h
    unfold cc
    rw [bsz_le F j q, co_z]
  · exact Nat.lt_of_lt_of_le (sz_co h) (bsn_le F j)
theorem cc_out {F : Bi} {j i : Nat} (h : ¬ (j < bsz F ∧ i < bsn F)) : cc F j i = 0 := Classical.byContradiction fun q => h (cc_co q)
theorem bsn_min {F : Bi} {n : Nat} (h : ∀ j i, n ≤ i → cc F j i = 0) : bsn F ≤ n := mxN_min _ n _ (fun j _ => sz_min (fun i hi => h j i hi))
theorem bsn_eq {F : Bi} {n j : Nat} (h : ∀ j i, n + 1 ≤ i → cc F j i = 0) (h1 : cc F j n ≠ 0) : bsn F = n + 1 := by
  have := (cc_co h1).2
  have := bsn_min h
  omega
theorem bsz_eq' {F : Bi} {n i : Nat} (h : ∀ j i, n + 1 ≤ j → cc F j i = 0) (h1 : cc F n i ≠ 0) : bsz F = n + 1 := by
  have := (cc_co h1).1
  have : bsz F ≤ n + 1 := bsz_min fun j hj => pl_ext fun i => by rw [co_z]; exact h j i hj
  omega
theorem bsn_z : bsn bz = 0 := Nat.le_zero.mp (bsn_min fun j i _ => cc_z j i)
theorem bsn_0 {F : Bi} (h : bsn F = 0) : F = bz := cc_ext fun j i => by rw [cc_z, cc_out (by omega)]
theorem bsn_pos {F : Bi} (h : F ≠ bz) : 0 < bsn F := Nat.pos_of_ne_zero fun q => h (bsn_0 q)
/-- the cell a of a Duo holds F -/
def DI (h : Hp) (a : Nat) (F : Bi) : Prop := DA h a (bsn F) (bsz F) (cc F)
theorem DI.fr {h h' : Hp} {a : Nat} {F : Bi} {L : List Nat} (H : DI h a F) (e : Fr h h' L) (h1 : a ∉ L) (h2 : a + 1 ∉ L) : DI h' a F := DA.fr H e h1 h2
theorem DI.of {h : Hp} {a N K : Nat} {f : Nat → Nat → Fp} {F : Bi} (H : DA h a N K f) (e : F = b2 f N K) (h1 : bsn F = N) (h2 : bsz F = K) : DI h a F := by
  unfold DI
  rw [h1, h2]
  refine H.cong (fun j i hj hi => ?_)
  rw [e, cc_b2, if_pos ⟨hj, hi⟩]
theorem b2_cc (F : Bi) {N K : Nat} (h1 : bsn F ≤ N) (h2 : bsz F ≤ K) : b2 (cc F) N K = F := cc_ext fun j i => by
  rw [cc_b2]
  split
  · rfl
  · rw [cc_out (by omega)]
theorem da_ne {a b : Nat} (ta : lay a = (0, 4, 4)) (tb : lay b = (0, 4, 4)) : a ≠ b + 1 := by
  intro e
  have := lf_4_1 tb
  rw [← e, ta] at this
  cases this
theorem dp_ne {a b : Nat} (ta : lay a = (0, 4, 4)) (tb : lay b = (0, 3, 2)) : a ≠ b ∧ a ≠ b + 1 ∧ b ≠ a + 1 := by
  refine ⟨fun e => ?_, fun e => ?_, fun e => ?_⟩
  · rw [e, tb] at ta; cases ta
  · have := lf_3_0 tb
    rw [← e, ta] at this
    cases this
  · have := lf_4_1 ta
    rw [← e, tb] at this
    cases this
section
variable {g : GX} {d n : Nat} {h : Hp} {a : Nat}
theorem ok_disZero (hp : g.2.2.2.2 = true) (t : lay a = (0, 4, 4)) {F : Bi} (H : DI h a F) {Q : Int32 → Hp → Prop} (q1 : F = bz → Q 1 h) (q0 : F ≠ bz → Q 0 h) : CallI g m_X4_isZero d [.ref a] n h Q := by
  refine okI 0 rfl rfl (s_X4_isZero_0 hp t ?_)
  have hl := H.ltk
  rw [H.k]
  have e0 : nI (bsz F) = (0 : Int32) ↔ bsz F = 0 := by simp (disch := omega) only [nI_z, z0, z1, z2, zm1, zI_add, zI_sub, zI_neg, zI_mul, zI_le, zI_lt, zI_eq, zI_tN, zI_inI]; omega
  rw [e0]
  exact ⟨fun c => qI (q0 (fun e => c (by rw [e, bsz_z]))), fun c => qI (q1 (bsz_0 c))⟩
theorem ok_degreeN (hp : g.2.2.2.2 = true) (t : lay a = (0, 4, 4)) {F : Bi} (H : DI h a F) {Q : Int32 → Hp → Prop} (q : Q (nI (bsn F - 1)) h) : CallI g m_X4_degreeN d [.ref a] n h Q := by
  refine okI 0 rfl rfl (s_X4_degreeN_0 hp t ?_)
  have hl := H.ltn
  rw [H.n, z0, nI_z, zI_le (by omega) (by omega) (by omega) (by omega)]
  refine ⟨fun c => qI ?_, fun c => qI ?_⟩
  · rw [show bsn F - 1 = 0 by omega] at q; exact q
  · rw [z1, zI_sub, show ((bsn F : Nat) : Int) - 1 = ((bsn F - 1 : Nat) : Int) by omega]; exact q
theorem ok_degreeK (hp : g.2.2.2.2 = true) (t : lay a = (0, 4, 4)) {F : Bi} (H : DI h a F) {Q : Int32 → Hp → Prop} (q : Q (nI (bsz F - 1)) h) : CallI g m_X4_degreeK d [.ref a] n h Q := by
  refine okI 0 rfl rfl (s_X4_degreeK_0 hp t ?_)
  have hl := H.ltk
  rw [H.k, z0, nI_z, zI_le (by omega) (by omega) (by omega) (by omega)]
  refine ⟨fun c => qI ?_, fun c => qI ?_⟩
  · rw [show bsz F - 1 = 0 by omega] at q; exact q
  · rw [z1, zI_sub, show ((bsz F : Nat) : Int) - 1 = ((bsz F - 1 : Nat) : Int) by omega]; exact q
/-- the number at n^i k^j, for any ints -/
noncomputable def ccI (F : Bi) (i j : Int32) : Fp := if i < 0 ∨ j < 0 then 0 else cc F j.toNatClampNeg i.toNatClampNeg
theorem I32_cases (x : Int32) : x < 0 ∨ ∃ k : Nat, k < 2147483648 ∧ x = nI k := by
  by_cases h : x < 0
  · exact Or.inl h
  · right
    have h1 : 0 ≤ x.toInt := by
      rw [Int32.lt_iff_toInt_lt] at h
      simpa using h
    have h2 := Int32.toInt_lt x
    refine ⟨x.toInt.toNat, by omega, ?_⟩
    apply Int32.toInt_inj.mp
    rw [nI_toInt (by omega)]
    omega
theorem ok_dget (hp : g.2.2.2.2 = true) (t : lay a = (0, 4, 4)) {F : Bi} (H : DI h a F) {x y : Int32} {Q : Int32 → Hp → Prop} (q : Q (toI (ccI F x y)) h) : CallI g m_X4_get d [.ref a, .int x, .int y] n h Q := by
  refine okI 0 rfl rfl (s_X4_get_0 hp t ?_)
  have hn := H.ltn
  have hk := H.ltk
  rcases I32_cases x with hx | ⟨i, hi, rfl⟩
  · have e : ccI F x y = 0 := if_pos (Or.inl hx)
    rw [e] at q
    exact ⟨fun _ => qI q, fun c => absurd hx c⟩
  · have hi0 : ¬ nI i < 0 := nI_pos hi
    refine ⟨fun c => absurd c hi0, fun _ => ?_⟩
    rcases I32_cases y with hy | ⟨j, hj, rfl⟩
    · have e : ccI F (nI i) y = 0 := if_pos (Or.inr hy)
      rw [e] at q
      exact ⟨fun _ => qI q, fun _ => ⟨fun _ => qI q, fun c => absurd hy c⟩⟩
    · have hj0 : ¬ nI j < 0 := nI_pos hj
      have e : ccI F (nI i) (nI j) = cc F j i := by
        unfold ccI
        rw [if_neg (fun z => z.elim hi0 hj0), nI_tN hi, nI_tN hj]
      rw [e] at q
      rw [H.n, H.k, nI_leI (by omega) hi, nI_leI (by omega) hj]
      refine ⟨fun c => qI ?_, fun c => ⟨fun c2 => absurd c2 hj0, fun _ => ⟨fun c2 => qI ?_, fun c2 => ?_⟩⟩⟩
      · rw [cc_out (by omega)] at q; exact q
      · rw [cc_out (by omega)] at q; exact q
      · refine ⟨H.inx (by omega) (by omega), qI ?_⟩
        rw [H.rd (by omega) (by omega)]; exact q
theorem ok_dclear (hp : g.2.2.2.2 = true) (t : lay a = (0, 4, 4)) (hw : ri h a 0 = nI (wd a)) {Q : Hp → Prop} (q : ∀ h', Fr h h' [a] → DI h' a bz → Q h') : CallV g m_X4_clear d [.ref a] n h Q := by
  refine okV 0 rfl rfl (s_X4_clear_0 hp t (fun h1 e1 h2 e2 => qV (q h2 ?_ ?_)))
  · rw [e2]
    exact Fr.put (by rw [e1]; exact Fr.rf.put (by simp)) (by simp)
  · unfold DI
    rw [bsn_z, bsz_z, e2]
    refine ⟨by rw [ri_ne' (by decide), e1, ri_ne' (by decide)]; exact hw, by rw [ri_ne' (by decide), e1]; exact ri_same, ri_same, Nat.zero_le _, Nat.zero_le _, fun j i hj => absurd hj (Nat.not_lt_zero j)⟩
theorem w_empty (hp : g.2.2.2.2 = true) (t : lay a = (0, 4, 4)) {av : List Value} {N K j : Nat} {f : Nat → Nat → Fp} (H : DA h a N K f) (hj : j < K) {Q : Int32 → Hp → Prop} (q1 : (∀ i, i < N → f j i = 0) → Q 1 h) (q0 : ∀ i, i < N → f j i ≠ 0 → Q 0 h) : ∀ (k i : Nat), i + k = N → (∀ i', i' < i → f j i' = 0) → W_X4_isEmptyRow g d av (QI n Q) n 2 [some (.ref a), some (.int (nI j)), some (.int (nI i))] [] h := by
  have hn := H.ltn
  intro k
  induction k with
  | zero =>
    intro i hi hz
    refine s_X4_isEmptyRow_2 hp t ⟨fun _ => qI (q1 (fun i' hi' => hz i' (by omega))), fun c => absurd ?_ c⟩
    rw [H.n]; simp (disch := omega) only [nI_addz, nI_1, nI_leI, nI_ltI, nI_eq, nI_tN, nI_inI]; omega
  | succ k ih =>
    intro i hi hz
    refine s_X4_isEmptyRow_2 hp t ⟨fun c => absurd c ?_, fun _ => ?_⟩
    · rw [H.n]; simp (disch := omega) only [nI_addz, nI_1, nI_leI, nI_ltI, nI_eq, nI_tN, nI_inI]; omega
    · rw [H.rd hj (by omega), toI_eq0, nI_1]
      refine ⟨H.inx hj (by omega), fun c => ih (i + 1) (by omega) (fun i' hi' => ?_), fun c => qI (q0 i (by omega) c)⟩
      by_cases e : i' = i
      · rw [e]; exact c
      · exact hz i' (by omega)
theorem ok_isEmptyRow (hp : g.2.2.2.2 = true) (t : lay a = (0, 4, 4)) {N K j : Nat} {f : Nat → Nat → Fp} (H : DA h a N K f) (hj : j < K) {Q : Int32 → Hp → Prop} (q1 : (∀ i, i < N → f j i = 0) → Q 1 h) (q0 : ∀ i, i < N → f j i ≠ 0 → Q 0 h) : CallI g m_X4_isEmptyRow d [.ref a, .int (nI j)] n h Q :=
  okI 1 rfl rfl (s_X4_isEmptyRow_0 hp t (w_empty hp t H hj q1 q0 N 0 (by omega) (fun i hi => absurd hi (Nat.not_lt_zero i))))
theorem w_dt48 (hp : g.2.2.2.2 = true) (t : lay a = (0, 4, 4)) {av : List Value} {N K : Nat} {f : Nat → Nat → Fp} (H : DA h a (N + 1) K f) {Q : QT} (q1 : (∀ j, j < K → f j N = 0) → W_X4_trim g d av Q n 93 [some (.ref a), some (.int 1), none] [] h) (q0 : ∀ j, j < K → f j N ≠ 0 → W_X4_trim g d av Q n 93 [some (.ref a), some (.int 0), none] [] h) : ∀ (k j : Nat), j + k = K → (∀ j', j' < j → f j' N = 0) → W_X4_trim g d av Q n 48 [some (.ref a), some (.int 1), some (.int (nI j))] [] h := by
  have hn := H.ltn
  have hk := H.ltk
  intro k
  induction k with
  | zero =>
    intro j hj hz
    refine s_X4_trim_48 hp t ⟨fun _ => q1 (fun j' hj' => hz j' (by omega)), fun c => absurd ?_ c⟩
    rw [H.k]; simp (disch := omega) only [nI_addz, nI_1, nI_leI, nI_ltI, nI_eq, nI_tN, nI_inI]; omega
  | succ k ih =>
    intro j hj hz
    refine s_X4_trim_48 hp t ⟨fun c => absurd c ?_, fun _ => ⟨fun c => absurd c (by decide), fun _ => ?_⟩⟩
    · rw [H.k]; simp (disch := omega) only [nI_addz, nI_1, nI_leI, nI_ltI, nI_eq, nI_tN, nI_inI]; omega
    · have e0 : nI j * ri h a 0 + ri h a 2 - 1 = nI j * ri h a 0 + nI N := by
        rw [H.n, ← nI_1]; grind
      rw [e0, H.rd (by omega) (by omega), toI_eq0]
      refine ⟨H.inx (by omega) (by omega), fun c => ?_, fun c => s_X4_trim_86 hp t ?_⟩
      · refine s_X4_trim_86 hp t (s_X4_trim_48 hp t ⟨fun _ => q0 j (by omega) c, fun _ => ⟨fun _ => q0 j (by omega) c, fun c2 => absurd rfl c2⟩⟩)
      · rw [nI_1]
        refine ih (j + 1) (by omega) (fun j' hj' => ?_)
        by_cases e : j' = j
        · rw [e]; exact c
        · exact hz j' (by omega)
theorem DA.setN {h : Hp} {a N K M : Nat} {f : Nat → Nat → Fp} (H : DA h a N K f) (hM : M ≤ N) : DA (wi h a 2 (nI M)) a M K f := ⟨by rw [ri_ne' (by decide)]; exact H.w, ri_same, by rw [ri_ne' (by decide)]; exact H.k, Nat.le_trans hM H.nl, H.kl, fun j i hj hi => by rw [ri_ne (by omega)]; exact H.at hj (by omega)⟩
theorem DA.setK {h : Hp} {a N K M : Nat} {f : Nat → Nat → Fp} (H : DA h a N K f) (hM : M ≤ K) : DA (wi h a 3 (nI M)) a N M f := ⟨by rw [ri_ne' (by decide)]; exact H.w, by rw [ri_ne' (by decide)]; exact H.n, ri_same, H.nl, Nat.le_trans hM H.kl, fun j i hj hi => by rw [ri_ne (by omega)]; exact H.at (by omega) hi⟩
theorem w_dt35 (hp : g.2.2.2.2 = true) (t : lay a = (0, 4, 4)) {av : List Value} {K : Nat} {f : Nat → Nat → Fp} {F : Bi} (hK : bsz F = K) {Q : Hp → Prop} : ∀ (N : Nat) (h : Hp), DA h a N K f → F = b2 f N K → (∀ h', Fr h h' [a] → DI h' a F → Q h') → W_X4_trim g d av (QV n Q) n 35 [some (.ref a), some (.int 1), none] [] h := by
  intro N
  induction N with
  | zero =>
    intro h H e q
    have hF : F = bz := cc_ext fun j i => by rw [e, cc_b2, cc_z, if_neg (by omega)]
    have hK0 : K = 0 := by rw [← hK, hF, bsz_z]
    refine s_X4_trim_35 hp t ⟨fun _ => s_X4_trim_114 hp t ⟨fun c => absurd H.n c, fun _ => s_X4_trim_130 hp t (fun h1 e1 => qV (q h1 (by rw [e1]; exact Fr.rf.put (by simp)) ?_))⟩, fun c => absurd ?_ c⟩
    · rw [e1]
      exact DI.of (H.setK (M := 0) (Nat.zero_le _)) (by rw [e, hK0]) (by rw [hF, bsn_z]) (by rw [hF, bsz_z])
    · rw [H.n]; decide
  | succ N ih =>
    intro h H e q
    have hn := H.ltn
    refine s_X4_trim_35 hp t ⟨fun c => absurd c ?_, fun _ => ⟨fun c => absurd c (by decide), fun _ => ?_⟩⟩
    · rw [H.n, show (0 : Int32) = nI 0 from rfl]; simp (disch := omega) only [nI_addz, nI_1, nI_leI, nI_ltI, nI_eq, nI_tN, nI_inI]; omega
    · refine w_dt48 hp t H (fun c => s_X4_trim_93 hp t ⟨fun c2 => absurd c2 (by decide), fun _ => s_X4_trim_107 hp t t (fun h1 e1 => ?_)⟩) (fun j hj c => s_X4_trim_93 hp t ⟨fun _ => s_X4_trim_107 hp t t (fun h1 e1 => ?_), fun c2 => absurd rfl c2⟩) K 0 (by omega) (fun j hj => absurd hj (Nat.not_lt_zero j))
      · rw [H.n, nI_sub1 (by omega), Nat.add_sub_cancel] at e1
        have f1 : Fr h h1 [a] := by rw [e1]; exact Fr.rf.put (by simp)
        refine ih h1 (by rw [e1]; exact H.setN (by omega)) ?_ (fun h' k1 k2 => q h' (f1.tr k1) k2)
        rw [e]
        refine cc_ext fun j i => ?_
        rw [cc_b2, cc_b2]
        by_cases h1 : j < K ∧ i < N
        · rw [if_pos h1, if_pos (by omega)]
        · rw [if_neg h1]
          split
          · rw [show i = N by omega]; exact c j (by omega)
          · rfl
      · have e2 : ri h a 2 - 0 = nI (N + 1) := by rw [H.n]; grind
        rw [e2] at e1
        have H1 : DA h1 a (N + 1) K f := by rw [e1]; exact H.setN (Nat.le_refl _)
        have f1 : Fr h h1 [a] := by rw [e1]; exact Fr.rf.put (by simp)
        have last : W_X4_trim g d av (QV n Q) n 114 [some (.ref a), none, none] [] h1 := by
          refine s_X4_trim_114 hp t ⟨fun _ => s_X4_trim_130 hp t (fun h2 e3 => qV (q h2 ?_ ?_)), fun c2 => absurd c2 ?_⟩
          · rw [e3]; exact f1.put (by simp)
          · rw [e3, H1.k]
            refine DI.of (H1.setK (Nat.le_refl _)) e (bsn_eq (j := j) (fun j i hi => ?_) ?_) hK
            · rw [e, cc_b2, if_neg (by omega)]
            · rw [e, cc_b2, if_pos ⟨hj, by omega⟩]; exact c
          · rw [H1.n]; simp (disch := omega) only [nI_z, z0, z1, z2, zm1, zI_add, zI_sub, zI_neg, zI_mul, zI_le, zI_lt, zI_eq, zI_tN, zI_inI]; omega
        refine s_X4_trim_35 hp t ⟨fun _ => last, fun _ => ⟨fun _ => last, fun c2 => absurd rfl c2⟩⟩
theorem w_dt0 (hp : g.2.2.2.2 = true) (t : lay a = (0, 4, 4)) {av : List Value} {N : Nat} {f : Nat → Nat → Fp} {F : Bi} {Q : Hp → Prop} : ∀ (K : Nat) (h : Hp), DA h a N K f → F = b2 f N K → (∀ h', Fr h h' [a] → DI h' a F → Q h') → W_X4_trim g d av (QV n Q) n 0 [some (.ref a), none, none] [] h := by
  intro K
  induction K with
  | zero =>
    intro h H e q
    refine s_X4_trim_0 hp t ⟨fun _ => s_X4_trim_33 hp t (w_dt35 hp t (K := 0) ?_ N h H e q), fun c => absurd ?_ c⟩
    · exact Nat.le_zero.mp (bsz_min fun j _ => pl_ext fun i => by
        have : cc F j i = 0 := by rw [e, cc_b2, if_neg (by omega)]
        rw [co_z]; exact this)
    · rw [H.k]; decide
  | succ K ih =>
    intro h H e q
    have hk := H.ltk
    refine s_X4_trim_0 hp t ⟨fun c => absurd c ?_, fun _ => ?_⟩
    · rw [H.k, show (0 : Int32) = nI 0 from rfl]; simp (disch := omega) only [nI_addz, nI_1, nI_leI, nI_ltI, nI_eq, nI_tN, nI_inI]; omega
    · rw [H.k, nI_sub1 (by omega), Nat.add_sub_cancel]
      refine ok_isEmptyRow hp t H (by omega) (fun c => ⟨fun c2 => absurd c2 (by decide), fun _ h1 e1 => ?_⟩) (fun i hi c => ⟨fun _ => s_X4_trim_33 hp t (w_dt35 hp t ?_ N h H e q), fun c2 => absurd rfl c2⟩)
      · rw [H.k, nI_sub1 (by omega), Nat.add_sub_cancel] at e1
        have f1 : Fr h h1 [a] := by rw [e1]; exact Fr.rf.put (by simp)
        refine ih h1 (by rw [e1]; exact H.setK (by omega)) ?_ (fun h' k1 k2 => q h' (f1.tr k1) k2)
        rw [e]
        refine cc_ext fun j i => ?_
        rw [cc_b2, cc_b2]
        by_cases h1 : j < K ∧ i < N
        · rw [if_pos h1, if_pos (by omega)]
        · rw [if_neg h1]
          split
          · rw [show j = K by omega]; exact c i (by omega)
          · rfl
      · refine bsz_eq' (i := i) (fun j i hj => ?_) ?_
        · rw [e, cc_b2, if_neg (by omega)]
        · rw [e, cc_b2, if_pos ⟨by omega, hi⟩]; exact c
theorem ok_dtrim (hp : g.2.2.2.2 = true) (t : lay a = (0, 4, 4)) {N K : Nat} {f : Nat → Nat → Fp} (H : DA h a N K f) {Q : Hp → Prop} (q : ∀ h', Fr h h' [a] → DI h' a (b2 f N K) → Q h') : CallV g m_X4_trim (d + 1) [.ref a] n h Q := okV 2 rfl rfl (w_dt0 hp t K h H rfl q)
end
