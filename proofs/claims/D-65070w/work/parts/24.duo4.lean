set_option maxRecDepth 100000
/-! DUO: shifts, values, turned -/
theorem mkP_0g {R : Type} [Lean.Grind.CommRing R] {f : Nat → R} : mkP f 0 = (pz : Pl R) := pl_ext fun i => by rw [co_mkP, co_z, if_neg (by omega)]
theorem sh_inv {R : Type} [Lean.Grind.CommRing R] (v : R) {f b : Nat → R} {s m : Nat} (h0 : ∀ l, l < s → b l = f l) (h1 : b (s + m) = f (s + m)) (h2 : ∀ l, s ≤ l → l < s + m → b l = f l + b (l + 1) * v) : padd (mkP f s) (pmul (pX s) (psh v (mkP (fun j => f (s + j)) (m + 1)))) = padd (mkP b (s + 1)) (pmul (pX (s + 1)) (psh v (mkP (fun j => b (s + 1 + j)) m))) := by
  rw [sh_step (b := fun j => b (s + j)) v h1 (fun j hj => h2 (s + j) (by omega) (by omega))]
  have e1 : mkP b (s + 1) = padd (mkP f s) (pmul (pX s) (pC (b s))) := pl_ext fun l => by
    rw [co_add, co_Xmul, co_mkP, co_mkP, co_C]
    by_cases h1 : l < s
    · rw [if_pos (by omega), if_pos h1, if_neg (by omega), h0 l (by omega)]; grind
    · by_cases h2 : l = s
      · rw [if_pos (by omega), if_neg h1, if_pos (by omega), if_pos (by omega), h2]; grind
      · rw [if_neg (by omega), if_neg h1, if_pos (by omega), if_neg (by omega)]; grind
  have e2 : (fun j => b (s + 1 + j)) = fun j => b (s + (j + 1)) := funext fun j => by rw [show s + 1 + j = s + (j + 1) by omega]
  have e3 : pX (s + 1) = (pmul (pX s) (pX 1) : Pl R) := by
    refine pl_ext fun l => ?_
    rw [co_Xmul, co_X, co_X]
    by_cases h1 : l = s + 1
    · rw [if_pos h1, if_pos (by omega), if_pos (by omega)]
    · rw [if_neg h1]
      split
      · rw [if_neg (by omega)]
      · rfl
  rw [e1, e2, e3, Nat.add_zero]
  letI := plRing R
  have hh : ∀ (A B C D E : Pl R), A + B * (C + D * E) = A + B * C + B * D * E := by intros; grind
  exact hh _ _ _ _ _
theorem sh_start {R : Type} [Lean.Grind.CommRing R] (v : R) (f : Nat → R) (m : Nat) : psh v (mkP f m) = padd (mkP f 0) (pmul (pX 0) (psh v (mkP (fun j => f (0 + j)) m))) := by
  rw [show (fun j => f (0 + j)) = f by funext j; rw [Nat.zero_add], mkP_0g]
  exact pl_ext fun l => by rw [co_add, co_z, co_Xmul, if_pos (Nat.zero_le _), Nat.sub_zero]; grind
theorem sh_end {R : Type} [Lean.Grind.CommRing R] (v : R) (f f' : Nat → R) (s : Nat) : padd (mkP f s) (pmul (pX s) (psh v (mkP f' 0))) = mkP f s := by
  rw [mkP_0g]
  have : psh v (pz : Pl R) = pz := sh_C v 0
  rw [this, (szmul_z _).1]
  exact pl_ext fun i => by rw [co_add, co_z]; grind
theorem co_mulC (p : Un) (v : Fp) (i : Nat) : co (pmul p (pC v)) i = co p i * v := by
  have e : pmul p (pC v) = pmul (pC v) p := by
    letI := plRing Fp
    have hh : ∀ A B : Un, A * B = B * A := by intros; grind
    exact hh _ _
  rw [e, pC_mul]; grind
/-- k + v for k, n + v for n, a number for n -/
noncomputable def bshK (v : Fp) (F : Bi) : Bi := @psh Un (plRing Fp) (pC v) F
noncomputable def bshN (v : Fp) (F : Bi) : Bi := @mapP Un Un (plRing Fp) (plRing Fp) (fun p => psh v p) F
noncomputable def bat (x : Fp) (F : Bi) : Un := @mapP Un Fp (plRing Fp) _ (fun p => ev p x) F
theorem bco_shN (v : Fp) (F : Bi) (j : Nat) : bco (bshN v F) j = psh v (bco F j) := @co_map Un Un (plRing Fp) (plRing Fp) (fun p => psh v p) (sh_C v 0) F j
theorem co_bat (x : Fp) (F : Bi) (j : Nat) : co (bat x F) j = ev (bco F j) x := @co_map Un Fp (plRing Fp) _ (fun p => ev p x) (ev_z x) F j
theorem b2_mk (f : Nat → Nat → Fp) (N K : Nat) : b2 f N K = bmk (fun j => mkP (f j) N) K := rfl
section
variable {g : GX} {d n : Nat} {h : Hp} {a b c : Nat}
theorem w_sk29 (hp : g.2.2.2.2 = true) (t : lay a = (0, 4, 4)) {av : List Value} {Q : QT} {N K j : Nat} {v : Fp} {x2 : Int32} (hj : j + 1 < K) : ∀ (k i : Nat) (f : Nat → Nat → Fp) (h : Hp), i + k = N → DA h a N K f → (∀ h1, Fr h h1 [a, a + 1] → DA h1 a N K (fun j' i' => if j' = j ∧ i ≤ i' then f j i' + f (j + 1) i' * v else f j' i') → W_X4_shiftK g d av Q n 21 [some (.ref a), some (.int (toI v)), some (.int x2), some (.int (zI ((j : Int) - 1))), none] [] h1) → W_X4_shiftK g d av Q n 29 [some (.ref a), some (.int (toI v)), some (.int x2), some (.int (nI j)), some (.int (nI i))] [] h := by
  intro k
  induction k with
  | zero =>
    intro i f h hi H q
    have hn := H.ltn
    refine s_X4_shiftK_29 hp t ⟨fun _ => ?_, fun c => absurd ?_ c⟩
    · rw [show nI j + (-1 : Int32) = zI ((j : Int) - 1) by simp (disch := omega) only [nI_z, z0, z1, z2, zm1, zI_add, zI_sub, zI_neg, zI_mul, zI_le, zI_lt, zI_eq, zI_tN, zI_inI]; congr 1]
      refine q h Fr.rf (H.cong (fun j' i' _ hi' => ?_))
      rw [if_neg (by omega)]
    · rw [H.n]; simp (disch := omega) only [nI_addz, nI_1, nI_leI, nI_ltI, nI_eq, nI_tN, nI_inI]; omega
  | succ k ih =>
    intro i f h hi H q
    have hn := H.ltn
    refine s_X4_shiftK_29 hp t ⟨fun c' => absurd c' ?_, fun _ => ?_⟩
    · rw [H.n]; simp (disch := omega) only [nI_addz, nI_1, nI_leI, nI_ltI, nI_eq, nI_tN, nI_inI]; omega
    · rw [nI_1, nI_1, H.rd (j := j) (i := i) (by omega) (by omega), H.tn (j := j) (i := i) (by omega) (by omega), H.rd (j := j + 1) (i := i) (by omega) (by omega)]
      refine ⟨H.inx (by omega) (by omega), H.inx (by omega) (by omega), ok_times hp (ok_sum hp ⟨H.inx (by omega) (by omega), fun h1 e1 => ?_⟩)⟩
      have f1 : Fr h h1 [a, a + 1] := by rw [e1]; exact Fr.rf.put (by simp)
      refine ih (i + 1) (fun j' i' => if j' = j ∧ i' = i then f j i + f (j + 1) i * v else f j' i') h1 (by omega) (by rw [e1]; exact H.upd (by omega)) (fun h' k1 k2 => q h' (f1.tr k1) (k2.cong (fun j' i' _ _ => ?_)))
      by_cases e : j' = j ∧ i' = i
      · rw [if_neg (by omega), if_pos e, if_pos (by omega), e.2]
      · by_cases e2 : j' = j ∧ i + 1 ≤ i'
        · rw [if_pos e2, if_neg (by omega), if_neg (by omega), if_pos (by omega)]
        · rw [if_neg e2, if_neg e, if_neg (by omega)]
theorem w_sk21 (hp : g.2.2.2.2 = true) (t : lay a = (0, 4, 4)) {av : List Value} {Q : QT} {v : Fp} {s N K : Nat} : ∀ (k : Nat) (f : Nat → Nat → Fp) (h : Hp), s + k + 1 ≤ K → DA h a N K f → (∀ (h1 : Hp) (b : Nat → Nat → Fp), Fr h h1 [a, a + 1] → DA h1 a N K b → (∀ l i, i < N → (l < s ∨ s + k ≤ l) → b l i = f l i) → (∀ l i, i < N → s ≤ l → l < s + k → b l i = f l i + b (l + 1) i * v) → W_X4_shiftK g d av Q n 2 [some (.ref a), some (.int (toI v)), some (.int (nI (s + 1))), none, none] [] h1) → W_X4_shiftK g d av Q n 21 [some (.ref a), some (.int (toI v)), some (.int (nI s)), some (.int (zI ((s : Int) + k - 1))), none] [] h := by
  intro k
  induction k with
  | zero =>
    intro f h hk H q
    have hl := H.ltk
    refine s_X4_shiftK_21 hp t ⟨fun _ => ?_, fun c' => absurd ?_ c'⟩
    · rw [nI_1]; exact q h f Fr.rf H (fun l i _ _ => rfl) (fun l i _ h1 h2 => absurd h1 (by omega))
    · simp (disch := omega) only [nI_z, z0, z1, z2, zm1, zI_add, zI_sub, zI_neg, zI_mul, zI_le, zI_lt, zI_eq, zI_tN, zI_inI]; omega
  | succ k ih =>
    intro f h hk H q
    have hl := H.ltk
    have e0 : (zI ((s : Int) + ((k + 1 : Nat) : Int) - 1) : Int32) = nI (s + k) := by rw [nI_z]; congr 1; omega
    rw [e0]
    refine s_X4_shiftK_21 hp t ⟨fun c' => absurd c' ?_, fun _ => ?_⟩
    · simp (disch := omega) only [nI_addz, nI_1, nI_leI, nI_ltI, nI_eq, nI_tN, nI_inI]; omega
    · refine w_sk29 hp t (by omega) N 0 f h (by omega) H (fun h1 f1 H1 => ?_)
      rw [show ((s + k : Nat) : Int) - 1 = (s : Int) + k - 1 by omega]
      refine ih _ h1 (by omega) H1 (fun h2 b g1 g2 g3 g4 => q h2 b (f1.tr g1) g2 (fun l i hi hl => ?_) (fun l i hi q1 q2 => ?_))
      · rw [g3 l i hi (by omega), if_neg (by omega)]
      · by_cases e : l = s + k
        · rw [g3 l i hi (by omega), if_pos (by omega), g3 (l + 1) i hi (by omega), if_neg (by omega), e]
        · rw [g4 l i hi q1 (by omega), if_neg (by omega)]
theorem w_sk2 (hp : g.2.2.2.2 = true) (t : lay a = (0, 4, 4)) {av : List Value} {v : Fp} (hv : v ≠ 0) {F : Bi} {N K : Nat} {Q : Hp → Prop} : ∀ (m s : Nat) (f : Nat → Nat → Fp) (h : Hp), s + m = K → DA h a N K f → bshK v F = badd (bmk (fun j => mkP (f j) N) s) (bmul (bX s) (bshK v (bmk (fun j => mkP (f (s + j)) N) m))) → (∀ h', Fr h h' [a, a + 1] → DI h' a (bshK v F) → Q h') → W_X4_shiftK g (d + 1) av (QV n Q) n 2 [some (.ref a), some (.int (toI v)), some (.int (nI s)), none, none] [] h := by
  intro m
  induction m with
  | zero =>
    intro s f h hm H he q
    have hl := H.ltk
    refine s_X4_shiftK_2 hp t ⟨fun _ => s_X4_shiftK_107 hp t (ok_dtrim hp t H (fun h1 f1 H1 => qV (q h1 (f1.mono (by simp)) ?_))), fun c' => absurd ?_ c'⟩
    · have e1 : bshK v F = b2 f N K := by
        rw [he, show s = K by omega]
        exact @sh_end Un (plRing Fp) (pC v) (fun j => mkP (f j) N) (fun j => mkP (f (K + j)) N) K
      rw [e1]; exact H1
    · rw [H.k]; simp (disch := omega) only [nI_addz, nI_1, nI_leI, nI_ltI, nI_eq, nI_tN, nI_inI]; omega
  | succ m ih =>
    intro s f h hm H he q
    have hl := H.ltk
    refine s_X4_shiftK_2 hp t ⟨fun c' => absurd c' ?_, fun _ => ⟨fun c' => absurd (toI_eq0.mp c') hv, fun _ => ?_⟩⟩
    · rw [H.k]; simp (disch := omega) only [nI_addz, nI_1, nI_leI, nI_ltI, nI_eq, nI_tN, nI_inI]; omega
    · have e0 : ri h a 3 - (2 : Int32) = zI ((s : Int) + m - 1) := by rw [H.k]; simp (disch := omega) only [nI_z, z0, z1, z2, zm1, zI_add, zI_sub, zI_neg, zI_mul, zI_le, zI_lt, zI_eq, zI_tN, zI_inI]; omega
      rw [e0]
      refine w_sk21 hp t m f h (by omega) H (fun h1 b g1 g2 g3 g4 => ?_)
      refine ih (s + 1) b h1 (by omega) g2 ?_ (fun h' k1 k2 => q h' (g1.tr k1) k2)
      rw [he]
      refine @sh_inv Un (plRing Fp) (pC v) (fun j => mkP (f j) N) (fun j => mkP (b j) N) s m (fun l hl => mkP_cong (fun i hi => g3 l i hi (Or.inl hl))) (mkP_cong (fun i hi => g3 _ i hi (Or.inr (Nat.le_refl _)))) (fun l h1 h2 => ?_)
      refine pl_ext fun i => ?_
      show co (mkP (b l) N) i = co (padd (mkP (f l) N) (pmul (mkP (b (l + 1)) N) (pC v))) i
      rw [co_add, co_mulC, co_mkP, co_mkP, co_mkP]
      split
      · exact g4 l i (by assumption) h1 h2
      · grind
/-- k + v for k -/
theorem ok_shiftK (hp : g.2.2.2.2 = true) (t : lay a = (0, 4, 4)) {F : Bi} {v : Fp} (H : DI h a F) {Q : Hp → Prop} (q : ∀ h', Fr h h' [a, a + 1] → DI h' a (bshK v F) → Q h') : CallV g m_X4_shiftK (d + 2) [.ref a, .int (toI v)] n h Q := by
  refine okV 3 rfl rfl (s_X4_shiftK_0 hp t ?_)
  by_cases hv : v = 0
  · subst hv
    have e : bshK 0 F = F := @sh_0 Un (plRing Fp) F
    rw [e] at q
    have last : W_X4_shiftK g (d + 1) [.ref a, .int (toI 0)] (QV n Q) n 107 [some (.ref a), none, none, none, none] [] h := s_X4_shiftK_107 hp t (ok_dtrim hp t H (fun h1 f1 H1 => qV (q h1 (f1.mono (by simp)) (by rw [b2_cc F (Nat.le_refl _) (Nat.le_refl _)] at H1; exact H1))))
    exact s_X4_shiftK_2 hp t ⟨fun _ => last, fun _ => ⟨fun _ => last, fun c' => absurd rfl c'⟩⟩
  · refine w_sk2 hp t hv (bsz F) 0 (cc F) h (by omega) H ?_ q
    have e2 := @sh_start Un (plRing Fp) (pC v) (fun j => mkP (cc F j) (bsn F)) (bsz F)
    refine Eq.trans ?_ e2
    show bshK v F = bshK v (b2 (cc F) (bsn F) (bsz F))
    rw [b2_cc F (Nat.le_refl _) (Nat.le_refl _)]
theorem w_sn32 (hp : g.2.2.2.2 = true) (t : lay a = (0, 4, 4)) {av : List Value} {Q : QT} {v : Fp} {s j N K : Nat} (hj : j < K) : ∀ (k : Nat) (f : Nat → Nat → Fp) (h : Hp), s + k + 1 ≤ N → DA h a N K f → (∀ (h1 : Hp) (b : Nat → Nat → Fp), Fr h h1 [a, a + 1] → DA h1 a N K b → (∀ l i, (l ≠ j ∨ i < s ∨ s + k ≤ i) → b l i = f l i) → (∀ i, s ≤ i → i < s + k → b j i = f j i + b j (i + 1) * v) → W_X4_shiftN g d av Q n 16 [some (.ref a), some (.int (toI v)), some (.int (nI j)), some (.int (nI (s + 1))), none] [] h1) → W_X4_shiftN g d av Q n 32 [some (.ref a), some (.int (toI v)), some (.int (nI j)), some (.int (nI s)), some (.int (zI ((s : Int) + k - 1)))] [] h := by
  intro k
  induction k with
  | zero =>
    intro f h hk H q
    have hl := H.ltn
    refine s_X4_shiftN_32 hp t ⟨fun _ => ?_, fun c' => absurd ?_ c'⟩
    · rw [nI_1]; exact q h f Fr.rf H (fun l i _ => rfl) (fun i h1 h2 => absurd h1 (by omega))
    · simp (disch := omega) only [nI_z, z0, z1, z2, zm1, zI_add, zI_sub, zI_neg, zI_mul, zI_le, zI_lt, zI_eq, zI_tN, zI_inI]; omega
  | succ k ih =>
    intro f h hk H q
    have hl := H.ltn
    have e0 : (zI ((s : Int) + ((k + 1 : Nat) : Int) - 1) : Int32) = nI (s + k) := by rw [nI_z]; congr 1; omega
    rw [e0]
    refine s_X4_shiftN_32 hp t ⟨fun c' => absurd c' ?_, fun _ => ?_⟩
    · simp (disch := omega) only [nI_addz, nI_1, nI_leI, nI_ltI, nI_eq, nI_tN, nI_inI]; omega
    · have e5 : nI j * ri h a 0 + nI (s + k) + 1 = nI j * ri h a 0 + nI (s + k + 1) := by rw [← nI_1 (s + k)]; grind
      rw [e5, H.rd (j := j) (i := s + k) (by omega) (by omega), H.tn (j := j) (i := s + k) (by omega) (by omega), H.rd (j := j) (i := s + k + 1) (by omega) (by omega)]
      refine ⟨H.inx (by omega) (by omega), H.inx (by omega) (by omega), ok_times hp (ok_sum hp ⟨H.inx (by omega) (by omega), fun h3 e3 => ?_⟩)⟩
      have f3 : Fr h h3 [a, a + 1] := by rw [e3]; exact Fr.rf.put (by simp)
      have e4 : nI (s + k) + (-1 : Int32) = zI ((s : Int) + k - 1) := by simp (disch := omega) only [nI_z, z0, z1, z2, zm1, zI_add, zI_sub, zI_neg, zI_mul, zI_le, zI_lt, zI_eq, zI_tN, zI_inI]; congr 1
      rw [e4]
      refine ih (fun j' i' => if j' = j ∧ i' = s + k then f j (s + k) + f j (s + k + 1) * v else f j' i') h3 (by omega) (by rw [e3]; exact H.upd (by omega)) (fun h1 b g1 g2 g3 g4 => q h1 b (f3.tr g1) g2 (fun l i hl => ?_) (fun i q1 q2 => ?_))
      · rw [g3 l i (by omega), if_neg (by omega)]
      · by_cases e : i = s + k
        · rw [g3 j i (by omega), if_pos ⟨rfl, e⟩, e, g3 j (s + k + 1) (by omega), if_neg (by omega)]
        · rw [g4 i q1 (by omega), if_neg (by omega)]
theorem w_sn16 (hp : g.2.2.2.2 = true) (t : lay a = (0, 4, 4)) {av : List Value} {v : Fp} {j N K : Nat} {p : Un} (hj : j < K) {Q : QT} : ∀ (m s : Nat) (f : Nat → Nat → Fp) (h : Hp), s + m = N → DA h a N K f → psh v p = padd (mkP (f j) s) (pmul (pX s) (psh v (mkP (fun i => f j (s + i)) m))) → (∀ h1 f1, Fr h h1 [a, a + 1] → DA h1 a N K f1 → (∀ l i, l ≠ j → f1 l i = f l i) → mkP (f1 j) N = psh v p → W_X4_shiftN g d av Q n 2 [some (.ref a), some (.int (toI v)), some (.int (nI (j + 1))), none, none] [] h1) → W_X4_shiftN g d av Q n 16 [some (.ref a), some (.int (toI v)), some (.int (nI j)), some (.int (nI s)), none] [] h := by
  intro m
  induction m with
  | zero =>
    intro s f h hm H he q
    have hl := H.ltn
    refine s_X4_shiftN_16 hp t ⟨fun _ => ?_, fun c' => absurd ?_ c'⟩
    · rw [nI_1]
      exact q h f Fr.rf H (fun l i _ => rfl) (by rw [he, sh_end, show s = N by omega])
    · rw [H.n]; simp (disch := omega) only [nI_addz, nI_1, nI_leI, nI_ltI, nI_eq, nI_tN, nI_inI]; omega
  | succ m ih =>
    intro s f h hm H he q
    have hl := H.ltn
    refine s_X4_shiftN_16 hp t ⟨fun c' => absurd c' ?_, fun _ => ?_⟩
    · rw [H.n]; simp (disch := omega) only [nI_addz, nI_1, nI_leI, nI_ltI, nI_eq, nI_tN, nI_inI]; omega
    · have e0 : ri h a 2 - (2 : Int32) = zI ((s : Int) + m - 1) := by rw [H.n]; simp (disch := omega) only [nI_z, z0, z1, z2, zm1, zI_add, zI_sub, zI_neg, zI_mul, zI_le, zI_lt, zI_eq, zI_tN, zI_inI]; omega
      rw [e0]
      refine w_sn32 hp t hj m f h (by omega) H (fun h1 b g1 g2 g3 g4 => ?_)
      refine ih (s + 1) b h1 (by omega) g2 ?_ (fun h' f1 k1 k2 k3 k4 => q h' f1 (g1.tr k1) k2 (fun l i hl => (k3 l i hl).trans (g3 l i (Or.inl hl))) k4)
      rw [he]
      exact sh_inv v (fun l hl => g3 j l (by omega)) (g3 j _ (by omega)) (fun l h1 h2 => g4 l h1 h2)
theorem w_sn2 (hp : g.2.2.2.2 = true) (t : lay a = (0, 4, 4)) {av : List Value} {v : Fp} (hv : v ≠ 0) {N K : Nat} {f0 : Nat → Nat → Fp} {Q : Hp → Prop} : ∀ (m j : Nat) (f : Nat → Nat → Fp) (h : Hp), j + m = K → DA h a N K f → (∀ l, l < j → mkP (f l) N = psh v (mkP (f0 l) N)) → (∀ l i, j ≤ l → f l i = f0 l i) → (∀ h', Fr h h' [a, a + 1] → DI h' a (bshN v (b2 f0 N K)) → Q h') → W_X4_shiftN g (d + 1) av (QV n Q) n 2 [some (.ref a), some (.int (toI v)), some (.int (nI j)), none, none] [] h := by
  intro m
  induction m with
  | zero =>
    intro j f h hm H h0 hr q
    have hl := H.ltk
    refine s_X4_shiftN_2 hp t ⟨fun _ => s_X4_shiftN_107 hp t (ok_dtrim hp t H (fun h1 f1 H1 => qV (q h1 (f1.mono (by simp)) ?_))), fun c' => absurd ?_ c'⟩
    · have e1 : bshN v (b2 f0 N K) = b2 f N K := b_ext fun l => by
        rw [bco_shN, b2_mk, b2_mk, bco_mk, bco_mk]
        split
        · exact (h0 l (by omega)).symm
        · exact sh_C v 0
      rw [e1]; exact H1
    · rw [H.k]; simp (disch := omega) only [nI_addz, nI_1, nI_leI, nI_ltI, nI_eq, nI_tN, nI_inI]; omega
  | succ m ih =>
    intro j f h hm H h0 hr q
    have hl := H.ltk
    refine s_X4_shiftN_2 hp t ⟨fun c' => absurd c' ?_, fun _ => ⟨fun c' => absurd (toI_eq0.mp c') hv, fun _ => ?_⟩⟩
    · rw [H.k]; simp (disch := omega) only [nI_addz, nI_1, nI_leI, nI_ltI, nI_eq, nI_tN, nI_inI]; omega
    · refine w_sn16 hp t (p := mkP (f0 j) N) (by omega) N 0 f h (by omega) H ?_ (fun h1 f1 g1 g2 g3 g4 => ?_)
      · rw [show mkP (f0 j) N = mkP (f j) N from mkP_cong (fun i _ => (hr j i (Nat.le_refl _)).symm)]
        exact sh_start v (f j) N
      · refine ih (j + 1) f1 h1 (by omega) g2 (fun l hl => ?_) (fun l i hl => ?_) (fun h' k1 k2 => q h' (g1.tr k1) k2)
        · by_cases e : l = j
          · rw [e]; exact g4
          · rw [mkP_cong (f' := f l) (fun i _ => g3 l i e)]; exact h0 l (by omega)
        · rw [g3 l i (by omega), hr l i (by omega)]
/-- n + v for n -/
theorem ok_shiftN (hp : g.2.2.2.2 = true) (t : lay a = (0, 4, 4)) {F : Bi} {v : Fp} (H : DI h a F) {Q : Hp → Prop} (q : ∀ h', Fr h h' [a, a + 1] → DI h' a (bshN v F) → Q h') : CallV g m_X4_shiftN (d + 2) [.ref a, .int (toI v)] n h Q := by
  refine okV 3 rfl rfl (s_X4_shiftN_0 hp t ?_)
  by_cases hv : v = 0
  · subst hv
    have e : bshN 0 F = F := b_ext fun j => by rw [bco_shN, sh_0]
    rw [e] at q
    have last : W_X4_shiftN g (d + 1) [.ref a, .int (toI 0)] (QV n Q) n 107 [some (.ref a), none, none, none, none] [] h := s_X4_shiftN_107 hp t (ok_dtrim hp t H (fun h1 f1 H1 => qV (q h1 (f1.mono (by simp)) (by rw [b2_cc F (Nat.le_refl _) (Nat.le_refl _)] at H1; exact H1))))
    exact s_X4_shiftN_2 hp t ⟨fun _ => last, fun _ => ⟨fun _ => last, fun c' => absurd rfl c'⟩⟩
  · refine w_sn2 hp t hv (bsz F) 0 (cc F) h (by omega) H (fun l hl => absurd hl (Nat.not_lt_zero l)) (fun l i _ => rfl) (fun h' k1 k2 => q h' k1 ?_)
    rw [b2_cc F (Nat.le_refl _) (Nat.le_refl _)] at k2
    exact k2
theorem w_at29 (hp : g.2.2.2.2 = true) (ta : lay a = (0, 4, 4)) (tc : lay c = (0, 3, 2)) {av : List Value} {F : Bi} {x : Fp} {j : Nat} (hj : j < bsz F) (H : DI h a F) {Q : QT} (q : vp_in (nI j) (rm (c + 1)) ∧ ∀ h1, h1 = wi h (c + 1) (nI j).toNatClampNeg (toI (ev (bco F j) x)) → W_X4_atN g d av Q n 10 [some (.ref a), some (.int (toI x)), some (.ref c), some (.int (nI (j + 1))), none, none] [] h1) : ∀ (k : Nat) (v : Fp), k ≤ bsn F → v * x ^ k + evn (co (bco F j)) x k = ev (bco F j) x → W_X4_atN g d av Q n 29 [some (.ref a), some (.int (toI x)), some (.ref c), some (.int (nI j)), some (.int (toI v)), some (.int (zI ((k : Int) - 1)))] [] h := by
  have hn := H.ltn
  intro k
  induction k with
  | zero =>
    intro v hk e
    refine s_X4_atN_29 hp ta tc ⟨fun _ => ?_, fun c' => absurd (by decide) c'⟩
    have e2 : v * x ^ 0 + evn (co (bco F j)) x 0 = v := by unfold evn; simp only [sm]; rw [Lean.Grind.Semiring.pow_zero]; grind
    rw [← e, e2, ← nI_1] at q
    exact q
  | succ k ih =>
    intro v hk e
    have e1 : ((k + 1 : Nat) : Int) - 1 = (k : Int) := by omega
    rw [e1]
    refine s_X4_atN_29 hp ta tc ⟨fun c => absurd c ?_, fun c => ?_⟩
    · rw [z0, zI_lt (by omega) (by omega) (by omega) (by omega)]; omega
    · rw [show zI (k : Int) = nI k from rfl]
      refine ok_times hp ⟨H.inx hj (by omega), ?_⟩
      rw [H.rd hj (by omega)]
      refine ok_sum hp ?_
      rw [show nI k + (-1 : Int32) = zI ((k : Int) - 1) by simp (disch := omega) only [nI_z, z0, z1, z2, zm1, zI_add, zI_sub, zI_neg, zI_mul, zI_le, zI_lt, zI_eq, zI_tN, zI_inI]; congr 1]
      refine ih _ (by omega) ?_
      rw [← e]
      unfold evn cc; simp only [sm]; rw [Lean.Grind.Semiring.pow_succ]; grind
theorem w_at10 (hp : g.2.2.2.2 = true) (ta : lay a = (0, 4, 4)) (tc : lay c = (0, 3, 2)) {av : List Value} {F : Bi} {x : Fp} (hr : bsz F ≤ rm (c + 1)) {Q : Hp → Prop} : ∀ (k j : Nat) (h : Hp), j + k = bsz F → DI h a F → ri h c 1 = nI (bsz F) → (∀ j', j' < j → ri h (c + 1) j' = toI (ev (bco F j') x)) → (∀ h', Fr h h' [c, c + 1] → PI h' c (bat x F) → Q h') → W_X4_atN g (d + 1) av (QV n Q) n 10 [some (.ref a), some (.int (toI x)), some (.ref c), some (.int (nI j)), none, none] [] h := by
  have o := dpout2 ta tc
  have hrr := rm_lt (c + 1)
  intro k
  induction k with
  | zero =>
    intro j h hj H Hs Hj q
    have hk := H.ltk
    refine s_X4_atN_10 hp ta tc ⟨fun _ => ok_trim hp tc (s := bsz F) (f := fun j => ev (bco F j) x) ⟨Hs, hr, fun i hi => Hj i (by omega)⟩ (fun h1 f1 H1 => qV (q h1 (f1.mono (by simp)) H1)), fun c' => absurd ?_ c'⟩
    rw [H.k]; simp (disch := omega) only [nI_addz, nI_1, nI_leI, nI_ltI, nI_eq, nI_tN, nI_inI]; omega
  | succ k ih =>
    intro j h hj H Hs Hj q
    have hk := H.ltk
    have hn := H.ltn
    refine s_X4_atN_10 hp ta tc ⟨fun c' => absurd c' ?_, fun _ => ?_⟩
    · rw [H.k]; simp (disch := omega) only [nI_addz, nI_1, nI_leI, nI_ltI, nI_eq, nI_tN, nI_inI]; omega
    · have e0 : ri h a 2 - 1 = zI ((bsn F : Int) - 1) := by rw [H.n]; simp (disch := omega) only [nI_z, z0, z1, z2, zm1, zI_add, zI_sub, zI_neg, zI_mul, zI_le, zI_lt, zI_eq, zI_tN, zI_inI]
      rw [e0]
      refine w_at29 hp ta tc (by omega) H ⟨nI_inL (by omega) (by omega), fun h1 e1 => ?_⟩ (bsn F) 0 (Nat.le_refl _) ?_
      · rw [nI_tN (by omega)] at e1
        have f1 : Fr h h1 [c, c + 1] := by rw [e1]; exact Fr.rf.put (by simp)
        refine ih (j + 1) h1 (by omega) (H.fr f1 o.1 o.2) (by rw [e1, ri_ne (by omega)]; exact Hs) (fun j' hj' => ?_) (fun h' k1 k2 => q h' (f1.tr k1) k2)
        rw [e1]
        by_cases e : j' = j
        · rw [e, ri_same]
        · rw [ri_ne' e]; exact Hj j' (by omega)
      · rw [ev_n (n := bsn F) (fun i hi => sz_le _ i (Nat.le_trans (bsn_le F j) hi))]; grind
/-- the polynomial in k for a number n -/
theorem ok_atN (hp : g.2.2.2.2 = true) (ta : lay a = (0, 4, 4)) (tc : lay c = (0, 3, 2)) {F : Bi} {x : Fp} (H : DI h a F) (hr : bsz F ≤ rm (c + 1)) {Q : Hp → Prop} (q : ∀ h', Fr h h' [c, c + 1] → PI h' c (bat x F) → Q h') : CallV g m_X4_atN (d + 2) [.ref a, .int (toI x), .ref c] n h Q := by
  have o := dpout2 ta tc
  refine okV 3 rfl rfl (s_X4_atN_0 hp ta tc (fun h1 e1 => ?_))
  have f1 : Fr h h1 [c, c + 1] := by rw [e1]; exact Fr.rf.put (by simp)
  refine w_at10 hp ta tc hr (bsz F) 0 h1 (by omega) (H.fr f1 o.1 o.2) (by rw [e1, ri_same]; exact H.k) (fun j' hj' => absurd hj' (Nat.not_lt_zero j')) (fun h' k1 k2 => q h' (f1.tr k1) k2)
theorem w_dv26 (hp : g.2.2.2.2 = true) (ta : lay a = (0, 4, 4)) {av : List Value} {F : Bi} {x y w : Fp} {j : Nat} (hj : j < bsz F) (H : DI h a F) {Q : QT} (q : W_X4_value g d av Q n 10 [some (.ref a), some (.int (toI x)), some (.int (toI y)), some (.int (toI (w * y + ev (bco F j) x))), some (.int (zI ((j : Int) - 1))), none, none] [] h) : ∀ (k : Nat) (v : Fp), k ≤ bsn F → v * x ^ k + evn (co (bco F j)) x k = ev (bco F j) x → W_X4_value g d av Q n 26 [some (.ref a), some (.int (toI x)), some (.int (toI y)), some (.int (toI w)), some (.int (nI j)), some (.int (toI v)), some (.int (zI ((k : Int) - 1)))] [] h := by
  have hn := H.ltn
  have hk := H.ltk
  intro k
  induction k with
  | zero =>
    intro v hk e
    refine s_X4_value_26 hp ta ⟨fun _ => ok_times hp (ok_sum hp ?_), fun c' => absurd (by decide) c'⟩
    have e2 : v * x ^ 0 + evn (co (bco F j)) x 0 = v := by unfold evn; simp only [sm]; rw [Lean.Grind.Semiring.pow_zero]; grind
    rw [← e, e2] at q
    rw [show nI j + (-1 : Int32) = zI ((j : Int) - 1) by simp (disch := omega) only [nI_z, z0, z1, z2, zm1, zI_add, zI_sub, zI_neg, zI_mul, zI_le, zI_lt, zI_eq, zI_tN, zI_inI]; congr 1]
    exact q
  | succ k ih =>
    intro v hk e
    have e1 : ((k + 1 : Nat) : Int) - 1 = (k : Int) := by omega
    rw [e1]
    refine s_X4_value_26 hp ta ⟨fun c => absurd c ?_, fun c => ?_⟩
    · rw [z0, zI_lt (by omega) (by omega) (by omega) (by omega)]; omega
    · rw [show zI (k : Int) = nI k from rfl]
      refine ok_times hp ⟨H.inx hj (by omega), ?_⟩
      rw [H.rd hj (by omega)]
      refine ok_sum hp ?_
      rw [show nI k + (-1 : Int32) = zI ((k : Int) - 1) by simp (disch := omega) only [nI_z, z0, z1, z2, zm1, zI_add, zI_sub, zI_neg, zI_mul, zI_le, zI_lt, zI_eq, zI_tN, zI_inI]; congr 1]
      refine ih _ (by omega) ?_
      rw [← e]
      unfold evn cc; simp only [sm]; rw [Lean.Grind.Semiring.pow_succ]; grind
theorem w_dv10 (hp : g.2.2.2.2 = true) (ta : lay a = (0, 4, 4)) {av : List Value} {F : Bi} {x y : Fp} (H : DI h a F) {Q : Int32 → Hp → Prop} (q : Q (toI (ev (bat x F) y)) h) : ∀ (k : Nat) (w : Fp), k ≤ bsz F → w * y ^ k + evn (co (bat x F)) y k = ev (bat x F) y → W_X4_value g d av (QI n Q) n 10 [some (.ref a), some (.int (toI x)), some (.int (toI y)), some (.int (toI w)), some (.int (zI ((k : Int) - 1))), none, none] [] h := by
  have hn := H.ltn
  have hk := H.ltk
  intro k
  induction k with
  | zero =>
    intro w hk e
    refine s_X4_value_10 hp ta ⟨fun _ => qI ?_, fun c' => absurd (by decide) c'⟩
    have e2 : w * y ^ 0 + evn (co (bat x F)) y 0 = w := by unfold evn; simp only [sm]; rw [Lean.Grind.Semiring.pow_zero]; grind
    rw [← e, e2] at q
    exact q
  | succ k ih =>
    intro w hk e
    have e1 : ((k + 1 : Nat) : Int) - 1 = (k : Int) := by omega
    rw [e1]
    refine s_X4_value_10 hp ta ⟨fun c => absurd c ?_, fun c => ?_⟩
    · rw [z0, zI_lt (by omega) (by omega) (by omega) (by omega)]; omega
    · rw [show ri h a 2 - 1 = zI ((bsn F : Int) - 1) by rw [H.n]; simp (disch := omega) only [nI_z, z0, z1, z2, zm1, zI_add, zI_sub, zI_neg, zI_mul, zI_le, zI_lt, zI_eq, zI_tN, zI_inI]]
      rw [show zI (k : Int) = nI k from rfl]
      refine w_dv26 hp ta (by omega) H (ih _ (by omega) ?_) (bsn F) 0 (Nat.le_refl _) ?_
      · rw [← e, ← co_bat]
        unfold evn; simp only [sm]; rw [Lean.Grind.Semiring.pow_succ]; grind
      · rw [ev_n (n := bsn F) (fun i hi => sz_le _ i (Nat.le_trans (bsn_le F k) hi))]; grind
theorem ok_dvalue (hp : g.2.2.2.2 = true) (ta : lay a = (0, 4, 4)) {F : Bi} {x y : Fp} (H : DI h a F) {Q : Int32 → Hp → Prop} (q : Q (toI (ev (bat x F) y)) h) : CallI g m_X4_value (d + 1) [.ref a, .int (toI x), .int (toI y)] n h Q := by
  have hk := H.ltk
  refine okI 4 rfl rfl (s_X4_value_0 hp ta ?_)
  rw [show ri h a 3 - 1 = zI ((bsz F : Int) - 1) by rw [H.k]; simp (disch := omega) only [nI_z, z0, z1, z2, zm1, zI_add, zI_sub, zI_neg, zI_mul, zI_le, zI_lt, zI_eq, zI_tN, zI_inI]]
  refine w_dv10 hp ta H q (bsz F) 0 (Nat.le_refl _) ?_
  rw [ev_n (n := bsz F) (fun i hi => by rw [co_bat, bsz_le F i hi, ev_z])]; grind
/-- n and k change places -/
noncomputable def btr (F : Bi) : Bi := b2 (fun j i => cc F i j) (bsz F) (bsn F)
theorem cc_tr (F : Bi) (j i : Nat) : cc (btr F) j i = cc F i j := by
  unfold btr
  rw [cc_b2]
  split
  · rfl
  · rw [cc_out (by omega)]
theorem bsz_tr (F : Bi) : bsz (btr F) = bsn F := by
  apply Nat.le_antisymm
  · exact bsz_min fun j hj => pl_ext fun i => by rw [co_z]; show cc (btr F) j i = 0; rw [cc_tr, cc_out (by omega)]
  · exact bsn_min fun j i hi => by rw [← cc_tr, cc_out (by omega)]
theorem bsn_tr (F : Bi) : bsn (btr F) = bsz F := by
  apply Nat.le_antisymm
  · exact bsn_min fun j i hi => by rw [cc_tr, cc_out (by omega)]
  · exact bsz_min fun j hj => pl_ext fun i => by rw [co_z]; show cc F j i = 0; rw [← cc_tr, cc_out (by omega)]
theorem w_tu24 (hp : g.2.2.2.2 = true) (ta : lay a = (0, 4, 4)) (tb : lay b = (0, 4, 4)) (hab : a ≠ b) {av : List Value} {Q : QT} {j : Nat} {F : Bi} (hj : j < bsz F) : ∀ (k i : Nat) (h : Hp), i + k = bsn F → DQ h a (bsz F) (bsn F) (fun j i => cc F i j) (fun j' i' => i' < j ∨ (i' = j ∧ j' < i)) → DI h b F → (∀ h1, Fr h h1 [a, a + 1] → DI h1 b F → DQ h1 a (bsz F) (bsn F) (fun j i => cc F i j) (fun _ i' => i' < j + 1) → W_X4_turn g d av Q n 14 [some (.ref a), some (.ref b), some (.int (nI (j + 1))), none] [] h1) → W_X4_turn g d av Q n 24 [some (.ref a), some (.ref b), some (.int (nI j)), some (.int (nI i))] [] h := by
  have o := dout2 ta tb hab
  intro k
  induction k with
  | zero =>
    intro i h hi H Hb q
    have hn := Hb.ltn
    refine s_X4_turn_24 hp ta tb ⟨fun _ => ?_, fun c => absurd ?_ c⟩
    · rw [nI_1]; exact q h Fr.rf Hb (H.mono (fun j' i' h2 _ h3 => by omega))
    · rw [Hb.n]; simp (disch := omega) only [nI_addz, nI_1, nI_leI, nI_ltI, nI_eq, nI_tN, nI_inI]; omega
  | succ k ih =>
    intro i h hi H Hb q
    have hn := Hb.ltn
    refine s_X4_turn_24 hp ta tb ⟨fun c => absurd c ?_, fun _ => ⟨Hb.inx hj (by omega), H.inx (by omega) (by omega), fun h1 e1 => ?_⟩⟩
    · rw [Hb.n]; simp (disch := omega) only [nI_addz, nI_1, nI_leI, nI_ltI, nI_eq, nI_tN, nI_inI]; omega
    · rw [H.tn (by omega) (by omega), Hb.rd hj (by omega)] at e1
      have f1 : Fr h h1 [a, a + 1] := by rw [e1]; exact Fr.rf.put (by simp)
      rw [nI_1]
      refine ih (i + 1) h1 (by omega) ?_ (Hb.fr f1 o.1 o.2) (fun h' k1 k2 k3 => q h' (f1.tr k1) k2 k3)
      rw [e1]
      exact (H.put (j := i) (i := j) (by omega)).mono (fun j' i' _ _ h3 => by omega)
theorem w_tu14 (hp : g.2.2.2.2 = true) (ta : lay a = (0, 4, 4)) (tb : lay b = (0, 4, 4)) (hab : a ≠ b) {av : List Value} {Q : Hp → Prop} {F : Bi} : ∀ (k j : Nat) (h : Hp), j + k = bsz F → DQ h a (bsz F) (bsn F) (fun j i => cc F i j) (fun _ i' => i' < j) → DI h b F → (∀ h1, Fr h h1 [a, a + 1] → DI h1 a (btr F) → Q h1) → W_X4_turn g d av (QV n Q) n 14 [some (.ref a), some (.ref b), some (.int (nI j)), none] [] h := by
  intro k
  induction k with
  | zero =>
    intro j h hj H Hb q
    have hk := Hb.ltk
    refine s_X4_turn_14 hp ta tb ⟨fun _ => qV (q h Fr.rf (DI.of (H.da (fun j' i' _ h1 => by omega)) rfl (bsn_tr F) (bsz_tr F))), fun c => absurd ?_ c⟩
    rw [Hb.k]; simp (disch := omega) only [nI_addz, nI_1, nI_leI, nI_ltI, nI_eq, nI_tN, nI_inI]; omega
  | succ k ih =>
    intro j h hj H Hb q
    have hk := Hb.ltk
    refine s_X4_turn_14 hp ta tb ⟨fun c => absurd c ?_, fun _ => ?_⟩
    · rw [Hb.k]; simp (disch := omega) only [nI_addz, nI_1, nI_leI, nI_ltI, nI_eq, nI_tN, nI_inI]; omega
    · refine w_tu24 hp ta tb hab (by omega) (bsn F) 0 h (by omega) (H.mono (fun j' i' _ _ h3 => by omega)) Hb (fun h1 f1 Hb1 H1 => ih (j + 1) h1 (by omega) H1 Hb1 (fun h' k1 k2 => q h' (f1.tr k1) k2))
theorem ok_turn (hp : g.2.2.2.2 = true) (ta : lay a = (0, 4, 4)) (tb : lay b = (0, 4, 4)) (hab : a ≠ b) (hw : ri h a 0 = nI (wd a)) {F : Bi} (Hb : DI h b F) (h1 : bsz F ≤ wd a) (h2 : bsn F ≤ hg a) {Q : Hp → Prop} (q : ∀ h', Fr h h' [a, a + 1] → DI h' a (btr F) → Q h') : CallV g m_X4_turn (d + 1) [.ref a, .ref b] n h Q := by
  have o := dout2 ta tb hab
  refine okV 2 rfl rfl (s_X4_turn_0 hp ta tb ?_)
  rw [Hb.k, Hb.n]
  refine ok_open hp ta hw h1 h2 (fun h3 f3 H3 => ?_)
  refine w_tu14 hp ta tb hab (bsz F) 0 h3 (by omega) ?_ (Hb.fr f3 o.1 o.2) (fun h' k1 k2 => q h' (f3.tr k1) k2)
  exact ⟨H3.w, H3.n, H3.k, H3.nl, H3.kl, fun j i _ _ hs => absurd hs (Nat.not_lt_zero i)⟩
end
