set_option maxRecDepth 100000
/-! ALGEBRA: maps of rings, shifts -/
section
variable {R S : Type}
def Hm [Lean.Grind.CommRing R] [Lean.Grind.CommRing S] (φ : R → S) : Prop := (∀ a b, φ (a + b) = φ a + φ b) ∧ (∀ a b, φ (a * b) = φ a * φ b) ∧ φ 1 = 1
theorem Hm.zero [Lean.Grind.CommRing R] [Lean.Grind.CommRing S] {φ : R → S} (h : Hm φ) : φ 0 = 0 := by
  have h1 := h.1 0 0
  rw [show (0 : R) + 0 = 0 by grind] at h1
  generalize φ 0 = x at h1 ⊢
  grind
theorem Hm.neg [Lean.Grind.CommRing R] [Lean.Grind.CommRing S] {φ : R → S} (h : Hm φ) (a : R) : φ (-a) = - φ a := by
  have h1 := h.1 a (-a)
  rw [show a + -a = 0 by grind, h.zero] at h1
  generalize φ a = x at h1 ⊢
  generalize φ (-a) = y at h1 ⊢
  grind
theorem Hm.sub [Lean.Grind.CommRing R] [Lean.Grind.CommRing S] {φ : R → S} (h : Hm φ) (a b : R) : φ (a - b) = φ a - φ b := by
  rw [show a - b = a + -b by grind, h.1, h.neg]; grind
theorem Hm.pow [Lean.Grind.CommRing R] [Lean.Grind.CommRing S] {φ : R → S} (h : Hm φ) (a : R) (n : Nat) : φ (a ^ n) = φ a ^ n := by
  induction n with
  | zero => rw [Lean.Grind.Semiring.pow_zero, Lean.Grind.Semiring.pow_zero, h.2.2]
  | succ n ih => rw [Lean.Grind.Semiring.pow_succ, Lean.Grind.Semiring.pow_succ, h.2.1, ih]
theorem Hm.sum [Lean.Grind.CommRing R] [Lean.Grind.CommRing S] {φ : R → S} (h : Hm φ) (f : Nat → R) (n : Nat) : φ (sm f n) = sm (fun i => φ (f i)) n := by
  induction n with
  | zero => exact h.zero
  | succ n ih =>
    show φ (sm f n + f n) = sm (fun i => φ (f i)) n + φ (f n)
    rw [h.1, ih]
theorem Hm.dvd [Lean.Grind.CommRing R] [Lean.Grind.CommRing S] {φ : R → S} (h : Hm φ) {a b : R} (hd : dv a b) : dv (φ a) (φ b) := by
  obtain ⟨c, rfl⟩ := hd
  exact ⟨φ c, h.2.1 a c⟩
theorem Hm.comp [Lean.Grind.CommRing R] [Lean.Grind.CommRing S] {T : Type} [Lean.Grind.CommRing T] {φ : R → S} {ψ : S → T} (h : Hm φ) (k : Hm ψ) : Hm (fun a => ψ (φ a)) := ⟨fun a b => by simp only; rw [h.1, k.1], fun a b => by simp only; rw [h.2.1, k.2.1], by simp only; rw [h.2.2, k.2.2]⟩
noncomputable def mapP [Lean.Grind.CommRing R] [Lean.Grind.CommRing S] (φ : R → S) (p : Pl R) : Pl S := mkP (fun i => φ (co p i)) (sz p)
theorem co_map [Lean.Grind.CommRing R] [Lean.Grind.CommRing S] {φ : R → S} (h : φ 0 = 0) (p : Pl R) (i : Nat) : co (mapP φ p) i = φ (co p i) := by
  unfold mapP
  rw [co_mkP]
  split
  · rfl
  · rw [sz_le p i (by omega), h]
theorem hm_map [Lean.Grind.CommRing R] [Lean.Grind.CommRing S] {φ : R → S} (h : Hm φ) : @Hm (Pl R) (Pl S) (plRing R) (plRing S) (mapP φ) := by
  refine ⟨fun a b => pl_ext fun i => ?_, fun a b => pl_ext fun i => ?_, pl_ext fun i => ?_⟩
  · show co (mapP φ (padd a b)) i = co (padd (mapP φ a) (mapP φ b)) i
    rw [co_map h.zero, co_add, co_add, co_map h.zero, co_map h.zero, h.1]
  · show co (mapP φ (pmul a b)) i = co (pmul (mapP φ a) (mapP φ b)) i
    rw [co_map h.zero, co_mul, co_mul, h.sum]
    apply sm_congr
    intro j _
    rw [co_map h.zero, co_map h.zero, h.2.1]
  · show co (mapP φ (pC 1)) i = co (pC 1) i
    rw [co_map h.zero, co_C, co_C]
    split
    · exact h.2.2
    · exact h.zero
theorem hm_C [Lean.Grind.CommRing R] : @Hm R (Pl R) _ (plRing R) (fun c => pC c) := by
  refine ⟨fun a b => pl_ext fun i => ?_, fun a b => pl_ext fun i => ?_, rfl⟩
  · show co (pC (a + b)) i = co (padd (pC a) (pC b)) i
    rw [co_add, co_C, co_C, co_C]
    split <;> grind
  · show co (pC (a * b)) i = co (pmul (pC a) (pC b)) i
    rw [pC_mul, co_C, co_C]
    split <;> grind
theorem hm_ev [Lean.Grind.CommRing R] (x : R) : @Hm (Pl R) R (plRing R) _ (fun p => ev p x) := ⟨fun a b => ev_add a b x, fun a b => ev_mul a b x, ev_C 1 x⟩
theorem ppow_X [Lean.Grind.CommRing R] (n : Nat) : @HPow.hPow (Pl R) Nat (Pl R) (plRing R).npow (pX 1) n = pX n := by
  letI := plRing R
  induction n with
  | zero =>
    rw [Lean.Grind.Semiring.pow_zero]
    exact pl_ext fun i => rfl
  | succ n ih =>
    rw [Lean.Grind.Semiring.pow_succ, ih]
    refine pl_ext fun i => ?_
    show co (pmul (pX n) (pX 1)) i = _
    rw [co_Xmul, co_X, co_X]
    by_cases h : n ≤ i
    · rw [if_pos h]
      by_cases h2 : i = n + 1
      · rw [if_pos (by omega), if_pos h2]
      · rw [if_neg (by omega), if_neg h2]
    · rw [if_neg h, if_neg (by omega)]
/-- p(X + v) -/
noncomputable def psh [Lean.Grind.CommRing R] (v : R) (p : Pl R) : Pl R := @ev (Pl R) (plRing R) (@mapP R (Pl R) _ (plRing R) (fun c => pC c) p) (padd (pX 1) (pC v))
theorem hm_sh [Lean.Grind.CommRing R] (v : R) : @Hm (Pl R) (Pl R) (plRing R) (plRing R) (psh v) := by
  letI := plRing R
  letI := plRing (Pl R)
  exact (hm_map (hm_C (R := R))).comp (hm_ev (padd (pX 1) (pC v)))
theorem sh_add [Lean.Grind.CommRing R] (v : R) (p q : Pl R) : psh v (padd p q) = padd (psh v p) (psh v q) := (hm_sh v).1 p q
theorem sh_mul [Lean.Grind.CommRing R] (v : R) (p q : Pl R) : psh v (pmul p q) = pmul (psh v p) (psh v q) := (hm_sh v).2.1 p q
theorem sh_C [Lean.Grind.CommRing R] (v c : R) : psh v (pC c) = pC c := by
  letI := plRing R
  unfold psh
  have : @mapP R (Pl R) _ (plRing R) (fun c => pC c) (pC c) = pC (pC c) := pl_ext fun i => by
    rw [co_map (hm_C (R := R)).zero, co_C, co_C]
    split
    · rfl
    · exact (hm_C (R := R)).zero
  rw [this, ev_C]
theorem sh_X [Lean.Grind.CommRing R] (v : R) : psh v (pX 1) = padd (pX 1) (pC v) := by
  letI := plRing R
  unfold psh
  have : @mapP R (Pl R) _ (plRing R) (fun c => pC c) (pX 1) = pX 1 := pl_ext fun i => by
    rw [co_map (hm_C (R := R)).zero, co_X, co_X]
    split
    · rfl
    · exact (hm_C (R := R)).zero
  rw [this, ev_X1]
/-- a polynomial is its sum -/
theorem pl_sum [Lean.Grind.CommRing R] (p : Pl R) {n : Nat} (h : szle p n) : p = @sm (Pl R) (plRing R) (fun i => pmul (pC (co p i)) (pX i)) n := by
  letI := plRing R
  refine pl_ext fun i => ?_
  have key : ∀ m, co (sm (fun i => pmul (pC (co p i)) (pX i)) m : Pl R) i = if i < m then co p i else 0 := by
    intro m
    induction m with
    | zero =>
      show co (pC (0 : R)) i = _
      rw [co_C]
      simp
    | succ m ih =>
      show co (padd (sm (fun i => pmul (pC (co p i)) (pX i)) m) (pmul (pC (co p m)) (pX m))) i = _
      rw [co_add, ih, pC_mul, co_X]
      by_cases h1 : i < m
      · rw [if_pos h1, if_neg (by omega), if_pos (by omega)]; grind
      · by_cases h2 : i = m
        · rw [if_neg h1, if_pos h2, if_pos (by omega), h2]; grind
        · rw [if_neg h1, if_neg h2, if_neg (by omega)]; grind
  rw [key]
  split
  · rfl
  · exact h i (by omega)
/-- two maps that agree at constants and at X are the same -/
theorem hm_uniq [Lean.Grind.CommRing R] [Lean.Grind.CommRing S] {φ ψ : Pl R → S} (h1 : @Hm (Pl R) S (plRing R) _ φ) (h2 : @Hm (Pl R) S (plRing R) _ ψ) (hc : ∀ c, φ (pC c) = ψ (pC c)) (hx : φ (pX 1) = ψ (pX 1)) (p : Pl R) : φ p = ψ p := by
  letI := plRing R
  rw [pl_sum p (sz_le p), h1.sum, h2.sum]
  apply sm_congr
  intro i _
  have e1 : φ (pmul (pC (co p i)) (pX i)) = φ (pC (co p i)) * φ (pX i) := h1.2.1 _ _
  have e2 : ψ (pmul (pC (co p i)) (pX i)) = ψ (pC (co p i)) * ψ (pX i) := h2.2.1 _ _
  rw [e1, e2, hc, ← ppow_X, h1.pow, h2.pow, hx]
theorem sh_0 [Lean.Grind.CommRing R] (p : Pl R) : psh 0 p = p := by
  letI := plRing R
  refine hm_uniq (ψ := fun p => p) (hm_sh 0) ⟨fun _ _ => rfl, fun _ _ => rfl, rfl⟩ (fun c => sh_C 0 c) ?_ p
  rw [sh_X]
  exact pl_ext fun i => by rw [co_add, co_C]; split <;> grind
theorem sh_sh [Lean.Grind.CommRing R] (u v : R) (p : Pl R) : psh u (psh v p) = psh (u + v) p := by
  letI := plRing R
  refine hm_uniq (φ := fun p => psh u (psh v p)) ((hm_sh v).comp (hm_sh u)) (hm_sh (u + v)) (fun c => ?_) ?_ p
  · simp only [sh_C]
  · show psh u (psh v (pX 1)) = psh (u + v) (pX 1)
    rw [sh_X, sh_X, sh_add, sh_X, sh_C]
    exact pl_ext fun i => by rw [co_add, co_add, co_add, co_C, co_C, co_C]; split <;> grind
theorem sh_ev [Lean.Grind.CommRing R] (v x : R) (p : Pl R) : ev (psh v p) x = ev p (x + v) := by
  letI := plRing R
  refine hm_uniq (φ := fun p => ev (psh v p) x) (ψ := fun p => ev p (x + v)) ((hm_sh v).comp (hm_ev x)) (hm_ev (x + v)) (fun c => ?_) ?_ p
  · simp only [sh_C, ev_C]
  · simp only [sh_X, ev_add, ev_X1, ev_C]
/-- one step of a shift -/
theorem sh_step [Lean.Grind.CommRing R] (v : R) {t b : Nat → R} {m : Nat} (h1 : b m = t m) (h2 : ∀ j, j < m → b j = t j + b (j + 1) * v) : psh v (mkP t (m + 1)) = padd (pC (b 0)) (pmul (pX 1) (psh v (mkP (fun j => b (j + 1)) m))) := by
  have e : mkP t (m + 1) = padd (pC (b 0)) (pmul (psub (pX 1) (pC v)) (mkP (fun j => b (j + 1)) m)) := pl_ext fun i => by
    have e1 : co (pmul (psub (pX 1) (pC v)) (mkP (fun j => b (j + 1)) m)) i = co (pmul (pX 1) (mkP (fun j => b (j + 1)) m)) i - v * co (mkP (fun j => b (j + 1)) m) i := by
      rw [← pC_mul, ← co_sub]
      congr 1
      letI := plRing R
      have : ∀ A B C : Pl R, (A - B) * C = A * C - B * C := by intros; grind
      exact this _ _ _
    rw [co_add, e1, co_Xmul, co_mkP, co_mkP, co_mkP, co_C]
    by_cases hi : i = 0
    · subst hi
      rw [if_pos (by omega), if_pos rfl, if_neg (by omega)]
      by_cases hm : 0 < m
      · rw [if_pos hm, h2 0 hm]; grind
      · rw [if_neg hm, ← show m = 0 by omega, h1]; grind
    · rw [if_neg hi, if_pos (show 1 ≤ i by omega)]
      by_cases h3 : i < m
      · rw [if_pos (by omega), if_pos (by omega), if_pos h3, show i - 1 + 1 = i by omega, h2 i h3]; grind
      · by_cases h4 : i = m
        · rw [if_pos (by omega), if_pos (by omega), if_neg h3, show i - 1 + 1 = i by omega, h4, h1]; grind
        · rw [if_neg (by omega), if_neg (by omega), if_neg h3]; grind
  rw [e, sh_add, sh_C, sh_mul]
  have : psh v (psub (pX 1) (pC v)) = pX 1 := by
    letI := plRing R
    have h3 : psh v (psub (pX 1) (pC v)) = psub (psh v (pX 1)) (psh v (pC v)) := (hm_sh v).sub _ _
    rw [h3, sh_X, sh_C]
    exact pl_ext fun i => by rw [co_sub, co_add]; grind
  rw [this]
end
