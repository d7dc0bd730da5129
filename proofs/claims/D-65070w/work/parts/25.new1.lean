set_option maxRecDepth 100000
/-! INTERPOLATION: divided differences -/
def dd (x y : Nat → Fp) : Nat → Nat → Fp
  | 0, i => y i
  | s + 1, i => (dd x y s i - dd x y s (i - 1)) * iv (x i - x (i - (s + 1)))
/-- n - c -/
def pL (c : Fp) : Un := psub (pX 1) (pC c)
theorem ev_L (c x : Fp) : ev (pL c) x = x - c := by
  unfold pL
  rw [ev_sub, ev_X1, ev_C]
theorem co_Lmul (c : Fp) (p : Un) (i : Nat) : co (pmul (pL c) p) (i + 1) = co p i - c * co p (i + 1) ∧ co (pmul (pL c) p) 0 = 0 - c * co p 0 := by
  have e : pmul (pL c) p = psub (pmul (pX 1) p) (pmul (pC c) p) := by
    letI := plRing Fp
    have hh : ∀ A B C : Un, (A - B) * C = A * C - B * C := by intros; grind
    exact hh _ _ _
  rw [e, co_sub, co_sub, co_Xmul, co_Xmul, pC_mul, pC_mul, if_pos (by omega), if_neg (by omega), Nat.add_sub_cancel]
  exact ⟨rfl, rfl⟩
theorem szle_Lmul {c : Fp} {p : Un} {n : Nat} (h : szle p n) : szle (pmul (pL c) p) (n + 1) := fun i hi => by
  obtain ⟨k, rfl⟩ : ∃ k, i = k + 1 := ⟨i - 1, by omega⟩
  rw [(co_Lmul c p k).1, h k (by omega), h (k + 1) (by omega)]; grind
theorem nev {x y : Nat → Fp} {n : Nat} (hx : ∀ i j, i < n → j < n → x i = x j → i = j) : ∀ (s a : Nat), a + s < n → ∃ p : Un, szle p (s + 1) ∧ (∀ t, t ≤ s → ev p (x (a + t)) = y (a + t)) ∧ co p s = dd x y s (a + s) := by
  intro s
  induction s with
  | zero =>
    intro a ha
    refine ⟨pC (y a), fun i hi => ?_, fun t ht => ?_, ?_⟩
    · rw [co_C, if_neg (by omega)]
    · rw [ev_C, show a + t = a by omega]
    · rw [co_C, if_pos rfl]; rfl
  | succ s ih =>
    intro a ha
    obtain ⟨p0, h01, h02, h03⟩ := ih a (by omega)
    obtain ⟨p1, h11, h12, h13⟩ := ih (a + 1) (by omega)
    have hne : x (a + (s + 1)) - x a ≠ 0 := fun z => by
      have := hx (a + (s + 1)) a (by omega) (by omega) (by grind)
      omega
    have hv := iv_mul hne
    have e0 : dd x y (s + 1) (a + (s + 1)) = (dd x y s (a + (s + 1)) - dd x y s (a + s)) * iv (x (a + (s + 1)) - x a) := by
      show (dd x y s (a + (s + 1)) - dd x y s (a + (s + 1) - 1)) * iv (x (a + (s + 1)) - x (a + (s + 1) - (s + 1))) = _
      rw [show a + (s + 1) - 1 = a + s by omega, show a + (s + 1) - (s + 1) = a by omega]
    rw [e0]
    generalize iv (x (a + (s + 1)) - x a) = v at hv ⊢
    refine ⟨pmul (pC v) (psub (pmul (pL (x a)) p1) (pmul (pL (x (a + (s + 1)))) p0)), fun i hi => ?_, fun t ht => ?_, ?_⟩
    · rw [pC_mul, co_sub, szle_Lmul h11 i (by omega), szle_Lmul h01 i (by omega)]; grind
    · rw [ev_mul, ev_C, ev_sub, ev_mul, ev_mul, ev_L, ev_L]
      by_cases t0 : t = 0
      · subst t0
        have := h02 0 (by omega)
        rw [Nat.add_zero] at this ⊢
        rw [this]
        generalize ev p1 (x a) = w
        grind
      · by_cases t1 : t = s + 1
        · subst t1
          have := h12 s (by omega)
          rw [show a + 1 + s = a + (s + 1) by omega] at this
          rw [this]
          generalize ev p0 (x (a + (s + 1))) = w
          grind
        · have g1 := h12 (t - 1) (by omega)
          have g0 := h02 t (by omega)
          rw [show a + 1 + (t - 1) = a + t by omega] at g1
          rw [g0, g1]
          grind
    · rw [pC_mul, co_sub, (co_Lmul _ p1 s).1, (co_Lmul _ p0 s).1, h11 (s + 1) (by omega), h01 (s + 1) (by omega), h13, h03, show a + 1 + s = a + (s + 1) by omega]
      grind
/-- (n - x 0) .. (n - x (i - 1)) -/
def pW (x : Nat → Fp) : Nat → Un
  | 0 => pC 1
  | i + 1 => pmul (pL (x i)) (pW x i)
theorem pW_sz (x : Nat → Fp) : ∀ i, szle (pW x i) (i + 1) ∧ co (pW x i) i = 1
  | 0 => ⟨fun i hi => by show co (pC 1) i = 0; rw [co_C, if_neg (by omega)], rfl⟩
  | i + 1 => by
    have h := pW_sz x i
    refine ⟨szle_Lmul h.1, ?_⟩
    show co (pmul (pL (x i)) (pW x i)) (i + 1) = 1
    rw [(co_Lmul _ _ i).1, h.2, h.1 (i + 1) (by omega)]; grind
theorem pW_ev (x : Nat → Fp) : ∀ i t, t < i → ev (pW x i) (x t) = 0
  | 0, t, h => absurd h (Nat.not_lt_zero t)
  | i + 1, t, h => by
    show ev (pmul (pL (x i)) (pW x i)) (x t) = 0
    rw [ev_mul, ev_L]
    by_cases e : t = i
    · rw [e]; grind
    · rw [pW_ev x i t (by omega)]; grind
/-- the sum of the first parts of Newton's form -/
def pS (x c : Nat → Fp) : Nat → Un
  | 0 => pz
  | i + 1 => padd (pS x c i) (pmul (pC (c i)) (pW x i))
theorem pS_ok {x y : Nat → Fp} {n : Nat} (hx : ∀ i j, i < n → j < n → x i = x j → i = j) : ∀ i, i ≤ n → szle (pS x (fun i => dd x y i i) i) i ∧ ∀ t, t < i → ev (pS x (fun i => dd x y i i) i) (x t) = y t := by
  intro i
  induction i with
  | zero => exact fun _ => ⟨fun i _ => co_z i, fun t ht => absurd ht (Nat.not_lt_zero t)⟩
  | succ i ih =>
    intro hi
    obtain ⟨s1, s2⟩ := ih (by omega)
    obtain ⟨p, p1, p2, p3⟩ := nev (y := y) hx i 0 (by omega)
    have hW := pW_sz x i
    have e : psub (psub p (pS x (fun i => dd x y i i) i)) (pmul (pC (dd x y i i)) (pW x i)) = pz := by
      refine roots_le fp_dom i x _ (fun a b ha hb => hx a b (by omega) (by omega)) (fun t ht => ?_) (sz_min (fun l hl => ?_))
      · rw [ev_sub, ev_sub, ev_mul, ev_C, pW_ev x i t ht, s2 t ht]
        have := p2 t (by omega)
        rw [Nat.zero_add] at this
        rw [this]; grind
      · rw [co_sub, co_sub, pC_mul, s1 l (by omega)]
        by_cases e : l = i
        · rw [e, hW.2, p3, Nat.zero_add]; grind
        · rw [p1 l (by omega), hW.1 l (by omega)]; grind
    have e2 : pS x (fun i => dd x y i i) (i + 1) = p := by
      letI := plRing Fp
      have hh : ∀ A B C : Un, A - B - C = 0 → B + C = A := by intros; grind
      exact hh _ _ _ e
    rw [e2]
    refine ⟨p1, fun t ht => ?_⟩
    have := p2 t (by omega)
    rw [Nat.zero_add] at this
    exact this
/-- Horner's way, the last k numbers done -/
def pH (x c : Nat → Fp) (n : Nat) : Nat → Un
  | 0 => pz
  | k + 1 => padd (pmul (pL (x (n - (k + 1)))) (pH x c n k)) (pC (c (n - (k + 1))))
theorem pH_S (x c : Nat → Fp) (n : Nat) : ∀ k, k ≤ n → padd (pS x c (n - k)) (pmul (pW x (n - k)) (pH x c n k)) = pS x c n
  | 0, _ => by
    show padd (pS x c (n - 0)) (pmul (pW x (n - 0)) pz) = pS x c n
    rw [(szmul_z _).1, Nat.sub_zero]
    exact pl_ext fun i => by rw [co_add, co_z]; grind
  | k + 1, hk => by
    have ih := pH_S x c n k (by omega)
    rw [← ih]
    obtain ⟨m, hm⟩ : ∃ m, n - (k + 1) = m := ⟨_, rfl⟩
    rw [show n - k = m + 1 by omega, hm]
    show padd (pS x c m) (pmul (pW x m) (padd (pmul (pL (x (n - (k + 1)))) (pH x c n k)) (pC (c (n - (k + 1)))))) = padd (padd (pS x c m) (pmul (pC (c m)) (pW x m))) (pmul (pmul (pL (x m)) (pW x m)) (pH x c n k))
    rw [hm]
    letI := plRing Fp
    have hh : ∀ A B C D E : Un, A + B * (C * D + E) = A + E * B + C * B * D := by intros; grind
    exact hh _ _ _ _ _
/-- the polynomial through n points -/
theorem newton {x y : Nat → Fp} {n : Nat} (hx : ∀ i j, i < n → j < n → x i = x j → i = j) : sz (pH x (fun i => dd x y i i) n n) ≤ n ∧ ∀ t, t < n → ev (pH x (fun i => dd x y i i) n n) (x t) = y t := by
  have h := pH_S x (fun i => dd x y i i) n n (Nat.le_refl _)
  rw [Nat.sub_self] at h
  have e : pH x (fun i => dd x y i i) n n = pS x (fun i => dd x y i i) n := by
    rw [← h]
    letI := plRing Fp
    have hh : ∀ A : Un, A = 0 + 1 * A := by intros; grind
    exact hh _
  rw [e]
  have h2 := pS_ok (y := y) hx n (Nat.le_refl _)
  exact ⟨sz_min h2.1, h2.2⟩
theorem pH_szle (x c : Nat → Fp) (n : Nat) : ∀ k, szle (pH x c n k) k
  | 0 => fun i _ => co_z i
  | k + 1 => fun i hi => by
    show co (padd (pmul (pL (x (n - (k + 1)))) (pH x c n k)) (pC (c (n - (k + 1))))) i = 0
    rw [co_add, szle_Lmul (pH_szle x c n k) i hi, co_C, if_neg (by omega)]; grind
