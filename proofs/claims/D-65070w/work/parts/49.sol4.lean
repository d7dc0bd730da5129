set_option maxRecDepth 100000
/-! SUMS: the columns of what is asked; how many lines -/
theorem as_lay {i : Nat} (h : i < 4) : lay (2509 + 11 * i) = (0, 4, 4) := by
  have : i = 0 ∨ i = 1 ∨ i = 2 ∨ i = 3 := by omega
  rcases this with e | e | e | e <;> rw [e] <;> decide +kernel
theorem as_wd {i : Nat} (h : i < 4) : wd (2509 + 11 * i) = 160 ∧ hg (2509 + 11 * i) = 20 := by
  have : i = 0 ∨ i = 1 ∨ i = 2 ∨ i = 3 := by omega
  rcases this with e | e | e | e <;> rw [e] <;> decide +kernel
theorem fo_lay {i : Nat} (h : i < 4) : lay (2511 + 11 * i) = (0, 3, 2) := by
  have : i = 0 ∨ i = 1 ∨ i = 2 ∨ i = 3 := by omega
  rcases this with e | e | e | e <;> rw [e] <;> decide +kernel
theorem fo_rm {i : Nat} (h : i < 4) : rm (2511 + 11 * i + 1) = 1800 := by
  have : i = 0 ∨ i = 1 ∨ i = 2 ∨ i = 3 := by omega
  rcases this with e | e | e | e <;> rw [e] <;> decide +kernel
theorem t97x : lay 97 = (0, 4, 4) := by decide +kernel
/-- the lines of the board -/
noncomputable def lnL (A B C : Bi) (p : Nat → Bi) (xs : Nat) : Nat → Nat
  | 0 => max (bsz A) (bsz B) + xs
  | i + 1 => max (lnL A B C p xs i) (bsz C + bsz (p i))
theorem lnL_ge (A B C : Bi) (p : Nat → Bi) (xs : Nat) : ∀ j, max (bsz A) (bsz B) + xs ≤ lnL A B C p xs j ∧ ∀ i, i < j → bsz C + bsz (p i) ≤ lnL A B C p xs j
  | 0 => ⟨Nat.le_refl _, fun i hi => by omega⟩
  | j + 1 => by
    have r := lnL_ge A B C p xs j
    have e : lnL A B C p xs (j + 1) = max (lnL A B C p xs j) (bsz C + bsz (p j)) := rfl
    rw [e]
    refine ⟨by have := r.1; omega, fun i hi => ?_⟩
    by_cases c : i = j
    · rw [c]; omega
    · have := r.2 i (by omega); omega
theorem lnL_le {A B C : Bi} {p : Nat → Bi} {xs V : Nat} (h0 : max (bsz A) (bsz B) + xs ≤ V) : ∀ j, (∀ i, i < j → bsz C + bsz (p i) ≤ V) → lnL A B C p xs j ≤ V
  | 0, _ => h0
  | j + 1, h => by
    have r := lnL_le (C := C) (p := p) h0 j (fun i hi => h i (by omega))
    have e : lnL A B C p xs (j + 1) = max (lnL A B C p xs j) (bsz C + bsz (p j)) := rfl
    have := h j (by omega)
    rw [e]; omega
section
variable {g : GX} {d n : Nat} {h h' h1 : Hp} {σ : Nat → Nat} {L N : Nat} {M : Nat → Nat → Un}
theorem w_sf32 (hp : g.2.2.2.2 = true) {av : List Value} {Q : QT} {j xs : Nat} (hj : j < 4) (hx : xs ≤ 13) {A B C : Bi} {p : Nat → Bi} (DC : DI h 97 C) (Dp : ∀ i, i ≤ j → DI h (2509 + 11 * i) (p i)) (bd : lnL A B C p xs (j + 1) < 10000) (q : CallV g m_X7_open d [.ref 113, .int (nI (lnL A B C p xs (j + 1))), .int (nI (xs + j + 1))] n h (fun h1 => (CallV g m_X4_set d [.ref 99, .int (toI 1)] n h1 (fun h2 => (W_X0_solveFor g d av Q n 94 [some (.ref 0), some (.int (nI j)), none, some (.int (nI xs)), none, some (.int (nI 0)), none] [] h2))))) : ∀ (k i : Nat), i + k = j + 1 → W_X0_solveFor g d av Q n 32 [some (.ref 0), some (.int (nI j)), none, some (.int (nI xs)), some (.int (nI (lnL A B C p xs i))), some (.int (nI i)), none] [] h := by
  intro k
  have mo : ∀ i, i ≤ j + 1 → lnL A B C p xs i ≤ lnL A B C p xs (j + 1) := fun i hi => lnL_le (lnL_ge A B C p xs (j + 1)).1 i (fun l hl => (lnL_ge A B C p xs (j + 1)).2 l (by omega))
  induction k with
  | zero =>
    intro i hi
    have e : i = j + 1 := by omega
    refine s_X0_solveFor_32 hp ⟨fun _ => ?_, fun w => absurd ?_ w⟩
    · rw [e, nI_addz, show (1 : Int32) = nI 1 from rfl, nI_addz]; exact q
    · rw [nI_ltI (by omega) (by omega)]; omega
  | succ k ih =>
    intro i hi
    have D := Dp i (by omega)
    have k1 := D.ltk
    have k2 := DC.ltk
    have m1 := mo i (by omega)
    refine s_X0_solveFor_32 hp ⟨fun w => absurd w ?_, fun _ => ⟨?_, fun r3 e3 => ?_⟩⟩
    · rw [nI_ltI (by omega) (by omega)]; omega
    · rw [nI_inI (by omega)]; omega
    · rw [nI_tN (by omega)] at e3
      rw [e3, DC.k, D.k, nI_addz]
      refine ok_maxN hp (by omega) (by omega) ?_
      rw [show (1 : Int32) = nI 1 from rfl, nI_addz]
      exact ih (i + 1) (by omega)
theorem w_sf283 (hp : g.2.2.2.2 = true) {av : List Value} {Q : QT} {j xs : Nat} (hj : j < 4) (hN : xs + j + 1 = N) {A Mv C : Bi} {p : Nat → Bi} (hC : C ≠ bz) (hpz : ∀ i, i ≤ j → p i ≠ bz) (nC : bsn C ≤ 700) (sC : bsz C ≤ 100) (hL : ∀ i, i ≤ j → bsz C + bsz (p i) ≤ L) : ∀ (k i : Nat) (h : Hp), i + k = j + 1 → Kp h → BS h σ → BD h L N → BM h σ L N 0 (fun r c => if c < xs + i then matB A Mv C p xs r c else pz) → DI h 97 C → (∀ i, i ≤ j → DI h (2509 + 11 * i) (p i)) → (∀ h', FrP h h' Sop → BS h' σ → BD h' L N → BM h' σ L N 0 (matB A Mv C p xs) → W_X0_solveFor g (d + 3) av Q n 283 [some (.ref 0), some (.int (nI j)), none, some (.int (nI xs)), none, some (.int (nI (j + 1))), none] [] h') → W_X0_solveFor g (d + 3) av Q n 283 [some (.ref 0), some (.int (nI j)), none, some (.int (nI xs)), none, some (.int (nI i)), none] [] h := by
  intro k
  induction k with
  | zero =>
    intro i h hi K B D H DC Dp q
    have e : i = j + 1 := by omega
    rw [e]
    refine q h FrP.rf B D (fun r c hr h0 hc => ?_)
    have w := H r c hr h0 hc
    dsimp only at w
    rw [if_pos (by omega)] at w
    exact w
  | succ k ih =>
    intro i h hi K B D H DC Dp q
    have dL := D.2.2.1
    have dN := D.2.2.2
    have Di := Dp i (by omega)
    have pz' := hpz i (by omega)
    have a1 := as_lay (i := i) (by omega)
    have a2 := as_wd (i := i) (by omega)
    have a3 := Di.nl
    have a4 := Di.kl
    have z821 := w821
    have l1 := hL i (by omega)
    have m2 := (bsz_mul hC pz').1
    refine s_X0_solveFor_283 hp ⟨fun w => absurd w ?_, fun _ => ⟨?_, fun r4 e4 => ?_⟩⟩
    · rw [nI_ltI (by omega) (by omega)]; omega
    · rw [nI_inI (by omega)]; omega
    · rw [nI_tN (by omega)] at e4
      rw [e4]
      refine ok_dproduct hp t821 t97x a1 (by decide) (by omega) (K.w t821) DC Di (by omega) (by omega) (fun h5 f5 P5 => ?_)
      have F5 : Fr h h5 Lsp := (f5.mono (by simp))
      rw [show (2147483646 : Int32) = toI (-1) from toI_m1.symm, nI_addz]
      refine ok_layColumn hp (B.fr F5.1) (D.fr F5 (by decide)) (H.fr B dL F5 (fun x hx => by simp at hx; omega) dN) t821 (by decide) (Or.inr (by decide)) P5 (by omega) (by omega) (fun r hr => by rw [if_neg (by omega)]) (fun h6 f6 B6 D6 H6 => ?_)
      have G : FrP h h6 Sop := (F5.p (fun x hx => Lsp_p hx)).tr (f6.mono (fun x hx => Or.inl hx))
      rw [show (1 : Int32) = nI 1 from rfl, nI_addz]
      refine ih (i + 1) h6 (by omega) (G.kp K) B6 D6 (fun r c hr h0 hc => ?_) (DC.sop G) (fun l hl => (Dp l hl).sop G) (fun h' f' => q h' (G.tr f'))
      have w := H6 r c hr h0 hc
      dsimp only at w ⊢
      by_cases c1 : c = xs + i
      · rw [if_pos c1] at w; rw [if_pos (by omega)]
        unfold matB colB
        rw [if_neg (by omega), c1, show xs + i - xs = i by omega]
        rw [c1] at w; exact w
      · rw [if_neg c1] at w
        by_cases c2 : c < xs + i
        · rw [if_pos c2] at w; rw [if_pos (by omega)]; exact w
        · rw [if_neg c2] at w; rw [if_neg (by omega)]; exact w
end
