set_option maxRecDepth 100000
/-! SUMS: the solution read off the board -/
def FD (h : Hp) (N : Nat) (p : Nat → Un) : Prop := ∀ i, i < N → PI h (2511 + 11 * i) (p i)
abbrev Lfo : List Nat := [2511, 2512, 2522, 2523, 2533, 2534, 2544, 2545]
abbrev Lrs2 : List Nat := [3, 4, 5, 6, 7, 8, 103, 104, 105, 106, 823, 824, 830, 831, 832, 833]
abbrev Lrso : List Nat := Lrs2 ++ Lfo
theorem FD.fr {h h' : Hp} {N : Nat} {p : Nat → Un} {L : List Nat} (H : FD h N p) (hN : N ≤ 4) (f : Fr h h' L) (o : ∀ x, x ∈ L → x ∉ Lfo) : FD h' N p := fun i hi => by
  refine (H i hi).fr f (fun w => o _ w ?_) (fun w => o _ w ?_) <;> simp <;> omega
theorem FD.set {h h' : Hp} {N a : Nat} {p : Nat → Un} {v : Un} {L : List Nat} (H : FD h N p) (hN : N ≤ 4) (f : Fr h h' L) (o : ∀ x, x ∈ L → x ∉ Lfo ∨ x = 2511 + 11 * a ∨ x = 2511 + 11 * a + 1) (P : PI h' (2511 + 11 * a) v) : FD h' N (fun i => if i = a then v else p i) := fun i hi => by
  dsimp only
  by_cases c : i = a
  · rw [if_pos c, c]; exact P
  · rw [if_neg c]
    refine (H i hi).fr f (fun w => ?_) (fun w => ?_)
    · rcases o _ w with q | q | q
      · exact q (by simp; omega)
      · omega
      · omega
    · rcases o _ w with q | q | q
      · exact q (by simp; omega)
      · omega
      · omega
theorem t823 : lay 823 = (0, 4, 4) := by decide +kernel
theorem w823 : wd 823 = 1300 ∧ hg 823 = 24 := by decide +kernel
theorem t830 : lay 830 = (0, 3, 2) := by decide +kernel
theorem r831 : rm (830 + 1) = 1800 := by decide +kernel
/-- how wide -/
noncomputable def wdF (z : Nat → Un) : Nat → Nat
  | 0 => 0
  | m + 1 => max (wdF z m) (sz (z m))
theorem wdF_le {z : Nat → Un} {V : Nat} : ∀ m, (∀ j, j < m → sz (z j) ≤ V) → wdF z m ≤ V
  | 0, _ => Nat.zero_le _
  | m + 1, h => by
    have r := wdF_le m (fun j hj => h j (by omega))
    have s := h m (by omega)
    show max (wdF z m) (sz (z m)) ≤ V
    omega
theorem wdF_ge (z : Nat → Un) : ∀ m j, j < m → sz (z j) ≤ wdF z m
  | m + 1, j, hj => by
    show sz (z j) ≤ max (wdF z m) (sz (z m))
    by_cases c : j = m
    · rw [c]; omega
    · have := wdF_ge z m j (by omega); omega
/-- x -/
noncomputable def solX (z : Nat → Un) (xs : Nat) : Bi := b2 (fun j i => co (z j) i) (wdF z xs) xs
theorem solX_co (z : Nat → Un) (xs j : Nat) : bco (solX z xs) j = if j < xs then z j else pz := pl_ext fun i => by
  show cc (solX z xs) j i = _
  unfold solX
  rw [cc_b2]
  by_cases c : j < xs
  · rw [if_pos c]
    by_cases c2 : i < wdF z xs
    · rw [if_pos ⟨c, c2⟩]
    · rw [if_neg (fun u => c2 u.2), sz_le (z j) i (by have := wdF_ge z xs j c; omega)]
  · rw [if_neg c, if_neg (fun u => c u.1), co_z]
/-- what x and its divisor share -/
noncomputable def gcR (g : Un) (X : Bi) : Nat → Un
  | 0 => g
  | m + 1 => gcdU (gcR g X m) (bco X m)
theorem gcR_ne {g : Un} (hg : g ≠ pz) (X : Bi) : ∀ m, gcR g X m ≠ pz
  | 0 => hg
  | m + 1 => fun w => by
    have r := (gcdU_is (gcR g X m) (bco X m)).1
    have e : gcR g X (m + 1) = gcdU (gcR g X m) (bco X m) := rfl
    rw [← e, w] at r
    exact gcR_ne hg X m (udv_of_z r)
theorem gcR_hd {g : Un} (hg : g ≠ pz) (h1 : hd g = 1) (X : Bi) : ∀ m, hd (gcR g X m) = 1
  | 0 => h1
  | m + 1 => (gcdU_hd (gcR g X m) (bco X m)).resolve_left (gcR_ne hg X (m + 1))
theorem gcR_dv (g : Un) (X : Bi) : ∀ m, udv (gcR g X m) g ∧ ∀ j, j < m → udv (gcR g X m) (bco X j)
  | 0 => ⟨by letI := plRing Fp; exact dv_refl (K := Un) g, fun j hj => by omega⟩
  | m + 1 => by
    have r := gcR_dv g X m
    have i := gcdU_is (gcR g X m) (bco X m)
    refine ⟨?_, fun j hj => ?_⟩
    · letI := plRing Fp
      exact dv_trans (K := Un) i.1 r.1
    · by_cases c : j = m
      · rw [c]; exact i.2.1
      · letI := plRing Fp
        exact dv_trans (K := Un) i.1 (r.2 j (by omega))
theorem sz1_hd {p : Un} (h0 : p ≠ pz) (h1 : sz p ≤ 1) (h2 : hd p = 1) : p = pC 1 := by
  have hs := sz_pos h0
  refine pl_ext fun i => ?_
  rw [co_C]
  by_cases c : i = 0
  · rw [if_pos c, c, ← h2]
    unfold hd
    rw [show sz p - 1 = 0 by omega]
  · rw [if_neg c, sz_le p i (by omega)]
theorem uq_1 (p : Un) : uq p (pC 1) = p := uq_eq (pC_ne (by decide)) (pl_ext fun i => by rw [pC_mul]; grind)
theorem gcR_stop {g : Un} (hg : g ≠ pz) (h1 : hd g = 1) (X : Bi) {m : Nat} (h : sz (gcR g X m) ≤ 1) : ∀ k, gcR g X (m + k) = gcR g X m
  | 0 => rfl
  | k + 1 => by
    have r := gcR_stop hg h1 X h k
    have d1 := (gcdU_is (gcR g X (m + k)) (bco X (m + k))).1
    have s : sz (gcR g X (m + (k + 1))) ≤ 1 := by
      have := dv_sz fp_dom d1 (gcR_ne hg X _)
      rw [r] at this
      have e : gcR g X (m + (k + 1)) = gcdU (gcR g X (m + k)) (bco X (m + k)) := rfl
      rw [e, r]; omega
    rw [sz1_hd (gcR_ne hg X _) s (gcR_hd hg h1 X _), sz1_hd (gcR_ne hg X _) h (gcR_hd hg h1 X _)]
noncomputable def slX (g : Un) (X : Bi) : Bi := b2 (fun j i => co (uq (bco X j) (gcR g X (bsz X))) i) (bsn X) (bsz X)
noncomputable def slU (c : Fp) (g : Un) (X : Bi) : Un := uq (pmul (pC c) g) (gcR g X (bsz X))
theorem slX_1 {g : Un} {X : Bi} (h : gcR g X (bsz X) = pC 1) : slX g X = X := by
  unfold slX
  rw [h]
  have e : b2 (fun j i => co (uq (bco X j) (pC 1)) i) (bsn X) (bsz X) = b2 (cc X) (bsn X) (bsz X) := b2_cong fun j i _ _ => by rw [uq_1]; rfl
  rw [e]; exact b2_cc X (Nat.le_refl _) (Nat.le_refl _)
