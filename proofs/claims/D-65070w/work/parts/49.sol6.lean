set_option maxRecDepth 100000
section
variable {g : GX} {d n : Nat} {h h' h1 : Hp} {σ : Nat → Nat}
theorem w_rs2 (hp : g.2.2.2.2 = true) {av : List Value} {Q : QT} {x1 x2 N : Nat} (hN : 1 ≤ N ∧ N ≤ 4) {p : Nat → Un} (hs : ∀ j, j < N → sz (p j) ≤ 1800) (hl : p (N - 1) ≠ pz) : ∀ (k j : Nat) (h : Hp), j + k = N → ri h 0 47 = nI (N - 1) → FD h N (fun l => if l < j then uq (p l) (gcF p N) else p l) → PI h 828 (gcF p N) → (∀ h', Fr h h' Lrso → FD h' N (fun l => uq (p l) (gcF p N)) → W_X0_readSolution g (d + 4) av Q n 52 [some (.ref 0), some (.int (nI x1)), some (.int (nI x2)), some (.int (toI (hd (uq (p (N - 1)) (gcF p N))))), some (.int (nI 0)), none] [] h') → W_X0_readSolution g (d + 4) av Q n 2 [some (.ref 0), some (.int (nI x1)), some (.int (nI x2)), some (.int (nI j)), none, none] [] h := by
  have hg := gcF_ne (j := N) (l := N - 1) (by omega) hl
  intro k
  induction k with
  | zero =>
    intro j h hj F H G q
    have H' : FD h N (fun l => uq (p l) (gcF p N)) := fun l hl => by
      have := H l hl
      dsimp only at this
      rw [if_pos (by omega)] at this; exact this
    refine s_X0_readSolution_2 hp ⟨fun _ => ⟨?_, fun r1 e1 => ?_⟩, fun c => absurd ?_ c⟩
    · rw [F, nI_inI (by omega)]; omega
    · rw [F, nI_tN (by omega)] at e1
      rw [e1]
      exact ok_head hp (fo_lay (by omega)) (H' (N - 1) (by omega)) (q h Fr.rf H')
    · rw [F, nI_ltI (by omega) (by omega)]; omega
  | succ k ih =>
    intro j h hj F H G q
    refine s_X0_readSolution_2 hp ⟨fun c => absurd c ?_, fun _ => ⟨?_, fun r3 e3 => ?_⟩⟩
    · rw [F, nI_ltI (by omega) (by omega)]; omega
    · rw [nI_inI (by omega)]; omega
    · rw [nI_tN (by omega)] at e3
      rw [e3]
      have P := H j (by omega)
      dsimp only at P
      rw [if_neg (by omega)] at P
      refine ok_divideExactly hp (fo_lay (by omega)) t828 (by omega) (by omega) (by omega) P G hg (uq_mul (gcF_dv p N j (by omega))) (hs j (by omega)) (fun h5 f5 P5 => ?_)
      have f5' : Fr h h5 Lrso := f5.mono (fun x hx => by simp at hx ⊢; omega)
      rw [show (1 : Int32) = nI 1 from rfl, nI_addz]
      refine ih (j + 1) h5 (by omega) (by rw [f5'.gi (by decide)]; exact F) ?_ (G.fr f5' (by decide) (by decide)) (fun h' f' => q h' (f5'.tr f'))
      have := H.set (a := j) hN.2 f5 (fun x hx => by simp at hx ⊢; omega) P5
      intro l hl
      have w := this l hl
      dsimp only at w ⊢
      by_cases c : l = j
      · rw [if_pos c] at w
        rw [if_pos (by omega), c]; rw [c] at w; exact w
      · rw [if_neg c] at w
        by_cases c2 : l < j
        · rw [if_pos c2] at w; rw [if_pos (by omega)]; exact w
        · rw [if_neg c2] at w; rw [if_neg (by omega)]; exact w
theorem w_rs52 (hp : g.2.2.2.2 = true) {av : List Value} {Q : QT} {x1 x2 N : Nat} (hN : 1 ≤ N ∧ N ≤ 4) {p : Nat → Un} {c : Fp} : ∀ (k j : Nat) (h : Hp), j + k = N → ri h 0 47 = nI (N - 1) → FD h N (fun l => if l < j then pmul (pC (iv c)) (p l) else p l) → (∀ h', Fr h h' Lrso → FD h' N (fun l => pmul (pC (iv c)) (p l)) → W_X0_readSolution g (d + 2) av Q n 87 [some (.ref 0), some (.int (nI x1)), some (.int (nI x2)), some (.int (toI c)), some (.int (nI 0)), some (.int (nI 0))] [] h') → W_X0_readSolution g (d + 2) av Q n 52 [some (.ref 0), some (.int (nI x1)), some (.int (nI x2)), some (.int (toI c)), some (.int (nI j)), none] [] h := by
  generalize hw : iv c = w0
  intro k
  induction k with
  | zero =>
    intro j h hj F H q
    refine s_X0_readSolution_52 hp ⟨fun _ => q h Fr.rf (fun l hl => ?_), fun c => absurd ?_ c⟩
    · have := H l hl
      dsimp only at this
      rw [if_pos (by omega)] at this; exact this
    · rw [F, nI_ltI (by omega) (by omega)]; omega
  | succ k ih =>
    intro j h hj F H q
    refine s_X0_readSolution_52 hp ⟨fun c => absurd c ?_, fun _ => ⟨?_, fun r3 e3 => ?_⟩⟩
    · rw [F, nI_ltI (by omega) (by omega)]; omega
    · rw [nI_inI (by omega)]; omega
    · rw [nI_tN (by omega)] at e3
      rw [e3]
      have P := H j (by omega)
      dsimp only at P
      rw [if_neg (by omega)] at P
      refine ok_inverse hp ?_
      rw [hw]
      refine ok_scale hp (fo_lay (by omega)) P (fun h2 f2 P2 => ?_)
      have f2' : Fr h h2 Lrso := f2.mono (fun x hx => by simp at hx ⊢; omega)
      rw [show (1 : Int32) = nI 1 from rfl, nI_addz]
      refine ih (j + 1) h2 (by omega) (by rw [f2'.gi (by decide)]; exact F) ?_ (fun h' f' => q h' (f2'.tr f'))
      have := H.set (a := j) hN.2 f2 (fun x hx => by simp at hx ⊢; omega) P2
      intro l hl
      have w := this l hl
      dsimp only at w ⊢
      by_cases c : l = j
      · rw [if_pos c] at w
        rw [if_pos (by omega), c]; rw [c] at w; exact w
      · rw [if_neg c] at w
        by_cases c2 : l < j
        · rw [if_pos c2] at w; rw [if_pos (by omega)]; exact w
        · rw [if_neg c2] at w; rw [if_neg (by omega)]; exact w
theorem Lrs_b {x : Nat} (hx : x ∈ Lrs2) : ¬ (113 ≤ x ∧ x < 818) := by simp at hx; omega
theorem BZ.frs {hh : Nat} {z : Nat → Un} (Z : BZ h σ hh z) (B : BS h σ) (h14 : hh < 14) (f : Fr h h' Lrs2) : BZ h' σ hh z := Z.frp (P := fun x => x ∈ Lrs2) B h14 (f.p (fun _ q => q)) (fun _ q => Lrs_b q)
theorem w_rs87 (hp : g.2.2.2.2 = true) {av : List Value} {Q : QT} {c : Fp} {xs hh : Nat} {z : Nat → Un} (hz : ∀ l, hh < l → z l = pz) (h14 : hh < 14) (hx : xs ≤ 13) (hs : ∀ j, sz (z j) ≤ 1300) : ∀ (k m : Nat) (h : Hp), m + k = xs → Kp h → BS h σ → BZ h σ hh z → (∀ h', Fr h h' Lrs2 → DA h' 823 (wdF z xs) xs (fun _ _ => 0) → W_X0_readSolution g (d + 2) av Q n 140 [some (.ref 0), some (.int (nI xs)), some (.int (nI hh)), some (.int (toI c)), none, some (.int (nI 0))] [] h') → W_X0_readSolution g (d + 2) av Q n 87 [some (.ref 0), some (.int (nI xs)), some (.int (nI hh)), some (.int (toI c)), some (.int (nI (wdF z m))), some (.int (nI m))] [] h := by
  intro k
  have z823 := w823
  induction k with
  | zero =>
    intro m h hm K B Z q
    have e : m = xs := by omega
    have wl : wdF z xs ≤ 1300 := wdF_le xs (fun j _ => hs j)
    refine s_X0_readSolution_87 hp ⟨fun _ => ?_, fun w => absurd ?_ w⟩
    · rw [e]
      exact ok_open hp t823 (K.w t823) (by omega) (by omega) (fun h1 f1 E1 => q h1 (f1.mono (by simp)) E1)
    · rw [nI_leI (by omega) (by omega)]; omega
  | succ k ih =>
    intro m h hm K B Z q
    have wl : wdF z m ≤ 1300 := wdF_le m (fun j _ => hs j)
    have sm := hs m
    refine s_X0_readSolution_87 hp ⟨fun w => absurd w ?_, fun _ => ?_⟩
    · rw [nI_leI (by omega) (by omega)]; omega
    · refine ok_bnumber hp B Z hz h14 (by omega) t832 (Or.inr (by omega)) (by rw [r833]; omega) (fun h2 f2 P2 => ?_)
      have f2' : Fr h h2 Lrs2 := f2.mono (by simp)
      rw [P2.1]
      refine ok_maxN hp (by omega) (by omega) ?_
      rw [show (1 : Int32) = nI 1 from rfl, nI_addz]
      exact ih (m + 1) h2 (by omega) (f2.kp K) (B.fr f2.1) (Z.frs B h14 f2') (fun h' f' => q h' (f2'.tr f'))
theorem w_rs140 (hp : g.2.2.2.2 = true) {av : List Value} {Q : QT} {c : Fp} {xs hh : Nat} {z : Nat → Un} {gg : Un} (hz : ∀ l, hh < l → z l = pz) (h14 : hh < 14) (hx : xs ≤ 13) (hs : ∀ j, sz (z j) ≤ 1300) (sg : sz gg ≤ 1800) : ∀ (k m : Nat) (h : Hp), m + k = xs → BS h σ → BZ h σ hh z → PI h 828 gg → DA h 823 (wdF z xs) xs (fun j i => if j < m then co (z j) i else 0) → (∀ h', Fr h h' Lrs2 → DI h' 823 (solX z xs) → PI h' 830 (pmul (pC c) gg) → PI h' 103 gg → W_X0_readSolution g (d + 2) av Q n 219 [some (.ref 0), none, none, none, none, some (.int (nI 0))] [] h') → W_X0_readSolution g (d + 2) av Q n 140 [some (.ref 0), some (.int (nI xs)), some (.int (nI hh)), some (.int (toI c)), none, some (.int (nI m))] [] h := by
  intro k
  induction k with
  | zero =>
    intro m h hm B Z G H q
    have e : m = xs := by omega
    refine s_X0_readSolution_140 hp ⟨fun _ => ?_, fun w => absurd ?_ w⟩
    · have H' := H.cong (f' := fun j i => co (z j) i) (fun j i hj _ => by rw [if_pos (by omega)])
      refine ok_dtrim hp t823 H' (fun h1 f1 D1 => ?_)
      refine ok_copy hp t830 t828 ((G.fr f1 (by decide) (by decide))) (by rw [r831]; omega) (fun h2 f2 P2 => ?_)
      refine ok_scale hp t830 P2 (fun h3 f3 P3 => ?_)
      refine ok_copy hp t103 t828 ((((G.fr f1 (by decide) (by decide)).fr f2 (by decide) (by decide)).fr f3 (by decide) (by decide))) (by rw [r104]; omega) (fun h4 f4 P4 => ?_)
      exact q h4 ((((f1.mono (by simp)).tr (f2.mono (by simp))).tr (f3.mono (by simp))).tr (f4.mono (by simp))) ((((D1.fr f2 (by decide) (by decide)).fr f3 (by decide) (by decide)).fr f4 (by decide) (by decide))) ((P3.fr f4 (by decide) (by decide))) P4
    · rw [nI_leI (by omega) (by omega)]; omega
  | succ k ih =>
    intro m h hm B Z G H q
    have sm := hs m
    refine s_X0_readSolution_140 hp ⟨fun w => absurd w ?_, fun _ => ?_⟩
    · rw [nI_leI (by omega) (by omega)]; omega
    · refine ok_bnumber hp B Z hz h14 (by omega) t832 (Or.inr (by omega)) (by rw [r833]; omega) (fun h2 f2 P2 => ?_)
      refine ok_putRow hp t823 t832 ((H.fr f2 (by decide) (by decide))) P2 (by omega) (fun h3 f3 H3 => ?_)
      have F3 : Fr h h3 Lrs2 := ((f2.mono (by simp)).tr (f3.mono (by simp)))
      rw [show (1 : Int32) = nI 1 from rfl, nI_addz]
      refine ih (m + 1) h3 (by omega) (B.fr F3.1) (Z.frs B h14 F3) (((G.fr f2 (by decide) (by decide)).fr f3 (by decide) (by decide))) (H3.cong (fun j i _ _ => ?_)) (fun h' f' => q h' (F3.tr f'))
      by_cases c1 : j = m
      · rw [if_pos c1, if_pos (by omega), c1]
      · rw [if_neg c1]
        by_cases c2 : j < m
        · rw [if_pos c2, if_pos (by omega)]
        · rw [if_neg c2, if_neg (by omega)]
end
