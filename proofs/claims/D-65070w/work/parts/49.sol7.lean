set_option maxRecDepth 100000
section
variable {g : GX} {d n : Nat} {h h' h1 : Hp} {σ : Nat → Nat}
theorem w_rs219 (hp : g.2.2.2.2 = true) {av : List Value} {Q : QT} {X : Bi} {gg : Un} (hg : gg ≠ pz) (hd1 : hd gg = 1) (sg : sz gg ≤ 1800) : ∀ (k m : Nat) (h : Hp), m + k = bsz X → DI h 823 X → PI h 103 (gcR gg X m) → (∀ h', Fr h h' Lrs2 → DI h' 823 X → (∀ u, PI h 830 u → PI h' 830 u) → PI h' 103 (gcR gg X (bsz X)) → W_X0_readSolution g (d + 4) av Q n 283 [some (.ref 0), none, none, none, none, none] [] h') → W_X0_readSolution g (d + 4) av Q n 219 [some (.ref 0), none, none, none, none, some (.int (nI m))] [] h := by
  intro k
  induction k with
  | zero =>
    intro m h hm D P q
    have kX := D.ltk
    have e : m = bsz X := by omega
    refine s_X0_readSolution_219 hp ⟨fun _ => ?_, fun w => absurd ?_ w⟩
    · rw [e] at P; exact q h Fr.rf D (fun _ u => u) P
    · rw [D.k, nI_leI (by omega) (by omega)]; omega
  | succ k ih =>
    intro m h hm D P q
    have kX := D.ltk
    have nX := D.ltn
    have sr : sz (gcR gg X m) ≤ 1800 := Nat.le_trans (dv_sz fp_dom (gcR_dv gg X m).1 hg) sg
    have sm : sz (bco X m) ≤ bsn X := bsn_le X m
    have pl := P.lt
    refine s_X0_readSolution_219 hp ⟨fun w => absurd w ?_, fun _ => ⟨fun w => ?_, fun _ => ?_⟩⟩
    · rw [D.k, nI_leI (by omega) (by omega)]; omega
    · rw [P.1, show (1 : Int32) = nI 1 from rfl, nI_leI (by omega) (by omega)] at w
      have e := gcR_stop hg hd1 X w (k + 1)
      rw [hm] at e
      rw [← e] at P
      exact q h Fr.rf D (fun _ u => u) P
    · refine ok_row hp t823 t105 D (by omega) (by rw [r106]; omega) (fun h1 f1 P1 => ?_)
      have s3 : sz (gcR gg X (m + 1)) ≤ 1800 := Nat.le_trans (dv_sz fp_dom (gcR_dv gg X (m + 1)).1 hg) sg
      refine ok_common hp t103 t105 t103 (by decide) (by decide) ((P.fr f1 (by decide) (by decide))) P1 sr (by omega) (by rw [r104]; exact s3) (fun h2 f2 P2 => ?_)
      have F2 : Fr h h2 Lrs2 := ((f1.mono (by simp)).tr (f2.mono (by simp)))
      rw [show (1 : Int32) = nI 1 from rfl, nI_addz]
      exact ih (m + 1) h2 (by omega) (((D.fr f1 (by decide) (by decide)).fr f2 (by decide) (by decide))) P2 (fun h' f' D' U' P' => q h' (F2.tr f') D' (fun u pu => U' u (((pu.fr f1 (by decide) (by decide)).fr f2 (by decide) (by decide)))) P')
theorem w_rs315 (hp : g.2.2.2.2 = true) {av : List Value} {X : Bi} {r : Un} (hr : r ≠ pz) (hdv : ∀ j, j < bsz X → udv r (bco X j)) {Q : Hp → Prop} : ∀ (k m : Nat) (h : Hp), m + k = bsz X → DA h 823 (bsn X) (bsz X) (fun j i => if j < m then co (uq (bco X j) r) i else cc X j i) → PI h 103 r → (∀ h', Fr h h' Lrs2 → DI h' 823 (b2 (fun j i => co (uq (bco X j) r) i) (bsn X) (bsz X)) → (∀ u, PI h 830 u → PI h' 830 u) → Q h') → W_X0_readSolution g (d + 4) av (QV n Q) n 315 [some (.ref 0), none, none, none, none, some (.int (nI m))] [] h := by
  intro k
  induction k with
  | zero =>
    intro m h hm D P q
    have kX := D.ltk
    refine s_X0_readSolution_315 hp ⟨fun _ => ?_, fun w => absurd ?_ w⟩
    · have D' := D.cong (f' := fun j i => co (uq (bco X j) r) i) (fun j i hj _ => by rw [if_pos (by omega)])
      exact ok_dtrim hp t823 D' (fun h1 f1 D1 => qV (q h1 (f1.mono (by simp)) D1 (fun u pu => (pu.fr f1 (by decide) (by decide)))))
    · rw [D.k, nI_leI (by omega) (by omega)]; omega
  | succ k ih =>
    intro m h hm D P q
    have kX := D.ltk
    have nX := D.ltn
    have sm : sz (bco X m) ≤ bsn X := bsn_le X m
    refine s_X0_readSolution_315 hp ⟨fun w => absurd w ?_, fun _ => ?_⟩
    · rw [D.k, nI_leI (by omega) (by omega)]; omega
    · refine ok_rowA hp t823 t105 D (by omega) (by rw [r106]; omega) (fun h1 f1 P1 => ?_)
      have e : (if m < bsz X then mkP (fun i => if m < m then co (uq (bco X m) r) i else cc X m i) (bsn X) else pz) = bco X m := by
        rw [if_pos (by omega)]
        refine pl_ext fun i => ?_
        rw [co_mkP, if_neg (Nat.lt_irrefl m)]
        by_cases c : i < bsn X
        · rw [if_pos c]; rfl
        · rw [if_neg c, sz_le (bco X m) i (by omega)]
      rw [e] at P1
      refine ok_divideExactly hp t105 t103 (by decide) (by decide) (by decide) P1 ((P.fr f1 (by decide) (by decide))) hr (uq_mul (hdv m (by omega))) (by omega) (fun h2 f2 P2 => ?_)
      refine ok_putRow hp t823 t105 (((D.fr f1 (by decide) (by decide)).fr f2 (by decide) (by decide))) P2 (by omega) (fun h3 f3 D3 => ?_)
      have F3 : Fr h h3 Lrs2 := (((f1.mono (by simp)).tr (f2.mono (by simp))).tr (f3.mono (by simp)))
      rw [show (1 : Int32) = nI 1 from rfl, nI_addz]
      refine ih (m + 1) h3 (by omega) (D3.cong (fun j i _ _ => ?_)) ((((P.fr f1 (by decide) (by decide)).fr f2 (by decide) (by decide)).fr f3 (by decide) (by decide))) (fun h' f' D' U' => q h' (F3.tr f') D' (fun u pu => U' u ((((pu.fr f1 (by decide) (by decide)).fr f2 (by decide) (by decide)).fr f3 (by decide) (by decide)))))
      by_cases c1 : j = m
      · rw [if_pos c1, if_pos (by omega), c1]
      · rw [if_neg c1]
        by_cases c2 : j < m
        · rw [if_pos c2, if_pos (by omega)]
        · rw [if_neg c2, if_neg (by omega)]
/-- the solution read off: the a's, x, what it is by -/
theorem ok_readSolution (hp : g.2.2.2.2 = true) (K : Kp h) (B : BS h σ) {xs hh N : Nat} {z : Nat → Un} (Z : BZ h σ hh z) (hz : ∀ l, hh < l → z l = pz) (h14 : hh < 14) (hx : xs ≤ 13) (hs : ∀ j, sz (z j) ≤ 1300) (hN : 1 ≤ N ∧ N ≤ 4) {p : Nat → Un} (ps : ∀ j, j < N → sz (p j) ≤ 1300) (hl : p (N - 1) ≠ pz) (F : ri h 0 47 = nI (N - 1)) (H : FD h N p) (G : PI h 828 (gcF p N)) {Q : Hp → Prop} (q : ∀ h', Fr h h' Lrso → FD h' N (tdF p N) → DI h' 823 (slX (gcF p N) (solX z xs)) → PI h' 830 (slU (hd (uq (p (N - 1)) (gcF p N))) (gcF p N) (solX z xs)) → Q h') : CallV g m_X0_readSolution (d + 5) [.ref 0, .int (nI xs), .int (nI hh)] n h Q := by
  have hg := gcF_ne (j := N) (l := N - 1) (by omega) hl
  have hg1 := (gcF_hd p N).resolve_left hg
  have sg := gcF_sz N ps
  refine okV 3 rfl rfl (s_X0_readSolution_0 hp ?_)
  rw [show (0 : Int32) = nI 0 from rfl]
  refine w_rs2 hp hN (fun j hj => Nat.le_trans (ps j hj) (by decide)) hl N 0 h (by omega) F (fun l hl => by dsimp only; rw [if_neg (by omega)]; exact H l hl) G (fun h1 f1 H1 => ?_)
  refine w_rs52 hp hN (p := fun l => uq (p l) (gcF p N)) N 0 h1 (by omega) (by rw [f1.gi (by decide)]; exact F) (fun l hl => by dsimp only; rw [if_neg (by omega)]; exact H1 l hl) (fun h2 f2 H2 => ?_)
  have f12 := f1.tr f2
  have Z2 : BZ h2 σ hh z := Z.frp (P := fun x => x ∈ Lrso) B h14 (f12.p (fun _ q => q)) (fun x q => by simp at q; omega)
  have B2 := B.fr f12.1
  refine w_rs87 hp hz h14 hx hs xs 0 h2 (by omega) (f12.kp K) B2 Z2 (fun h3 f3 D3 => ?_)
  refine w_rs140 (gg := gcF p N) hp hz h14 hx hs (by omega) xs 0 h3 (by omega) (B2.fr f3.1) (Z2.frs B2 h14 f3) ((G.fr f12 (by decide) (by decide)).fr f3 (by decide) (by decide)) (D3.cong (fun j i _ _ => by rw [if_neg (by omega)])) (fun h4 f4 D4 U4 P4 => ?_)
  refine w_rs219 hp hg hg1 (by omega) (bsz (solX z xs)) 0 h4 (by omega) D4 P4 (fun h5 f5 D5 U5 P5 => ?_)
  have U5' := U5 _ U4
  have F5 : Fr h2 h5 Lrs2 := (f3.tr f4).tr f5
  have H5 : FD h5 N (tdF p N) := FD.fr (p := tdF p N) H2 hN.2 F5 (fun x hx => by simp at hx ⊢; omega)
  have pl := P5.lt
  have hr := gcR_ne hg (solX z xs) (bsz (solX z xs))
  have dv := gcR_dv (gcF p N) (solX z xs) (bsz (solX z xs))
  refine s_X0_readSolution_283 hp ⟨fun w => ?_, fun _ => ?_⟩
  · rw [P5.1, show (1 : Int32) = nI 1 from rfl, nI_leI (by omega) (by omega)] at w
    have e := sz1_hd hr w (gcR_hd hg hg1 _ _)
    refine qV (q h5 (f12.tr (F5.mono (by simp))) H5 (by rw [slX_1 e]; exact D5) ?_)
    unfold slU
    rw [e, uq_1]; exact U5'
  · have d1 : udv (gcR (gcF p N) (solX z xs) (bsz (solX z xs))) (pmul (pC (hd (uq (p (N - 1)) (gcF p N)))) (gcF p N)) := by
      obtain ⟨s, e⟩ := un_dv_eq.mp dv.1
      generalize gcR (gcF p N) (solX z xs) (bsz (solX z xs)) = r at e
      generalize hd (uq (p (N - 1)) (gcF p N)) = c
      rw [e]
      refine un_dv_eq.mpr ⟨pmul (pC c) s, ?_⟩
      letI := plRing Fp
      show pC c * (r * s) = r * (pC c * s)
      grind
    have s1 : sz (pmul (pC (hd (uq (p (N - 1)) (gcF p N)))) (gcF p N)) ≤ 1300 := by
      refine Nat.le_trans (sz_min fun i hi => ?_) sg
      rw [pC_mul, sz_le _ i hi]; grind
    refine ok_divideExactly hp t830 t103 (by decide) (by decide) (by decide) U5' P5 hr (uq_mul d1) (by omega) (fun h6 f6 P6 => ?_)
    have f6' : Fr h5 h6 Lrs2 := (f6.mono (by simp))
    rw [show (0 : Int32) = nI 0 from rfl]
    refine w_rs315 hp hr dv.2 (bsz (solX z xs)) 0 h6 (by omega) ((DA.fr D5 f6 (by decide) (by decide)).cong (fun j i _ _ => by rw [if_neg (by omega)])) ((P5.fr f6 (by decide) (by decide))) (fun h7 f7 D7 U7 => ?_)
    exact q h7 (f12.tr (((F5.tr f6').tr f7).mono (by simp))) (FD.fr (p := tdF p N) H5 hN.2 (f6'.tr f7) (fun x hx => by simp at hx ⊢; omega)) D7 (U7 _ P6)
end
