set_option maxRecDepth 100000
/-! SUMS: all columns laid -/
section
variable {g : GX} {d n : Nat} {h h' h1 : Hp} {σ : Nat → Nat} {L N : Nat} {M : Nat → Nat → Un}
theorem DI.sop {a : Nat} {F : Bi} (H : DI h a F) (f : FrP h h' Sop) (h1 : ¬ Sop a := by unfold Sop Bar; omega) (h2 : ¬ Sop (a + 1) := by unfold Sop Bar; omega) : DI h' a F := H.frp f h1 h2
theorem ne93 {a : Nat} (h : a = 93 ∨ a = 94 ∨ a = 95 ∨ a = 96 ∨ a = 97 ∨ a = 98 ∨ a = 819 ∨ a = 820) : ¬ Sop a := by unfold Sop Bar; omega
theorem kp1_b2 {f : Nat → Nat → Fp} (h : f 0 0 = 1 ∧ f 1 0 = 1) : kp1 = b2 f 1 2 := by
  unfold kp1
  refine b2_cong fun j i hj hi => ?_
  have e : i = 0 := by omega
  by_cases c : j = 0
  · rw [e, c, h.1]
  · rw [e, show j = 1 by omega, h.2]
/-- the columns of x -/
theorem w_sf94 (hp : g.2.2.2.2 = true) {av : List Value} {Q : QT} {x1 xs : Nat} (hx : xs ≤ 13) {A Mv : Bi} (hA : A ≠ bz) (hM : Mv ≠ bz) (sA : bsz A ≤ 100) (nA : bsn A ≤ 900) (sM : bsz Mv ≤ 100) (nM : bsn Mv ≤ 900) (hL : max (bsz A) (bsz Mv) + xs ≤ L) (hN : xs ≤ N) : ∀ (k m : Nat) (h : Hp), m + k = xs → Kp h → BS h σ → BD h L N → BM h σ L N 0 (fun r c => if c < m then bco (cX A Mv c) r else pz) → DI h 93 A → DI h 819 Mv → DI h 99 (kpw m) → (∀ h', FrP h h' Sop → BS h' σ → BD h' L N → BM h' σ L N 0 (fun r c => if c < xs then bco (cX A Mv c) r else pz) → W_X0_solveFor g (d + 3) av Q n 283 [some (.ref 0), some (.int (nI x1)), none, some (.int (nI xs)), none, some (.int (nI 0)), none] [] h') → W_X0_solveFor g (d + 3) av Q n 94 [some (.ref 0), some (.int (nI x1)), none, some (.int (nI xs)), none, some (.int (nI m)), none] [] h := by
  intro k
  induction k with
  | zero =>
    intro m h hm K B D H DA1 DM D99 q
    have e : m = xs := by omega
    refine s_X0_solveFor_94 hp ⟨fun _ => ?_, fun w => absurd ?_ w⟩
    · rw [e] at H; exact q h FrP.rf B D H
    · rw [nI_leI (by omega) (by omega)]; omega
  | succ k ih =>
    intro m h hm K B D H DA1 DM D99 q
    have dL := D.2.2.1
    have dN := D.2.2.2
    have kw := kpw_sz m
    have z821 := w821
    have z45 := w45
    have z43 := w43
    have z99 := w99
    have sx := bX_mul_sz hM m
    have k1 := kp1_sz
    have cz := cX_sz hA hM m
    refine s_X0_solveFor_94 hp ⟨fun w => absurd w ?_, fun _ => ?_⟩
    · rw [nI_leI (by omega) (by omega)]; omega
    · refine ok_dproduct hp t821 t93 t99 (by decide) (by decide) (K.w t821) DA1 D99 (by omega) (by omega) (fun h1 f1 P1 => ?_)
      have K1 := f1.kp K
      have M1 := (DM.fr f1 (by decide) (by decide))
      rw [M1.n, M1.k, nI_addz]
      refine ok_open hp t45 (K1.w t45) (by omega) (by omega) (fun h2 f2 E2 => ?_)
      rw [show (0 : Int32) = nI 0 from rfl]
      have M2 := (M1.fr f2 (by decide) (by decide))
      refine w_sf142 hp (by omega) hM sM nM (bsz Mv) 0 h2 (by omega) M2 (E2.cong (fun j i _ _ => by rw [if_neg (by omega)])) (fun h3 f3 D45 => ?_)
      have M3 := (M2.fr f3 (by decide) (by decide))
      have P3 := ((P1.fr f2 (by decide) (by decide)).fr f3 (by decide) (by decide))
      refine s_X0_solveFor_142 hp ⟨fun _ => ?_, fun w => absurd ?_ w⟩
      · rw [show (2147483646 : Int32) = toI (-1) from toI_m1.symm]
        refine ok_dadd hp t821 t45 (by decide) P3 D45 (by omega) (by omega) (fun h4 f4 P4 => ?_)
        have F4 : Fr h h4 Lsp := ((((f1.mono (by simp)).tr (f2.mono (by simp))).tr (f3.mono (by simp))).tr (f4.mono (by simp)))
        have B4 := B.fr F4.1
        have D4 := D.fr F4 (by decide)
        have H4 := H.fr B dL F4 (fun x hx => by simp at hx; omega) dN
        rw [show (1 : Int32) = toI 1 from rfl]
        refine ok_layColumn hp B4 D4 H4 t821 (by decide) (Or.inr (by decide)) (show DI h4 821 (cX A Mv m) from P4) (by omega) (by omega) (fun r hr => by rw [if_neg (by omega)]) (fun h5 f5 B5 D5 H5 => ?_)
        have D99' : DI h5 99 (kpw m) := (((((D99.fr f1 (by decide) (by decide)).fr f2 (by decide) (by decide)).fr f3 (by decide) (by decide)).fr f4 (by decide) (by decide))).frp f5 (by unfold Bar; omega) (by unfold Bar; omega)
        have K5 := f5.kp (F4.kp K)
        refine ok_dcopy hp t45 t99 (by decide) (K5.w t45) D99' (by omega) (by omega) (fun h6 f6 D6 => ?_)
        have K6 := f6.kp K5
        rw [show toI 1 = nI 1 from rfl, show (2 : Int32) = nI 2 from rfl]
        refine ok_open hp t43 (K6.w t43) (by omega) (by omega) (fun h7 f7 E7 => ?_)
        have e8 : wi h7 44 ((0 : Int32)).toNatClampNeg (nI 1) = wi h7 (43 + 1) (0 * wd 43 + 0) (toI 1) := by rw [Nat.zero_mul]; rfl
        have E8 := E7.upd (j := 0) (i := 0) (v := 1) (by decide)
        rw [← e8] at E8
        have g8 : Fr h7 (wi h7 44 ((0 : Int32)).toNatClampNeg (nI 1)) [43, 44] := Fr.rf.put (by simp)
        refine ⟨by rw [show (0 : Int32) = nI 0 from rfl, nI_inI (by omega)]; decide +kernel, fun h8 y8 => ?_⟩
        rw [← y8] at E8 g8
        have e9 : wi h8 44 (ri h8 43 0).toNatClampNeg (nI 1) = wi h8 (43 + 1) (1 * wd 43 + 0) (toI 1) := by rw [E8.w, z43.1]; rfl
        have E9 := E8.upd (j := 1) (i := 0) (v := 1) (by decide)
        rw [← e9] at E9
        have g9 : Fr h8 (wi h8 44 (ri h8 43 0).toNatClampNeg (nI 1)) [43, 44] := by rw [e9]; exact Fr.rf.put (by simp)
        refine ⟨by rw [E8.w, z43.1, nI_inI (by omega)]; decide +kernel, fun h9 y9 => ?_⟩
        rw [← y9] at E9 g9
        have Dk : DI h9 43 kp1 := DI.of E9 (kp1_b2 ⟨by simp, by simp⟩) kp1_sz.1 kp1_sz.2.1
        have K9 := g9.kp (g8.kp (f7.kp K6))
        refine ok_dproduct hp t99 t45 t43 (by decide) (by decide) (K9.w t99) ((((D6.fr f7 (by decide) (by decide)).fr g8 (by decide) (by decide)).fr g9 (by decide) (by decide))) Dk (by omega) (by omega) (fun h10 f10 P10 => ?_)
        have F10 : Fr h5 h10 Lsp := (((((f6.mono (by simp)).tr (f7.mono (by simp))).tr (g8.mono (by simp))).tr (g9.mono (by simp))).tr (f10.mono (by simp)))
        rw [nI_addz]
        have G : FrP h h10 Sop := ((F4.p (fun x hx => Lsp_p hx)).tr (f5.mono (fun x hx => Or.inl hx))).tr (F10.p (fun x hx => Lsp_p hx))
        have H10 := H5.fr B5 dL F10 (fun x hx => by simp at hx; omega) dN
        refine ih (m + 1) h10 (by omega) (F10.kp K5) (B5.fr F10.1) (D5.fr F10 (by decide)) (fun r c hr h0 hc => ?_) (DA1.sop G) (DM.sop G) P10 (fun h' f' => q h' (G.tr f'))
        have w := H10 r c hr h0 hc
        dsimp only at w ⊢
        by_cases c1 : c = m
        · rw [if_pos c1, sc_1] at w; rw [if_pos (by omega), c1]; rw [c1] at w; exact w
        · rw [if_neg c1] at w
          by_cases c2 : c < m
          · rw [if_pos c2] at w; rw [if_pos (by omega)]; exact w
          · rw [if_neg c2] at w; rw [if_neg (by omega)]; exact w
      · rw [M3.k, nI_leI (by omega) (by omega)]; omega
end
