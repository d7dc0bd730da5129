set_option maxRecDepth 100000
section
variable {g : GX} {d n : Nat} {h : Hp} {σ : Nat → Nat}
/-- the equation solved -/
theorem ok_solveFor (hp : g.2.2.2.2 = true) (K : Kp h) (B : BS h σ) {j : Nat} (hj : j < 4) {dp : Int} (d1 : -1000 ≤ dp) {xs : Nat} (ex : xs = (dp + 1).toNat) (hN : xs + j + 1 ≤ 14) {A Bf Mv C : Bi} {p : Nat → Bi} (hA : A ≠ bz) (hM : Mv ≠ bz) (hC : C ≠ bz) (hpz : ∀ i, i ≤ j → p i ≠ bz) (eM : bsz Mv = bsz Bf) (DA1 : DI h 93 A) (DB : DI h 95 Bf) (DM : DI h 819 Mv) (DC : DI h 97 C) (Dp : ∀ i, i ≤ j → DI h (2509 + 11 * i) (p i)) (sA : bsz A ≤ 100) (nA : bsn A ≤ 900) (sM : bsz Mv ≤ 100) (nM : bsn Mv ≤ 900) (nC : bsn C ≤ 700) (sC : bsz C ≤ 100) (hL : lnL A Bf C p xs (j + 1) ≤ 24) {W : Nat} (hW : (xs + j + 1) * W + 1 ≤ 1300) (hc : ∀ c, c < xs + j + 1 → bsn (colB A Mv C p xs c) ≤ W + 1) {Q : Int32 → Hp → Prop}
    (q1 : ∀ h' σ' hh z, FrG h h' SvP → BS h' σ' → @isSol Un (plRing Fp) (lnL A Bf C p xs (j + 1)) (xs + j + 1) (matB A Mv C p xs) xs hh z → ri h' 0 47 = nI (hh - xs) → FD h' (hh - xs + 1) (tdF (fun i => z (xs + i)) (hh - xs + 1)) → DI h' 823 (slX (gcF (fun i => z (xs + i)) (hh - xs + 1)) (solX z xs)) → PI h' 830 (slU (hd (uq (z (xs + (hh - xs))) (gcF (fun i => z (xs + i)) (hh - xs + 1)))) (gcF (fun i => z (xs + i)) (hh - xs + 1)) (solX z xs)) → Q 1 h')
    (q0 : (∀ hh z, ¬ @isSol Un (plRing Fp) (lnL A Bf C p xs (j + 1)) (xs + j + 1) (matB A Mv C p xs) xs hh z) → ∀ h' σ', FrG h h' SvP → BS h' σ' → Q 0 h') : CallI g m_X0_solveFor (d + 7) [.ref 0, .int (nI j), .int (zI dp)] n h Q := by
  have kA := DA1.ltk
  have kB := DB.ltk
  have z99 := w99
  have lg := lnL_ge A Bf C p xs (j + 1)
  have bar : ∀ x, Bar x → SvP x := fun x hx => Or.inl (Or.inl hx)
  have sop : ∀ x, Sop x → SvP x := fun x hx => Or.inl hx
  have s0 : ¬ Sop 0 := by unfold Sop Bar; omega
  refine okI 4 rfl rfl (s_X0_solveFor_0 hp ?_)
  rw [z0, z1, zI_add]
  refine ok_max hp (by omega) (by omega) (by omega) (by omega) ?_
  rw [show zI (max 0 (dp + 1)) = nI xs by rw [nI_z, ex]; congr 1; omega, DA1.k, DB.k]
  refine ok_maxN hp (by omega) (by omega) ?_
  rw [nI_addz, ← z0, show (0 : Int32) = nI 0 from rfl]
  refine w_sf32 (A := A) (B := Bf) (C := C) (p := p) hp hj (by omega) DC Dp (by omega) ?_ (j + 1) 0 (by omega)
  refine ok_bopen hp B hL hN (fun h1 f1 B1 D1 H1 => ?_)
  have g1 : FrP h h1 Sop := f1.mono (fun x hx => Or.inl hx)
  have K1 := f1.kp K
  refine ok_dset hp t99 (K1.w t99) (by omega) (by omega) (fun h2 f2 D99 => ?_)
  have g2 : FrP h h2 Sop := g1.tr (f2.p (fun x hx => Lsp_p (by simp at hx ⊢; omega)))
  have dL := D1.2.2.1
  have dN := D1.2.2.2
  refine w_sf94 hp (by omega) hA hM sA nA sM nM (by rw [eM]; exact lg.1) (by omega) xs 0 h2 (by omega) (f2.kp K1) (B1.fr f2.1) (D1.fr f2 (by decide)) (fun r c hr h0 hc => ?_) (DA1.sop g2) (DM.sop g2) D99 (fun h3 f3 B3 D3 H3 => ?_)
  · dsimp only
    rw [if_neg (by omega)]
    exact H1.fr B1 dL f2 (fun x hx => by simp at hx; omega) dN r c hr h0 hc
  have g3 := g2.tr f3
  refine w_sf283 (A := A) (Mv := Mv) hp hj rfl hC hpz nC sC (fun i hi => lg.2 i (by omega)) (j + 1) 0 h3 (by omega) (g3.kp K) B3 D3 (fun r c hr h0 hc => ?_) (DC.sop g3) (fun i hi => (Dp i hi).sop g3) (fun h4 f4 B4 D4 H4 => ?_)
  · have w := H3 r c hr h0 hc
    dsimp only at w ⊢
    by_cases c1 : c < xs
    · rw [if_pos c1] at w; rw [if_pos (by omega)]
      unfold matB colB; rw [if_pos c1]; exact w
    · rw [if_neg c1] at w; rw [if_neg (by omega)]; exact w
  have g4 := g3.tr f4
  have G4 : FrG h h4 SvP := FrG.ofP g4 sop s0
  refine s_X0_solveFor_283 hp ⟨fun _ => ?_, fun w => absurd ?_ w⟩
  · refine ok_bclear hp B4 D4 H4 (by omega) hW (fun r c _ hc' => Nat.le_trans (bsn_le _ _) (hc c hc')) (fun h5 σ5 hh z f5 B5 S5 Z5 s5 => ⟨fun _ => ?_, fun w => absurd ?_ w⟩) (fun no h5 σ5 f5 B5 => ⟨fun w => absurd w (by decide), fun _ => qI (q0 no h5 σ5 (G4.tr (FrG.ofB f5 bar)) B5)⟩)
    · intro h6 e6
      have G5 := G4.tr (FrG.ofB (P := SvP) f5 bar)
      have hlt := S5.1
      have hge := S5.2.1
      have hne : z hh ≠ pz := fun w => S5.2.2.2.1 (w.trans pz_def)
      have hzz : ∀ l, hh < l → z l = pz := fun l hl => (S5.2.2.2.2.1 l hl).trans pz_def.symm
      have sz5 : ∀ l, sz (z l) ≤ 1300 := fun l => Nat.le_trans (s5 l) hW
      have ev : nI hh - nI xs = nI (hh - xs) := by rw [nI_z, nI_z, zI_sub, nI_z]; congr 1; omega
      rw [ev] at e6
      have G6 : FrG h5 h6 SvP := by rw [e6]; exact FrG.put _
      have v6 : ri h6 0 47 = nI (hh - xs) := by rw [e6]; exact ri_same
      have B6 : BS h6 σ5 := B5.fr (by rw [e6]; rfl)
      have Z6 : BZ h6 σ5 hh z := by
        refine Z5.frp (P := fun x => x = 0) B5 (by omega) ?_ (fun x hx => by omega)
        rw [e6]
        exact ⟨rfl, fun x hx => wi_ne1 hx, fun K => K.put (okp_o l0 (Or.inr (by decide)))⟩
      refine ok_clear hp t828 (fun h7 f7 P7 => ?_)
      rw [show (0 : Int32) = nI 0 from rfl]
      have Z7 : BZ h7 σ5 hh z := Z6.frp (P := fun x => x ∈ [828]) B6 (by omega) (f7.p (fun _ q => q)) (fun x q => by simp at q; omega)
      have B7 := B6.fr f7.1
      refine w_sf362 hp hzz (by omega) sz5 (fo := hh - xs) (by omega) (by omega) (hh - xs + 1) 0 h7 (by omega) B7 Z7 (by rw [f7.gi (by decide)]; exact v6) (fun l hl => by omega) P7 (fun h8 f8 H8 P8 => ?_)
      have Z8 : BZ h8 σ5 hh z := Z7.frp (P := fun x => x ∈ Lrt) B7 (by omega) (f8.p (fun _ q => q)) (fun x q => by simp at q; omega)
      have B8 := B7.fr f8.1
      have G8 : FrG h h8 SvP := ((G5.tr G6).tr (FrG.of f7 (fun x hx => by simp at hx; exact Or.inr (Or.inr (Or.inl hx))) (by decide))).tr (FrG.of f8 (fun x hx => by
        unfold SvP
        simp at hx ⊢; omega) (by decide))
      have v8 : ri h8 0 47 = nI (hh - xs) := by rw [f8.gi (by decide), f7.gi (by decide)]; exact v6
      refine ok_readSolution hp (G8.k K) B8 Z8 hzz (by omega) (by omega) sz5 (N := hh - xs + 1) (by omega) (fun l _ => sz5 _) ?_ v8 H8 P8 (fun h9 f9 H9 D9 P9 => ?_)
      · show z (xs + (hh - xs)) ≠ pz
        rw [show xs + (hh - xs) = hh by omega]; exact hne
      · refine qI (q1 h9 σ5 hh z (G8.tr (FrG.of f9 (fun x hx => Or.inr (Or.inl hx)) (by decide))) (B8.fr f9.1) S5 (by rw [f9.gi (by decide)]; exact v8) H9 D9 P9)
    · have hlt := S5.1
      rw [show (0 : Int32) = nI 0 from rfl, nI_leI (by omega) (by omega)]; omega
  · rw [nI_ltI (by omega) (by omega)]; omega
end
