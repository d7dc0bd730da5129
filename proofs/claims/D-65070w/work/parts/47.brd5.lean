set_option maxRecDepth 100000
/-! THE BOARD: cleared and read -/
section
variable {g : GX} {d n : Nat} {h h' h1 : Hp} {σ : Nat → Nat} {L N c : Nat} {M : Nat → Nat → Un}
/-- a board cleared: the first column from one on that hangs, and its solution; or none -/
theorem ok_bclear (hp : g.2.2.2.2 = true) (B : BS h σ) (D : BD h L N) (H : BM h σ L N 0 M) {fr W : Nat} (hfr : fr ≤ 14) (hW : N * W + 1 ≤ 1300) (hM : ∀ i j, i < L → j < N → sz (M i j) ≤ W + 1) {Q : Int32 → Hp → Prop} (q1 : ∀ h' σ' hh z, FrB h h' → BS h' σ' → @isSol Un (plRing Fp) L N M fr hh z → BZ h' σ' hh z → (∀ j, sz (z j) ≤ N * W + 1) → Q (nI hh) h') (q0 : (∀ hh z, ¬ @isSol Un (plRing Fp) L N M fr hh z) → ∀ h' σ', FrB h h' → BS h' σ' → Q (-1) h') : CallI g m_X7_clear (d + 6) [.ref 113, .int (nI fr)] n h Q := by
  have one : (pC 1 : Un) ≠ pz := pC_ne (by decide)
  refine okI 4 rfl rfl (s_X7_clear_0 hp (ok_btidy hp B D H (fun h1 M' u f1 B1 D1 H1 u1 u2 u3 h2 e2 => ?_)))
  have f2 : Fr h1 h2 [113] := by rw [e2]; exact Fr.rf.put (by simp) (okp_o t113 (Or.inr (by decide)))
  rw [show (1 : Int32) = toI 1 from toI_1.symm]
  refine ok_set hp t143 (by rw [r144]; omega) (fun h3 f3 P3 => ?_)
  have dL := D.2.2.1
  have dN := D.2.2.2
  have f23 : Fr h1 h3 [113, 143, 144] := (f2.mono (by simp)).tr (f3.mono (by simp))
  have F3 : FrB h h3 := FrB.of (f1.tr (f23.p (fun x hx => by simp at hx; unfold Bar; omega)))
  have D3 : BD h3 L N := ⟨by rw [f3.gi (by decide), e2, ri_ne' (by omega)]; exact D1.1, by rw [f3.gi (by decide), e2, ri_ne' (by omega)]; exact D1.2.1, dL, dN⟩
  have H3 := H1.fr B1 dL f23 (fun x hx => by simp at hx; omega) dN
  have ker : ∀ {hh z}, @isSol Un (plRing Fp) L N M' fr hh z → @isSol Un (plRing Fp) L N M fr hh z := fun {hh z} w => @isSol_lines Un (plRing Fp) un_dom L N fr hh M' M u (fun _ => pC 1) u1 (fun _ _ => one) (fun i j hi hj => by
    show pmul (u i) (M' i j) = pmul (pC 1) (M i j)
    rw [u2 i j hi hj]
    exact pl_ext fun l => by rw [pC_mul]; grind) z w
  have ker' : ∀ {hh z}, @isSol Un (plRing Fp) L N M fr hh z → @isSol Un (plRing Fp) L N M' fr hh z := fun {hh z} w => @isSol_lines Un (plRing Fp) un_dom L N fr hh M M' (fun _ => pC 1) u (fun _ _ => one) u1 (fun i j hi hj => by
    show pmul (pC 1) (M i j) = pmul (u i) (M' i j)
    rw [u2 i j hi hj]
    exact pl_ext fun l => by rw [pC_mul]; grind) z w
  have sA : ∀ i j, i < L → j < N → szle (M' i j) (W + 1) := fun i j hi hj => szle_mono (sz_le _) (Nat.le_trans (u3 i j hi hj) (hM i j hi hj))
  rw [show (0 : Int32) = nI 0 from rfl]
  refine w_bc19 (A0 := M') hp hfr hW N 0 0 σ (fun _ => 0) (pC 1) M' M' h3 (by omega) ⟨(B1.fr f2.1).fr f3.1, D3, by rw [f3.gi (by decide), e2, ri_same]; rfl, P3, @st_0 Un (plRing Fp) un_dom L N (fun _ => 0) M', H3, fun j hj => absurd hj (Nat.not_lt_zero _), fun z => Iff.rfl, fun j _ hj => absurd hj (Nat.not_lt_zero _)⟩ sA (fun h' σ' hh z f' B' s' z' b' => q1 h' σ' hh z (F3.tr f') B' (ker s') z' b') (fun w h' σ' f' B' => q0 (fun hh z s' => w hh z (ker' s')) h' σ' (F3.tr f') B')
/-- the number of a column -/
theorem ok_bnumber (hp : g.2.2.2.2 = true) (B : BS h σ) {hh j a : Nat} {z : Nat → Un} (Z : BZ h σ hh z) (hz : ∀ l, hh < l → z l = pz) (h14 : hh < 14) (hj : j < 14) (ta : lay a = (0, 3, 2)) (ha : a + 1 < 113 ∨ 818 ≤ a) (hr : sz (z j) ≤ rm (a + 1)) {Q : Hp → Prop} (q : ∀ h', Fr h h' [a, a + 1] → PI h' a (z j) → Q h') : CallV g m_X7_number (d + 2) [.ref 113, .int (nI j), .int (nI hh), .ref a] n h Q := by
  refine okV 0 rfl rfl (s_X7_number_0 hp ta (ok_clear hp ta (fun h1 f1 P1 => ?_)))
  rw [nI_eq (by omega) (by omega), nI_leI (by omega) (by omega)]
  have f1' : Fr h h1 [a, a + 1] := f1.mono (by simp)
  refine ⟨fun c => ⟨fun c2 => qV (q h1 f1' (by rw [hz j (by omega)]; exact P1)), fun c2 => ⟨nI_inL hj (by omega), ?_⟩⟩, fun c => ?_⟩
  · rw [nI_tN (by omega), f1.gi (by simp; omega)]
    rcases Z.2 j (by omega) with ⟨e, ez⟩ | ⟨u, v, hu, e, Pv, ez⟩
    · rw [e]
      exact ⟨fun _ => qV (q h1 f1' (by rw [ez]; exact P1)), fun w => absurd (by decide) w⟩
    · rw [e]
      refine ⟨fun w => absurd w (nI_pos (by omega)), fun _ => ⟨nI_inL hj (by omega), (B.fr f1.1).at hu h14 ?_⟩⟩
      have su := (B.1 u hu).1
      have bb := bcl_bar su h14
      have e1 : pmul (pC (-1)) (pmul (pC (-1)) v) = v := pl_ext fun i => by rw [pC_mul, pC_mul]; grind
      have sv : sz v ≤ sz (z j) := by
        have : v = pmul (pC (-1)) (z j) := by rw [ez, e1]
        rw [this]
        exact sz_min fun l hl => by rw [pC_mul, sz_le _ l hl]; grind
      refine ok_copy hp ta (b_lay su h14) (Pv.fr f1 (by simp; omega) (by simp; omega)) (by omega) (fun h4 f4 P4 => ?_)
      rw [show (2147483646 : Int32) = toI (-1) from toI_m1.symm]
      refine ok_scale hp ta P4 (fun h5 f5 P5 => qV (q h5 ((f1'.tr f4).tr f5) (by rw [ez]; exact P5)))
  · rw [c] at q hr
    refine ok_copy hp ta t143 (Z.1.fr f1 (by simp; omega) (by simp; omega)) hr (fun h4 f4 P4 => qV (q h4 (f1'.tr f4) P4))
theorem BZ.frp {P : Nat → Prop} {hh : Nat} {z : Nat → Un} (Z : BZ h σ hh z) (B : BS h σ) (h14 : hh < 14) (f : FrP h h' P) (o : ∀ x, P x → ¬ (113 ≤ x ∧ x < 818)) : BZ h' σ hh z := by
  refine ⟨Z.1.frp f (fun w => o _ w (by omega)) (fun w => o _ w (by omega)), fun j hj => ?_⟩
  rw [f.gi (fun w => o _ w (by omega))]
  rcases Z.2 j hj with e | ⟨u, v, hu, e, Pv, ez⟩
  · exact Or.inl e
  · have bb := bcl_bar (B.1 u hu).1 h14
    exact Or.inr ⟨u, v, hu, e, Pv.frp f (fun w => o _ w (by omega)) (fun w => o _ w (by omega)), ez⟩
end
