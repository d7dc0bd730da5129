set_option maxRecDepth 100000
/-! SUMS: the columns of x laid -/
def Sop (x : Nat) : Prop := Bar x ∨ (43 ≤ x ∧ x ≤ 46) ∨ x = 99 ∨ x = 100 ∨ x = 103 ∨ x = 104 ∨ x = 821 ∨ x = 822
abbrev Lsp : List Nat := [43, 44, 45, 46, 99, 100, 103, 104, 821, 822]
theorem Lsp_p {x : Nat} (hx : x ∈ Lsp) : Sop x := by simp at hx; unfold Sop; omega
theorem t821 : lay 821 = (0, 4, 4) := by decide +kernel
theorem w821 : wd 821 = 900 ∧ hg 821 = 150 := by decide +kernel
theorem bX_b2 {F : Bi} (m : Nat) : bmul (bX m) F = b2 (fun j i => if m ≤ j then cc F (j - m) i else 0) (bsn F) (bsz F + m) := by
  refine cc_ext fun j i => ?_
  rw [cc_b2]
  have e : cc (bmul (bX m) F) j i = if m ≤ j then cc F (j - m) i else 0 := by
    unfold cc
    rw [bco_Xmul]
    by_cases c : m ≤ j
    · rw [if_pos c, if_pos c]
    · rw [if_neg c, if_neg c, co_z]
  rw [e]
  by_cases c2 : m ≤ j
  · simp only [if_pos c2]
    by_cases c : j < bsz F + m ∧ i < bsn F
    · rw [if_pos c]
    · rw [if_neg c]; exact cc_out (by omega)
  · simp only [if_neg c2]
    by_cases c : j < bsz F + m ∧ i < bsn F
    · rw [if_pos c]
    · rw [if_neg c]
section
variable {g : GX} {d n : Nat} {h h' h1 : Hp} {σ : Nat → Nat} {L N : Nat} {M : Nat → Nat → Un}
theorem w_sf142 (hp : g.2.2.2.2 = true) {av : List Value} {Q : QT} {x1 xs : Nat} {m : Nat} (hm : m ≤ 20) {Mv : Bi} (hM : Mv ≠ bz) (sM : bsz Mv ≤ 100) (nM : bsn Mv ≤ 900) : ∀ (k i : Nat) (h : Hp), i + k = bsz Mv → DI h 819 Mv → DA h 45 (bsn Mv) (bsz Mv + m) (fun j' i' => if m ≤ j' ∧ j' < m + i then cc Mv (j' - m) i' else 0) → (∀ h', Fr h h' [45, 46, 103, 104] → DI h' 45 (bmul (bX m) Mv) → W_X0_solveFor g (d + 1) av Q n 142 [some (.ref 0), some (.int (nI x1)), none, some (.int (nI xs)), none, some (.int (nI m)), some (.int (nI (bsz Mv)))] [] h') → W_X0_solveFor g (d + 1) av Q n 142 [some (.ref 0), some (.int (nI x1)), none, some (.int (nI xs)), none, some (.int (nI m)), some (.int (nI i))] [] h := by
  intro k
  induction k with
  | zero =>
    intro i h hi DM H q
    have e : i = bsz Mv := by omega
    rw [e]
    have sx := bX_mul_sz hM m
    refine q h Fr.rf (DI.of (H.cong (f' := fun j i => if m ≤ j then cc Mv (j - m) i else 0) (fun j i hj _ => ?_)) (bX_b2 m) sx.1 sx.2)
    by_cases c : m ≤ j
    · rw [if_pos ⟨c, by omega⟩, if_pos c]
    · rw [if_neg (fun u => c u.1), if_neg c]
  | succ k ih =>
    intro i h hi DM H q
    refine s_X0_solveFor_142 hp ⟨fun w => absurd w ?_, fun _ => ?_⟩
    · rw [DM.k, nI_leI (by omega) (by omega)]; omega
    · refine ok_row hp t819 t103 DM (by omega) (by rw [r104]; omega) (fun h8 f8 P8 => ?_)
      rw [nI_addz]
      refine ok_putRow hp t45 t103 ((H.fr f8 (by decide) (by decide))) P8 (by omega) (fun h9 f9 H9 => ?_)
      rw [show (1 : Int32) = nI 1 from rfl, nI_addz]
      refine ih (i + 1) h9 (by omega) (((DM.fr f8 (by decide) (by decide)).fr f9 (by decide) (by decide))) (H9.cong (fun j' i' hj hi' => ?_)) (fun h' f' D' => q h' (((f8.mono (by simp)).tr (f9.mono (by simp))).tr (f'.mono (by simp))) D')
      by_cases c : j' = i + m
      · rw [if_pos c, if_pos (by omega)]; unfold cc; rw [show j' - m = i by omega]
      · rw [if_neg c]
        by_cases c2 : m ≤ j' ∧ j' < m + i
        · rw [if_pos c2, if_pos (by omega)]
        · rw [if_neg c2, if_neg (by omega)]
end
