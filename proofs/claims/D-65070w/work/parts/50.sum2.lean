set_option maxRecDepth 100000
theorem pp_C_le {u : Un} (hu : u ≠ pz) {F : Bi} (hF : F ≠ bz) : bsn (ppB (bmul (bC u) F)) ≤ bsn F := by
  have nu := bC_nz hu
  have k : udv u (contU (bmul (bC u) F)) := contU_gt _ (fun j => un_dv_eq.mpr ⟨bco F j, bco_Cmul u F j⟩)
  obtain ⟨s, e⟩ := un_dv_eq.mp k
  have e2 := ppB_eq (bmul (bC u) F)
  rw [e, ← b_CC] at e2
  refine (bdv_bsz (bdv_iff.mpr ⟨bC s, ?_⟩) hF).2
  generalize ppB (bmul (bC u) F) = H at *
  generalize bC u = u', bC s = s' at *
  letI := plRing Fp
  letI := @plRing Un (plRing Fp)
  have e3 : u' * F = u' * (H * s') := by
    have : u' * F = (u' * s') * H := e2
    grind
  exact dom_cancel bi_dom (c := u') (fun w => nu w) e3
noncomputable def gsF (hQ : Un) (Mv X : Bi) : Bi := bmul (bC hQ) (bmul Mv X)
noncomputable def gsG (dl u : Un) (C q : Bi) : Bi := bmul (bC dl) (bmul (bC u) (bmul C q))
theorem gsG_ne {dl u : Un} {C q : Bi} (hd : dl ≠ pz) (hu : u ≠ pz) (hC : C ≠ bz) (hq : q ≠ bz) : gsG dl u C q ≠ bz := b_mulne (bC_nz hd) (b_mulne (bC_nz hu) (b_mulne hC hq))
theorem gsG_pp {dl u : Un} {C q : Bi} (hd : dl ≠ pz) (hu : u ≠ pz) (hC : C ≠ bz) (hq : q ≠ bz) : bsn (ppB (gsG dl u C q)) ≤ bsn C + bsn q := by
  have e : gsG dl u C q = bmul (bC (pmul dl u)) (bmul C q) := by
    unfold gsG
    rw [← b_CC]
    generalize bC dl = a, bC u = b
    letI := plRing Fp
    letI := @plRing Un (plRing Fp)
    show a * (b * (C * q)) = (a * b) * (C * q)
    grind
  have n : pmul dl u ≠ pz := fun w => by
    have := (sz_mul fp_dom hd hu).1
    rw [w, sz_z] at this
    have := sz_pos hd
    have := sz_pos hu
    omega
  rw [e]
  have := pp_C_le n (b_mulne hC hq)
  rw [bsn_mul hC hq] at this
  omega
theorem w39x : wd 39 = 900 ∧ hg 39 = 150 ∧ wd 41 = 900 ∧ hg 41 = 150 := by decide +kernel
section
variable {g : GX} {d n : Nat} {h : Hp} {a1 a2 : Nat}
/-- a sum worked out -/
theorem ok_giveSum (hp : g.2.2.2.2 = true) (K : Kp h) (ta : lay a1 = (0, 4, 4)) (tb : lay a2 = (0, 3, 2)) (l1 : 46 < a1) (l2 : 46 < a2) {X Mv C q : Bi} {u hQ dl : Un} (hM : Mv ≠ bz) (hC : C ≠ bz) (hq : q ≠ bz) (hu : u ≠ pz) (hh : hQ ≠ pz) (hd : dl ≠ pz) (cop : X ≠ bz → ∀ c, udv c u → (∀ j, udv c (bco X j)) → sz c ≤ 1) (DX : DI h 823 X) (DM : DI h 819 Mv) (DC : DI h 97 C) (Dq : DI h a1 q) (Pu : PI h 830 u) (Ph : PI h 111 hQ) (Pd : PI h a2 dl) (bd : 2 * bsn Mv + 2 * bsn C + 2 * bsn q + 2 * sz hQ + 2 * sz dl ≤ 800) (sM : bsz Mv ≤ 100) (sC : bsz C + bsz q ≤ 140) {Q : Int32 → Hp → Prop} (q1 : fitB (lowT (gsF hQ Mv X) (gsG dl u C q)) → fitB (lowB (gsF hQ Mv X) (gsG dl u C q)) → ∀ h', Fr h h' (Lgv 81) → RI h' 81 (lowT (gsF hQ Mv X) (gsG dl u C q)) (lowB (gsF hQ Mv X) (gsG dl u C q)) → Q 1 h') (q0 : ¬ (fitB (lowT (gsF hQ Mv X) (gsG dl u C q)) ∧ fitB (lowB (gsF hQ Mv X) (gsG dl u C q))) → ∀ h', Fr h h' Lrd → Q 0 h') : CallI g m_X0_giveSum (d + 11) [.ref 0, .ref a1, .ref a2, .ref 81] n h Q := by
  have nG := gsG_ne hd hu hC hq
  have kX := DX.kl
  have nX := DX.ltn
  have z823 := w823
  have pu := Pu.lt
  have z := w39x
  have z45 := w45
  refine okI 2 rfl rfl (s_X0_giveSum_0 hp ta tb t81 ?_)
  refine ok_disZero hp t823 DX (fun ez => ⟨fun w => absurd w (by decide), fun _ => ?_⟩) (fun nz => ⟨fun _ => ?_, fun w => absurd rfl w⟩)
  · have eF : gsF hQ Mv X = bz := by unfold gsF; rw [ez, b_mulz', b_mulz']
    have lz := low_z nG
    rw [eF, lz.1, lz.2] at q1
    rw [show (0 : Int32) = toI 0 from rfl]
    refine ok_rset hp t81 K (fun h9 f9 R9 => qI ?_)
    have e0 : bC (pC (0 : Fp)) = bz := by
      have e1 : pC (0 : Fp) = pz := pl_ext fun i => by rw [co_C, co_z]; split <;> rfl
      rw [e1]
      exact bsn_0 (by rw [bsn_C, sz_z])
    rw [e0] at R9
    refine q1 ⟨by rw [bsn_z]; omega, by rw [bsz_z]; omega⟩ ⟨by rw [C1_sz.1]; omega, by rw [C1_sz.2]; omega⟩ h9 (f9.mono (by simp)) R9
  · have cp := cop nz
    rw [DX.n, DM.n, Ph.1, Pu.1, Pd.1, DC.n, Dq.n]
    have no : 900 < bsn X + bsn Mv + sz hQ ∨ 900 < sz u + sz dl + bsn C + bsn q → ¬ (fitB (lowT (gsF hQ Mv X) (gsG dl u C q)) ∧ fitB (lowB (gsF hQ Mv X) (gsG dl u C q))) := fun w f => by
      have := sum_sz nz hM hC hq hu hh hd cp rfl rfl f.1 f.2
      omega
    rw [nI_addz, nI_addz, nI_addz, nI_addz, nI_addz, show (900 : Int32) = nI 900 from rfl]
    refine ⟨fun w => ?_, fun w => ⟨fun w2 => ?_, fun w2 => ?_⟩⟩
    · rw [nI_ltI (by omega) (by omega)] at w
      exact qI (q0 (no (Or.inl w)) h Fr.rf)
    · rw [nI_ltI (by omega) (by omega)] at w
      rw [nI_leI (by omega) (by omega)] at w2
      have m1 := bsn_mul hM nz
      have m2 := (bsz_mul hM nz).1
      have m3 := bsn_mul hC hq
      have m4 := (bsz_mul hC hq).1
      refine ok_dproduct hp t45 t819 t823 (by decide) (by decide) (K.w t45) DM DX (by omega) (by omega) (fun h2 f2 D2 => ?_)
      refine ok_dcopy hp t39 t45 (by decide) ((f2.kp K).w t39) D2 (by omega) (by omega) (fun h3 f3 D3 => ?_)
      have K3 := f3.kp (f2.kp K)
      refine ok_timesPoly hp t39 t111 t45 (by decide) (K3.w t45) D3 (((Ph.fr f2 (by decide) (by decide)).fr f3 (by decide) (by decide))) (by omega) (by omega) (by omega) (fun h4 f4 D4 => ?_)
      have F4 : Fr h h4 [39, 40, 45, 46] := (((f2.mono (by simp)).tr (f3.mono (by simp))).tr (f4.mono (by simp)))
      have K4 := F4.kp K
      refine ok_dproduct hp t41 t97 ta (by decide) (by omega) (K4.w t41) ((DC.fr F4 (by decide) (by decide))) (Dq.fr F4 (by simp; omega) (by simp; omega)) (by omega) (by omega) (fun h5 f5 D5 => ?_)
      have K5 := f5.kp K4
      refine ok_timesPoly hp t41 t830 t45 (by decide) (K5.w t45) D5 (((Pu.fr F4 (by decide) (by decide)).fr f5 (by decide) (by decide))) (by omega) (by omega) (by omega) (fun h6 f6 D6 => ?_)
      have K6 := f6.kp K5
      have nu := bC_nz hu
      have n2 := b_mulne hC hq
      have m5 := bsn_mul nu n2
      have m6 := (bsz_mul nu n2).1
      rw [bsn_C] at m5
      rw [bsz_C hu] at m6
      have F6 : Fr h h6 [39, 40, 41, 42, 45, 46] := (((F4.mono (by simp)).tr (f5.mono (by simp))).tr (f6.mono (by simp)))
      refine ok_timesPoly hp t41 tb t45 (by decide) (K6.w t45) D6 (Pd.fr F6 (by simp; omega) (by simp; omega)) (by omega) (by omega) (by omega) (fun h7 f7 D7 => ?_)
      have F7 : Fr h h7 Lrd := ((F6.mono (by simp)).tr (f7.mono (by simp)))
      have D39 : DI h7 39 (gsF hQ Mv X) := (((D4.fr f5 (by decide) (by decide)).fr f6 (by decide) (by decide)).fr f7 (by decide) (by decide))
      have pp := gsG_pp hd hu hC hq
      refine ok_give hp t81 (f7.kp K6) nG D39 (show DI h7 41 (gsG dl u C q) from D7) (by omega) (fun x1 x2 h8 f8 R8 => ⟨Or.inr rfl, qI (q1 x1 x2 h8 ((F7.mono (by simp)).tr f8) R8)⟩) (fun x h8 f8 => ⟨Or.inl rfl, qI (q0 x h8 (F7.tr f8))⟩)
    · rw [nI_leI (by omega) (by omega)] at w2
      exact qI (q0 (no (Or.inr (by omega))) h Fr.rf)
end
