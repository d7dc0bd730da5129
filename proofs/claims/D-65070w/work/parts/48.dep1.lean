set_option maxRecDepth 100000
/-! SUMS: how deep an equation is -/
noncomputable def dpD (A B : Bi) : Nat := max (bsz A - 1) (bsz B - 1)
noncomputable def dpF (A B : Bi) : Un := if dpD A B = 0 then pz else psub (bco (bshK (-1) B) (dpD A B - 1)) (bco A (dpD A B - 1))
noncomputable def dpC (A B : Bi) : Fp := hd (dpF A B) * iv (hd (bco A (dpD A B)))
noncomputable def dpR (A B : Bi) : Int := cite (dpF A B = pz) 0 (cite (dpF A B = pmul (pC (dpC A B)) (bco A (dpD A B)) ∧ (dpC A B).val ≤ 12) ((dpC A B).val : Int) (-1))
noncomputable def dpt (A B : Bi) (z : Nat) : Int := cite (bco A (dpD A B) = bco (bshK (-1) B) (dpD A B)) (max ((z : Int) - dpD A B + 1) (dpR A B)) ((z : Int) - dpD A B)
theorem dpC_eq (A B : Bi) : hd (dpF A B) * iv (hd (bco A (dpD A B))) = dpC A B := by rw [dpC]
theorem dpR_bd (A B : Bi) : -1 ≤ dpR A B ∧ dpR A B ≤ 12 := by
  unfold dpR
  by_cases c1 : dpF A B = pz
  · rw [cite_pos c1]; omega
  · rw [cite_neg c1]
    by_cases c2 : dpF A B = pmul (pC (dpC A B)) (bco A (dpD A B)) ∧ (dpC A B).val ≤ 12
    · rw [cite_pos c2]; have := c2.2; omega
    · rw [cite_neg c2]; omega
theorem szC_mul {c : Fp} (hc : c ≠ 0) (p : Un) : sz (pmul (pC c) p) = sz p := by
  by_cases h : p = pz
  · rw [h, (szmul_z _).1]
  · rw [(sz_mul fp_dom (pC_ne hc) h).1, sz_C hc]; have := sz_pos h; omega
section
variable {g : GX} {d n : Nat} {h h' h1 : Hp}
theorem t819 : lay 819 = (0, 4, 4) := by decide +kernel
theorem w819 : wd 819 = 900 ∧ hg 819 = 150 := by decide +kernel
abbrev Ldp : List Nat := [103, 104, 105, 106, 819, 820, 832, 833]
theorem P_sub {c : Fp} (hc : c ≠ 0) : (2147483647 : Int32) - toI c = toI (-c) := by
  have h1 := c.isLt
  have h2 := fp_val_pos hc
  have e : -c = (0 : Fp) - c := by grind
  rw [e, sub_val, show ((0 : Fp)).val = 0 from rfl, if_neg (by omega)]
  show nI 2147483647 - nI c.val = _
  rw [nI_z, nI_z, zI_sub, nI_z]; congr 1; omega
/-- the depth; B(k - 1) is left in moved -/
theorem ok_depth (hp : g.2.2.2.2 = true) (K : Kp h) {A B : Bi} (hA : A ≠ bz) (hB : B ≠ bz) (DA : DI h 93 A) (DB : DI h 95 B) (nB : bsn B ≤ 900) {z : Nat} (hz : z < 1000) {Q : Int32 → Hp → Prop} (q : ∀ h', Fr h h' Ldp → DI h' 819 (bshK (-1) B) → Q (zI (dpt A B z)) h') : CallI g m_X0_depth (d + 3) [.ref 0, .int (nI z)] n h Q := by
  have kA := DA.ltk
  have kB := DB.ltk
  have nA := DA.ltn
  have z819 := w819
  have hD : dpD A B ≤ 150 := by unfold dpD; omega
  have b1 := bsn_shKe (-1) B
  have rb := dpR_bd A B
  -- the end
  have j230 : ∀ h1, Fr h h1 Ldp → DI h1 819 (bshK (-1) B) → bco A (dpD A B) = bco (bshK (-1) B) (dpD A B) → ∀ x : Int, x = dpR A B → W_X0_depth g (d + 2) [.ref 0, .int (nI z)] (QI n Q) n 230 [none, some (.int (nI z)), some (.int (nI (dpD A B))), some (.int (zI x)), none] [] h1 := by
    intro h1 f1 M1 es x ex
    refine s_X0_depth_230 hp ?_
    rw [show nI z - nI (dpD A B) + 1 = zI ((z : Int) - dpD A B + 1) by rw [nI_z, nI_z, zI_sub, z1, zI_add]]
    refine ok_max hp (by omega) (by omega) (by omega) (by omega) (qI ?_)
    have := q h1 f1 M1
    unfold dpt at this
    rw [cite_pos es, ← ex] at this
    exact this
  refine okI 3 rfl rfl (s_X0_depth_0 hp (ok_degreeK hp t93 DA (ok_degreeK hp t95 DB (ok_maxN hp (by omega) (by omega) ?_))))
  show CallV g m_X4_copy (d + 2) [.ref 819, .ref 95] n h _
  rw [show max (bsz A - 1) (bsz B - 1) = dpD A B from rfl]
  refine ok_dcopy hp t819 t95 (by decide) (K.w t819) DB (by omega) (by omega) (fun h4 f4 D4 => ?_)
  rw [show (2147483646 : Int32) = toI (-1) from toI_m1.symm]
  refine ok_shiftK hp t819 D4 (fun h5 f5 D5 => ?_)
  refine ok_row hp t93 t103 (((DA.fr f4 (by decide) (by decide)).fr f5 (by decide) (by decide))) (by omega) (by rw [r104]; omega) (fun h6 f6 P6 => ?_)
  refine ok_row hp t819 t105 ((D5.fr f6 (by decide) (by decide))) (by omega) (by rw [r106]; omega) (fun h7 f7 P7 => ?_)
  have F7 : Fr h h7 Ldp := ((((f4.mono (by simp)).tr (f5.mono (by simp))).tr (f6.mono (by simp))).tr (f7.mono (by simp)))
  have M7 := ((D5.fr f6 (by decide) (by decide)).fr f7 (by decide) (by decide))
  refine ok_isSame hp t103 t105 ((P6.fr f7 (by decide) (by decide))) P7 (fun es => ⟨fun _ => ?_, fun c => absurd c (by decide)⟩) (fun es => ⟨fun c => absurd rfl c, fun _ => ?_⟩)
  · have s1 : sz (bco A (dpD A B)) ≤ 1300 := Nat.le_trans (bsn_le A _) nA
    refine ok_copy hp t832 t103 ((P6.fr f7 (by decide) (by decide))) (by rw [r833]; omega) (fun h9 f9 P9 => ?_)
    have F9 : Fr h h9 Ldp := F7.tr (f9.mono (by simp))
    have A9 : DI h9 93 A := (((((DA.fr f4 (by decide) (by decide)).fr f5 (by decide) (by decide)).fr f6 (by decide) (by decide)).fr f7 (by decide) (by decide)).fr f9 (by decide) (by decide))
    have M9 := (M7.fr f9 (by decide) (by decide))
    have fin : ∀ h11, Fr h h11 Ldp → DI h11 819 (bshK (-1) B) → PI h11 832 (bco A (dpD A B)) → ∀ (u v : Un), PI h11 103 u → PI h11 105 v → sz u ≤ 1800 → psub v u = dpF A B → CallV g m_X3_add (d + 2) [.ref 105, .ref 103, .int (toI (-1)), .int 0] n h11 (fun h12 => CallI g m_X3_isZero (d + 2) [.ref 105] n h12 (fun v13 h13 => (((v13 = (0 : Int32)) → (((¬ (ri h13 105 1) = (ri h13 832 1)) → (W_X0_depth g (d + 2) [.ref 0, .int (nI z)] (QI n Q) n 230 [none, some (.int (nI z)), some (.int (nI (dpD A B))), some (.int (-1)), none] [] h13)) ∧ (((ri h13 105 1) = (ri h13 832 1)) → (CallI g m_X3_head (d + 2) [.ref 105] n h13 (fun v14 h14 => (CallI g m_X3_head (d + 2) [.ref 832] n h14 (fun v15 h15 => (CallI g m_X0_inverse (d + 2) [.int v15] n h15 (fun v16 h16 => (CallI g m_X0_times (d + 2) [.int v14, .int v16] n h16 (fun v17 h17 => (CallV g m_X3_add (d + 2) [.ref 105, .ref 832, .int ((2147483647 : Int32) - v17), .int 0] n h17 (fun h18 => (CallI g m_X3_isZero (d + 2) [.ref 105] n h18 (fun v19 h19 => (((v19 = (0 : Int32)) → (W_X0_depth g (d + 2) [.ref 0, .int (nI z)] (QI n Q) n 228 [none, some (.int (nI z)), some (.int (nI (dpD A B))), none, none] [] h19)) ∧ ((¬ v19 = (0 : Int32)) → ((((12 : Int32) < v17) → (W_X0_depth g (d + 2) [.ref 0, .int (nI z)] (QI n Q) n 228 [none, some (.int (nI z)), some (.int (nI (dpD A B))), none, none] [] h19)) ∧ ((¬ (12 : Int32) < v17) → (W_X0_depth g (d + 2) [.ref 0, .int (nI z)] (QI n Q) n 229 [none, some (.int (nI z)), some (.int (nI (dpD A B))), none, none] [.int v17] h19)))))))))))))))))))) ∧ ((¬ v13 = (0 : Int32)) → (W_X0_depth g (d + 2) [.ref 0, .int (nI z)] (QI n Q) n 230 [none, some (.int (nI z)), some (.int (nI (dpD A B))), some (.int 0), none] [] h13))))) := by
      intro h11 F11 M11 P832 u v Pu Pv su ef
      rw [show (0 : Int32) = nI 0 from rfl]
      refine ok_padd (u := 0) hp t105 t103 (by decide) Pv Pu (by rw [r106]; omega) (fun h12 f12 P12 => ?_)
      have ep : padd v (pmul (pC (-1)) (pmul (pX 0) u)) = dpF A B := by
        rw [← ef]
        exact pl_ext fun i => by rw [co_add, pC_mul, co_Xmul, if_pos (by omega), Nat.sub_zero, co_sub]; grind
      rw [ep] at P12
      have F12 : Fr h h12 Ldp := F11.tr (f12.mono (by simp))
      have M12 := (M11.fr f12 (by decide) (by decide))
      have L12 := (P832.fr f12 (by decide) (by decide))
      refine ok_isZero hp t105 P12 (fun ez => ⟨fun c => absurd c (by decide), fun _ => j230 h12 F12 M12 es 0 (by unfold dpR; rw [cite_pos ez])⟩) (fun nz => ⟨fun _ => ?_, fun c => absurd rfl c⟩)
      have q5 := P12.lt
      have q6 := L12.lt
      rw [P12.1, L12.1, nI_eq (by omega) (by omega)]
      have no : ¬ (dpF A B = pmul (pC (dpC A B)) (bco A (dpD A B)) ∧ (dpC A B).val ≤ 12) → dpR A B = -1 := fun w => by unfold dpR; rw [cite_neg nz, cite_neg w]
      have cne : sz (dpF A B) = sz (bco A (dpD A B)) → dpC A B ≠ 0 := fun w => by
        have n2 : bco A (dpD A B) ≠ pz := fun e => by rw [e, sz_z] at w; exact nz (sz_0 w)
        intro e
        rw [← dpC_eq] at e
        rcases fp_dom.1 _ _ e with e | e
        · exact hd_ne nz e
        · exact iv_ne (hd_ne n2) e
      refine ⟨fun c => j230 h12 F12 M12 es (-1) (no (fun w => c ?_)).symm, fun c => ?_⟩
      · by_cases cz : dpC A B = 0
        · exfalso
          apply nz
          rw [w.1, cz]
          exact pl_ext fun i => by rw [pC_mul, co_z]; grind
        · rw [w.1, szC_mul cz]
      · refine ok_head hp t105 P12 (ok_head hp t832 L12 (ok_inverse hp (ok_times hp ?_)))
        rw [dpC_eq, P_sub (cne c)]
        have s2 : sz (bco A (dpD A B)) ≤ 1800 := by have := L12.2.1; rw [r833] at this; exact this
        refine ok_padd (u := 0) hp t105 t832 (by decide) P12 L12 (by rw [r106]; omega) (fun h18 f18 P18 => ?_)
        have ep2 : padd (dpF A B) (pmul (pC (-dpC A B)) (pmul (pX 0) (bco A (dpD A B)))) = psub (dpF A B) (pmul (pC (dpC A B)) (bco A (dpD A B))) := pl_ext fun i => by
          rw [co_add, pC_mul, co_Xmul, if_pos (by omega), Nat.sub_zero, co_sub, pC_mul]; grind
        rw [ep2] at P18
        have F18 : Fr h h18 Ldp := F12.tr (f18.mono (by simp))
        have M18 := (M12.fr f18 (by decide) (by decide))
        have j228 : ¬ (dpF A B = pmul (pC (dpC A B)) (bco A (dpD A B)) ∧ (dpC A B).val ≤ 12) → W_X0_depth g (d + 2) [.ref 0, .int (nI z)] (QI n Q) n 228 [none, some (.int (nI z)), some (.int (nI (dpD A B))), none, none] [] h18 := fun w => s_X0_depth_228 hp (s_X0_depth_229 hp (j230 h18 F18 M18 es (-1) (no w).symm))
        have eqv : psub (dpF A B) (pmul (pC (dpC A B)) (bco A (dpD A B))) = pz ↔ dpF A B = pmul (pC (dpC A B)) (bco A (dpD A B)) := by
          constructor
          · intro w
            refine pl_ext fun i => ?_
            have := congrArg (fun p => co p i) w
            rw [co_sub, co_z] at this
            generalize co (dpF A B) i = x at this ⊢
            generalize co (pmul (pC (dpC A B)) (bco A (dpD A B))) i = y at this ⊢
            grind
          · intro w
            exact pl_ext fun i => by rw [co_sub, ← w, co_z]; grind
        refine ok_isZero hp t105 P18 (fun ez => ⟨fun c => absurd c (by decide), fun _ => ?_⟩) (fun ez => ⟨fun _ => j228 (fun w => ez (eqv.mpr w.1)), fun c => absurd rfl c⟩)
        have cl := (dpC A B).isLt
        have e12 : (12 : Int32) < toI (dpC A B) ↔ 12 < (dpC A B).val := by
          unfold toI
          rw [show (12 : Int32) = nI 12 from rfl, nI_ltI (by omega) (by omega)]
        rw [e12]
        refine ⟨fun w => j228 (fun u => by have := u.2; omega), fun w => s_X0_depth_229 hp ?_⟩
        have jj := j230 h18 F18 M18 es ((dpC A B).val : Int) (by unfold dpR; rw [cite_neg nz, cite_pos ⟨eqv.mp ez, by omega⟩])
        have et : zI ((dpC A B).val : Int) = toI (dpC A B) := by unfold toI; rw [nI_z]
        rw [et] at jj
        exact jj
    by_cases d0 : dpD A B = 0
    · have em : nI (dpD A B) - 1 = zI (-1) := by rw [d0]; rfl
      rw [em]
      refine ok_rowM hp t93 t103 A9 (by decide) (fun h10 f10 P10 => ?_)
      refine ok_rowM hp t819 t105 ((M9.fr f10 (by decide) (by decide))) (by decide) (fun h11 f11 P11 => ?_)
      exact fin h11 (F9.tr (((f10.mono (by simp)).tr (f11.mono (by simp))))) (((M9.fr f10 (by decide) (by decide)).fr f11 (by decide) (by decide))) (((P9.fr f10 (by decide) (by decide)).fr f11 (by decide) (by decide))) pz pz ((P10.fr f11 (by decide) (by decide))) P11 (by rw [sz_z]; omega) (by unfold dpF; rw [if_pos d0]; exact pl_ext fun i => by rw [co_sub, co_z]; grind)
    · rw [nI_sub1 (by omega)]
      refine ok_row hp t93 t103 A9 (by omega) (by rw [r104]; omega) (fun h10 f10 P10 => ?_)
      refine ok_row hp t819 t105 ((M9.fr f10 (by decide) (by decide))) (by omega) (by rw [r106]; omega) (fun h11 f11 P11 => ?_)
      exact fin h11 (F9.tr (((f10.mono (by simp)).tr (f11.mono (by simp))))) (((M9.fr f10 (by decide) (by decide)).fr f11 (by decide) (by decide))) (((P9.fr f10 (by decide) (by decide)).fr f11 (by decide) (by decide))) _ _ ((P10.fr f11 (by decide) (by decide))) P11 (by have := bsn_le A (dpD A B - 1); omega) (by unfold dpF; rw [if_neg d0])
  · rw [show nI z - nI (dpD A B) = zI ((z : Int) - dpD A B) by rw [nI_z, nI_z, zI_sub]]
    have := q h7 F7 M7
    unfold dpt at this
    rw [cite_neg es] at this
    exact qI this
end
