set_option maxRecDepth 100000
/-! QUOTIENTS: quotientOf -/
section
variable {g : GX} {d n : Nat} {h h' : Hp} {a c : Nat}
theorem ok_quotientOf (hp : g.2.2.2.2 = true) (ta : lay a = (0, 5, 8)) (tc : lay c = (0, 6, 2)) (K : Kp h) {i : Itm} (gi : gI i) (hT : i.1 ≠ bz) (Ha : IIt h a i) {way : Nat} (hw : way < 2) {v : Int} (hv : 0 ≤ v ∧ v ≤ 3) {Q : Int32 → Hp → Prop} (q1 : fitB (lowT (qND way v i).1 (qND way v i).2) → fitB (lowB (qND way v i).1 (qND way v i).2) → ∀ h', Fr h h' (Lgv c) → RI h' c (lowT (qND way v i).1 (qND way v i).2) (lowB (qND way v i).1 (qND way v i).2) → Q 1 h') (q0 : ¬ (fitB (lowT (qND way v i).1 (qND way v i).2) ∧ fitB (lowB (qND way v i).1 (qND way v i).2)) → ∀ h', Fr h h' Lrd → Q 0 h') : CallI g m_X0_quotientOf (d + 11) [.ref 0, .ref a, .int (nI way), .int (zI v), .ref c] n h Q := by
  have la := it_lo ta
  have t2 := it_2 ta
  have t4 := it_4 ta
  have g3 := gi.2.2.1
  have g4 := gi.2.2.2.1
  have out : ∀ x, a ≤ x → x ≤ a + 9 → x ∉ Lqo := fun x h1 _ => by simp; omega
  have sT := bsh_sz way (fI (zI v)) i.1
  have sB := bsh_sz way (fI (zI v)) i.2.1
  have z39 := w39
  have z41 := w41
  have z45 := w45
  unfold fitB at g3 g4
  refine okI 4 rfl rfl (s_X0_quotientOf_0 hp ta tc (ok_dcopy hp t39 t2 (by omega) (K.w t39) Ha.1.1 (by omega) (by omega) (fun h1 f1 H1 => ?_)))
  have f1' : Fr h h1 Lqo := f1.mono (by simp)
  have Ha1 := Ha.fr2 f1' out
  refine ok_dcopy hp t41 t4 (by omega) ((f1.kp K).w t41) Ha1.1.2 (by omega) (by omega) (fun h2 f2 H2 => ?_)
  have f2' : Fr h h2 Lqo := f1'.tr (f2.mono (by simp))
  have H12 := H1.fr f2 (by decide) (by decide)
  -- behind the shifts
  have j79 : ∀ h6, Fr h h6 Lqo → DI h6 39 (bsh way (fI (zI v)) i.1) → DI h6 41 (bsh way (fI (zI v)) i.2.1) → W_X0_quotientOf g (d + 10) [.ref 0, .ref a, .int (nI way), .int (zI v), .ref c] (QI n Q) n 79 [some (.ref 0), some (.ref a), some (.int (nI way)), some (.int (zI v)), some (.ref c), none, none, none, none] [] h6 := by
    intro h6 f6 A6 B6
    have Ha6 := Ha.fr2 f6 out
    refine s_X0_quotientOf_79 hp ta tc (ok_dproduct hp t45 t39 t4 (by decide) (by omega) ((f6.kp K).w t45) A6 Ha6.1.2 (by omega) (by omega) (fun h7 f7 H7 => ?_))
    have f7' : Fr h h7 Lqo := f6.tr (f7.mono (by simp))
    have p1 := bsn_mul_le (F := bsh way (fI (zI v)) i.1) (G := i.2.1)
    have p2 := bsz_mul_le (F := bsh way (fI (zI v)) i.1) (G := i.2.1)
    have p3 := bsn_mul_le (F := bsh way (fI (zI v)) i.2.1) (G := i.1)
    have p4 := bsz_mul_le (F := bsh way (fI (zI v)) i.2.1) (G := i.1)
    refine ok_dcopy hp t39 t45 (by decide) ((f7'.kp K).w t39) H7 (by omega) (by omega) (fun h8 f8 H8 => ?_)
    have f8' : Fr h h8 Lqo := f7'.tr (f8.mono (by simp))
    have Ha8 := Ha.fr2 f8' out
    have B8 := (B6.fr f7 (by decide) (by decide)).fr f8 (by decide) (by decide)
    refine ok_dproduct hp t45 t41 t2 (by decide) (by omega) ((f8'.kp K).w t45) B8 Ha8.1.1 (by omega) (by omega) (fun h9 f9 H9 => ?_)
    have f9' : Fr h h9 Lqo := f8'.tr (f9.mono (by simp))
    refine ok_dcopy hp t41 t45 (by decide) ((f9'.kp K).w t41) H9 (by omega) (by omega) (fun h10 f10 H10 => ?_)
    have f10' : Fr h h10 Lqo := f9'.tr (f10.mono (by simp))
    have Ha10 := Ha.fr2 f10' out
    have A10 := (H8.fr f9 (by decide) (by decide)).fr f10 (by decide) (by decide)
    have j156 : ∀ u : Fp, u = (if way = 0 then i.2.2.1 else i.2.2.2.1) → W_X0_quotientOf g (d + 10) [.ref 0, .ref a, .int (nI way), .int (zI v), .ref c] (QI n Q) n 156 [some (.ref 0), some (.ref a), some (.int (nI way)), some (.int (zI v)), some (.ref c), none, none, none, none] [.int (toI u), .ref 39] h10 := by
      intro u eu
      refine s_X0_quotientOf_156 hp ta tc t39 (ok_signedPower hp (by omega) (by omega) (ok_dscale hp t39 A10 (fun h11 f11 H11 => ?_)))
      have f11' : Fr h h11 Lqo := f10'.tr (f11.mono (by simp))
      rw [eu] at H11
      have c1 := bsn_sc_le (spw (if way = 0 then i.2.2.1 else i.2.2.2.1) v) (bmul (bsh way (fI (zI v)) i.1) i.2.1)
      have c2 := bsz_sc_le (spw (if way = 0 then i.2.2.1 else i.2.2.2.1) v) (bmul (bsh way (fI (zI v)) i.1) i.2.1)
      have D1 := H10.fr f11 (by decide) (by decide)
      have nz : bmul (bsh way (fI (zI v)) i.2.1) i.1 ≠ bz := b_mulne (bsh_ne way _ gi.b) hT
      have eS : qND way v i = i.2.2.2.2.foldl (qst way v) (bsc (spw (if way = 0 then i.2.2.1 else i.2.2.2.1) v) (bmul (bsh way (fI (zI v)) i.1) i.2.1), bmul (bsh way (fI (zI v)) i.2.1) i.1) := by unfold qND; exact Eq.refl _
      have s1 : bsn (bsc (spw (if way = 0 then i.2.2.1 else i.2.2.2.1) v) (bmul (bsh way (fI (zI v)) i.1) i.2.1)) ≤ 49 + 9 * 0 ∧ bsz (bsc (spw (if way = 0 then i.2.2.1 else i.2.2.2.1) v) (bmul (bsh way (fI (zI v)) i.1) i.2.1)) ≤ 25 + 9 * 0 := by omega
      have s2 : bsn (bmul (bsh way (fI (zI v)) i.2.1) i.1) ≤ 49 + 9 * 0 ∧ bsz (bmul (bsh way (fI (zI v)) i.2.1) i.1) ≤ 25 + 9 * 0 := by omega
      clear c1 c2 p1 p2 p3 p4 A10 H10 H9 H8 H7 B8 B6 A6 f11 f10 f9 f8 f7 f6 sT sB
      generalize bsc (spw (if way = 0 then i.2.2.1 else i.2.2.2.1) v) (bmul (bsh way (fI (zI v)) i.1) i.2.1) = S1 at H11 eS s1
      generalize bmul (bsh way (fI (zI v)) i.2.1) i.1 = S2 at D1 nz eS s2
      generalize qND way v i = QQ at eS q1 q0
      refine w_q166 (FG0 := (S1, S2)) hp ta tc gi hw hv i.2.2.2.2.length 0 (S1, S2) h11 (by omega) (by rw [List.take_zero, List.foldl_nil]) nz (by rw [List.take_zero]; exact s1) (by rw [List.take_zero]; exact s2) (f11'.kp K) (Ha.fr2 f11' out) H11 D1 (fun FG' e x1 x2 h' f' R => ?_) (fun FG' e z h' f' => ?_)
      · rw [← eS] at e
        rw [e] at x1 x2 R
        exact q1 x1 x2 h' ((f11'.mono (fun x hx => by simp only [Lqo, Lgv, Lrd, List.mem_cons, List.not_mem_nil, or_false] at hx ⊢; omega)).tr f') R
      · rw [← eS] at e
        rw [e] at z
        exact q0 z h' ((f11'.mono (fun x hx => by simp only [Lqo, Lrd, List.mem_cons, List.not_mem_nil, or_false] at hx ⊢; omega)).tr f')
    have ew : nI way = (0 : Int32) ↔ way = 0 := by simp (disch := omega) only [nI_z, z0, z1, z2, zm1, zI_add, zI_sub, zI_neg, zI_mul, zI_le, zI_lt, zI_eq, zI_tN, zI_inI]; omega
    rw [ew, show ri h10 a 1 = toI i.2.2.1 from Ha10.2.1, show ri h10 a 2 = toI i.2.2.2.1 from Ha10.2.2.1]
    exact ⟨fun w => j156 _ (by rw [if_neg w]), fun w => j156 _ (by rw [if_pos w])⟩
  have ew : nI way = (0 : Int32) ↔ way = 0 := by simp (disch := omega) only [nI_z, z0, z1, z2, zm1, zI_add, zI_sub, zI_neg, zI_mul, zI_le, zI_lt, zI_eq, zI_tN, zI_inI]; omega
  rw [ew]
  refine ⟨fun w => ok_rest hp (ok_shiftK hp t39 H12 (fun h4 f4 H4 => ok_rest hp (ok_shiftK hp t41 (H2.fr f4 (by decide) (by decide)) (fun h6 f6 H6 => j79 h6 ((f2'.tr (f4.mono (by simp))).tr (f6.mono (by simp))) ?_ ?_)))), fun w => ok_rest hp (ok_shiftN hp t39 H12 (fun h4 f4 H4 => ok_rest hp (ok_shiftN hp t41 (H2.fr f4 (by decide) (by decide)) (fun h6 f6 H6 => j79 h6 ((f2'.tr (f4.mono (by simp))).tr (f6.mono (by simp))) ?_ ?_))))⟩
  · unfold bsh; rw [if_neg w]; exact H4.fr f6 (by decide) (by decide)
  · unfold bsh; rw [if_neg w]; exact H6
  · unfold bsh; rw [if_pos w]; exact H4.fr f6 (by decide) (by decide)
  · unfold bsh; rw [if_pos w]; exact H6
end
