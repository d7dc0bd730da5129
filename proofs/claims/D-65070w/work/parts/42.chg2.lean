set_option maxRecDepth 100000
/-! ONE RATIO OR TERM: the whole -/
/-- numerator and denominator for op 0 to 8 -/
noncomputable def chN (op : Nat) (T B : Bi) (v : Fp) : Bi := if op = 0 then bshN v T else if op = 1 then bshK v T else if op = 2 then bfN v T else if op = 3 then bfK v T else if op = 4 ∨ op = 5 then badd (bmul (bder (decide (op = 4)) T) B) (bsc (-1) (bmul (bder (decide (op = 4)) B) T)) else if op = 6 then btr T else if op = 7 then T else B
noncomputable def chD (op : Nat) (_T B : Bi) (v : Fp) : Bi := if op = 0 then bshN v B else if op = 1 then bshK v B else if op = 2 then bfN v B else if op = 3 then bfK v B else if op = 4 ∨ op = 5 then bmul B B else if op = 6 then btr B else bC (pC 1)
theorem C1_sz : bsn (bC (pC 1)) = 1 ∧ bsz (bC (pC 1)) = 1 := by
  have : (1 : Fp) ≠ 0 := by decide
  exact ⟨by rw [bsn_C, sz_C this], bsz_C (pC_ne this)⟩
theorem chN_sz {op : Nat} {T B : Bi} {v : Fp} (hT : fitB T) (hB : fitB B) : bsn (chN op T B v) ≤ 49 ∧ bsz (chN op T B v) ≤ 25 := by
  unfold fitB at hT hB
  unfold chN
  split
  · have := shN_sz v T; omega
  · split
    · have := bsn_shK v (bsz T) T (Nat.le_refl _); have := bsz_shK v T; omega
    · split
      · have := bfN_sz v T; omega
      · split
        · have := bfK_sz v T; omega
        · split
          · have a := bder_sz (decide (op = 4)) T
            have b := bder_sz (decide (op = 4)) B
            have c := bsn_mul_le (F := bder (decide (op = 4)) T) (G := B)
            have c' := bsz_mul_le (F := bder (decide (op = 4)) T) (G := B)
            have e := bsn_mul_le (F := bder (decide (op = 4)) B) (G := T)
            have e' := bsz_mul_le (F := bder (decide (op = 4)) B) (G := T)
            have f := bsn_sc_le (-1) (bmul (bder (decide (op = 4)) B) T)
            have f' := bsz_sc_le (-1) (bmul (bder (decide (op = 4)) B) T)
            have i := bsn_add_le (bmul (bder (decide (op = 4)) T) B) (bsc (-1) (bmul (bder (decide (op = 4)) B) T))
            have i' := bsz_add_le (bmul (bder (decide (op = 4)) T) B) (bsc (-1) (bmul (bder (decide (op = 4)) B) T))
            omega
          · split
            · rw [bsn_tr, bsz_tr]; omega
            · split <;> omega
theorem chD_sz {op : Nat} {T B : Bi} {v : Fp} (hB : fitB B) : bsn (chD op T B v) ≤ 49 ∧ bsz (chD op T B v) ≤ 25 := by
  unfold fitB at hB
  unfold chD
  split
  · have := shN_sz v B; omega
  · split
    · have := bsn_shK v (bsz B) B (Nat.le_refl _); have := bsz_shK v B; omega
    · split
      · have := bfN_sz v B; omega
      · split
        · have := bfK_sz v B; omega
        · split
          · have c := bsn_mul_le (F := B) (G := B)
            have c' := bsz_mul_le (F := B) (G := B)
            omega
          · split
            · rw [bsn_tr, bsz_tr]; omega
            · have := C1_sz; omega
section
variable {g : GX} {d n : Nat} {h h' : Hp} {a c : Nat}
abbrev Llc : List Nat := [39, 40, 41, 42, 43, 44, 45, 46, 103, 104, 832, 833]
theorem ok_layChange (hp : g.2.2.2.2 = true) (ta : lay a = (0, 6, 2)) (h1 : a + 4 < 103 ∨ (104 < a ∧ a + 4 < 832) ∨ 833 < a) (K : Kp h) {op : Nat} (ho : op < 9) {T B : Bi} {v : Fp} (hT : fitB T) (hB : fitB B) (H : RI h a T B) {Q : Int32 → Hp → Prop} (q1 : chD op T B v ≠ bz → ∀ h', Fr h h' Llc → DI h' 39 (chN op T B v) → DI h' 41 (chD op T B v) → Q 1 h') (q0 : chD op T B v = bz → ∀ h', Fr h h' Llc → Q 0 h') : CallI g m_X0_layChange (d + 5) [.ref 0, .int (nI op), .ref a, .int (toI v)] n h Q := by
  have lo := rt_lo ta
  have t1 := lf_6_0 ta
  have t3 := lf_6_1 ta
  have hT' := hT
  have hB' := hB
  unfold fitB at hT' hB'
  have z39 := w39
  have z41 := w41
  have z43 := w43
  have z45 := w45
  have out : ∀ h', Fr h h' Llc → RI h' a T B := fun h' f => H.fr f (by simp; omega) (by simp; omega) (by simp; omega) (by simp; omega)
  -- the end
  have j324 : ∀ h1, Fr h h1 Llc → DI h1 39 (chN op T B v) → DI h1 41 (chD op T B v) → W_X0_layChange g (d + 4) [.ref 0, .int (nI op), .ref a, .int (toI v)] (QI n Q) n 324 [some (.ref 0), none, none, none] [] h1 := by
    intro h1 f1 A1 B1
    exact s_X0_layChange_324 hp (ok_disZero hp t41 B1 (fun e => ⟨fun _ => qI (q0 e h1 f1), fun c => absurd c (by decide)⟩) (fun e => ⟨fun c => absurd rfl c, fun _ => qI (q1 e h1 f1 A1 B1)⟩))
  -- derivatives
  have j179 : (op = 4 ∨ op = 5) → ∀ h1, Fr h h1 Llc → W_X0_layChange g (d + 4) [.ref 0, .int (nI op), .ref a, .int (toI v)] (QI n Q) n 179 [some (.ref 0), some (.int (nI op)), some (.ref a), none] [.int (if decide (op = 4) = true then 1 else 0), .ref (a + 1), .ref 0] h1 := by
    intro h45 h1 f1
    have R1 := out h1 f1
    have dT := bder_sz (decide (op = 4)) T
    have dB := bder_sz (decide (op = 4)) B
    refine s_X0_layChange_179 hp ta t1 l0 (ok_derive hp t1 t45 (by omega) (f1.kp K) R1.1 (by omega) (by omega) (fun h2 f2 D2 => ?_))
    have F2 : Fr h h2 Llc := f1.tr (f2.mono (by simp))
    refine ok_dproduct hp t39 t45 t3 (by decide) (by omega) ((F2.kp K).w t39) D2 (out h2 F2).2 (by omega) (by omega) (fun h3 f3 D3 => ?_)
    have F3 : Fr h h3 Llc := F2.tr (f3.mono (by simp))
    have j216 : W_X0_layChange g (d + 4) [.ref 0, .int (nI op), .ref a, .int (toI v)] (QI n Q) n 216 [some (.ref 0), none, some (.ref a), none] [.int (if decide (op = 4) = true then 1 else 0), .ref (a + 3), .ref 0] h3 := by
      refine s_X0_layChange_216 hp ta t3 l0 (ok_derive hp t3 t45 (by omega) (F3.kp K) (out h3 F3).2 (by omega) (by omega) (fun h4 f4 D4 => ?_))
      have F4 : Fr h h4 Llc := F3.tr (f4.mono (by simp))
      refine ok_dproduct hp t43 t45 t1 (by decide) (by omega) ((F4.kp K).w t43) D4 (out h4 F4).1 (by omega) (by omega) (fun h5 f5 D5 => ?_)
      have F5 : Fr h h5 Llc := F4.tr (f5.mono (by simp))
      have m1 := bsn_mul_le (F := bder (decide (op = 4)) B) (G := T)
      have m2 := bsz_mul_le (F := bder (decide (op = 4)) B) (G := T)
      rw [show (2147483646 : Int32) = toI (-1) from toI_m1.symm]
      refine ok_dadd hp t39 t43 (by decide) (((D3.fr f4 (by decide) (by decide)).fr f5 (by decide) (by decide))) D5 (by omega) (by omega) (fun h6 f6 D6 => ?_)
      have F6 : Fr h h6 Llc := F5.tr (f6.mono (by simp))
      refine ok_dproduct hp t41 t3 t3 (by omega) (by omega) ((F6.kp K).w t41) (out h6 F6).2 (out h6 F6).2 (by omega) (by omega) (fun h7 f7 D7 => ?_)
      refine j324 h7 (F6.tr (f7.mono (by simp))) ?_ ?_
      · unfold chN
        rw [if_neg (by omega), if_neg (by omega), if_neg (by omega), if_neg (by omega), if_pos h45]
        exact (D6.fr f7 (by decide) (by decide))
      · unfold chD
        rw [if_neg (by omega), if_neg (by omega), if_neg (by omega), if_neg (by omega), if_pos h45]
        exact D7
    rw [show (4 : Int32) = nI 4 from rfl, nI_eq (by omega) (by omega)]
    refine ⟨fun c => ?_, fun c => ?_⟩
    · have e : (if decide (op = 4) = true then (1 : Int32) else 0) = 0 := by rw [if_neg (by simpa using c)]
      rw [e] at j216; exact j216
    · have e : (if decide (op = 4) = true then (1 : Int32) else 0) = 1 := by rw [if_pos (by simpa using c)]
      rw [e] at j216; exact j216
  refine okI 0 rfl rfl (s_X0_layChange_0 hp ta (ok_dcopy hp t39 t1 (by omega) (K.w t39) H.1 (by omega) (by omega) (fun h1 f1 A1 => ?_)))
  have F1 : Fr h h1 Llc := f1.mono (by simp)
  refine ok_dcopy hp t41 t3 (by omega) ((F1.kp K).w t41) (out h1 F1).2 (by omega) (by omega) (fun h2 f2 B2 => ?_)
  have F2 : Fr h h2 Llc := F1.tr (f2.mono (by simp))
  have A2 := (A1.fr f2 (by decide) (by decide))
  have R2 := out h2 F2
  rw [nI_toInt (show op < 2 ^ 31 by omega)]
  have four : ∀ X : Int32 → Prop, X (if decide (op = 4) = true then 1 else 0) → (op = 4 → X 1) ∧ (op = 5 → X 0) := fun X hX => ⟨fun e => by rw [if_pos (decide_eq_true e)] at hX; exact hX, fun e => by rw [if_neg (by simp; omega)] at hX; exact hX⟩
  refine ⟨fun w => ?_, fun w => ?_, fun w => ?_, fun w => ?_, fun w => ?_, fun w => ?_, fun w => ?_, fun w => ?_, fun w => ?_⟩
  · have e : op = 0 := by omega
    subst e
    exact ok_shiftN hp t39 A2 (fun h3 f3 A3 => ok_shiftN hp t41 ((B2.fr f3 (by decide) (by decide))) (fun h4 f4 B4 => j324 h4 (F2.tr (((f3.mono (by simp)).tr (f4.mono (by simp))))) ((A3.fr f4 (by decide) (by decide))) B4))
  · have e : op = 1 := by omega
    subst e
    exact ok_shiftK hp t39 A2 (fun h3 f3 A3 => ok_shiftK hp t41 ((B2.fr f3 (by decide) (by decide))) (fun h4 f4 B4 => j324 h4 (F2.tr (((f3.mono (by simp)).tr (f4.mono (by simp))))) ((A3.fr f4 (by decide) (by decide))) B4))
  · have e : op = 2 := by omega
    subst e
    refine ok_putN hp t1 t39 (by omega) (F2.kp K) R2.1 (by omega) (by omega) (fun h3 f3 A3 => ?_)
    have F3 : Fr h h3 Llc := F2.tr (f3.mono (by simp))
    exact ok_putN hp t3 t41 (by omega) (F3.kp K) (out h3 F3).2 (by omega) (by omega) (fun h4 f4 B4 => j324 h4 (F3.tr (f4.mono (by simp))) ((A3.fr f4 (by decide) (by decide))) B4)
  · have e : op = 3 := by omega
    subst e
    refine ok_putK hp t1 t39 (by omega) (F2.kp K) R2.1 (by omega) (by omega) (fun h3 f3 A3 => ?_)
    have F3 : Fr h h3 Llc := F2.tr (f3.mono (by simp))
    exact ok_putK hp t3 t41 (by omega) (F3.kp K) (out h3 F3).2 (by omega) (by omega) (fun h4 f4 B4 => j324 h4 (F3.tr (f4.mono (by simp))) ((A3.fr f4 (by decide) (by decide))) B4)
  · have e : op = 4 := by omega
    have := j179 (Or.inl e) h2 F2
    rw [if_pos (decide_eq_true e)] at this
    rw [show (4 : Int32) = nI 4 from rfl, nI_eq (by omega) (by omega)]
    exact ⟨fun c => absurd e c, fun _ => this⟩
  · have e : op = 5 := by omega
    have := j179 (Or.inr e) h2 F2
    rw [if_neg (by simp; omega)] at this
    rw [show (4 : Int32) = nI 4 from rfl, nI_eq (by omega) (by omega)]
    exact ⟨fun _ => this, fun c => absurd c (by omega)⟩
  · have e : op = 6 := by omega
    subst e
    refine ok_turn hp t39 t1 (by omega) ((F2.kp K).w t39) R2.1 (by omega) (by omega) (fun h3 f3 A3 => ?_)
    have F3 : Fr h h3 Llc := F2.tr (f3.mono (by simp))
    exact ok_turn hp t41 t3 (by omega) ((F3.kp K).w t41) (out h3 F3).2 (by omega) (by omega) (fun h4 f4 B4 => j324 h4 (F3.tr (f4.mono (by simp))) ((A3.fr f4 (by decide) (by decide))) B4)
  · have e : op = 7 := by omega
    subst e
    rw [show (1 : Int32) = toI 1 from toI_1.symm]
    exact ok_dset hp t41 ((F2.kp K).w t41) (by omega) (by omega) (fun h3 f3 B3 => j324 h3 (F2.tr (f3.mono (by simp))) ((A2.fr f3 (by decide) (by decide))) B3)
  · have e : op = 8 := by omega
    subst e
    refine ok_dcopy hp t39 t3 (by omega) ((F2.kp K).w t39) R2.2 (by omega) (by omega) (fun h3 f3 A3 => ?_)
    have F3 : Fr h h3 Llc := F2.tr (f3.mono (by simp))
    rw [show (1 : Int32) = toI 1 from toI_1.symm]
    exact ok_dset hp t41 ((F3.kp K).w t41) (by omega) (by omega) (fun h4 f4 B4 => j324 h4 (F3.tr (f4.mono (by simp))) ((A3.fr f4 (by decide) (by decide))) B4)
end
