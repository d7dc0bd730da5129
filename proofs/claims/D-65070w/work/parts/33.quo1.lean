set_option maxRecDepth 100000
/-! QUOTIENTS: products of lines -/
/-- a n + b k + c -/
noncomputable def lnB (a b c : Int32) : Bi := b2 (fun j i => if j = 0 then (if i = 0 then fI c else fI a) else (if i = 0 then fI b else 0)) 2 2
theorem cc_lnB (a b c : Int32) (j i : Nat) : cc (lnB a b c) j i = if j < 2 ∧ i < 2 then (if j = 0 then (if i = 0 then fI c else fI a) else (if i = 0 then fI b else 0)) else 0 := by
  unfold lnB
  rw [cc_b2]
theorem lnB_sz (a b c : Int32) : bsn (lnB a b c) ≤ 2 ∧ bsz (lnB a b c) ≤ 2 := by
  constructor
  · exact bsn_min fun j i hi => by rw [cc_lnB, if_neg (by omega)]
  · exact bsz_min fun j hj => pl_ext fun i => by
      rw [co_z]
      show cc (lnB a b c) j i = 0
      rw [cc_lnB, if_neg (by omega)]
/-- (x + fr) .. of m lines, x = a n + b k + c -/
noncomputable def tlP (a b c fr : Int) : Nat → Bi
  | 0 => bC (pC 1)
  | m + 1 => bmul (tlP a b c fr m) (lnB (zI a) (zI b) (zI (c + (fr + m))))
section
variable {g : GX} {d n : Nat} {h h' : Hp} {a : Nat}
theorem r44 : rm 44 = 135000 := by decide +kernel
theorem w_tl4 (hp : g.2.2.2.2 = true) (ta : lay a = (0, 4, 4)) (ha : a = 39 ∨ a = 41) {av : List Value} {x y z fr : Int} {m : Nat} (hfr : -1000 ≤ fr ∧ fr ≤ 1000) (hm : m ≤ 1000) {F : Bi} (hN : bsn F + m ≤ 900) (hK : bsz F + m ≤ 150) {Q : Hp → Prop} : ∀ (k i : Nat) (h : Hp), i + k = m → Kp h → DI h a (bmul F (tlP x y z fr i)) → (∀ h', Fr h h' [a, a + 1, 43, 44, 45, 46] → DI h' a (bmul F (tlP x y z fr m)) → Q h') → W_X0_timesLines g (d + 3) av (QV n Q) n 4 [some (.ref 0), some (.ref a), some (.int (zI x)), some (.int (zI y)), some (.int (zI z)), none, some (.int (zI (fr + m - 1))), some (.int (zI (fr + i)))] [] h := by
  have wa : wd a = 900 ∧ hg a = 150 := by rcases ha with rfl | rfl; exact w39; exact w41
  have sz : ∀ i, bsn (bmul F (tlP x y z fr i)) ≤ bsn F + i ∧ bsz (bmul F (tlP x y z fr i)) ≤ bsz F + i := by
    intro i
    induction i with
    | zero =>
      have e : bmul F (tlP x y z fr 0) = F := by show bmul F (bC (pC 1)) = F; rw [b_mulc, b_mul1]
      rw [e]; omega
    | succ i ih =>
      have e : bmul F (tlP x y z fr (i + 1)) = bmul (bmul F (tlP x y z fr i)) (lnB (zI x) (zI y) (zI (z + (fr + i)))) := (b_assoc _ _ _).symm
      have h1 := bsn_mul_le (F := bmul F (tlP x y z fr i)) (G := lnB (zI x) (zI y) (zI (z + (fr + i))))
      have h2 := bsz_mul_le (F := bmul F (tlP x y z fr i)) (G := lnB (zI x) (zI y) (zI (z + (fr + i))))
      have h3 := lnB_sz (zI x) (zI y) (zI (z + (fr + i)))
      rw [e]; omega
  intro k
  induction k with
  | zero =>
    intro i h hi K H q
    refine s_X0_timesLines_4 hp ta ⟨fun _ => qV (q h Fr.rf (by rw [show m = i by omega]; exact H)), fun c => absurd ?_ c⟩
    simp (disch := omega) only [nI_z, z0, z1, z2, zm1, zI_add, zI_sub, zI_neg, zI_mul, zI_le, zI_lt, zI_eq, zI_tN, zI_inI]; omega
  | succ k ih =>
    intro i h hi K H q
    have hrm := r44
    refine s_X0_timesLines_4 hp ta ⟨fun c => absurd c ?_, fun _ => ?_⟩
    · simp (disch := omega) only [nI_z, z0, z1, z2, zm1, zI_add, zI_sub, zI_neg, zI_mul, zI_le, zI_lt, zI_eq, zI_tN, zI_inI]; omega
    · refine ok_open (N := 2) (K := 2) hp t43 (K.w t43) (by rw [w43.1]; omega) (by rw [w43.2]; omega) (fun h1 f1 H1 => ?_)
      rw [zI_add]
      refine ok_rest hp ⟨by rw [hrm]; exact nI_inL (k := 0) (by omega) (by omega), fun h3 e3 => ok_rest hp ⟨by rw [hrm]; exact nI_inL (k := 1) (by omega) (by omega), fun h5 e5 => ?_⟩⟩
      have H3 := H1.upd (j := 0) (i := 0) (v := fI (zI (z + (fr + i)))) (by omega)
      have e3 : h3 = wi h1 (43 + 1) (0 * wd 43 + 0) (toI (fI (zI (z + (fr + i))))) := by rw [Nat.zero_mul]; exact e3
      rw [← e3] at H3
      have H5 := H3.upd (j := 0) (i := 1) (v := fI (zI x)) (by omega)
      have e5 : h5 = wi h3 (43 + 1) (0 * wd 43 + 1) (toI (fI (zI x))) := by rw [Nat.zero_mul]; exact e5
      rw [← e5] at H5
      have ew : ri h5 43 0 = nI 900 := by rw [H5.w, w43.1]
      rw [ew, hrm, nI_tN (by omega)]
      refine ok_rest hp ⟨nI_inL (by omega) (by omega), fun h7 e7 => ?_⟩
      have H7 := H5.upd (j := 1) (i := 0) (v := fI (zI y)) (by omega)
      have e7 : h7 = wi h5 (43 + 1) (1 * wd 43 + 0) (toI (fI (zI y))) := by rw [w43.1]; exact e7
      rw [← e7] at H7
      have f3 : Fr h h3 [43, 44] := by rw [e3]; exact f1.put (by simp) (nk4 t43)
      have f5 : Fr h h5 [43, 44] := by rw [e5]; exact f3.put (by simp) (nk4 t43)
      have f7 : Fr h h7 [43, 44] := by rw [e7]; exact f5.put (by simp) (nk4 t43)
      refine ok_dtrim hp t43 H7 (fun h8 f8 H8 => ?_)
      have f8' : Fr h h8 [43, 44] := f7.tr (f8.mono (by simp))
      have eL : b2 (fun j' i' => if j' = 1 ∧ i' = 0 then fI (zI y) else if j' = 0 ∧ i' = 1 then fI (zI x) else if j' = 0 ∧ i' = 0 then fI (zI (z + (fr + i))) else 0) 2 2 = lnB (zI x) (zI y) (zI (z + (fr + i))) := by
        refine cc_ext fun j l => ?_
        rw [cc_b2, cc_lnB]
        by_cases hb : j < 2 ∧ l < 2
        · rw [if_pos hb, if_pos hb]
          rcases (show j = 0 ∨ j = 1 by omega) with e | e <;> rcases (show l = 0 ∨ l = 1 by omega) with e' | e' <;> subst e <;> subst e' <;> simp
        · rw [if_neg hb, if_neg hb]
      rw [eL] at H8
      have Ha8 : DI h8 a (bmul F (tlP x y z fr i)) := by rcases ha with rfl | rfl <;> exact H.fr f8' (by decide) (by decide)
      have si := sz i
      have sl := lnB_sz (zI x) (zI y) (zI (z + (fr + i)))
      refine ok_dcopy hp t45 ta (by omega) ((f8'.kp K).w t45) Ha8 (by rw [w45.1]; omega) (by rw [w45.2]; omega) (fun h9 f9 H9 => ?_)
      have f9' : Fr h h9 [a, a + 1, 43, 44, 45, 46] := (f8'.mono (by simp)).tr (f9.mono (by simp))
      refine ok_dproduct hp ta t45 t43 (by omega) (by omega) ((f9'.kp K).w ta) H9 (H8.fr f9 (by decide) (by decide)) (by rw [wa.1]; omega) (by rw [wa.2]; omega) (fun h10 f10 H10 => ?_)
      have f10' : Fr h h10 [a, a + 1, 43, 44, 45, 46] := f9'.tr (f10.mono (by simp))
      rw [show zI (fr + i) + 1 = zI (fr + ((i + 1 : Nat) : Int)) by rw [z1, zI_add]; congr 1; omega]
      refine ih (i + 1) h10 (by omega) (f10'.kp K) ?_ (fun h' k1 k2 => q h' (f10'.tr k1) k2)
      have e : bmul F (tlP x y z fr (i + 1)) = bmul (bmul F (tlP x y z fr i)) (lnB (zI x) (zI y) (zI (z + (fr + i)))) := (b_assoc _ _ _).symm
      rw [e]; exact H10
/-- times m lines -/
theorem ok_timesLines (hp : g.2.2.2.2 = true) (ta : lay a = (0, 4, 4)) (ha : a = 39 ∨ a = 41) (K : Kp h) {x y z fr : Int} {m : Nat} (hfr : -1000 ≤ fr ∧ fr ≤ 1000) {F : Bi} (H : DI h a F) (hN : bsn F + m ≤ 900) (hK : bsz F + m ≤ 150) {Q : Hp → Prop} (q : ∀ h', Fr h h' [a, a + 1, 43, 44, 45, 46] → DI h' a (bmul F (tlP x y z fr m)) → Q h') : CallV g m_X0_timesLines (d + 4) [.ref 0, .ref a, .int (zI x), .int (zI y), .int (zI z), .int (zI fr), .int (zI (fr + m - 1))] n h Q := by
  refine okV 1 rfl rfl (s_X0_timesLines_0 hp ta ?_)
  have e : bmul F (tlP x y z fr 0) = F := by show bmul F (bC (pC 1)) = F; rw [b_mulc, b_mul1]
  have := w_tl4 (d := d) (n := n) (av := [.ref 0, .ref a, .int (zI x), .int (zI y), .int (zI z), .int (zI fr), .int (zI (fr + m - 1))]) hp ta ha (x := x) (y := y) (z := z) hfr (by omega) hN hK m 0 h (by omega) K (by rw [e]; exact H) q
  rw [show fr + ((0 : Nat) : Int) = fr by omega] at this
  exact this
end
