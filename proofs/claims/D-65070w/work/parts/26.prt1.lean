set_option maxRecDepth 100000
/-! PARTS: contents, rows divided, heads -/
theorem Kp.w {h : Hp} {a : Nat} (K : Kp h) (t : lay a = (0, 4, 4)) : ri h a 0 = nI (wd a) := K.1 a t
theorem gcdU_1 (p : Un) : gcdU (pC 1) p = pC 1 := by
  letI := plRing Fp
  refine (gcdU_uniq ⟨dv_refl _, ⟨p, ?_⟩, fun c h _ => h⟩ (Or.inr (hd_C 1))).symm
  have hh : ∀ A : Un, A = 1 * A := by intros; grind
  exact hh p
theorem ctn_one (F : Bi) {j : Nat} (h : ctn F j = pC 1) : ∀ k, ctn F (j + k) = pC 1
  | 0 => h
  | k + 1 => by
    show gcdU (ctn F (j + k)) (bco F (j + k)) = pC 1
    rw [ctn_one F h k, gcdU_1]
theorem ctn_sz (F : Bi) : ∀ j, sz (ctn F j) ≤ bsn F
  | 0 => by show sz (pz : Un) ≤ bsn F; rw [sz_z]; omega
  | j + 1 => by
    have h1 := gcdU_max (ctn F j) (bco F j)
    have h2 := ctn_sz F j
    have h3 := bsn_le F j
    show sz (gcdU (ctn F j) (bco F j)) ≤ bsn F
    omega
theorem sz1_monic {p : Un} (h : sz p = 1) (h1 : p = pz ∨ hd p = 1) : p = pC 1 := by
  have e := sz_1C (p := p) (by omega)
  rcases h1 with z | z
  · rw [z, sz_z] at h; omega
  · rw [e, hd_C] at z
    rw [e, z]
section
variable {g : GX} {d n : Nat} {h : Hp} {a b c : Nat}
theorem t9 : lay 9 = (0, 3, 2) := by decide +kernel
theorem r10 : rm (9 + 1) = 1800 := by decide +kernel
theorem w_cont6 (hp : g.2.2.2.2 = true) (ta : lay a = (0, 4, 4)) (ha : 22 < a) (tc : lay c = (0, 3, 2)) (hc : 10 < c) {av : List Value} {F : Bi} (hr : bsn F ≤ 1800) (hT : bsn F ≤ rm (c + 1)) {Q : Hp → Prop} : ∀ (k j : Nat) (h : Hp), j + k = bsz F → DI h a F → PI h c (ctn F j) → (∀ h', Fr h h' [3, 4, 5, 6, 7, 8, 9, 10, c, c + 1] → PI h' c (contU F) → Q h') → W_X1_content g (d + 4) av (QV n Q) n 6 [some (.ref 1), some (.ref a), some (.ref c), some (.int (nI j))] [] h := by
  have o := dp_ne ta tc
  intro k
  induction k with
  | zero =>
    intro j h hj H Hc q
    have hk := H.ltk
    refine s_X1_content_6 hp ta tc ⟨fun _ => qV (q h Fr.rf ?_), fun c' => absurd ?_ c'⟩
    · rw [show j = bsz F by omega] at Hc; exact Hc
    · rw [H.k]; simp (disch := omega) only [nI_addz, nI_1, nI_leI, nI_ltI, nI_eq, nI_tN, nI_inI]; omega
  | succ k ih =>
    intro j h hj H Hc q
    have hk := H.ltk
    have hl := Hc.lt
    refine s_X1_content_6 hp ta tc ⟨fun c' => absurd c' ?_, fun _ => ?_⟩
    · rw [H.k]; simp (disch := omega) only [nI_addz, nI_1, nI_leI, nI_ltI, nI_eq, nI_tN, nI_inI]; omega
    · rw [Hc.1, nI_1]
      have e0 : nI (sz (ctn F j)) = (1 : Int32) ↔ sz (ctn F j) = 1 := by simp (disch := omega) only [nI_z, z0, z1, z2, zm1, zI_add, zI_sub, zI_neg, zI_mul, zI_le, zI_lt, zI_eq, zI_tN, zI_inI]; omega
      rw [e0]
      refine ⟨fun c' => qV (q h Fr.rf ?_), fun c' => ?_⟩
      · have e1 : contU F = pC 1 := by
          unfold contU
          rw [← hj]
          exact ctn_one F (sz1_monic c' (ctn_hd F j)) (k + 1)
        rw [e1, ← sz1_monic c' (ctn_hd F j)]; exact Hc
      · refine ok_row hp ta t9 H (by omega) (by rw [r10]; exact hr) (fun h1 f1 H1 => ?_)
        have Hc1 := Hc.fr f1 (by simp; omega) (by simp; omega)
        have g1 := ctn_sz F j
        have g2 := bsn_le F j
        have g3 := ctn_sz F (j + 1)
        refine ok_common hp tc t9 tc (by omega) (by omega) Hc1 H1 (by omega) (by omega) (by show sz (ctn F (j + 1)) ≤ _; omega) (fun h2 f2 H2 => ?_)
        have f12 : Fr h h2 [3, 4, 5, 6, 7, 8, 9, 10, c, c + 1] := (f1.mono (by simp)).tr (f2.mono (by simp))
        refine ih (j + 1) h2 (by omega) (H.fr f12 (by simp; omega) (by simp; omega)) H2 (fun h' k1 k2 => q h' (f12.tr k1) k2)
theorem ok_content (hp : g.2.2.2.2 = true) (ta : lay a = (0, 4, 4)) (ha : 22 < a) (tc : lay c = (0, 3, 2)) (hc : 10 < c) {F : Bi} (H : DI h a F) (hr : bsn F ≤ 1800) (hT : bsn F ≤ rm (c + 1)) {Q : Hp → Prop} (q : ∀ h', Fr h h' [3, 4, 5, 6, 7, 8, 9, 10, c, c + 1] → PI h' c (contU F) → Q h') : CallV g m_X1_content (d + 5) [.ref 1, .ref a, .ref c] n h Q := by
  have o := dp_ne ta tc
  refine okV 1 rfl rfl (s_X1_content_0 hp ta tc (ok_clear hp tc (fun h1 f1 H1 => ?_)))
  refine w_cont6 hp ta ha tc hc hr hT (bsz F) 0 h1 (by omega) (H.fr f1 (by simp; omega) (by simp; omega)) H1 (fun h' k1 k2 => q h' ((f1.mono (by simp)).tr k1) k2)
theorem w_drow21 (hp : g.2.2.2.2 = true) (ta : lay a = (0, 4, 4)) (ha : 22 < a) (tc : lay c = (0, 3, 2)) (hc : 10 < c) {av : List Value} {F G : Bi} {p : Un} (hp0 : p ≠ pz) (e : F = bmul (bC p) G) (hr : bsn F ≤ 1800) {Q : Hp → Prop} : ∀ (k j : Nat) (f : Nat → Nat → Fp) (h : Hp), j + k = bsz F → DA h a (bsn F) (bsz F) f → PI h c p → (∀ l, l < j → mkP (f l) (bsn F) = bco G l) → (∀ l i, j ≤ l → f l i = cc F l i) → (∀ h', Fr h h' [3, 4, 9, 10, a, a + 1] → DI h' a G → Q h') → W_X1_divideRows g (d + 4) av (QV n Q) n 21 [some (.ref 1), some (.ref a), some (.ref c), some (.int (nI j))] [] h := by
  have o := dp_ne ta tc
  have eF : ∀ j, bco F j = pmul p (bco G j) := fun j => by rw [e, bco_Cmul]
  have sG : ∀ j, sz (bco G j) ≤ bsn F := by
    intro j
    by_cases hz : bco G j = pz
    · rw [hz, sz_z]; omega
    · have h1 := bsn_le F j
      have h2 := (sz_mul fp_dom hp0 hz).1
      have h3 := sz_pos hp0
      have h4 := eF j
      rw [h4, h2] at h1
      omega
  intro k
  induction k with
  | zero =>
    intro j f h hj H Hc hd hs q
    have hk := H.ltk
    refine s_X1_divideRows_21 hp ta tc ⟨fun _ => ok_dtrim hp ta H (fun h1 f1 H1 => qV (q h1 (f1.mono (by simp)) ?_)), fun c' => absurd ?_ c'⟩
    · have e1 : b2 f (bsn F) (bsz F) = G := b_ext fun l => by
        rw [b2_mk, bco_mk]
        split
        · exact hd l (by omega)
        · have := eF l
          rw [bsz_le F l (by omega)] at this
          rcases un_mulz this.symm with z | z
          · exact absurd z hp0
          · exact z.symm
      rw [e1] at H1; exact H1
    · rw [H.k]; simp (disch := omega) only [nI_addz, nI_1, nI_leI, nI_ltI, nI_eq, nI_tN, nI_inI]; omega
  | succ k ih =>
    intro j f h hj H Hc hd hs q
    have hk := H.ltk
    refine s_X1_divideRows_21 hp ta tc ⟨fun c' => absurd c' ?_, fun _ => ?_⟩
    · rw [H.k]; simp (disch := omega) only [nI_addz, nI_1, nI_leI, nI_ltI, nI_eq, nI_tN, nI_inI]; omega
    · refine ok_rowA hp ta t9 H (by omega) (by rw [r10]; exact hr) (fun h1 f1 H1 => ?_)
      have e2 : mkP (f j) (bsn F) = bco F j := by
        rw [mkP_cong (f' := co (bco F j)) (fun i _ => hs j i (Nat.le_refl _))]
        exact mkP_co _ (bsn_le F j)
      rw [if_pos (by omega), e2] at H1
      have Hc1 := Hc.fr f1 (by simp; omega) (by simp; omega)
      have Ha1 := H.fr f1 (by simp; omega) (by simp; omega)
      refine ok_divideExactly hp t9 tc (by omega) (by omega) (by omega) H1 Hc1 hp0 (eF j) (by have := bsn_le F j; omega) (fun h2 f2 H2 => ?_)
      have Hc2 := Hc1.fr f2 (by simp; omega) (by simp; omega)
      have Ha2 := Ha1.fr f2 (by simp; omega) (by simp; omega)
      refine ok_putRow hp ta t9 Ha2 H2 (by omega) (fun h3 f3 H3 => ?_)
      have Hc3 := Hc2.fr f3 (pout2 ta tc).1 (pout2 ta tc).2
      have f13 : Fr h h3 [3, 4, 9, 10, a, a + 1] := ((f1.mono (by simp)).tr (f2.mono (by simp))).tr (f3.mono (by simp))
      rw [nI_1]
      refine ih (j + 1) _ h3 (by omega) H3 Hc3 (fun l hl => ?_) (fun l i hl => ?_) (fun h' k1 k2 => q h' (f13.tr k1) k2)
      · by_cases el : l = j
        · rw [mkP_cong (f' := co (bco G j)) (fun i _ => if_pos el), mkP_co _ (sG j), el]
        · rw [mkP_cong (f' := f l) (fun i _ => if_neg el)]; exact hd l (by omega)
      · rw [if_neg (by omega)]; exact hs l i (by omega)
/-- all rows are divided by p -/
theorem ok_divideRows (hp : g.2.2.2.2 = true) (ta : lay a = (0, 4, 4)) (ha : 22 < a) (tc : lay c = (0, 3, 2)) (hc : 10 < c) {F G : Bi} {p : Un} (H : DI h a F) (Hc : PI h c p) (hp0 : p ≠ pz) (e : F = bmul (bC p) G) (hr : bsn F ≤ 1800) {Q : Hp → Prop} (q : ∀ h', Fr h h' [3, 4, 9, 10, a, a + 1] → DI h' a G → Q h') : CallV g m_X1_divideRows (d + 5) [.ref 1, .ref a, .ref c] n h Q := by
  have hl := Hc.lt
  have hc2 := Hc.2.1
  have hrc := rm_lt (c + 1)
  have hpp := sz_pos hp0
  have go : W_X1_divideRows g (d + 4) [.ref 1, .ref a, .ref c] (QV n Q) n 19 [some (.ref 1), some (.ref a), some (.ref c), none] [] h := s_X1_divideRows_19 hp ta tc (w_drow21 hp ta ha tc hc hp0 e hr (bsz F) 0 (cc F) h (by omega) H Hc (fun l hl => absurd hl (Nat.not_lt_zero l)) (fun l i _ => rfl) q)
  refine okV 1 rfl rfl (s_X1_divideRows_0 hp ta tc ?_)
  rw [Hc.1]
  have e0 : nI (sz p) = (1 : Int32) ↔ sz p = 1 := by simp (disch := omega) only [nI_z, z0, z1, z2, zm1, zI_add, zI_sub, zI_neg, zI_mul, zI_le, zI_lt, zI_eq, zI_tN, zI_inI]; omega
  rw [e0]
  refine ⟨fun _ => go, fun c' => ⟨zI_in (a := 0) (by omega) (by omega) (by omega), ?_⟩⟩
  rw [show (0 : Int32).toNatClampNeg = 0 from rfl, Hc.2.2 0 (by omega)]
  refine ⟨fun _ => go, fun c2 => qV (q h Fr.rf ?_)⟩
  have h1 : co p 0 = 1 := toI_inj (c2.trans toI_1.symm)
  have h2 : p = pC 1 := by rw [sz_1C (p := p) (by omega), h1]
  rw [e, h2, b_mul1] at H; exact H
/-- content and what is left -/
theorem ok_primitive (hp : g.2.2.2.2 = true) (ta : lay a = (0, 4, 4)) (ha : 22 < a) (tc : lay c = (0, 3, 2)) (hc : 10 < c) {F : Bi} (H : DI h a F) (hr : bsn F ≤ 1800) (hT : bsn F ≤ rm (c + 1)) {Q : Hp → Prop} (q : ∀ h', Fr h h' [3, 4, 5, 6, 7, 8, 9, 10, c, c + 1, a, a + 1] → DI h' a (ppB F) → PI h' c (contU F) → Q h') : CallV g m_X1_primitive (d + 6) [.ref 1, .ref a, .ref c] n h Q := by
  have o := dp_ne ta tc
  refine okV 0 rfl rfl (s_X1_primitive_0 hp ta tc (ok_content hp ta ha tc hc H hr hT (fun h1 f1 H1 => ?_)))
  have Ha1 := H.fr f1 (by simp; omega) (by simp; omega)
  refine ok_disZero hp ta Ha1 (fun z => ⟨fun _ => qV (q h1 (f1.mono (by simp)) ?_ H1), fun c' => absurd c' (by decide)⟩) (fun z => ⟨fun c' => absurd rfl c', fun _ => ?_⟩)
  · rw [ppB_z z, ← z]; exact Ha1
  · refine ok_divideRows hp ta ha tc hc Ha1 H1 (fun w => z (contU_z.mp w)) (ppB_eq F) hr (fun h2 f2 H2 => qV (q h2 ((f1.mono (by simp)).tr (f2.mono (by simp))) H2 (H1.fr f2 ?_ ?_)))
    · simp; omega
    · simp; omega
theorem ok_makeHead (hp : g.2.2.2.2 = true) (ta : lay a = (0, 4, 4)) {F : Bi} (H : DI h a F) {Q : Hp → Prop} (q : ∀ h', Fr h h' [a, a + 1] → DI h' a (bmo F) → Q h') : CallV g m_X1_makeHead (d + 3) [.ref 1, .ref a] n h Q := by
  refine okV 0 rfl rfl (s_X1_makeHead_0 hp ta (ok_disZero hp ta H (fun z => ⟨fun _ => qV (q h Fr.rf ?_), fun c' => absurd c' (by decide)⟩) (fun z => ⟨fun c' => absurd rfl c', fun _ => ok_dhead hp ta H ⟨fun c' => qV (q h Fr.rf ?_), fun c' => ok_dhead hp ta H (ok_inverse hp (ok_dscale hp ta H (fun h1 f1 H1 => qV (q h1 f1 H1))))⟩⟩)))
  · rw [z, bmo_z, ← z]; exact H
  · rw [bmo_one (show hB F = 1 from toI_inj (c'.trans toI_1.symm))]; exact H
end
