set_option maxRecDepth 100000
/-! PARTS: the greatest common divisor -/
theorem prim1_C {g : Bi} (hp : bprim g) (h : bsz g ≤ 1) : ∃ c, c ≠ 0 ∧ g = bC (pC c) := by
  have e := bsz1_C h
  have hu : udv (bco g 0) (pC 1) := by
    refine hp (bco g 0) (fun j => ?_)
    show udv (bco g 0) (bco g j)
    by_cases hj : j = 0
    · rw [hj]; letI := plRing Fp; exact dv_refl _
    · rw [bsz_le g j (by omega)]; exact ⟨pz, (szmul_z _).1.symm⟩
  obtain ⟨s, es⟩ := hu
  have es : (pC 1 : Un) = pmul (bco g 0) s := es
  exact unit_C (V := bC s) (by rw [e, b_CC, ← es])
theorem isG_unit {G P1 P2 : Bi} (hg : isG G P1 P2) (hp : bprim G) (h : bsz G ≤ 1) : isG (bC (pC 1)) P1 P2 := by
  obtain ⟨c, hc, e⟩ := prim1_C hp h
  have e2 : G = bsc c (bC (pC 1)) := by rw [e]; unfold bsc; rw [b_mulc, b_mul1]
  refine isG_assoc hg ?_ ?_
  · rw [e2]; exact (sc_dv hc _).2
  · rw [e2]; exact (sc_dv hc _).1
section
variable {g : GX} {d n : Nat} {h : Hp} {a b c : Nat}
theorem wd23 : wd 23 = 900 := by decide +kernel
theorem hg23 : hg 23 = 150 := by decide +kernel
theorem wd25 : wd 25 = 900 := by decide +kernel
theorem hg25 : hg 25 = 150 := by decide +kernel
theorem wd33 : wd 33 = 900 := by decide +kernel
theorem hg33 : hg 33 = 150 := by decide +kernel
/-- cells of Parts that may change -/
abbrev Lpt : List Nat := [1, 3, 4, 5, 6, 7, 8, 9, 10, 11, 12, 13, 14, 15, 16, 17, 18, 19, 20, 21, 22, 23, 24, 25, 26, 27, 28, 29, 30, 31, 32, 33, 34, 35, 36, 37, 38]
theorem DI.C {h : Hp} {a : Nat} {p : Un} {f : Nat → Nat → Fp} (hp : p ≠ pz) (H : DA h a (sz p) 1 f) (e : ∀ i, f 0 i = co p i) : DI h a (bC p) := by
  refine DI.of H (cc_ext fun j i => ?_) (bsn_C p) (bsz_C hp)
  rw [cc_C, cc_b2]
  by_cases hj : j = 0
  · rw [if_pos hj]
    by_cases hi : i < sz p
    · rw [if_pos (by omega), hj, e i]
    · rw [if_neg (by omega), sz_le p i (by omega)]
  · rw [if_neg hj, if_neg (by omega)]
theorem Lpt_out {a : Nat} (h : 38 < a) : a ∉ Lpt ∧ a + 1 ∉ Lpt := by
  constructor <;> (simp; omega)
theorem ok_bcommon (hp : g.2.2.2.2 = true) (ta : lay a = (0, 4, 4)) (tb : lay b = (0, 4, 4)) (tc : lay c = (0, 4, 4)) (ha : 38 < a) (hb : 38 < b) (hc : 38 < c) (hac : a ≠ c) (hbc : b ≠ c) (K : Kp h) {A B : Bi} (Ha : DI h a A) (Hb : DI h b B) (nA : bsn A ≤ 900) (nB : bsn B ≤ 900) (hmin : 2 * min (bsn (ppB A)) (bsn (ppB B)) ≤ 901) (c1 : bsn A ≤ wd c) (c2 : bsn B ≤ wd c) (c3 : bsz A ≤ hg c) (c4 : bsz B ≤ hg c) {Q : Hp → Prop} (q : ∀ h', Fr h h' (c :: (c + 1) :: Lpt) → DI h' c (gcdB A B) → Q h') : CallV g m_X1_common (d + 8) [.ref 1, .ref a, .ref b, .ref c] n h Q := by
  have oa := dout2 tc ta (Ne.symm hac)
  have ob := dout2 tc tb (Ne.symm hbc)
  have kA := Ha.ltk
  have kB := Hb.ltk
  have hwc := wd_le c
  have zc : ∀ (h : Hp) (as : Nat) (F : Bi), lay as = (0, 4, 4) → as ≠ c → DI h as F → bsn F ≤ wd c → bsz F ≤ hg c → ri h c 0 = nI (wd c) → (∀ h', Fr h h' (c :: (c + 1) :: Lpt) → DI h' c (bmo F) → Q h') → W_X1_common g (d + 7) [.ref 1, .ref a, .ref b, .ref c] (QV n Q) n 27 [some (.ref 1), none, none, some (.ref c)] [.ref as, .ref c] h := by
    intro h as F tas hasc Has f1 f2 hw q'
    refine s_X1_common_27 hp tc tas tc (ok_dcopy hp tc tas (Ne.symm hasc) hw Has f1 f2 (fun h1 g1 H1 => ?_))
    refine ok_makeHead hp tc H1 (fun h2 g2 H2 => qV (q' h2 ((g1.mono (by simp)).tr (g2.mono (by simp))) H2))
  have last : ∀ (h7 : Hp) (F : Bi), Fr h h7 (c :: (c + 1) :: Lpt) → DI h7 c F → bmo F = gcdB A B → W_X1_common g (d + 7) [.ref 1, .ref a, .ref b, .ref c] (QV n Q) n 168 [some (.ref 1), none, none, some (.ref c)] [] h7 := by
    intro h7 F f7 H7 e
    refine s_X1_common_168 hp tc (ok_makeHead hp tc H7 (fun h8 f8 H8 => qV (q h8 (f7.tr (f8.mono (by simp))) ?_)))
    rw [e] at H8; exact H8
  refine okV 0 rfl rfl (s_X1_common_0 hp ta tb tc (ok_disZero hp ta Ha (fun zA => ⟨fun _ => ?_, fun c' => absurd c' (by decide)⟩) (fun zA => ⟨fun c' => absurd rfl c', fun _ => ok_disZero hp tb Hb (fun zB => ⟨fun c' => absurd c' (by decide), fun _ => ?_⟩) (fun zB => ⟨fun _ => ?_, fun c' => absurd rfl c'⟩)⟩)))
  · refine s_X1_common_14 hp ta tb tc (ok_disZero hp ta Ha (fun _ => ⟨fun c' => absurd c' (by decide), fun _ => ?_⟩) (fun z => absurd zA z))
    refine zc h b B tb hbc Hb c2 c4 (K.w tc) (fun h' k1 k2 => q h' k1 ?_)
    rw [zA, gcdB_zl]; exact k2
  · refine s_X1_common_14 hp ta tb tc (ok_disZero hp ta Ha (fun z => absurd z zA) (fun _ => ⟨fun _ => ?_, fun c' => absurd rfl c'⟩))
    refine zc h a A ta hac Ha c1 c3 (K.w tc) (fun h' k1 k2 => q h' k1 ?_)
    rw [zB, gcdB_zr]; exact k2
  · refine ok_dcopy hp t23 ta (by omega) (K.w t23) Ha (by rw [wd23]; exact nA) (by rw [hg23]; exact kA) (fun h1 f1 H1 => ?_)
    refine ok_dcopy hp t25 tb (by omega) ((f1.kp K).w t25) (Hb.fr f1 (by simp; omega) (by simp; omega)) (by rw [wd25]; exact nB) (by rw [hg25]; exact kB) (fun h2 f2 H2 => ?_)
    have f12 : Fr h h2 Lpt := (f1.mono (by simp)).tr (f2.mono (by simp))
    refine ok_primitive hp t23 (by decide) t15 (by decide) (H1.fr f2 (by decide) (by decide)) (by omega) (by rw [r16]; omega) (fun h3 f3 H3 H3c => ?_)
    have f13 : Fr h h3 Lpt := f12.tr (f3.mono (by simp))
    refine ok_primitive hp t25 (by decide) t13 (by decide) (H2.fr f3 (by decide) (by decide)) (by omega) (by rw [r14]; omega) (fun h4 f4 H4 H4c => ?_)
    have f14 : Fr h h4 Lpt := f13.tr (f4.mono (by simp))
    have H3c4 := H3c.fr f4 (by decide) (by decide)
    have sA := contU_sz zA
    have sB := contU_sz zB
    have hsA : contU A ≠ pz := fun z => zA (contU_z.mp z)
    have sG := gcdU_szl (q := contU B) hsA
    have gne : gcdU (contU A) (contU B) ≠ pz := fun z => hsA (gcdU_pz.mp z).1
    refine ok_common hp t15 t13 t15 (by decide) (by decide) H3c4 H4c (by omega) (by omega) (by rw [r16]; omega) (fun h5 f5 H5 => ?_)
    have f15 : Fr h h5 Lpt := f14.tr (f5.mono (by simp))
    have H35 := (H3.fr f4 (by decide) (by decide)).fr f5 (by decide) (by decide)
    have H45 := H4.fr f5 (by decide) (by decide)
    have pA := ppB_prim zA
    have pB := ppB_prim zB
    have iG := gcdB_is (ppB A) (ppB B)
    have pG := prim_of_dv pA iG.1
    have gz := prim_nz pG
    have szk1 := bsz_pos (ppB_ne zA)
    have szk2 := bsz_pos (ppB_ne zB)
    have lA := H35.ltk
    have lB := H45.ltk
    have nA' := ppB_bsn A
    have nB' := ppB_bsn B
    -- no divisor with k
    have j147 : bsz (gcdB (ppB A) (ppB B)) ≤ 1 → ∀ h6, Fr h h6 Lpt → PI h6 15 (gcdU (contU A) (contU B)) → W_X1_common g (d + 7) [.ref 1, .ref a, .ref b, .ref c] (QV n Q) n 147 [some (.ref 1), none, none, some (.ref c)] [] h6 := by
      intro hle h6 f6 H6
      refine s_X1_common_147 hp tc ?_
      rw [H6.1]
      have hhg : 1 ≤ hg c := by have := bsz_pos zA; omega
      refine ok_open (K := 1) hp tc ((f6.kp K).w tc) (by omega) hhg (fun h7 f7 H7 => ?_)
      refine ok_putRow (j := 0) hp tc t15 H7 (H6.fr f7 (by simp; omega) (by simp; omega)) (by omega) (fun h8 f8 H8 => ?_)
      have f68 : Fr h h8 (c :: (c + 1) :: Lpt) := ((f6.mono (fun x hx => List.mem_cons_of_mem _ (List.mem_cons_of_mem _ hx))).tr (f7.mono (by simp))).tr (f8.mono (by simp))
      refine last h8 (bC (gcdU (contU A) (contU B))) f68 (DI.C gne H8 (fun i => if_pos rfl)) ?_
      have h9 := gcd_parts zA zB (isG_unit iG pG hle)
      rw [b_mulc, b_mul1] at h9
      exact gcdB_mo h9
    rw [H35.k, H45.k]
    have e1 : nI (bsz (ppB A)) ≤ (1 : Int32) ↔ bsz (ppB A) ≤ 1 := by simp (disch := omega) only [nI_z, z0, z1, z2, zm1, zI_add, zI_sub, zI_neg, zI_mul, zI_le, zI_lt, zI_eq, zI_tN, zI_inI]; omega
    have e2 : nI (bsz (ppB B)) ≤ (1 : Int32) ↔ bsz (ppB B) ≤ 1 := by simp (disch := omega) only [nI_z, z0, z1, z2, zm1, zI_add, zI_sub, zI_neg, zI_mul, zI_le, zI_lt, zI_eq, zI_tN, zI_inI]; omega
    rw [e1, e2]
    refine ⟨fun c' => j147 ?_ h5 f15 H5, fun c' => ⟨fun c' => j147 ?_ h5 f15 H5, fun c' => ?_⟩⟩
    · have := (bdv_bsz iG.1 (ppB_ne zA)).1; omega
    · have := (bdv_bsz iG.2.1 (ppB_ne zB)).1; omega
    · refine ok_alongK hp pA pB (by omega) (by omega) hmin (f15.kp K) H35 H45 (fun hle h6 f6 => ⟨fun _ => ?_, fun c2 => absurd rfl c2⟩) (fun G hG h6 f6 H6 => ⟨fun c2 => absurd c2 (by decide), fun _ => ?_⟩)
      · exact j147 (by omega) h6 (f15.tr (f6.mono (by simp))) (H5.fr f6 (by decide) (by decide))
      · have f16 : Fr h h6 Lpt := f15.tr (f6.mono (by simp))
        have dA := bdv_bsz hG.1 (ppB_ne zA)
        have eA : bsz (ppB A) = bsz A := ppB_bsz A
        have hfin := gcd_parts zA zB hG
        have dF := bdv_bsz hfin.1 zA
        have Gne : G ≠ bz := fun z => ppB_ne zA (by have := hG.1; rw [z] at this; exact bdv_of_z this)
        refine ok_dcopy hp tc t27 (by omega) ((f16.kp K).w tc) H6 (by omega) (by omega) (fun h7 f7 H7 => ?_)
        have H57 := (H5.fr f6 (by decide) (by decide)).fr f7 (by simp; omega) (by simp; omega)
        have f17 : Fr h h7 (c :: (c + 1) :: Lpt) := (f16.mono (fun x hx => List.mem_cons_of_mem _ (List.mem_cons_of_mem _ hx))).tr (f7.mono (by simp))
        have hsum := bsn_mul (bC_ne gne) Gne
        rw [bsn_C] at hsum
        have := sz_pos gne
        have := bsn_pos Gne
        refine ok_timesPoly hp tc t15 t33 (by omega) ((f17.kp K).w t33) H7 H57 (by rw [wd33]; omega) (by rw [hg33]; omega) (by omega) (fun h8 f8 H8 => ?_)
        exact last h8 _ (f17.tr (f8.mono (by simp))) H8 (gcdB_mo hfin)
end
