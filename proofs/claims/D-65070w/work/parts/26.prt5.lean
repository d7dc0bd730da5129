set_option maxRecDepth 100000
/-! PARTS: joined, the greatest common divisor -/
section
variable {g : GX} {d n : Nat} {h : Hp} {a b c : Nat}
theorem wd27 : wd 27 = 900 := by decide +kernel
theorem hg27 : hg 27 = 150 := by decide +kernel
theorem w_join26 (hp : g.2.2.2.2 = true) {av : List Value} {j t : Nat} {im : Nat → Fp} (ht : t ≤ 2000) (hj : j < 150) {Q : QT} : ∀ (k i : Nat) (h : Hp), i + k = t → ri h 1 18 = nI t → (∀ i, i < t → ri h 36 (i * 150 + j) = toI (im i)) → (∀ i', i' < i → ri h 37 i' = toI (im i')) → (∀ h', Fr h h' [37] → (∀ i', i' < t → ri h' 37 i' = toI (im i')) → CallV g m_X1_interpolate d [.ref 1, .ref 35, .ref 37, .int (nI t), .ref 9] n h' (fun h1 => CallV g m_X4_putRow d [.ref 27, .int (nI j), .ref 9] n h1 (fun h2 => W_X1_join g d av Q n 16 [some (.ref 1), none, some (.int (nI (j + 1))), none] [] h2))) → W_X1_join g d av Q n 26 [some (.ref 1), none, some (.int (nI j)), some (.int (nI i))] [] h := by
  intro k
  induction k with
  | zero =>
    intro i h hi Ht Him Hi q
    refine s_X1_join_26 hp ⟨fun _ => ?_, fun c' => absurd ?_ c'⟩
    · rw [Ht, nI_1]; exact q h Fr.rf (fun i' hi' => Hi i' (by omega))
    · rw [Ht]; simp (disch := omega) only [nI_addz, nI_1, nI_leI, nI_ltI, nI_eq, nI_tN, nI_inI]; omega
  | succ k ih =>
    intro i h hi Ht Him Hi q
    refine s_X1_join_26 hp ⟨fun c' => absurd c' ?_, fun _ => ?_⟩
    · rw [Ht]; simp (disch := omega) only [nI_addz, nI_1, nI_leI, nI_ltI, nI_eq, nI_tN, nI_inI]; omega
    · rw [toI_150, nI_mulz, nI_addz, nI_tN (by omega), nI_tN (by omega), nI_1, Him i (by omega)]
      refine ⟨nI_inL (by omega) (by omega), nI_inL (by omega) (by omega), fun h3 e3 => ?_⟩
      have f3 : Fr h h3 [37] := by rw [e3]; exact Fr.rf.put (by simp)
      refine ih (i + 1) h3 (by omega) (by rw [f3.gi (by decide)]; exact Ht) (fun i' hi' => by rw [f3.gi (by decide)]; exact Him i' hi') (fun i' hi' => ?_) (fun h' k1 k2 => q h' (f3.tr k1) k2)
      rw [e3, ri_wi]
      by_cases e : i' = i
      · rw [if_pos ⟨rfl, e⟩, e]
      · rw [if_neg (fun z => e z.2)]; exact Hi i' (by omega)
abbrev Ljn : List Nat := [9, 10, 27, 28, 37, 38]
theorem w_join16 (hp : g.2.2.2.2 = true) {av : List Value} {t b : Nat} {X : Nat → Nat} {im : Nat → Nat → Fp} (ht : t ≤ 1800) (hb : b < 150) (hX : ∀ i j, i < j → j < t → X i < X j) (hXP : ∀ i, i < t → X i < 2147483647) {Q : Hp → Prop} : ∀ (k j : Nat) (f : Nat → Nat → Fp) (h : Hp), j + k = b + 1 → Kp h → ri h 1 18 = nI t → ri h 1 19 = nI b → (∀ i, i < t → ri h 35 i = nI (X i)) → (∀ i j, i < t → j ≤ b → ri h 36 (i * 150 + j) = toI (im i j)) → DA h 27 t (b + 1) f → (∀ l, l < j → ∀ i, i < t → ev (mkP (f l) t) (nF (X i)) = im i l) → (∀ h' F, Fr h h' Ljn → DI h' 27 F → bsz F ≤ b + 1 → bsn F ≤ t → (∀ l, l ≤ b → ∀ i, i < t → ev (bco F l) (nF (X i)) = im i l) → Q h') → W_X1_join g (d + 4) av (QV n Q) n 16 [some (.ref 1), none, some (.int (nI j)), none] [] h := by
  intro k
  induction k with
  | zero =>
    intro j f h hj K Ht Hb Hx Him H Hd q
    refine s_X1_join_16 hp ⟨fun _ => ok_dtrim hp t27 H (fun h1 f1 H1 => qV (q h1 _ (f1.mono (by simp)) H1 ?_ ?_ (fun l hl i hi => ?_))), fun c' => absurd ?_ c'⟩
    · exact bsz_min fun l hl => by rw [b2_mk, bco_mk, if_neg (by omega)]
    · exact bsn_min fun l i hi => by rw [cc_b2, if_neg (by omega)]
    · rw [b2_mk, bco_mk, if_pos (by omega)]; exact Hd l (by omega) i hi
    · rw [Hb]; simp (disch := omega) only [nI_addz, nI_1, nI_leI, nI_ltI, nI_eq, nI_tN, nI_inI]; omega
  | succ k ih =>
    intro j f h hj K Ht Hb Hx Him H Hd q
    refine s_X1_join_16 hp ⟨fun c' => absurd c' ?_, fun _ => ?_⟩
    · rw [Hb]; simp (disch := omega) only [nI_addz, nI_1, nI_leI, nI_ltI, nI_eq, nI_tN, nI_inI]; omega
    · refine w_join26 hp (im := fun i => im i j) (by omega) (by omega) t 0 h (by omega) Ht (fun i hi => Him i j hi (by omega)) (fun i' hi' => absurd hi' (Nat.not_lt_zero i')) (fun h3 f3 H3 => ?_)
      refine ok_interpolate hp t35 t37 t9 (by decide) (by decide) (by decide) (by decide) (by decide) (by decide) (by decide) (by decide) hX hXP (by omega) (by omega) (by rw [r10]; omega) (f3.kp K) (fun i hi => by rw [f3.gi (by decide)]; exact Hx i hi) H3 (fun h4 p sp ep f4 H4 => ?_)
      have f34 : Fr h h4 [9, 10, 37, 38] := (f3.mono (by simp)).tr (f4.mono (by simp))
      refine ok_putRow hp t27 t9 (H.fr f34 (by decide) (by decide)) H4 (by omega) (fun h5 f5 H5 => ?_)
      have f35 : Fr h h5 Ljn := (f34.mono (by simp)).tr (f5.mono (by simp))
      refine ih (j + 1) _ h5 (by omega) (f35.kp K) (by rw [f35.gi (by decide)]; exact Ht) (by rw [f35.gi (by decide)]; exact Hb) (fun i hi => by rw [f35.gi (by decide)]; exact Hx i hi) (fun i j hi hj => by rw [f35.gi (by decide)]; exact Him i j hi hj) H5 (fun l hl i hi => ?_) (fun h' F k1 => q h' F (f35.tr k1))
      by_cases e : l = j
      · rw [mkP_cong (f' := co p) (fun i _ => if_pos e), mkP_co p sp, ep i hi, e]
      · rw [mkP_cong (f' := f l) (fun i _ => if_neg e)]; exact Hd l (by omega) i hi
theorem ok_join (hp : g.2.2.2.2 = true) {P1 P2 : Bi} {gm : Un} {m b t : Nat} {X : Nat → Nat} (K : Kp h) (H : Lk h P1 P2 gm m b t X) (hm : m ≤ 2147483647) (ht : t ≤ 900) (hb : b < 150) {Q : Hp → Prop} (q : ∀ h' F, Fr h h' Ljn → DI h' 27 F → bsz F ≤ b + 1 → bsn F ≤ t → (∀ l, l ≤ b → ∀ i, i < t → ev (bco F l) (nF (X i)) = co (gcdU (bat (nF (X i)) P1) (bat (nF (X i)) P2)) l * ev gm (nF (X i))) → Q h') : CallV g m_X1_join (d + 5) [.ref 1, .int (nI t)] n h Q := by
  obtain ⟨h1, h2, h3, h4, h5⟩ := H
  refine okV 2 rfl rfl (s_X1_join_0 hp ?_)
  rw [h1, nI_1]
  refine ok_open hp t27 (K.w t27) (by rw [wd27]; exact ht) (by rw [hg27]; omega) (fun h6 f6 H6 => ?_)
  refine w_join16 hp (X := X) (im := fun i j => co (gcdU (bat (nF (X i)) P1) (bat (nF (X i)) P2)) j * ev gm (nF (X i))) (by omega) hb h4 (fun i hi => by have := (h5 i hi).1; omega) (b + 1) 0 _ h6 (by omega) (f6.kp K) (by rw [f6.gi (by decide)]; exact h2) (by rw [f6.gi (by decide)]; exact h1) (fun i hi => by rw [f6.gi (by decide)]; exact (h5 i hi).2.2.2.1) (fun i j hi hj => by rw [f6.gi (by decide)]; exact (h5 i hi).2.2.2.2 j hj) H6 (fun l hl => absurd hl (Nat.not_lt_zero l)) (fun h' F k1 => q h' F ((f6.mono (by simp)).tr k1))
abbrev Lak : List Nat := [1, 3, 4, 5, 6, 7, 8, 9, 10, 11, 12, 13, 14, 17, 18, 19, 20, 21, 22, 27, 28, 29, 30, 31, 32, 35, 36, 37, 38]
theorem wd31 : wd 31 = 900 := by decide +kernel
theorem hg31 : hg 31 = 150 := by decide +kernel
theorem w_ak101 (hp : g.2.2.2.2 = true) {av : List Value} {P1 P2 : Bi} {gm bad : Un} {wn : Nat} (p1 : bprim P1) (p2 : bprim P2) (hn1 : bsn P1 ≤ 900) (hn2 : bsn P2 ≤ 900) (hk1 : bsz P1 ≤ 150) (hk2 : bsz P2 ≤ 150) (hgm : gm = gcdU (bhd P1) (bhd P2)) (hM : MG P1 P2 (gcdB P1 P2) bad) (hw : wn = min (bsn P1) (bsn P2) + sz gm - 1) (hw9 : wn ≤ 900) {Q : Int32 → Hp → Prop} : ∀ (fu m b : Nat) (X : Nat → Nat) (h : Hp), sz bad + wn + 1 ≤ m + fu → m < sz bad + wn + 1 → 0 < b → Kp h → Lk h P1 P2 gm m b 0 X → Li P1 P2 bad m b 0 → DI h 23 P1 → DI h 25 P2 → PI h 13 gm → (bsz (gcdB P1 P2) = 1 → ∀ h', Fr h h' Lak → Q 0 h') → (∀ G, isG G P1 P2 → ∀ h', Fr h h' Lak → DI h' 27 G → Q 1 h') → W_X1_alongK g (d + 6) av (QI n Q) n 101 [some (.ref 1), some (.int (nI wn)), some (.int (nI m))] [] h := by
  have h1 := prim_nz p1
  have h2 := prim_nz p2
  have hg := gcdB_is P1 P2
  have gz : gcdB P1 P2 ≠ bz := gcdB_nz h1
  have gp := prim_of_dv p1 hg.1
  have l1 := bhd_ne h1
  have gmne : gm ≠ pz := fun z => l1 (gcdU_pz.mp (hgm.symm.trans z)).1
  have sgm := sz_pos gmne
  have b1p := bsn_pos h1
  have b2p := bsn_pos h2
  have gsz := bsz_pos gz
  obtain ⟨c, hc⟩ : ∃ c, gm = pmul (bhd (gcdB P1 P2)) c := by
    have d1 : udv (bhd (gcdB P1 P2)) (bhd P1) := by
      obtain ⟨A, e⟩ := hg.1
      have e : P1 = bmul (gcdB P1 P2) A := e
      exact ⟨bhd A, by rw [e] ; rw [← e]; have := bhd_mul (gcdB P1 P2) A; rw [← e] at this; exact this⟩
    have d2 : udv (bhd (gcdB P1 P2)) (bhd P2) := by
      obtain ⟨A, e⟩ := hg.2.1
      have e : P2 = bmul (gcdB P1 P2) A := e
      exact ⟨bhd A, by have := bhd_mul (gcdB P1 P2) A; rw [← e] at this; exact this⟩
    rw [hgm]
    exact (gcdU_is _ _).2.2 _ d1 d2
  have cne : c ≠ pz := fun z => gmne (by rw [hc, z, (szmul_z _).1])
  have sc1 : sz c ≤ sz gm := by
    have := (sz_mul fp_dom (bhd_ne gz) cne).1
    have := sz_pos (bhd_ne gz)
    rw [hc]; omega
  have sg1 := (bdv_bsz hg.1 h1).2
  have sg2 := (bdv_bsz hg.2.1 h2).2
  have szcg : ∀ j, sz (pmul c (bco (gcdB P1 P2) j)) ≤ wn := by
    intro j
    have h3 := sz_min (szle_mul (sz_le c) (sz_le (bco (gcdB P1 P2) j)))
    have h4 := bsn_le (gcdB P1 P2) j
    omega
  intro fu
  induction fu with
  | zero => intro m b X h hf hm; exact absurd hf (by omega)
  | succ fu ih =>
    intro m b X h hf hm hb0 K H HI H23 H25 H13 q0 q1
    refine s_X1_alongK_101 hp (ok_look hp h1 h2 hk1 hk2 hM (by omega) hm (Nat.zero_le _) H HI H23 H25 H13 (fun h3 m' b' t' X' f3 km1 km2 km3 kt ke H3 HI3 => ?_))
    have f3' : Fr h h3 Lak := f3.mono (by simp)
    have hmm := km2 (by omega) hb0
    have hbs := hM.2.1
    have e0 : ri h3 1 19 = (0 : Int32) ↔ b' = 0 := by have := H3.2.2.1; rw [H3.1]; simp (disch := omega) only [nI_z, z0, z1, z2, zm1, zI_add, zI_sub, zI_neg, zI_mul, zI_le, zI_lt, zI_eq, zI_tN, zI_inI]; omega
    rw [e0]
    refine ⟨fun c1 => ?_, fun c1 => qI (q0 (by have := HI3.1; omega) h3 f3')⟩
    have ht' : t' = wn := ke.resolve_right c1
    subst ht'
    obtain ⟨x1, x2, x3, x4, x5⟩ := id H3
    have x50 := x5 0 (by omega)
    have hb' : b' < 150 := by
      have z := (bat_sz h1).mpr x50.2.1
      have b1ne : bat (nF (X' 0)) P1 ≠ pz := fun w => by rw [w, sz_z] at z; have := bsz_pos h1; omega
      have := gcdU_szl (q := bat (nF (X' 0)) P2) b1ne
      have := x50.2.2.1
      omega
    have H233 := H23.fr f3 (by decide) (by decide)
    have H253 := H25.fr f3 (by decide) (by decide)
    have H133 := H13.fr f3 (by decide) (by decide)
    refine ok_join hp (f3.kp K) H3 (by omega) hw9 hb' (fun h4 F f4 H4 sF1 sF2 eF => ?_)
    have f4' : Fr h h4 Lak := f3'.tr (f4.mono (by simp))
    have H234 := H233.fr f4 (by decide) (by decide)
    have H254 := H253.fr f4 (by decide) (by decide)
    have H134 := H133.fr f4 (by decide) (by decide)
    refine ok_primitive hp t27 (by decide) t17 (by decide) H4 (by omega) (by rw [r18]; omega) (fun h5 f5 H5 _ => ?_)
    have f5' : Fr h h5 Lak := f4'.tr (f5.mono (by simp))
    have H235 := H234.fr f5 (by decide) (by decide)
    have H255 := H254.fr f5 (by decide) (by decide)
    have H135 := H134.fr f5 (by decide) (by decide)
    have Frow : bco F b' ≠ pz := fun z => by
      have h6 := eF b' (Nat.le_refl _) 0 (by omega)
      rw [z, ev_z] at h6
      have gne := (mg_dv (P2 := P2) h1 x50.2.1).1
      have h7 : co (gcdU (bat (nF (X' 0)) P1) (bat (nF (X' 0)) P2)) b' = 1 := by
        have := (gcdU_hd (bat (nF (X' 0)) P1) (bat (nF (X' 0)) P2)).resolve_left gne
        unfold hd at this
        rw [x50.2.2.1] at this; exact this
      have h8 : ev gm (nF (X' 0)) ≠ 0 := by
        have : udv gm (bhd P1) := by rw [hgm]; exact (gcdU_is _ _).1
        obtain ⟨s, es⟩ := this
        have es : bhd P1 = pmul gm s := es
        have h9 := x50.2.1
        rw [es, ev_mul] at h9
        intro w
        rw [w] at h9
        exact h9 (by grind)
      rw [h7] at h6
      exact h8 (by grind)
    have Fne : F ≠ bz := fun z => Frow (by rw [z, bco_z])
    have Fsz : bsz F = b' + 1 := by
      have : b' < bsz F := Nat.not_le.mp fun z => Frow (bsz_le F b' z)
      omega
    have nxt : bsz (gcdB P1 P2) < b' + 1 → ∀ h6, Fr h h6 Lak → ri h6 1 19 = nI b' → DI h6 23 P1 → DI h6 25 P2 → PI h6 13 gm → W_X1_alongK g (d + 6) av (QI n Q) n 174 [some (.ref 1), some (.int (nI t')), some (.int (nI m'))] [] h6 := by
      intro hlt h6 f6 e6 H236 H256 H136
      refine s_X1_alongK_174 hp (fun h7 e7 => ?_)
      have f7 : Fr h6 h7 [1] := by rw [e7]; exact Fr.rf.put (by simp)
      have f7' : Fr h h7 Lak := f6.tr (f7.mono (by simp))
      refine ih m' b' X' h7 (by omega) km3 (by omega) (f7'.kp K) ⟨by rw [e7, ri_ne' (by decide)]; exact e6, by rw [e7, ri_same]; rfl, x3, fun i j _ hj => absurd hj (Nat.not_lt_zero j), fun i hi => absurd hi (Nat.not_lt_zero i)⟩ ⟨HI3.1, HI3.2.1, fun z => absurd z (by omega)⟩ (H236.fr f7 (by decide) (by decide)) (H256.fr f7 (by decide) (by decide)) (H136.fr f7 (by decide) (by decide)) (fun z h' k1 => q0 z h' (f7'.tr k1)) (fun G hG h' k1 k2 => q1 G hG h' (f7'.tr k1) k2)
    have e195 : ri h5 1 19 = nI b' := by rw [f5.gi (by decide), f4.gi (by decide)]; exact x1
    have ppne := ppB_ne Fne
    -- when the degree is the least one, the divisor is found
    have good : bsz (gcdB P1 P2) = b' + 1 → isG (ppB F) P1 P2 := by
      intro hbg
      have eFg : F = bmul (bC c) (gcdB P1 P2) := b_ext fun l => by
        rw [bco_Cmul]
        by_cases hl : l ≤ b'
        · refine interp_uniq fp_dom (n := t') (x := fun i => nF (X' i)) (fun i j hi hj e => ?_) (fun i hi => ?_) (Nat.le_trans (bsn_le F l) sF2) (szcg l)
          · have g1 := (x5 i hi).1
            have g2 := (x5 j hj).1
            have e := nF_inj (by omega) (by omega) e
            rcases Nat.lt_trichotomy i j with w | w | w
            · have := x4 i j w hj; omega
            · exact w
            · have := x4 j i w hi; omega
          · show ev (bco F l) (nF (X' i)) = _
            rw [eF l hl i hi]
            exact mg_img h1 (x5 i hi).2.1 hc (by rw [(x5 i hi).2.2.1, hbg]) l
        · rw [bsz_le F l (by omega), bsz_le (gcdB P1 P2) l (by omega), (szmul_z c).1]
      rw [eFg]
      exact pp_cg hg gp cne
    refine ok_divides hp t27 t23 t31 (by decide) (by decide) (by decide) (by decide) (by decide) (by decide) (by decide) (by decide) (f5'.kp K) H5 H235 ppne hn1 (by rw [wd31]; exact hn1) (by rw [hg31]; exact hk1) (fun G eG h6 f6 _ => ⟨fun c' => absurd c' (by decide), fun _ => ?_⟩) (fun nd h6 f6 => ⟨fun _ => ?_, fun c' => absurd rfl c'⟩)
    · have f6' : Fr h h6 Lak := f5'.tr (f6.mono (by simp))
      have H256 := H255.fr f6 (by decide) (by decide)
      have H236 := H235.fr f6 (by decide) (by decide)
      have H136 := H135.fr f6 (by decide) (by decide)
      have H56 := H5.fr f6 (by decide) (by decide)
      refine ok_divides hp t27 t25 t31 (by decide) (by decide) (by decide) (by decide) (by decide) (by decide) (by decide) (by decide) (f6'.kp K) H56 H256 ppne hn2 (by rw [wd31]; exact hn2) (by rw [hg31]; exact hk2) (fun G2 eG2 h7 f7 _ => ⟨fun c' => absurd c' (by decide), fun _ => qI (q1 (ppB F) ?_ h7 (f6'.tr (f7.mono (by simp))) (H56.fr f7 (by decide) (by decide)))⟩) (fun nd h7 f7 => ⟨fun _ => ?_, fun c' => absurd rfl c'⟩)
      · have hd := hg.2.2 (ppB F) ⟨G, eG⟩ ⟨G2, eG2⟩
        have h8 := (bdv_bsz hd gz).1
        rw [ppB_bsz, Fsz] at h8
        exact good (by have := HI3.1; omega)
      · refine nxt ?_ h7 (f6'.tr (f7.mono (by simp))) (by rw [f7.gi (by decide), f6.gi (by decide)]; exact e195) (H236.fr f7 (by decide) (by decide)) (H256.fr f7 (by decide) (by decide)) (H136.fr f7 (by decide) (by decide))
        have := HI3.1
        apply Nat.not_le.mp
        intro hle
        exact nd (good (by omega)).2.1
    · refine nxt ?_ h6 (f5'.tr (f6.mono (by simp))) (by rw [f6.gi (by decide)]; exact e195) (H235.fr f6 (by decide) (by decide)) (H255.fr f6 (by decide) (by decide)) (H135.fr f6 (by decide) (by decide))
      have := HI3.1
      apply Nat.not_le.mp
      intro hle
      exact nd (good (by omega)).1
theorem ok_alongK (hp : g.2.2.2.2 = true) {P1 P2 : Bi} (p1 : bprim P1) (p2 : bprim P2) (hn1 : bsn P1 ≤ 900) (hn2 : bsn P2 ≤ 900) (hmin : 2 * min (bsn P1) (bsn P2) ≤ 901) (K : Kp h) (H23 : DI h 23 P1) (H25 : DI h 25 P2) {Q : Int32 → Hp → Prop} (q0 : bsz (gcdB P1 P2) = 1 → ∀ h', Fr h h' Lak → Q 0 h') (q1 : ∀ G, isG G P1 P2 → ∀ h', Fr h h' Lak → DI h' 27 G → Q 1 h') : CallI g m_X1_alongK (d + 7) [.ref 1] n h Q := by
  have h1 := prim_nz p1
  have h2 := prim_nz p2
  have k1 := bsz_pos h1
  have k2 := bsz_pos h2
  have b1 := bsn_pos h1
  have b2' := bsn_pos h2
  have hk1 := H23.ltk
  have hk2 := H25.ltk
  refine okI 2 rfl rfl (s_X1_alongK_0 hp ?_)
  rw [H23.k, nI_sub1 k1]
  refine ok_row hp t23 t9 H23 (by omega) (by rw [r10]; omega) (fun h3 f3 H3 => ?_)
  have H253 := H25.fr f3 (by decide) (by decide)
  rw [H253.k, nI_sub1 k2]
  refine ok_row hp t25 t11 H253 (by omega) (by rw [r12]; omega) (fun h4 f4 H4 => ?_)
  have H94 : PI h4 9 (bhd P1) := H3.fr f4 (by decide) (by decide)
  have H114 : PI h4 11 (bhd P2) := H4
  have s1 : sz (bhd P1) ≤ bsn P1 := bsn_le P1 _
  have s2 : sz (bhd P2) ≤ bsn P2 := bsn_le P2 _
  have s3 := gcdU_szl (q := bhd P2) (bhd_ne h1)
  have s4 := gcdU_szr (p := bhd P1) (bhd_ne h2)
  have gne : gcdU (bhd P1) (bhd P2) ≠ pz := fun z => bhd_ne h1 (gcdU_pz.mp z).1
  have s5 := sz_pos gne
  refine ok_common hp t9 t11 t13 (by decide) (by decide) H94 H114 (by omega) (by omega) (by rw [r14]; omega) (fun h5 f5 H5 => ?_)
  have f35 : Fr h h5 [3, 4, 5, 6, 7, 8, 9, 10, 11, 12, 13, 14] := ((f3.mono (by simp)).tr (f4.mono (by simp))).tr (f5.mono (by simp))
  have H235 := H23.fr f35 (by decide) (by decide)
  have H255 := H25.fr f35 (by decide) (by decide)
  rw [H235.n, H255.n]
  refine ok_minN hp (by omega) (by omega) (fun h6 e6 h7 e7 => ?_)
  have e8 : nI (min (bsn P1) (bsn P2)) + ri h5 13 1 - 1 = nI (min (bsn P1) (bsn P2) + sz (gcdU (bhd P1) (bhd P2)) - 1) := by rw [H5.1, nI_addz, nI_sub1 (by omega)]
  rw [e8]
  have f6 : Fr h5 h6 [1] := by rw [e6]; exact Fr.rf.put (by simp)
  have f7 : Fr h5 h7 [1] := by rw [e7]; exact f6.put (by simp)
  have f37 : Fr h h7 Lak := (f35.mono (by simp)).tr (f7.mono (by simp))
  obtain ⟨bad, hM⟩ := mg_ex h1 h2 hn1 hn2 hk1 hk2
  have gbs := (bdv_bsz (gcdB_is P1 P2).1 h1).1
  refine w_ak101 hp p1 p2 hn1 hn2 hk1 hk2 rfl hM rfl (by omega) (sz bad + (min (bsn P1) (bsn P2) + sz (gcdU (bhd P1) (bhd P2)) - 1) + 1) 0 150 (fun _ => 0) h7 (by omega) (by omega) (by omega) (f37.kp K) ⟨by rw [e7, ri_ne' (by decide), e6, ri_same]; rfl, by rw [e7, ri_same]; rfl, Nat.le_refl _, fun i j _ hj => absurd hj (Nat.not_lt_zero j), fun i hi => absurd hi (Nat.not_lt_zero i)⟩ ⟨by omega, fun _ l hl => absurd hl (Nat.not_lt_zero l), fun z => absurd z (by omega)⟩ (H235.fr f7 (by decide) (by decide)) (H255.fr f7 (by decide) (by decide)) (H5.fr f7 (by decide) (by decide)) (fun z h' k1 => q0 z h' (f37.tr k1)) (fun G hG h' k1 k2 => q1 G hG h' (f37.tr k1) k2)
end
