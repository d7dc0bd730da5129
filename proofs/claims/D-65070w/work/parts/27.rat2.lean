set_option maxRecDepth 100000
/-! RATIOS: their methods, reckoned -/
theorem bsn_mul_le {F G : Bi} : bsn (bmul F G) ≤ bsn F + bsn G - 1 := by
  by_cases h1 : F = bz
  · rw [h1, b_mulz, bsn_z]; omega
  · by_cases h2 : G = bz
    · rw [h2, b_mulz', bsn_z]; omega
    · rw [bsn_mul h1 h2]; omega
theorem bsz_mul_le {F G : Bi} : bsz (bmul F G) ≤ bsz F + bsz G - 1 := by
  by_cases h1 : F = bz
  · rw [h1, b_mulz, bsz_z]; omega
  · by_cases h2 : G = bz
    · rw [h2, b_mulz', bsz_z]; omega
    · rw [(bsz_mul h1 h2).1]; omega
theorem bsn_add_le (F G : Bi) : bsn (badd F G) ≤ max (bsn F) (bsn G) := bsn_min fun j i hi => by rw [cc_add, cc_out (F := F) (by omega), cc_out (F := G) (by omega)]; grind
theorem bsz_add_le (F G : Bi) : bsz (badd F G) ≤ max (bsz F) (bsz G) := bsz_min fun j hj => pl_ext fun i => by
  rw [co_z]
  show cc (badd F G) j i = 0
  rw [cc_add, cc_out (F := F) (by omega), cc_out (F := G) (by omega)]; grind
theorem bsn_sc_le (c : Fp) (F : Bi) : bsn (bsc c F) ≤ bsn F := bsn_min fun j i hi => by rw [cc_sc, cc_out (by omega)]; grind
theorem bsz_sc_le (c : Fp) (F : Bi) : bsz (bsc c F) ≤ bsz F := bsz_min fun j hj => pl_ext fun i => by
  rw [co_z]
  show cc (bsc c F) j i = 0
  rw [cc_sc, cc_out (by omega)]; grind
/-- numerator and denominator of a sum (0), difference (1), product (2), quotient (3) -/
noncomputable def rkN (op : Nat) (T1 B1 T2 B2 : Bi) : Bi := if op < 2 then badd (bmul T1 B2) (bsc (if op = 0 then 1 else -1) (bmul T2 B1)) else bmul T1 (if op = 2 then T2 else B2)
noncomputable def rkD (op : Nat) (_T1 B1 T2 B2 : Bi) : Bi := if op < 2 then bmul B1 B2 else bmul B1 (if op = 2 then B2 else T2)
section
variable {g : GX} {d n : Nat} {h : Hp} {a b c : Nat}
theorem RI.fr {h h' : Hp} {a : Nat} {T B : Bi} {L : List Nat} (H : RI h a T B) (f : Fr h h' L) (o1 : a + 1 ∉ L) (o2 : a + 2 ∉ L) (o3 : a + 3 ∉ L) (o4 : a + 4 ∉ L) : RI h' a T B := ⟨H.1.fr f o1 o2, H.2.fr f o3 o4⟩
/-- a ratio's cells -/
abbrev Lra (a : Nat) : List Nat := [a + 1, a + 2, a + 3, a + 4]
theorem ok_rset (hp : g.2.2.2.2 = true) (ta : lay a = (0, 6, 2)) (K : Kp h) {v : Fp} {Q : Hp → Prop} (q : ∀ h', Fr h h' (Lra a) → RI h' a (bC (pC v)) (bC (pC 1)) → Q h') : CallV g m_X6_set (d + 3) [.ref a, .int (toI v)] n h Q := by
  have t1 := lf_6_0 ta
  have t3 := lf_6_1 ta
  have w := rt_w ta
  refine okV 0 rfl rfl (s_X6_set_0 hp ta (ok_dset hp t1 (K.w t1) (by omega) (by omega) (fun h1 f1 H1 => ?_)))
  refine ok_dset (v := 1) hp t3 ((f1.kp K).w t3) (by omega) (by omega) (fun h2 f2 H2 => qV (q h2 ((f1.mono (by simp)).tr (f2.mono (by simp))) ⟨H1.fr f2 (by simp) (by simp), H2⟩))
theorem ok_rcopy (hp : g.2.2.2.2 = true) (ta : lay a = (0, 6, 2)) (tb : lay b = (0, 6, 2)) (hab : a ≠ b) (K : Kp h) {T B : Bi} (H : RI h b T B) {Q : Hp → Prop} (q : ∀ h', Fr h h' (Lra a) → RI h' a T B → Q h') : CallV g m_X6_copy (d + 2) [.ref a, .ref b] n h Q := by
  have t1 := lf_6_0 ta
  have t3 := lf_6_1 ta
  have s1 := lf_6_0 tb
  have s3 := lf_6_1 tb
  have wa := rt_w ta
  have wb := rt_w tb
  have far := rt_far ta tb hab
  have n1 := H.1.nl
  have n2 := H.1.kl
  have n3 := H.2.nl
  have n4 := H.2.kl
  refine okV 0 rfl rfl (s_X6_copy_0 hp ta tb (ok_dcopy hp t1 s1 (by omega) (K.w t1) H.1 (by omega) (by omega) (fun h1 f1 H1 => ?_)))
  refine ok_dcopy hp t3 s3 (by omega) ((f1.kp K).w t3) (H.2.fr f1 (by simp; omega) (by simp; omega)) (by omega) (by omega) (fun h2 f2 H2 => qV (q h2 ((f1.mono (by simp)).tr (f2.mono (by simp))) ⟨H1.fr f2 (by simp) (by simp), H2⟩))
theorem ok_risZero (hp : g.2.2.2.2 = true) (ta : lay a = (0, 6, 2)) {T B : Bi} (H : RI h a T B) {Q : Int32 → Hp → Prop} (q1 : T = bz → Q 1 h) (q0 : T ≠ bz → Q 0 h) : CallI g m_X6_isZero (d + 1) [.ref a] n h Q :=
  okI 0 rfl rfl (s_X6_isZero_0 hp ta (ok_disZero hp (lf_6_0 ta) H.1 (fun z => ⟨Or.inr rfl, qI (q1 z)⟩) (fun z => ⟨Or.inl rfl, qI (q0 z)⟩)))
theorem ok_isPoly (hp : g.2.2.2.2 = true) (ta : lay a = (0, 6, 2)) {T B : Bi} (H : RI h a T B) {Q : Int32 → Hp → Prop} (q1 : bsn B = 1 → bsz B = 1 → Q 1 h) (q0 : ¬ (bsn B = 1 ∧ bsz B = 1) → Q 0 h) : CallI g m_X6_isPolynomial d [.ref a] n h Q := by
  have ln := H.2.ltn
  have lk := H.2.ltk
  refine okI 0 rfl rfl (s_X6_isPolynomial_0 hp ta ?_)
  rw [H.2.n, H.2.k]
  have e1 : nI (bsn B) = (1 : Int32) ↔ bsn B = 1 := by simp (disch := omega) only [nI_z, z0, z1, z2, zm1, zI_add, zI_sub, zI_neg, zI_mul, zI_le, zI_lt, zI_eq, zI_tN, zI_inI]; omega
  have e2 : nI (bsz B) = (1 : Int32) ↔ bsz B = 1 := by simp (disch := omega) only [nI_z, z0, z1, z2, zm1, zI_add, zI_sub, zI_neg, zI_mul, zI_le, zI_lt, zI_eq, zI_tN, zI_inI]; omega
  rw [e1, e2]
  exact ⟨fun c => qI (q0 (fun z => c z.1)), fun c => ⟨fun c2 => qI (q0 (fun z => c2 z.2)), fun c2 => qI (q1 c c2)⟩⟩
theorem Lrd_out {a : Nat} (h : 46 < a) : a ∉ Lrd := by
  simp only [Lrd, List.mem_cons, List.not_mem_nil, or_false]; omega
theorem ok_reckon (hp : g.2.2.2.2 = true) (ta : lay a = (0, 6, 2)) (tb : lay b = (0, 6, 2)) (tc : lay c = (0, 6, 2)) (K : Kp h) {op : Nat} (ho : op < 4) {T1 B1 T2 B2 : Bi} (Ha : RI h a T1 B1) (Hb : RI h b T2 B2) (hB1 : B1 ≠ bz) (hB2 : B2 ≠ bz) (hT2 : op = 3 → T2 ≠ bz) {Q : Int32 → Hp → Prop} (q1 : fitB (lowT (rkN op T1 B1 T2 B2) (rkD op T1 B1 T2 B2)) → fitB (lowB (rkN op T1 B1 T2 B2) (rkD op T1 B1 T2 B2)) → ∀ h', Fr h h' (Lgv c) → RI h' c (lowT (rkN op T1 B1 T2 B2) (rkD op T1 B1 T2 B2)) (lowB (rkN op T1 B1 T2 B2) (rkD op T1 B1 T2 B2)) → Q 1 h') (q0 : ¬ (fitB (lowT (rkN op T1 B1 T2 B2) (rkD op T1 B1 T2 B2)) ∧ fitB (lowB (rkN op T1 B1 T2 B2) (rkD op T1 B1 T2 B2))) → ∀ h', Fr h h' Lrd → Q 0 h') : CallI g m_X0_reckon (d + 11) [.ref 0, .int (nI op), .ref a, .ref b, .ref c] n h Q := by
  have la := rt_lo ta
  have lb := rt_lo tb
  have a1 := lf_6_0 ta
  have a3 := lf_6_1 ta
  have b1 := lf_6_0 tb
  have b3 := lf_6_1 tb
  have wa := rt_w ta
  have wb := rt_w tb
  have n1 := Ha.1.nl
  have n2 := Ha.1.kl
  have n3 := Ha.2.nl
  have n4 := Ha.2.kl
  have n5 := Hb.1.nl
  have n6 := Hb.1.kl
  have n7 := Hb.2.nl
  have n8 := Hb.2.kl
  have z39 := w39
  have z41 := w41
  have z45 := w45
  have hD : rkD op T1 B1 T2 B2 ≠ bz := by
    unfold rkD
    split
    · exact b_mulne hB1 hB2
    · split
      · exact b_mulne hB1 hB2
      · exact b_mulne hB1 (hT2 (by omega))
  have fin : ∀ h1, Fr h h1 Lrd → DI h1 39 (rkN op T1 B1 T2 B2) → DI h1 41 (rkD op T1 B1 T2 B2) → bsn (rkN op T1 B1 T2 B2) ≤ 100 → W_X0_reckon g (d + 10) [.ref 0, .int (nI op), .ref a, .ref b, .ref c] (QI n Q) n 128 [some (.ref 0), none, none, none, some (.ref c)] [] h1 := by
    intro h1 f1 H1 H2 hs
    have := ppB_bsn (rkN op T1 B1 T2 B2)
    refine s_X0_reckon_128 hp tc (ok_give hp tc (f1.kp K) hD H1 H2 (by omega) (fun x1 x2 h2 f2 H3 => ⟨Or.inr rfl, qI (q1 x1 x2 h2 ((f1.mono (fun x hx => List.mem_cons_of_mem _ (List.mem_cons_of_mem _ (List.mem_cons_of_mem _ (List.mem_cons_of_mem _ hx))))).tr f2) H3)⟩) (fun z h2 f2 => ⟨Or.inl rfl, qI (q0 z h2 (f1.tr f2))⟩))
  have pr : ∀ (h0 : Hp) (to u v : Nat) (U V : Bi) (R : Hp → Prop), to = 39 ∨ to = 41 ∨ to = 45 → lay u = (0, 4, 4) → lay v = (0, 4, 4) → 46 < u → 46 < v → Kp h0 → DI h0 u U → DI h0 v V → bsn U ≤ 25 → bsn V ≤ 25 → bsz U ≤ 13 → bsz V ≤ 13 → (∀ h', Fr h0 h' [to, to + 1] → DI h' to (bmul U V) → R h') → CallV g m_X4_product (d + 10) [.ref to, .ref u, .ref v] n h0 R := by
    intro h0 to u v U V R ht tu tv lu lv K0 HU HV s1 s2 s3 s4 k
    have tt : lay to = (0, 4, 4) := by rcases ht with rfl | rfl | rfl; exact t39; exact t41; exact t45
    have hw : wd to = 900 ∧ hg to = 150 := by rcases ht with rfl | rfl | rfl; exact w39; exact w41; exact w45
    exact ok_dproduct hp tt tu tv (by omega) (by omega) (K0.w tt) HU HV (by omega) (by omega) k
  refine okI 0 rfl rfl (s_X0_reckon_0 hp ta tb tc ?_)
  have e2 : (2 : Int32) ≤ nI op ↔ 2 ≤ op := by rw [show (2 : Int32) = nI 2 from rfl]; simp (disch := omega) only [nI_addz, nI_1, nI_leI, nI_ltI, nI_eq, nI_tN, nI_inI]
  have e3 : nI op = (2 : Int32) ↔ op = 2 := by rw [show (2 : Int32) = nI 2 from rfl]; simp (disch := omega) only [nI_z, z0, z1, z2, zm1, zI_add, zI_sub, zI_neg, zI_mul, zI_le, zI_lt, zI_eq, zI_tN, zI_inI]; omega
  have e4 : nI op = (0 : Int32) ↔ op = 0 := by rw [show (0 : Int32) = nI 0 from rfl]; simp (disch := omega) only [nI_z, z0, z1, z2, zm1, zI_add, zI_sub, zI_neg, zI_mul, zI_le, zI_lt, zI_eq, zI_tN, zI_inI]; omega
  rw [e2, e3, e4]
  have j125 : ∀ (h1 : Hp) (v : Nat) (V : Bi), Fr h h1 [39, 40] → DI h1 39 (rkN op T1 B1 T2 B2) → bsn (rkN op T1 B1 T2 B2) ≤ 100 → lay v = (0, 4, 4) → 46 < v → DI h1 v V → bsn V ≤ 25 → bsz V ≤ 13 → rkD op T1 B1 T2 B2 = bmul B1 V → W_X0_reckon g (d + 10) [.ref 0, .int (nI op), .ref a, .ref b, .ref c] (QI n Q) n 125 [some (.ref 0), none, none, none, some (.ref c)] [.ref v, .ref (a + 3), .ref 41] h1 := by
    intro h1 v V f1 H1 hs tv lv Hv s1 s2 e
    refine s_X0_reckon_125 hp tc tv a3 t41 (pr h1 41 (a + 3) v B1 V _ (Or.inr (Or.inl rfl)) a3 tv (by omega) lv (f1.kp K) (Ha.2.fr f1 (by simp; omega) (by simp; omega)) Hv (by omega) s1 (by omega) s2 (fun h2 f2 H2 => ?_))
    exact fin h2 ((f1.mono (by simp)).tr (f2.mono (by simp))) (H1.fr f2 (by simp) (by simp)) (by rw [e]; exact H2) hs
  refine ⟨fun c1 => ⟨fun c2 => ?_, fun c2 => ?_⟩, fun c1 => ?_⟩
  · have eN : rkN op T1 B1 T2 B2 = bmul T1 B2 := by unfold rkN; rw [if_neg (by omega), if_neg c2]
    have eD : rkD op T1 B1 T2 B2 = bmul B1 T2 := by unfold rkD; rw [if_neg (by omega), if_neg c2]
    refine s_X0_reckon_98 hp ta tb tc b3 a1 t39 (pr h 39 (a + 1) (b + 3) T1 B2 _ (Or.inl rfl) a1 b3 (by omega) (by omega) K Ha.1 Hb.2 (by omega) (by omega) (by omega) (by omega) (fun h1 f1 H1 => ?_))
    rw [e3]
    refine ⟨fun _ => j125 h1 (b + 1) T2 f1 (by rw [eN]; exact H1) ?_ b1 (by omega) (Hb.1.fr f1 (by simp; omega) (by simp; omega)) (by omega) (by omega) eD, fun c3 => absurd c3 c2⟩
    rw [eN]; have := bsn_mul_le (F := T1) (G := B2); omega
  · have eN : rkN op T1 B1 T2 B2 = bmul T1 T2 := by unfold rkN; rw [if_neg (by omega), if_pos c2]
    have eD : rkD op T1 B1 T2 B2 = bmul B1 B2 := by unfold rkD; rw [if_neg (by omega), if_pos c2]
    refine s_X0_reckon_98 hp ta tb tc b1 a1 t39 (pr h 39 (a + 1) (b + 1) T1 T2 _ (Or.inl rfl) a1 b1 (by omega) (by omega) K Ha.1 Hb.1 (by omega) (by omega) (by omega) (by omega) (fun h1 f1 H1 => ?_))
    rw [e3]
    refine ⟨fun c3 => absurd c2 c3, fun _ => j125 h1 (b + 3) B2 f1 (by rw [eN]; exact H1) ?_ b3 (by omega) (Hb.2.fr f1 (by simp; omega) (by simp; omega)) (by omega) (by omega) eD⟩
    rw [eN]; have := bsn_mul_le (F := T1) (G := T2); omega
  · refine pr h 39 (a + 1) (b + 3) T1 B2 _ (Or.inl rfl) a1 b3 (by omega) (by omega) K Ha.1 Hb.2 (by omega) (by omega) (by omega) (by omega) (fun h1 f1 H1 => ?_)
    refine pr h1 45 (b + 1) (a + 3) T2 B1 _ (Or.inr (Or.inr rfl)) b1 a3 (by omega) (by omega) (f1.kp K) (Hb.1.fr f1 (by simp; omega) (by simp; omega)) (Ha.2.fr f1 (by simp; omega) (by simp; omega)) (by omega) (by omega) (by omega) (by omega) (fun h2 f2 H2 => ?_)
    have f12 : Fr h h2 Lrd := (f1.mono (by simp)).tr (f2.mono (by simp))
    have f12' : Fr h h2 [39, 40, 45, 46] := (f1.mono (by simp)).tr (f2.mono (by simp))
    have s1 := bsn_mul_le (F := T1) (G := B2)
    have s2 := bsz_mul_le (F := T1) (G := B2)
    have s3 := bsn_mul_le (F := T2) (G := B1)
    have s4 := bsz_mul_le (F := T2) (G := B1)
    have eD : rkD op T1 B1 T2 B2 = bmul B1 B2 := by unfold rkD; rw [if_pos (by omega)]
    have j53 : ∀ x : Fp, rkN op T1 B1 T2 B2 = badd (bmul T1 B2) (bsc x (bmul T2 B1)) → W_X0_reckon g (d + 10) [.ref 0, .int (nI op), .ref a, .ref b, .ref c] (QI n Q) n 53 [some (.ref 0), none, some (.ref a), some (.ref b), some (.ref c)] [.int (toI x), .ref 45, .ref 39] h2 := by
      intro x eN
      refine s_X0_reckon_53 hp ta tb tc t45 t39 (ok_dadd hp t39 t45 (by decide) (H1.fr f2 (by decide) (by decide)) H2 (by omega) (by omega) (fun h3 f3 H3 => ?_))
      have f13 : Fr h h3 Lrd := f12.tr (f3.mono (by simp))
      have f13' : Fr h h3 [39, 40, 45, 46] := f12'.tr (f3.mono (by simp))
      refine pr h3 41 (a + 3) (b + 3) B1 B2 _ (Or.inr (Or.inl rfl)) a3 b3 (by omega) (by omega) (f13.kp K) (Ha.2.fr f13' (by simp; omega) (by simp; omega)) (Hb.2.fr f13' (by simp; omega) (by simp; omega)) (by omega) (by omega) (by omega) (by omega) (fun h4 f4 H4 => ?_)
      refine fin h4 (f13.tr (f4.mono (by simp))) (by rw [eN]; exact H3.fr f4 (by decide) (by decide)) (by rw [eD]; exact H4) ?_
      rw [eN]
      have := bsn_add_le (bmul T1 B2) (bsc x (bmul T2 B1))
      have := bsn_sc_le x (bmul T2 B1)
      omega
    refine ⟨fun c2 => ?_, fun c2 => ?_⟩
    · have := j53 (-1) (by unfold rkN; rw [if_pos (by omega), if_neg c2])
      rw [toI_m1] at this; exact this
    · exact j53 1 (by unfold rkN; rw [if_pos (by omega), if_pos c2])
end
