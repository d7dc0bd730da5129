set_option maxRecDepth 100000
/-! RATIOS: lowest terms -/
def bcop (F G : Bi) : Prop := @copr Bi (@plRing Un (plRing Fp)) F G
/-- T by B are F by G in lowest terms, the head of B being 1 -/
def Low (F G T B : Bi) : Prop := bmul T G = bmul F B ∧ bcop T B ∧ hB B = 1
theorem Low.ne {F G T B : Bi} (h : Low F G T B) : B ≠ bz := fun z => by
  have := h.2.2
  rw [z, hB_z] at this
  exact fp_dom.2 this.symm
theorem cop_sc {F G : Bi} {c e : Fp} (hc : c ≠ 0) (he : e ≠ 0) (h : bcop F G) : bcop (bsc c F) (bsc e G) := fun x h1 h2 => h x (bdv_trans h1 (sc_dv hc F).1) (bdv_trans h2 (sc_dv he G).1)
theorem low_uniq {F G T B T' B' : Bi} (hG : G ≠ bz) (h : Low F G T B) (h' : Low F G T' B') : T' = T ∧ B' = B := by
  letI i2 : Lean.Grind.CommRing Bi := @plRing Un (plRing Fp)
  have e : bmul T B' = bmul T' B := by
    apply b_cancel hG
    have h1 := h.1
    have h2 := h'.1
    have hh : ∀ t g f b t' b' : Bi, t * g = f * b → t' * g = f * b' → g * (t * b') = g * (t' * b) := by
      intro t g f b t' b' q1 q2
      have q3 : g * (t * b') = (t * g) * b' := by grind
      rw [q3, q1]
      have q4 : g * (t' * b) = (t' * g) * b := by grind
      rw [q4, q2]; grind
    exact hh _ _ _ _ _ _ h1 h2
  obtain ⟨u, hu, e1, e2⟩ := frac_uniq bi_dom bi_gcd h.2.1 h'.2.1 h.ne e
  obtain ⟨v, ev'⟩ := hu
  have ev' : bmul u v = bC (pC 1) := ev'.symm
  obtain ⟨c, hc, eu⟩ := unit_C ev'
  have e3 : hB B' = hB B * c := by
    have : B' = bmul B u := e2
    rw [this, hB_mul, eu, hB_C, hd_C]
  rw [h.2.2, h'.2.2] at e3
  have c1 : c = 1 := by grind
  have u1 : u = bC (pC 1) := by rw [eu, c1]
  have m1 : ∀ A : Bi, bmul A u = A := fun A => by rw [u1, b_mulc, b_mul1]
  exact ⟨e1.trans (m1 T), e2.trans (m1 B)⟩
theorem low_split {F G D F1 G1 : Bi} (hG : G ≠ bz) (hD : isG D F G) (hd : hB D = 1) (e1 : F = bmul D F1) (e2 : G = bmul D G1) : Low F G (bsc (iv (hB G1)) F1) (bsc (iv (hB G1)) G1) := by
  letI i2 : Lean.Grind.CommRing Bi := @plRing Un (plRing Fp)
  have hD0 : D ≠ bz := fun z => hG (by rw [e2, z, b_mulz])
  have hG1 : G1 ≠ bz := fun z => hG (by rw [e2, z, b_mulz'])
  have hk := iv_ne (hB_ne hG1)
  refine ⟨?_, cop_sc hk hk (gcd_copr bi_dom hD hD0 e1 e2), ?_⟩
  · rw [sc_mul, sc_mul', e1, e2]
    have hh : ∀ a b c : Bi, a * (b * c) = b * a * c := by intros; grind
    exact congrArg _ (hh _ _ _)
  · rw [hB_sc]
    have := iv_mul (hB_ne hG1)
    generalize iv (hB G1) = z at this ⊢
    grind
theorem low_ex (F G : Bi) : ∃ T B, G ≠ bz → Low F G T B := by
  by_cases hG : G = bz
  · exact ⟨bz, bz, fun z => absurd hG z⟩
  · have hg := gcdB_is F G
    obtain ⟨F1, e1⟩ := hg.1
    obtain ⟨G1, e2⟩ := hg.2.1
    exact ⟨_, _, fun _ => low_split hG hg ((gcdB_hd F G).resolve_left (gcdB_nzr hG)) e1 e2⟩
noncomputable def lowT (F G : Bi) : Bi := Classical.choose (low_ex F G)
noncomputable def lowB (F G : Bi) : Bi := Classical.choose (Classical.choose_spec (low_ex F G))
theorem low_is (F : Bi) {G : Bi} (h : G ≠ bz) : Low F G (lowT F G) (lowB F G) := Classical.choose_spec (Classical.choose_spec (low_ex F G)) h
theorem low_eq {F G T B : Bi} (hG : G ≠ bz) (h : Low F G T B) : T = lowT F G ∧ B = lowB F G := low_uniq hG (low_is F hG) h
theorem low_z {G : Bi} (hG : G ≠ bz) : lowT bz G = bz ∧ lowB bz G = bC (pC 1) := by
  have h : Low bz G bz (bC (pC 1)) := ⟨by rw [b_mulz, b_mulz], fun c _ h => h, by rw [hB_C, hd_C]⟩
  have := low_eq hG h
  exact ⟨this.1.symm, this.2.symm⟩
/-- cells of reduce -/
abbrev Lrd : List Nat := [39, 40, 41, 42, 43, 44, 45, 46, 1, 3, 4, 5, 6, 7, 8, 9, 10, 11, 12, 13, 14, 15, 16, 17, 18, 19, 20, 21, 22, 23, 24, 25, 26, 27, 28, 29, 30, 31, 32, 33, 34, 35, 36, 37, 38]
theorem Lpt_rd {x : Nat} (h : x ∈ Lpt) : x ∈ Lrd := by
  simp only [Lpt, Lrd, List.mem_cons, List.not_mem_nil, or_false] at h ⊢
  omega
section
variable {g : GX} {d n : Nat} {h : Hp} {a b c : Nat}
theorem t39 : lay 39 = (0, 4, 4) := by decide +kernel
theorem t41 : lay 41 = (0, 4, 4) := by decide +kernel
theorem t43 : lay 43 = (0, 4, 4) := by decide +kernel
theorem t45 : lay 45 = (0, 4, 4) := by decide +kernel
theorem w39 : wd 39 = 900 ∧ hg 39 = 150 := by decide +kernel
theorem w41 : wd 41 = 900 ∧ hg 41 = 150 := by decide +kernel
theorem w43 : wd 43 = 900 ∧ hg 43 = 150 := by decide +kernel
theorem w45 : wd 45 = 900 ∧ hg 45 = 150 := by decide +kernel
theorem w_red122 (hp : g.2.2.2.2 = true) {av : List Value} {F1 G1 : Bi} (hG : G1 ≠ bz) (H39 : DI h 39 F1) (H41 : DI h 41 G1) {Q : Hp → Prop} (q : ∀ h', Fr h h' [39, 40, 41, 42] → DI h' 39 (bsc (iv (hB G1)) F1) → DI h' 41 (bsc (iv (hB G1)) G1) → Q h') : W_X0_reduce g (d + 2) av (QV n Q) n 122 [some (.ref 0), none, none] [] h := by
  refine s_X0_reduce_122 hp (ok_dhead hp t41 H41 ⟨fun c' => qV (q h Fr.rf ?_ ?_), fun c' => ok_inverse hp (ok_dscale hp t39 H39 (fun h1 f1 H1 => ok_inverse hp (ok_dscale hp t41 (H41.fr f1 (by decide) (by decide)) (fun h2 f2 H2 => qV (q h2 ((f1.mono (by simp)).tr (f2.mono (by simp))) (H1.fr f2 (by decide) (by decide)) H2)))))⟩)
  · have e : hB G1 = 1 := toI_inj (c'.trans toI_1.symm)
    rw [e, show iv 1 = 1 from fp_one_pow _, sc_1]; exact H39
  · have e : hB G1 = 1 := toI_inj (c'.trans toI_1.symm)
    rw [e, show iv 1 = 1 from fp_one_pow _, sc_1]; exact H41
/-- lowest terms -/
theorem ok_reduce (hp : g.2.2.2.2 = true) (K : Kp h) {F G : Bi} (hG : G ≠ bz) (H39 : DI h 39 F) (H41 : DI h 41 G) (hmin : 2 * min (bsn (ppB F)) (bsn (ppB G)) ≤ 901) {Q : Hp → Prop} (q : ∀ h', Fr h h' Lrd → DI h' 39 (lowT F G) → DI h' 41 (lowB F G) → Q h') : CallV g m_X0_reduce (d + 9) [.ref 0] n h Q := by
  have n1 := H39.nl
  have n2 := H41.nl
  have k1 := H39.kl
  have k2 := H41.kl
  rw [w39.1] at n1
  rw [w41.1] at n2
  rw [w39.2] at k1
  rw [w41.2] at k2
  refine okV 2 rfl rfl (s_X0_reduce_0 hp (ok_disZero hp t39 H39 (fun z => ⟨fun c' => absurd c' (by decide), fun _ => ?_⟩) (fun z => ⟨fun _ => ?_, fun c' => absurd rfl c'⟩)))
  · refine ok_dset (v := 1) hp t41 (K.w t41) (by rw [w41.1]; omega) (by rw [w41.2]; omega) (fun h1 f1 H1 => qV (q h1 (f1.mono (by simp)) ?_ ?_))
    · rw [z, (low_z hG).1, ← z]; exact H39.fr f1 (by decide) (by decide)
    · rw [z, (low_z hG).2]; exact H1
  · refine ok_bcommon hp t39 t41 t43 (by decide) (by decide) (by decide) (by decide) (by decide) K H39 H41 n1 n2 hmin (by rw [w43.1]; exact n1) (by rw [w43.1]; exact n2) (by rw [w43.2]; exact k1) (by rw [w43.2]; exact k2) (fun h1 f1 H1 => ?_)
    have f1' : Fr h h1 Lrd := f1.mono (fun x hx => by
      simp only [Lpt, Lrd, List.mem_cons, List.not_mem_nil, or_false] at hx ⊢
      omega)
    have H391 := H39.fr f1 (by decide) (by decide)
    have H411 := H41.fr f1 (by decide) (by decide)
    have gz : gcdB F G ≠ bz := gcdB_nz z
    have ghd := (gcdB_hd F G).resolve_left gz
    have hg := gcdB_is F G
    have ln := H1.ltn
    have lk := H1.ltk
    have fin : ∀ (h2 : Hp) (F1 G1 : Bi), Fr h h2 Lrd → F = bmul (gcdB F G) F1 → G = bmul (gcdB F G) G1 → DI h2 39 F1 → DI h2 41 G1 → W_X0_reduce g (d + 8) [.ref 0] (QV n Q) n 122 [some (.ref 0), none, none] [] h2 := by
      intro h2 F1 G1 f2 e1 e2 K1 K2
      have hG1 : G1 ≠ bz := fun w => hG (by rw [e2, w, b_mulz'])
      refine w_red122 hp hG1 K1 K2 (fun h3 f3 a1 a2 => q h3 (f2.tr (f3.mono (by simp))) ?_ ?_)
      · rw [← (low_eq hG (low_split hG hg ghd e1 e2)).1]; exact a1
      · rw [← (low_eq hG (low_split hG hg ghd e1 e2)).2]; exact a2
    have j60 : W_X0_reduce g (d + 8) [.ref 0] (QV n Q) n 60 [some (.ref 0), none, none] [] h1 := by
      refine s_X0_reduce_60 hp (ok_divides hp t43 t39 t45 (by decide) (by decide) (by decide) (by decide) (by decide) (by decide) (by decide) (by decide) (f1'.kp K) H1 H391 gz n1 (by rw [w45.1]; exact n1) (by rw [w45.2]; exact k1) (fun F1 e1 h2 f2 H2 => ?_) (fun nd => absurd hg.1 nd))
      have f2' : Fr h h2 Lrd := f1'.tr (f2.mono (by simp))
      have sF1 := bdv_bsz (A := F1) ⟨gcdB F G, e1.trans (b_mulc _ _)⟩ z
      refine ok_dcopy hp t39 t45 (by decide) ((f2'.kp K).w t39) H2 (by rw [w39.1]; omega) (by rw [w39.2]; omega) (fun h3 f3 H3 => ?_)
      have f3' : Fr h h3 Lrd := f2'.tr (f3.mono (by simp))
      have H413 := (H411.fr f2 (by decide) (by decide)).fr f3 (by decide) (by decide)
      have H433 := (H1.fr f2 (by decide) (by decide)).fr f3 (by decide) (by decide)
      refine ok_divides hp t43 t41 t45 (by decide) (by decide) (by decide) (by decide) (by decide) (by decide) (by decide) (by decide) (f3'.kp K) H433 H413 gz n2 (by rw [w45.1]; exact n2) (by rw [w45.2]; exact k2) (fun G1 e2 h4 f4 H4 => ?_) (fun nd => absurd hg.2.1 nd)
      have f4' : Fr h h4 Lrd := f3'.tr (f4.mono (by simp))
      have sG1 := bdv_bsz (A := G1) ⟨gcdB F G, e2.trans (b_mulc _ _)⟩ hG
      refine ok_dcopy hp t41 t45 (by decide) ((f4'.kp K).w t41) H4 (by rw [w41.1]; omega) (by rw [w41.2]; omega) (fun h5 f5 H5 => ?_)
      exact fin h5 F1 G1 (f4'.tr (f5.mono (by simp))) e1 e2 ((H3.fr f4 (by decide) (by decide)).fr f5 (by decide) (by decide)) H5
    rw [H1.n, H1.k]
    have e3 : (1 : Int32) < nI (bsn (gcdB F G)) ↔ 1 < bsn (gcdB F G) := by simp (disch := omega) only [nI_z, z0, z1, z2, zm1, zI_add, zI_sub, zI_neg, zI_mul, zI_le, zI_lt, zI_eq, zI_tN, zI_inI]; omega
    have e4 : nI (bsz (gcdB F G)) ≤ (1 : Int32) ↔ bsz (gcdB F G) ≤ 1 := by simp (disch := omega) only [nI_z, z0, z1, z2, zm1, zI_add, zI_sub, zI_neg, zI_mul, zI_le, zI_lt, zI_eq, zI_tN, zI_inI]; omega
    rw [e3, e4]
    refine ⟨fun _ => j60, fun c1 => ⟨fun c2 => ?_, fun _ => j60⟩⟩
    have e5 : gcdB F G = bC (pC 1) := by
      have h6 : gcdB F G = bC (pC (cc (gcdB F G) 0 0)) := (b2_cc (gcdB F G) (N := 1) (K := 1) (by omega) c2).symm.trans (b2_C _ _ rfl)
      have h7 : cc (gcdB F G) 0 0 = 1 := by
        rw [← ghd]
        have : hB (gcdB F G) = hB (bC (pC (cc (gcdB F G) 0 0))) := congrArg hB h6
        rw [this, hB_C, hd_C]
      rw [h7] at h6; exact h6
    exact fin h1 F G f1' (by rw [e5, b_mul1]) (by rw [e5, b_mul1]) H391 H411
theorem ok_fits (hp : g.2.2.2.2 = true) (t : lay a = (0, 4, 4)) {F : Bi} (H : DI h a F) {Q : Int32 → Hp → Prop} (q1 : bsn F ≤ 25 → bsz F ≤ 13 → Q 1 h) (q0 : ¬ (bsn F ≤ 25 ∧ bsz F ≤ 13) → Q 0 h) : CallI g m_X0_fits d [.ref a] n h Q := by
  have ln := H.ltn
  have lk := H.ltk
  refine okI 0 rfl rfl (s_X0_fits_0 hp t ?_)
  rw [H.n, H.k]
  have e3 : (25 : Int32) < nI (bsn F) ↔ 25 < bsn F := by rw [show (25 : Int32) = nI 25 from rfl]; simp (disch := omega) only [nI_addz, nI_1, nI_leI, nI_ltI, nI_eq, nI_tN, nI_inI]
  have e4 : (13 : Int32) < nI (bsz F) ↔ 13 < bsz F := by rw [show (13 : Int32) = nI 13 from rfl]; simp (disch := omega) only [nI_addz, nI_1, nI_leI, nI_ltI, nI_eq, nI_tN, nI_inI]
  rw [e3, e4]
  exact ⟨fun c => qI (q0 (by omega)), fun c => ⟨fun c2 => qI (q0 (by omega)), fun c2 => qI (q1 (by omega) (by omega))⟩⟩
/-- a Ratio's cell holds T by B -/
def RI (h : Hp) (a : Nat) (T B : Bi) : Prop := DI h (a + 1) T ∧ DI h (a + 3) B
/-- cells of give -/
abbrev Lgv (a : Nat) : List Nat := (a + 1) :: (a + 2) :: (a + 3) :: (a + 4) :: Lrd
def fitB (T : Bi) : Prop := bsn T ≤ 25 ∧ bsz T ≤ 13
theorem ok_give (hp : g.2.2.2.2 = true) (ta : lay a = (0, 6, 2)) (K : Kp h) {F G : Bi} (hG : G ≠ bz) (H39 : DI h 39 F) (H41 : DI h 41 G) (hmin : 2 * min (bsn (ppB F)) (bsn (ppB G)) ≤ 901) {Q : Int32 → Hp → Prop} (q1 : fitB (lowT F G) → fitB (lowB F G) → ∀ h', Fr h h' (Lgv a) → RI h' a (lowT F G) (lowB F G) → Q 1 h') (q0 : ¬ (fitB (lowT F G) ∧ fitB (lowB F G)) → ∀ h', Fr h h' Lrd → Q 0 h') : CallI g m_X0_give (d + 10) [.ref 0, .ref a] n h Q := by
  have la := rt_lo ta
  have t1 := lf_6_0 ta
  have t3 := lf_6_1 ta
  have w := rt_w ta
  refine okI 0 rfl rfl (s_X0_give_0 hp ta (ok_reduce hp K hG H39 H41 hmin (fun h1 f1 H1 H2 => ?_)))
  refine ok_fits hp t39 H1 (fun x1 x2 => ⟨fun c' => absurd c' (by decide), fun _ => ok_fits hp t41 H2 (fun x3 x4 => ⟨fun _ => ?_, fun c' => absurd c' (by decide)⟩) (fun z => ⟨fun c' => absurd rfl c', fun _ => qI (q0 (fun y => z y.2) h1 f1)⟩)⟩) (fun z => ⟨fun _ => qI (q0 (fun y => z y.1) h1 f1), fun c' => absurd rfl c'⟩)
  refine ok_dcopy hp t1 t39 (by omega) ((f1.kp K).w t1) H1 (by rw [w.1]; exact x1) (by rw [w.2.1]; exact x2) (fun h2 f2 H3 => ?_)
  have f12 : Fr h h2 (Lgv a) := (f1.mono (fun x hx => List.mem_cons_of_mem _ (List.mem_cons_of_mem _ (List.mem_cons_of_mem _ (List.mem_cons_of_mem _ hx))))).tr (f2.mono (by simp))
  refine ok_dcopy hp t3 t41 (by omega) ((f12.kp K).w t3) (H2.fr f2 (by simp; omega) (by simp; omega)) (by rw [w.2.2.1]; exact x3) (by rw [w.2.2.2]; exact x4) (fun h3 f3 H4 => qI (q1 ⟨x1, x2⟩ ⟨x3, x4⟩ h3 (f12.tr (f3.mono (by simp))) ⟨H3.fr f3 (by simp) (by simp), H4⟩))
end
