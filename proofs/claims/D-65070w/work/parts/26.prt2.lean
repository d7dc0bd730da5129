set_option maxRecDepth 100000
/-! PARTS: whether one divides another, and the quotient -/
/-- a row of what is left, when there is a quotient G and the part T of it is taken -/
theorem dvd_row {B D G T L : Bi} {m : Nat} (hB : B ≠ bz) (e1 : D = bmul B G) (e2 : D = badd (bmul B T) L) (hL : bsz L ≤ m + bsz B) (hT : bco T m = pz) : bco L (m + bsz B - 1) = pmul (bhd B) (bco G m) := by
  letI i1 := plRing Fp
  letI i2 : Lean.Grind.CommRing Bi := @plRing Un (plRing Fp)
  have eL : L = bmul B (bsub G T) := by
    have hh : ∀ A B C D E : Bi, A = B * C → A = B * D + E → E = B * (C - D) := by intros; grind
    exact hh _ _ _ _ _ e1 e2
  have hp := bsz_pos hB
  have hR : ∀ j, m + 1 ≤ j → bco (bsub G T) j = pz := by
    intro j hj
    by_cases hz : bsub G T = bz
    · rw [hz, bco_z]
    · have h1 := (bsz_mul hB hz).1
      rw [← eL] at h1
      exact bsz_le _ j (by omega)
  have h2 := @co_mul_top Un i1 B (bsub G T) (bsz B - 1) m (fun j hj => bsz_le B j (by omega)) hR
  have h3 : bco L (m + bsz B - 1) = pmul (bco B (bsz B - 1)) (bco (bsub G T) m) := by
    rw [eL, show m + bsz B - 1 = bsz B - 1 + m by omega]; exact h2
  rw [h3, bco_sub, hT]
  have e5 : psub (bco G m) pz = bco G m := pl_ext fun i => by rw [co_sub, co_z]; grind
  rw [e5]; rfl
theorem dvd_end {B D G T L : Bi} (hB : B ≠ bz) (e1 : D = bmul B G) (e2 : D = badd (bmul B T) L) (hL : bsz L < bsz B) : L = bz ∧ T = G := by
  letI i2 : Lean.Grind.CommRing Bi := @plRing Un (plRing Fp)
  have eL : L = bmul B (bsub G T) := by
    have hh : ∀ A B C D E : Bi, A = B * C → A = B * D + E → E = B * (C - D) := by intros; grind
    exact hh _ _ _ _ _ e1 e2
  have hz : bsub G T = bz := Classical.byContradiction fun hz => by
    have h1 := (bsz_mul hB hz).1
    have := bsz_pos hz
    rw [← eL] at h1
    omega
  refine ⟨by rw [eL, hz, b_mulz'], ?_⟩
  have hh : ∀ A B : Bi, A - B = 0 → B = A := by intros; grind
  exact hh _ _ hz
theorem quot_szN {B D G : Bi} (hB : B ≠ bz) (e : D = bmul B G) : bsn G ≤ bsn D := by
  by_cases hG : G = bz
  · rw [hG, bsn_z]; omega
  · have h1 := bsn_mul hB hG
    have := bsn_pos hB
    rw [e]; omega
theorem prod_szN {B D G : Bi} (hB : B ≠ bz) (e : D = bmul B G) (i m : Nat) : sz (pmul (bco B i) (bco G m)) ≤ bsn D := by
  by_cases hG : G = bz
  · rw [hG, bco_z, (szmul_z _).1, sz_z]; omega
  · have h1 := bsn_mul hB hG
    have h2 := szle_mul (p := bco B i) (q := bco G m) (n := bsn B) (m := bsn G) (fun l hl => sz_le _ l (Nat.le_trans (bsn_le B i) hl)) (fun l hl => sz_le _ l (Nat.le_trans (bsn_le G m) hl))
    have h3 := sz_min h2
    rw [e]; omega
theorem cc_sub (F G : Bi) (j i : Nat) : cc (bsub F G) j i = cc F j i - cc G j i := by
  unfold cc
  rw [bco_sub, co_sub]
section
variable {g : GX} {d n : Nat} {h : Hp} {a b c : Nat}
theorem t11 : lay 11 = (0, 3, 2) := by decide +kernel
theorem t19 : lay 19 = (0, 3, 2) := by decide +kernel
theorem t21 : lay 21 = (0, 3, 2) := by decide +kernel
theorem t29 : lay 29 = (0, 4, 4) := by decide +kernel
theorem r12 : rm (11 + 1) = 1800 := by decide +kernel
theorem r20 : rm (19 + 1) = 1800 := by decide +kernel
theorem r22 : rm (21 + 1) = 1800 := by decide +kernel
theorem wd29 : wd 29 = 900 := by decide +kernel
theorem hg29 : hg 29 = 150 := by decide +kernel
theorem w_ta46 (hp : g.2.2.2.2 = true) {av : List Value} {N K r : Nat} {p : Un} (hr : r < K) (hN : sz p ≤ N) {Q : Int32 → Hp → Prop} : ∀ (k i : Nat) (f : Nat → Nat → Fp) (h : Hp), i + k = sz p → DA h 29 N K f → PI h 21 p → (∀ h', Fr h h' [9, 10, 21, 22, 29, 30] → DA h' 29 N K (fun j' i' => if j' = r ∧ i ≤ i' then f j' i' - co p i' else f j' i') → Q 1 h') → W_X1_takeAway g d av (QI n Q) n 46 [some (.ref 1), none, none, some (.int (nI r)), some (.int (nI i)), none] [] h := by
  intro k
  induction k with
  | zero =>
    intro i f h hi H Hp' q
    have hl := Hp'.lt
    refine s_X1_takeAway_46 hp ⟨fun _ => qI (q h Fr.rf (H.cong (fun j' i' _ _ => ?_))), fun c' => absurd ?_ c'⟩
    · split
      · rw [sz_le p i' (by omega)]; grind
      · rfl
    · rw [Hp'.1]; simp (disch := omega) only [nI_addz, nI_1, nI_leI, nI_ltI, nI_eq, nI_tN, nI_inI]; omega
  | succ k ih =>
    intro i f h hi H Hp' q
    have hl := Hp'.lt
    have h2 := Hp'.2.1
    have hrr := rm_lt (21 + 1)
    refine s_X1_takeAway_46 hp ⟨fun c' => absurd c' ?_, fun _ => ?_⟩
    · rw [Hp'.1]; simp (disch := omega) only [nI_addz, nI_1, nI_leI, nI_ltI, nI_eq, nI_tN, nI_inI]; omega
    · have e1 : ri h 30 (nI r * ri h 29 0 + nI i).toNatClampNeg = toI (f r i) := H.rd hr (by omega)
      have e2 : (nI r * ri h 29 0 + nI i).toNatClampNeg = r * wd 29 + i := H.tn hr (by omega)
      have e3 : ri h 22 (nI i).toNatClampNeg = toI (co p i) := by rw [nI_tN (by omega)]; exact Hp'.2.2 i (by omega)
      rw [e1, e2, e3, nI_1]
      refine ⟨H.inx hr (by omega), nI_inL (L := rm (21 + 1)) (by omega) (by omega), ok_less hp ⟨H.inx hr (by omega), fun h1 e4 => ?_⟩⟩
      have f1 : Fr h h1 [9, 10, 21, 22, 29, 30] := by rw [e4]; exact Fr.rf.put (by simp) (nk4 t29)
      have f1' : Fr h h1 [29, 30] := by rw [e4]; exact Fr.rf.put (by simp) (nk4 t29)
      refine ih (i + 1) (fun j' i' => if j' = r ∧ i' = i then f r i - co p i else f j' i') h1 (by omega) (by rw [e4]; exact H.upd (a := 29) (by omega)) (Hp'.fr f1' (by decide) (by decide)) (fun h' k1 k2 => q h' (f1.tr k1) (k2.cong (fun j' i' _ _ => ?_)))
      by_cases e : j' = r ∧ i' = i
      · rw [if_neg (by omega), if_pos e, if_pos (by omega), e.1, e.2]
      · by_cases e2 : j' = r ∧ i + 1 ≤ i'
        · rw [if_pos e2, if_neg e, if_pos (by omega)]
        · rw [if_neg e2, if_neg e, if_neg (by omega)]
theorem ok_takeAway (hp : g.2.2.2.2 = true) (ta : lay a = (0, 4, 4)) (ha : 22 < a) (ha2 : a ≠ 29) {B : Bi} {s : Un} {N K r i : Nat} {f : Nat → Nat → Fp} (Ha : DI h a B) (Hq : PI h 19 s) (HL : DA h 29 N K f) (hr : r < K) (hi : i < 1000) (hb : bsn B + sz s ≤ 1800) {Q : Int32 → Hp → Prop} (q1 : sz (pmul (bco B i) s) ≤ N → ∀ h', Fr h h' [9, 10, 21, 22, 29, 30] → DA h' 29 N K (fun j' i' => if j' = r then f j' i' - co (pmul (bco B i) s) i' else f j' i') → Q 1 h') (q0 : N < sz (pmul (bco B i) s) → ∀ h', Fr h h' [9, 10, 21, 22, 29, 30] → Q 0 h') : CallI g m_X1_takeAway (d + 3) [.ref 1, .ref a, .int (nI i), .int (nI r)] n h Q := by
  have hn := HL.ltn
  have hl := bsn_le B i
  have hwd := HL.nl
  refine okI 2 rfl rfl (s_X1_takeAway_0 hp ta (ok_row hp ta t9 Ha (by omega) (by rw [r10]; omega) (fun h1 f1 H1 => ?_)))
  have Hq1 := Hq.fr f1 (by decide) (by decide)
  have HL1 := HL.fr f1 (by decide) (by decide)
  refine ok_product hp t21 t9 t19 (by decide) (by decide) H1 Hq1 (by rw [r22]; omega) (fun h2 f2 H2 => ?_)
  have HL2 := HL1.fr f2 (by decide) (by decide)
  have f12 : Fr h h2 [9, 10, 21, 22, 29, 30] := (f1.mono (by simp)).tr (f2.mono (by simp))
  have hl2 := H2.lt
  rw [H2.1, HL2.n, nI_leI (by omega) (by omega)]
  refine ⟨fun c' => ?_, fun c' => qI (q0 (by omega) h2 f12)⟩
  exact w_ta46 hp hr c' (sz (pmul (bco B i) s)) 0 f h2 (by omega) HL2 H2 (fun h' k1 k2 => q1 c' h' (f12.tr k1) (k2.cong (fun j' i' _ _ => by simp)))
abbrev Ldv (c : Nat) : List Nat := [9, 10, 11, 12, 19, 20, 21, 22, 29, 30, c, c + 1]
theorem w_dv153 (hp : g.2.2.2.2 = true) (ta : lay a = (0, 4, 4)) (tc : lay c = (0, 4, 4)) (ha : 22 < a) (hc : 22 < c) (ha2 : a ≠ 29) (hc2 : c ≠ 29) (hac : a ≠ c) {av : List Value} {B : Bi} {s : Un} {N K M m : Nat} {T : Nat → Nat → Fp} (hm : m + bsz B ≤ K) (hb : bsn B + sz s ≤ 1800) {Q : Int32 → Hp → Prop} : ∀ (k i : Nat) (L : Nat → Nat → Fp) (h : Hp), i + k = bsz B → DI h a B → PI h 11 (bhd B) → PI h 19 s → DA h 29 N K L → DA h c N M T → (∀ h' L', Fr h h' (Ldv c) → DI h' a B → PI h' 11 (bhd B) → DA h' 29 N K L' → DA h' c N M T → (∀ j' i', i' < N → L' j' i' = if m + i ≤ j' then L j' i' - co (pmul (bco B (j' - m)) s) i' else L j' i') → (∀ i', i ≤ i' → sz (pmul (bco B i') s) ≤ N) → W_X1_divides g (d + 3) av (QI n Q) n 195 [some (.ref 1), some (.ref a), none, some (.ref c), none, some (.int (nI m)), none] [] h') → (∀ i', N < sz (pmul (bco B i') s) → ∀ h', Fr h h' (Ldv c) → Q 0 h') → W_X1_divides g (d + 3) av (QI n Q) n 153 [some (.ref 1), some (.ref a), none, some (.ref c), none, some (.int (nI m)), some (.int (nI i))] [] h := by
  have oa := dout2 tc ta (Ne.symm hac)
  have o1 := da_ne ta t29
  have o2 := da_ne t29 ta
  have o3 := da_ne tc t29
  have o4 := da_ne t29 tc
  intro k
  induction k with
  | zero =>
    intro i L h hi Ha H11 Hs HL HT q q0
    have hk := Ha.ltk
    refine s_X1_divides_153 hp ta tc ⟨fun _ => q h L Fr.rf Ha H11 HL HT (fun j' i' _ => ?_) (fun i' hi' => ?_), fun c' => absurd ?_ c'⟩
    · split
      · rw [bsz_le B (j' - m) (by omega), (szmul_z s).2, co_z]; grind
      · rfl
    · rw [bsz_le B i' (by omega), (szmul_z s).2, sz_z]; omega
    · rw [Ha.k]; simp (disch := omega) only [nI_addz, nI_1, nI_leI, nI_ltI, nI_eq, nI_tN, nI_inI]; omega
  | succ k ih =>
    intro i L h hi Ha H11 Hs HL HT q q0
    have hk := Ha.ltk
    refine s_X1_divides_153 hp ta tc ⟨fun c' => absurd c' ?_, fun _ => ?_⟩
    · rw [Ha.k]; simp (disch := omega) only [nI_addz, nI_1, nI_leI, nI_ltI, nI_eq, nI_tN, nI_inI]; omega
    · refine ok_isZero hp t19 Hs (fun z => ⟨fun _ => q h L Fr.rf Ha H11 HL HT (fun j' i' _ => ?_) (fun i' _ => ?_), fun c' => absurd c' (by decide)⟩) (fun z => ⟨fun c' => absurd rfl c', fun _ => ?_⟩)
      · split
        · rw [z, (szmul_z _).1, co_z]; grind
        · rfl
      · rw [z, (szmul_z _).1, sz_z]; omega
      · rw [nI_addz, nI_1]
        refine ok_takeAway hp ta ha ha2 Ha Hs HL (by omega) (by omega) hb (fun hN h1 f1 H1 => ⟨fun _ => ?_, fun c' => absurd c' (by decide)⟩) (fun hN h1 f1 => ⟨fun c' => absurd rfl c', fun _ => qI (q0 i hN h1 (f1.mono (by simp)))⟩)
        have f1' := f1.mono (M := Ldv c) (by simp)
        refine ih (i + 1) _ h1 (by omega) (Ha.fr f1 (by simp; omega) (by simp; omega)) (H11.fr f1 (by decide) (by decide)) (Hs.fr f1 (by decide) (by decide)) H1 (HT.fr f1 (by simp; omega) (by simp; omega)) (fun h' L' k1 k2 k3 k4 k5 k6 k7 => q h' L' (f1'.tr k1) k2 k3 k4 k5 (fun j' i' hi' => ?_) (fun i' hi' => by
          by_cases e : i' = i
          · rw [e]; exact hN
          · exact k7 i' (by omega))) (fun i' hN h' k1 => q0 i' hN h' (f1'.tr k1))
        rw [k6 j' i' hi']
        by_cases e : j' = i + m
        · rw [if_neg (by omega), if_pos e, if_pos (by omega), e, show i + m - m = i by omega]
        · by_cases e2 : m + (i + 1) ≤ j'
          · rw [if_pos e2, if_neg e, if_pos (by omega)]
          · rw [if_neg e2, if_neg e, if_neg (by omega)]
/-- the rows of the quotient that are found -/
noncomputable def Tq (T : Nat → Nat → Fp) (N M m : Nat) : Bi := b2 (fun j i => if m ≤ j then T j i else 0) N M
theorem w_dv74 (hp : g.2.2.2.2 = true) (ta : lay a = (0, 4, 4)) (tc : lay c = (0, 4, 4)) (ha : 22 < a) (hc : 22 < c) (ha2 : a ≠ 29) (hc2 : c ≠ 29) (hac : a ≠ c) {av : List Value} {B D : Bi} (hB : B ≠ bz) {N M : Nat} (hN : N = bsn D) (hM : M + bsz B = bsz D + 1) (hbn : bsn B ≤ N) (hw : N ≤ 900) {Q : Int32 → Hp → Prop} : ∀ (m : Nat) (L T : Nat → Nat → Fp) (h : Hp), m ≤ M → DI h a B → PI h 11 (bhd B) → DA h 29 N (bsz D) L → DA h c N M T → D = badd (bmul B (Tq T N M m)) (b2 L N (bsz D)) → bsz (b2 L N (bsz D)) ≤ m + bsz B - 1 → (∀ G, D = bmul B G → ∀ h', Fr h h' (Ldv c) → DI h' c G → Q 1 h') → (¬ bdv B D → ∀ h', Fr h h' (Ldv c) → Q 0 h') → W_X1_divides g (d + 3) av (QI n Q) n 74 [some (.ref 1), some (.ref a), none, some (.ref c), none, some (.int (zI ((m : Int) - 1))), none] [] h := by
  have oa := dout2 tc ta (Ne.symm hac)
  have o1 := da_ne ta t29
  have o2 := da_ne t29 ta
  have o3 := da_ne tc t29
  have o4 := da_ne t29 tc
  have hBp := bsz_pos hB
  have hT0 : ∀ (T : Nat → Nat → Fp) (m : Nat), bco (Tq T N M (m + 1)) m = pz := fun T m => pl_ext fun i => by
    show cc (Tq T N M (m + 1)) m i = _
    unfold Tq
    rw [cc_b2, co_z]
    split
    · rw [if_neg (by omega)]
    · rfl
  intro m
  induction m with
  | zero =>
    intro L T h hm Ha H11 HL HT he hsz q1 q0
    refine s_X1_divides_74 hp ta tc ⟨fun _ => ok_dtrim hp tc HT (fun h1 f1 H1 => ok_dtrim hp t29 (HL.fr f1 (by simp; omega) (by simp; omega)) (fun h2 f2 H2 => ?_)), fun c' => absurd (by decide) c'⟩
    have H1' := H1.fr f2 (by simp; omega) (by simp; omega)
    have f12 : Fr h h2 (Ldv c) := (f1.mono (by simp)).tr (f2.mono (by simp))
    have eT : Tq T N M 0 = b2 T N M := b2_cong fun j i _ _ => if_pos (Nat.zero_le j)
    rw [eT] at he
    refine ok_disZero hp t29 H2 (fun z => ⟨Or.inr rfl, qI (q1 _ ?_ h2 f12 H1')⟩) (fun z => ⟨Or.inl rfl, qI (q0 (fun hd => ?_) h2 f12)⟩)
    · rw [z, b_addz] at he; exact he
    · obtain ⟨G, e⟩ := hd
      exact z (dvd_end hB e he (by omega)).1
  | succ m ih =>
    intro L T h hm Ha H11 HL HT he hsz q1 q0
    have hk := Ha.ltk
    have hk2 := HL.ltk
    have hn := HL.ltn
    rw [show ((m + 1 : Nat) : Int) - 1 = (m : Int) by omega, show zI (m : Int) = nI m from rfl]
    refine s_X1_divides_74 hp ta tc ⟨fun c' => absurd c' (nI_pos (by omega)), fun _ => ?_⟩
    have e0 : nI m + ri h a 3 - 1 = nI (m + bsz B - 1) := by rw [Ha.k, nI_addz, nI_sub1 (by omega)]
    rw [e0]
    refine ok_rowA hp t29 t9 HL (by omega) (by rw [r10]; omega) (fun h1 f1 H1 => ?_)
    rw [if_pos (by omega)] at H1
    have eL : mkP (L (m + bsz B - 1)) N = bco (b2 L N (bsz D)) (m + bsz B - 1) := by rw [b2_mk, bco_mk, if_pos (by omega)]
    have hlead : bhd B ≠ pz := bhd_ne hB
    have szl : sz (mkP (L (m + bsz B - 1)) N) ≤ N := sz_min (szle_mkP _ _)
    refine ok_divide hp t9 t11 t19 (by decide) (by decide) (by decide) hlead H1 (H11.fr f1 (by decide) (by decide)) (by rw [r20]; omega) (fun h2 s r f2 e2 hr H2 H2s => ?_)
    have f12 : Fr h h2 (Ldv c) := (f1.mono (by simp)).tr (f2.mono (by simp))
    have f12' : Fr h h2 [9, 10, 19, 20] := (f1.mono (by simp)).tr (f2.mono (by simp))
    have key : ∀ G, D = bmul B G → s = bco G m ∧ r = pz := by
      intro G eG
      have h5 := dvd_row hB eG he (by omega) (hT0 T m)
      rw [← eL] at h5
      have h6 : mkP (L (m + bsz B - 1)) N = pmul (bhd B) (bco G m) := h5
      exact div_exact hlead h6 e2 hr
    refine ok_isZero hp t9 H2 (fun z => ⟨fun c' => absurd c' (by decide), fun _ => ?_⟩) (fun z => ⟨fun _ => qI (q0 (fun hd => ?_) h2 f12), fun c' => absurd rfl c'⟩)
    · have hT2 := HT.fr f12' (by simp; omega) (by simp; omega)
      have hsl := H2s.lt
      rw [H2s.1, hT2.n, nI_leI (by omega) (by omega)]
      refine ⟨fun c' => ?_, fun c' => qI (q0 (fun hd => ?_) h2 f12)⟩
      · refine ok_putRow hp tc t19 hT2 H2s (by omega) (fun h3 f3 H3 => ?_)
        have f13 : Fr h h3 (Ldv c) := f12.tr (f3.mono (by simp))
        have Ha2 := Ha.fr f12' (by simp; omega) (by simp; omega)
        have HL2 := HL.fr f12' (by decide) (by decide)
        have H112 := H11.fr f12' (by decide) (by decide)
        refine w_dv153 hp ta tc ha hc ha2 hc2 hac (m := m) (K := bsz D) (N := N) (M := M) (by omega) (by omega) (bsz B) 0 L h3 (by omega) (Ha2.fr f3 oa.1 oa.2) (H112.fr f3 (by simp; omega) (by simp; omega)) (H2s.fr f3 (by simp; omega) (by simp; omega)) (HL2.fr f3 (by simp; omega) (by simp; omega)) H3 (fun h4 L' g1 g2 g3 g4 g5 g6 g7 => s_X1_divides_195 hp ta tc ?_) (fun i' hN' h' k1 => q0 (fun hd => ?_) h' (f13.tr k1))
        · rw [show nI m + (-1 : Int32) = zI ((m : Int) - 1) by simp (disch := omega) only [nI_z, z0, z1, z2, zm1, zI_add, zI_sub, zI_neg, zI_mul, zI_le, zI_lt, zI_eq, zI_tN, zI_inI]; congr 1]
          have f14 := f13.tr g1
          have eL' : b2 L' N (bsz D) = bsub (b2 L N (bsz D)) (bmul B (bmul (bX m) (bC s))) := b_ext fun j => by
            rw [bco_sub, b2_mk, b2_mk, bco_mk, bco_mk, b_mulc, b_assoc, bco_Xmul, bco_Cmul]
            by_cases hj : j < bsz D
            · rw [if_pos hj, if_pos hj]
              refine pl_ext fun i => ?_
              rw [co_sub, co_mkP, co_mkP]
              by_cases hi : i < N
              · rw [if_pos hi, if_pos hi, g6 j i hi]
                by_cases hmj : m ≤ j
                · rw [if_pos (by omega), if_pos hmj]
                  have : pmul (bco B (j - m)) s = pmul s (bco B (j - m)) := by
                    letI := plRing Fp
                    have hh : ∀ A B : Un, A * B = B * A := by intros; grind
                    exact hh _ _
                  rw [this]
                · rw [if_neg (by omega), if_neg hmj, co_z]; grind
              · rw [if_neg hi, if_neg hi]
                by_cases hmj : m ≤ j
                · rw [if_pos hmj]
                  have : pmul s (bco B (j - m)) = pmul (bco B (j - m)) s := by
                    letI := plRing Fp
                    have hh : ∀ A B : Un, A * B = B * A := by intros; grind
                    exact hh _ _
                  rw [this, sz_le (pmul (bco B (j - m)) s) i (by have := g7 (j - m) (Nat.zero_le _); omega)]; grind
                · rw [if_neg hmj, co_z]; grind
            · rw [if_neg hj, if_neg hj]
              refine pl_ext fun i => ?_
              rw [co_sub, co_z]
              split
              · rw [bsz_le B (j - m) (by omega), (szmul_z s).1, co_z]; grind
              · rw [co_z]; grind
          refine ih L' _ h4 (by omega) g2 g3 g4 g5 ?_ ?_ (fun G eG h' k1 k2 => q1 G eG h' (f14.tr k1) k2) (fun hd h' k1 => q0 hd h' (f14.tr k1))
          · have eT : Tq (fun j' i' => if j' = m then co s i' else T j' i') N M m = badd (Tq T N M (m + 1)) (bmul (bX m) (bC s)) := cc_ext fun j i => by
              rw [cc_add]
              unfold Tq
              rw [cc_b2, cc_b2]
              unfold cc
              rw [bco_Xmul, bco_C]
              by_cases hj : j < M ∧ i < N
              · rw [if_pos hj, if_pos hj]
                show (if m ≤ j then (if j = m then co s i else T j i) else 0) = _
                by_cases e : j = m
                · rw [if_pos (by omega), if_pos e, if_neg (by omega), if_pos (by omega), if_pos (by omega)]; grind
                · rw [if_neg e]
                  by_cases e2 : m + 1 ≤ j
                  · rw [if_pos (by omega), if_pos e2, if_pos (by omega), if_neg (by omega), co_z]; grind
                  · rw [if_neg (by omega), if_neg e2, if_neg (by omega), co_z]; grind
              · rw [if_neg hj, if_neg hj]
                by_cases e : m ≤ j
                · rw [if_pos e]
                  by_cases e2 : j - m = 0
                  · rw [if_pos e2, sz_le s i (by omega)]; grind
                  · rw [if_neg e2, co_z]; grind
                · rw [if_neg e, co_z]; grind
            rw [eT, eL']
            letI i2 : Lean.Grind.CommRing Bi := @plRing Un (plRing Fp)
            have hh : ∀ A B C D E : Bi, A = B * C + D → A = B * (C + E) + (D - B * E) := by intros; grind
            exact hh _ _ _ _ _ he
          · refine bsz_min fun j hj => ?_
            rw [eL', bco_sub, b_mulc, b_assoc, bco_Xmul, bco_Cmul, if_pos (by omega)]
            by_cases e : j = m + bsz B - 1
            · rw [e, ← eL, e2, z, show m + bsz B - 1 - m = bsz B - 1 by omega]
              refine pl_ext fun i => ?_
              rw [co_sub, co_add, co_z]
              show co (pmul s (bhd B)) i + 0 - co (pmul s (bhd B)) i = 0
              grind
            · rw [bsz_le (b2 L N (bsz D)) j (by omega), bsz_le B (j - m) (by omega), (szmul_z s).1]
              exact pl_ext fun i => by rw [co_sub, co_z]; grind
        · obtain ⟨G, e⟩ := hd
          have h7 := prod_szN hB e i' m
          rw [← (key G e).1] at h7
          omega
      · obtain ⟨G, e⟩ := hd
        have h7 := quot_szN hB e
        have h8 := bsn_le G m
        rw [← (key G e).1] at h8
        omega
    · obtain ⟨G, e⟩ := hd
      exact z (key G e).2
theorem ok_divides (hp : g.2.2.2.2 = true) (ta : lay a = (0, 4, 4)) (tb : lay b = (0, 4, 4)) (tc : lay c = (0, 4, 4)) (ha : 22 < a) (hb : 22 < b) (hc : 22 < c) (ha2 : a ≠ 29) (hb2 : b ≠ 29) (hc2 : c ≠ 29) (hac : a ≠ c) (hbc : b ≠ c) (hw : Kp h) {B D : Bi} (Ha : DI h a B) (Hb : DI h b D) (hB : B ≠ bz) (hN : bsn D ≤ 900) (hNc : bsn D ≤ wd c) (hKc : bsz D ≤ hg c) {Q : Int32 → Hp → Prop} (q1 : ∀ G, D = bmul B G → ∀ h', Fr h h' (Ldv c) → DI h' c G → Q 1 h') (q0 : ¬ bdv B D → ∀ h', Fr h h' (Ldv c) → Q 0 h') : CallI g m_X1_divides (d + 4) [.ref 1, .ref a, .ref b, .ref c] n h Q := by
  have oa := dout2 tc ta (Ne.symm hac)
  have ob := dout2 tc tb (Ne.symm hbc)
  have o1 := da_ne ta t29
  have o2 := da_ne t29 ta
  have o3 := da_ne tc t29
  have o4 := da_ne t29 tc
  have o5 := da_ne tb t29
  have o6 := da_ne t29 tb
  have hBp := bsz_pos hB
  refine okI 3 rfl rfl (s_X1_divides_0 hp ta tb tc (ok_dclear hp tc (hw.w tc) (fun h1 f1 H1 => ?_)))
  have f1' := f1.mono (M := [c, c + 1]) (by simp)
  have Ha1 := Ha.fr f1' oa.1 oa.2
  have Hb1 := Hb.fr f1' ob.1 ob.2
  have hk1 := Ha.ltk
  have hk2 := Hb.ltk
  have hn1 := Ha.ltn
  refine ok_dcopy hp t29 tb (Ne.symm hb2) ((f1.kp hw).w t29) Hb1 (by rw [wd29]; exact hN) (by rw [hg29]; exact hk2) (fun h2 f2 H2 => ?_)
  have Ha2 := Ha1.fr f2 (by simp; omega) (by simp; omega)
  have Hb2 := Hb1.fr f2 (by simp; omega) (by simp; omega)
  have H12 := H1.fr f2 (by simp; omega) (by simp; omega)
  have f12 : Fr h h2 (Ldv c) := (f1.mono (by simp)).tr (f2.mono (by simp))
  have j39 : (¬ (bsz B ≤ bsz D ∧ bsn B ≤ bsn D)) → W_X1_divides g (d + 3) [.ref 1, .ref a, .ref b, .ref c] (QI n Q) n 39 [none, none, some (.ref b), none, none, none, none] [] h2 := by
    intro hnot
    refine s_X1_divides_39 hp tb (ok_disZero hp tb Hb2 (fun z => ⟨Or.inr rfl, qI (q1 bz (by rw [b_mulz']; exact z) h2 f12 H12)⟩) (fun z => ⟨Or.inl rfl, qI (q0 (fun hd => hnot (bdv_bsz hd z)) h2 f12)⟩))
  have e0 : ri h2 b 3 - ri h2 a 3 = zI ((bsz D : Int) - bsz B) := by rw [Ha2.k, Hb2.k]; simp (disch := omega) only [nI_z, z0, z1, z2, zm1, zI_add, zI_sub, zI_neg, zI_mul, zI_le, zI_lt, zI_eq, zI_tN, zI_inI]
  rw [e0, Ha2.n, Hb2.n, nI_leI (by omega) (by omega), z0, zI_lt (by omega) (by omega) (by omega) (by omega)]
  refine ⟨fun c' => j39 (by omega), fun c' => ⟨fun c2 => ?_, fun c2 => j39 (by omega)⟩⟩
  have e1 : zI ((bsz D : Int) - bsz B) + 1 = nI (bsz D + 1 - bsz B) := by simp (disch := omega) only [nI_z, z0, z1, z2, zm1, zI_add, zI_sub, zI_neg, zI_mul, zI_le, zI_lt, zI_eq, zI_tN, zI_inI]; congr 1; omega
  rw [e1]
  refine ok_open hp tc H12.w hNc (by omega) (fun h3 f3 H3 => ?_)
  have Ha3 := Ha2.fr f3 oa.1 oa.2
  have H23 := H2.fr f3 (by simp; omega) (by simp; omega)
  have e2 : ri h3 a 3 - 1 = nI (bsz B - 1) := by rw [Ha3.k, nI_sub1 hBp]
  rw [e2]
  refine ok_row hp ta t11 Ha3 (by omega) (by rw [r12]; omega) (fun h4 f4 H4 => ?_)
  have f14 : Fr h h4 (Ldv c) := (f12.tr (f3.mono (by simp))).tr (f4.mono (by simp))
  have e3 : zI ((bsz D : Int) - bsz B) = zI (((bsz D + 1 - bsz B : Nat) : Int) - 1) := by congr 1; omega
  rw [e3]
  refine w_dv74 hp ta tc ha hc ha2 hc2 hac hB rfl (by omega) c2 hN (bsz D + 1 - bsz B) (cc D) (fun _ _ => 0) h4 (Nat.le_refl _) (Ha3.fr f4 (by simp; omega) (by simp; omega)) H4 (H23.fr f4 (by decide) (by decide)) (H3.fr f4 (by simp; omega) (by simp; omega)) ?_ ?_ (fun G eG h' k1 k2 => q1 G eG h' (f14.tr k1) k2) (fun hd h' k1 => q0 hd h' (f14.tr k1))
  · have eT : Tq (fun _ _ => 0) (bsn D) (bsz D + 1 - bsz B) (bsz D + 1 - bsz B) = bz := cc_ext fun j i => by
      unfold Tq
      rw [cc_b2, cc_z, ite_self, ite_self]
    rw [eT, b_mulz', b_zadd, b2_cc D (Nat.le_refl _) (Nat.le_refl _)]
  · rw [b2_cc D (Nat.le_refl _) (Nat.le_refl _)]; omega
end
