set_option maxRecDepth 100000
/-! ONE RATIO: a number for n, for k; derivatives -/
/-- a number for n -/
noncomputable def bfN (v : Fp) (F : Bi) : Bi := b2 (fun j _ => ev (bco F j) v) 1 (bsz F)
/-- a number for k, by Horner -/
noncomputable def hkF (v : Fp) (F : Bi) : Nat → Un → Un
  | 0, p => p
  | j + 1, p => hkF v F j (padd (pmul (pC v) p) (bco F j))
noncomputable def bfK (v : Fp) (F : Bi) : Bi := bC (hkF v F (bsz F) pz)
/-- derivatives along n, along k -/
noncomputable def bdN (F : Bi) : Bi := b2 (fun j i => cc F j (i + 1) * nF (i + 1)) (bsn F) (bsz F)
noncomputable def bdK (F : Bi) : Bi := b2 (fun j i => cc F (j + 1) i * nF (j + 1)) (bsn F) (bsz F)
theorem b2_sz (f : Nat → Nat → Fp) (N K : Nat) : bsn (b2 f N K) ≤ N ∧ bsz (b2 f N K) ≤ K := by
  refine ⟨bsn_min fun j i hi => ?_, ?_⟩
  · rw [cc_b2, if_neg (by omega)]
  · refine Nat.le_of_not_lt fun w => ?_
    have hne : b2 f N K ≠ bz := fun e => by rw [e, bsz_z] at w; omega
    obtain ⟨i, hi⟩ : ∃ i, cc (b2 f N K) (bsz (b2 f N K) - 1) i ≠ 0 := by
      have := bhd_ne hne
      exact ⟨sz (bhd (b2 f N K)) - 1, hd_ne this⟩
    rw [cc_b2, if_neg (by omega)] at hi
    exact hi rfl
theorem hkF_sz (v : Fp) (F : Bi) : ∀ (j : Nat) (p : Un), sz p ≤ bsn F → sz (hkF v F j p) ≤ bsn F
  | 0, p, h => h
  | j + 1, p, h => hkF_sz v F j _ (by
    refine sz_min (szle_add ?_ (szle_mono (sz_le _) (bsn_le F j)))
    intro i hi
    rw [pC_mul, sz_le p i (by omega)]; grind)
theorem bfN_sz (v : Fp) (F : Bi) : bsn (bfN v F) ≤ 1 ∧ bsz (bfN v F) ≤ bsz F := b2_sz _ _ _
theorem bfK_sz (v : Fp) (F : Bi) : bsn (bfK v F) ≤ bsn F ∧ bsz (bfK v F) ≤ 1 := by
  unfold bfK
  refine ⟨by rw [bsn_C]; exact hkF_sz v F _ _ (by rw [sz_z]; omega), ?_⟩
  by_cases h : hkF v F (bsz F) pz = pz
  · rw [h, bC_z, bsz_z]; omega
  · rw [bsz_C h]; omega
section
variable {g : GX} {d n : Nat} {h h' : Hp} {a c : Nat}
theorem t103 : lay 103 = (0, 3, 2) := by decide +kernel
theorem r104 : rm (103 + 1) = 1800 := by decide +kernel
theorem t832 : lay 832 = (0, 3, 2) := by decide +kernel
theorem r833 : rm (832 + 1) = 1800 := by decide +kernel
theorem w_putN (hp : g.2.2.2.2 = true) (ta : lay a = (0, 4, 4)) (tc : lay c = (0, 4, 4)) (hac : a ≠ c) {av : List Value} {F : Bi} {v : Fp} {Q : Hp → Prop} (h1 : 1 ≤ wd c) : ∀ (k j : Nat) (f : Nat → Nat → Fp) (h : Hp), j + k = bsz F → DI h a F → PI h 103 (bat v F) → DA h c 1 (bsz F) f → (∀ l, l < j → f l 0 = ev (bco F l) v) → (∀ h', Fr h h' [c, c + 1] → DI h' c (bfN v F) → Q h') → W_X0_putN g (d + 1) av (QV n Q) n 21 [some (.ref 0), some (.ref a), none, some (.ref c), some (.int (nI j))] [] h := by
  intro k
  induction k with
  | zero =>
    intro j f h hj H P D hf q
    have ltk := H.ltk
    refine s_X0_putN_21 hp ta tc ⟨fun _ => ok_dtrim hp tc D (fun h1 f1 H1 => qV (q h1 (f1.mono (by simp)) ?_)), fun c => absurd ?_ c⟩
    · have e : b2 f 1 (bsz F) = bfN v F := b2_cong fun j' i hj' hi => by
        have e0 : i = 0 := by omega
        subst e0; exact hf j' (by omega)
      rw [← e]; exact H1
    · rw [H.k, nI_leI (by omega) (by omega)]; omega
  | succ k ih =>
    intro j f h hj H P D hf q
    have ltk := H.ltk
    refine s_X0_putN_21 hp ta tc ⟨fun c => absurd c ?_, fun _ => ok_get hp t103 P (by omega) ⟨?_, fun h3 e3 => ?_⟩⟩
    · rw [H.k, nI_leI (by omega) (by omega)]; omega
    · have := D.inx (j := j) (i := 0) (by omega) (by omega)
      rwa [show nI j * ri h c 0 + nI 0 = nI j * ri h c 0 by rw [show nI 0 = (0 : Int32) from rfl, Int32.add_zero]] at this
    · have et := D.tn (j := j) (i := 0) (by omega) (by omega)
      rw [show nI j * ri h c 0 + nI 0 = nI j * ri h c 0 by rw [show nI 0 = (0 : Int32) from rfl, Int32.add_zero]] at et
      rw [et] at e3
      have D3 := D.upd (j := j) (i := 0) (v := co (bat v F) j) (by omega)
      rw [← e3] at D3
      have f3 : Fr h h3 [c, c + 1] := by rw [e3]; exact Fr.rf.put (by simp) (nk4 tc)
      rw [show (1 : Int32) = nI 1 from rfl, nI_addz]
      have o1 := dout2 tc ta (Ne.symm hac)
      have o2 := pout2 tc t103
      refine ih (j + 1) _ h3 (by omega) (H.fr f3 o1.1 o1.2) (P.fr f3 o2.1 o2.2) D3 (fun l hl => ?_) (fun h' f' D' => q h' (f3.tr f') D')
      by_cases e : l = j
      · subst e; rw [if_pos ⟨rfl, rfl⟩, co_bat]
      · rw [if_neg (fun w => e w.1)]; exact hf l (by omega)
/-- n becomes a number -/
theorem ok_putN (hp : g.2.2.2.2 = true) (ta : lay a = (0, 4, 4)) (tc : lay c = (0, 4, 4)) (hac : a ≠ c) (K : Kp h) {F : Bi} {v : Fp} (H : DI h a F) (hw : 1 ≤ wd c) (hh : bsz F ≤ hg c) {Q : Hp → Prop} (q : ∀ h', Fr h h' [103, 104, c, c + 1] → DI h' c (bfN v F) → Q h') : CallV g m_X0_putN (d + 3) [.ref 0, .ref a, .int (toI v), .ref c] n h Q := by
  have ltk := H.ltk
  refine okV 1 rfl rfl (s_X0_putN_0 hp ta tc (ok_atN hp ta t103 H (by rw [r104]; omega) (fun h1 f1 P1 => ?_)))
  have o := dpout2 ta t103
  have H1 := H.fr f1 o.1 o.2
  rw [H1.k, show (1 : Int32) = nI 1 from rfl]
  refine ok_open hp tc ((f1.kp K).w tc) hw hh (fun h2 f2 D2 => ?_)
  have o1 := dout2 tc ta (Ne.symm hac)
  have o2 := pout2 tc t103
  exact w_putN hp ta tc hac hw (bsz F) 0 _ h2 (by omega) (H1.fr f2 o1.1 o1.2) (P1.fr f2 o2.1 o2.2) D2 (fun l hl => absurd hl (Nat.not_lt_zero _)) (fun h' f' D' => q h' (((f1.mono (by simp)).tr (f2.mono (by simp))).tr (f'.mono (by simp))) D')
theorem w_putK (hp : g.2.2.2.2 = true) (ta : lay a = (0, 4, 4)) (tc : lay c = (0, 4, 4)) (hac : a ≠ c) {av : List Value} {F : Bi} {v : Fp} (hn : bsn F ≤ wd c) (h1 : 1 ≤ hg c) {Q : Hp → Prop} : ∀ (j : Nat) (p : Un) (h : Hp), j ≤ bsz F → Kp h → DI h a F → PI h 832 p → sz p ≤ bsn F → (∀ h', Fr h h' [103, 104, 832, 833, c, c + 1] → DI h' c (bC (hkF v F j p)) → Q h') → W_X0_putK g (d + 2) av (QV n Q) n 15 [some (.ref 0), some (.ref a), some (.int (toI v)), some (.ref c), some (.int (zI ((j : Int) - 1)))] [] h := by
  intro j
  induction j with
  | zero =>
    intro p h hj K H P hs q
    refine s_X0_putK_15 hp ta tc ⟨fun _ => ?_, fun c => absurd ?_ c⟩
    · rw [P.1, show (1 : Int32) = nI 1 from rfl]
      refine ok_open hp tc (K.w tc) (by omega) h1 (fun h2 f2 D2 => ?_)
      have o2 := pout2 tc t832
      refine ok_putRow (j := 0) hp tc t832 D2 (P.fr f2 o2.1 o2.2) (by omega) (fun h3 f3 D3 => ok_dtrim hp tc D3 (fun h4 f4 D4 => qV (q h4 (((f2.mono (by simp)).tr (f3.mono (by simp))).tr (f4.mono (by simp))) ?_)))
      have e : b2 (fun j' i' => if j' = 0 then co p i' else 0) (sz p) 1 = bC p := by
        refine cc_ext fun j i => ?_
        rw [cc_b2, cc_C]
        by_cases hj : j = 0
        · subst hj
          by_cases hi : i < sz p
          · rw [if_pos ⟨by omega, hi⟩]
          · rw [if_neg (by omega), if_pos rfl, sz_le p i (by omega)]
        · rw [if_neg (by omega), if_neg hj]
      rw [e] at D4
      exact D4
    · simp (disch := omega) only [nI_z, z0, z1, z2, zm1, zI_add, zI_sub, zI_neg, zI_mul, zI_le, zI_lt, zI_eq, zI_tN, zI_inI]; omega
  | succ j ih =>
    intro p h hj K H P hs q
    have ltk := H.ltk
    have ltn := H.ltn
    have e0 : zI (((j + 1 : Nat) : Int) - 1) = nI j := by rw [nI_z]; congr 1; omega
    rw [e0]
    refine s_X0_putK_15 hp ta tc ⟨fun c => absurd c (nI_pos (by omega)), fun _ => ok_scale hp t832 P (fun h4 f4 P4 => ?_)⟩
    have o := dpout2 ta t832
    have H4 := H.fr f4 o.1 o.2
    refine ok_row hp ta t103 H4 (by omega) (by rw [r104]; omega) (fun h5 f5 P5 => ?_)
    have o5 := dpout2 ta t103
    have H5 := H4.fr f5 o5.1 o5.2
    have s1 : sz (pmul (pC v) p) ≤ bsn F := sz_min fun i hi => by rw [pC_mul, sz_le p i (by omega)]; grind
    rw [show (1 : Int32) = toI 1 from toI_1.symm, show (0 : Int32) = nI 0 from rfl]
    refine ok_padd (u := 0) hp t832 t103 (by decide) (P4.fr f5 (by decide) (by decide)) P5 (by rw [r833]; have := bsn_le F j; omega) (fun h6 f6 P6 => ?_)
    have ep : padd (pmul (pC v) p) (pmul (pC 1) (pmul (pX 0) (bco F j))) = padd (pmul (pC v) p) (bco F j) := pl_ext fun i => by
      rw [co_add, co_add, pC_mul, pC_mul, co_Xmul, if_pos (by omega), Nat.sub_zero]; grind
    rw [ep] at P6
    have s2 : sz (padd (pmul (pC v) p) (bco F j)) ≤ bsn F := sz_min (szle_add (szle_mono (sz_le _) s1) (szle_mono (sz_le _) (bsn_le F j)))
    rw [toI_1, show nI j + -1 = zI ((j : Int) - 1) by simp (disch := omega) only [nI_z, z0, z1, z2, zm1, zI_add, zI_sub, zI_neg, zI_mul, zI_le, zI_lt, zI_eq, zI_tN, zI_inI]; congr 1]
    have f46 : Fr h h6 [103, 104, 832, 833, c, c + 1] := (((f4.mono (by simp)).tr (f5.mono (by simp))).tr (f6.mono (by simp)))
    exact ih _ h6 (by omega) (f46.kp K) (H5.fr f6 o.1 o.2) P6 s2 (fun h' f' D' => q h' (f46.tr f') D')
/-- k becomes a number -/
theorem ok_putK (hp : g.2.2.2.2 = true) (ta : lay a = (0, 4, 4)) (tc : lay c = (0, 4, 4)) (hac : a ≠ c) (K : Kp h) {F : Bi} {v : Fp} (H : DI h a F) (hn : bsn F ≤ wd c) (hh1 : 1 ≤ hg c) {Q : Hp → Prop} (q : ∀ h', Fr h h' [103, 104, 832, 833, c, c + 1] → DI h' c (bfK v F) → Q h') : CallV g m_X0_putK (d + 3) [.ref 0, .ref a, .int (toI v), .ref c] n h Q := by
  have ltk := H.ltk
  refine okV 1 rfl rfl (s_X0_putK_0 hp ta tc (ok_clear hp t832 (fun h1 f1 P1 => ?_)))
  have o := dpout2 ta t832
  have H1 := H.fr f1 (fun w => o.1 (by simp at w ⊢; omega)) (fun w => o.2 (by simp at w ⊢; omega))
  rw [H1.k, show nI (bsz F) - 1 = zI (((bsz F : Nat) : Int) - 1) by simp (disch := omega) only [nI_z, z0, z1, z2, zm1, zI_add, zI_sub, zI_neg, zI_mul, zI_le, zI_lt, zI_eq, zI_tN, zI_inI]]
  exact w_putK hp ta tc hac hn hh1 (bsz F) pz h1 (Nat.le_refl _) (f1.kp K) H1 P1 (by rw [sz_z]; omega) (fun h' f' D' => q h' ((f1.mono (by simp)).tr f') D')
/-- the numbers that derive has put so far -/
noncomputable def dvf (alN : Bool) (F : Bi) (j i : Nat) : Fp := if alN = true then cc F j (i + 1) * nF (i + 1) else cc F (j + 1) i * nF (j + 1)
theorem w_der27 (hp : g.2.2.2.2 = true) (ta : lay a = (0, 4, 4)) (tc : lay c = (0, 4, 4)) (hac : a ≠ c) {av : List Value} {F : Bi} {alN : Bool} {j : Nat} (hj : j < bsz F) {Q : QT} : ∀ (k i : Nat) (f : Nat → Nat → Fp) (h : Hp), i + k = bsn F → DI h a F → DA h c (bsn F) (bsz F) f → (∀ h1 f1, Fr h h1 [c, c + 1] → DI h1 a F → DA h1 c (bsn F) (bsz F) f1 → (∀ l m, l < bsz F → m < bsn F → f1 l m = if alN = true then (if l = j ∧ i ≤ m + 1 ∧ m + 1 < bsn F then dvf alN F l m else f l m) else (if l + 1 = j ∧ i ≤ m then dvf alN F l m else f l m)) → W_X0_derive g d av Q n 15 [none, some (.ref a), some (.int (if alN = true then 1 else 0)), some (.ref c), some (.int (nI (j + 1))), none, none] [] h1) → W_X0_derive g d av Q n 27 [none, some (.ref a), some (.int (if alN = true then 1 else 0)), some (.ref c), some (.int (nI j)), some (.int (nI i)), none] [] h := by
  intro k
  induction k with
  | zero =>
    intro i f h hi H D q
    have ltk := H.ltk
    have ltn := H.ltn
    refine s_X0_derive_27 hp ta tc ⟨fun _ => ?_, fun c => absurd ?_ c⟩
    · rw [show (1 : Int32) = nI 1 from rfl, nI_addz]
      refine q h f Fr.rf H D (fun l m hl hm => ?_)
      cases alN with
      | true => rw [if_pos rfl, if_neg (by omega)]
      | false => rw [if_neg (by decide), if_neg (by omega)]
    · rw [H.n, nI_leI (by omega) (by omega)]; omega
  | succ k ih =>
    intro i f h hi H D q
    have ltk := H.ltk
    have ltn := H.ltn
    have eg : ccI F (nI i) (nI j) = cc F j i := by unfold ccI; rw [if_neg (by intro w; rcases w with w | w <;> exact nI_pos (by omega) w), nI_tN (by omega), nI_tN (by omega)]
    have eN : ∀ m : Nat, m < 2147483647 → nI m = toI (nF m) := fun m hm => (toI_nF hm).symm
    have o1 := dout2 tc ta (Ne.symm hac)
    have go : ∀ (h1 : Hp) (f1 : Nat → Nat → Fp), Fr h h1 [c, c + 1] → DI h1 a F → DA h1 c (bsn F) (bsz F) f1 → (∀ l m, l < bsz F → m < bsn F → f1 l m = if alN = true then (if l = j ∧ m + 1 = i then dvf alN F l m else f l m) else (if l + 1 = j ∧ m = i then dvf alN F l m else f l m)) → W_X0_derive g d av Q n 115 [none, some (.ref a), some (.int (if alN = true then 1 else 0)), some (.ref c), some (.int (nI j)), some (.int (nI i)), none] [] h1 := by
      intro h1 f1 fr H1 D1 e1
      refine s_X0_derive_115 hp ta tc ?_
      rw [show (1 : Int32) = nI 1 from rfl, nI_addz]
      refine ih (i + 1) f1 h1 (by omega) H1 D1 (fun h2 f2 fr2 H2 D2 e2 => q h2 f2 (fr.tr fr2) H2 D2 (fun l m hl hm => ?_))
      rw [e2 l m hl hm, e1 l m hl hm]
      cases alN with
      | true =>
        simp only [if_true]
        by_cases c1 : l = j ∧ m + 1 = i
        · rw [if_pos c1]
          by_cases c2 : l = j ∧ i + 1 ≤ m + 1 ∧ m + 1 < bsn F
          · rw [if_pos c2, if_pos (by omega)]
          · rw [if_neg c2, if_pos (by omega)]
        · rw [if_neg c1]
          by_cases c2 : l = j ∧ i + 1 ≤ m + 1 ∧ m + 1 < bsn F
          · rw [if_pos c2, if_pos (by omega)]
          · rw [if_neg c2, if_neg (by omega)]
      | false =>
        rw [if_neg (show ¬ false = true by decide), if_neg (show ¬ false = true by decide), if_neg (show ¬ false = true by decide)]
        by_cases c1 : l + 1 = j ∧ m = i
        · rw [if_pos c1]
          by_cases c2 : l + 1 = j ∧ i + 1 ≤ m
          · rw [if_pos c2, if_pos (by omega)]
          · rw [if_neg c2, if_pos (by omega)]
        · rw [if_neg c1]
          by_cases c2 : l + 1 = j ∧ i + 1 ≤ m
          · rw [if_pos c2, if_pos (by omega)]
          · rw [if_neg c2, if_neg (by omega)]
    refine s_X0_derive_27 hp ta tc ⟨fun c => absurd c ?_, fun _ => ok_dget hp ta H ?_⟩
    · rw [H.n, nI_leI (by omega) (by omega)]; omega
    · rw [eg, powB, show (0 : Int32) = nI 0 from rfl, nI_leI (by omega) (by omega)]
      have k82 : alN = false → W_X0_derive g d av Q n 82 [none, some (.ref a), some (.int (if alN = true then 1 else 0)), some (.ref c), some (.int (nI j)), some (.int (nI i)), some (.int (toI (cc F j i)))] [] h := by
        intro ea
        refine s_X0_derive_82 hp ta tc ?_
        rw [powB, show (0 : Int32) = nI 0 from rfl, nI_leI (by omega) (by omega)]
        refine ⟨fun w => absurd ea w, fun _ => ⟨fun w => go h f Fr.rf H D (fun l m hl hm => ?_), fun w => ?_⟩⟩
        · rw [ea, if_neg (by decide), if_neg (by omega)]
        · rw [eN j (by omega)]
          refine ok_times hp ?_
          rw [← eN j (by omega), show nI j - 1 = nI (j - 1) from nI_sub1 (by omega)]
          refine ⟨D.inx (by omega) (by omega), fun h2 e2 => ?_⟩
          rw [D.tn (by omega) (by omega)] at e2
          have D2 := D.upd (j := j - 1) (i := i) (v := cc F j i * nF j) (by omega)
          rw [← e2] at D2
          have f2 : Fr h h2 [c, c + 1] := by rw [e2]; exact Fr.rf.put (by simp) (nk4 tc)
          refine go h2 _ f2 (H.fr f2 o1.1 o1.2) D2 (fun l m hl hm => ?_)
          rw [ea, if_neg (show ¬ false = true by decide)]
          by_cases c1 : l = j - 1 ∧ m = i
          · rw [if_pos c1, if_pos (by omega), c1.1, c1.2]
            unfold dvf
            rw [if_neg (show ¬ false = true by decide), show j - 1 + 1 = j by omega]
          · rw [if_neg c1, if_neg (by omega)]
      refine ⟨fun w => k82 w, fun w => ?_⟩
      have ea : alN = true := by simpa using w
      refine ⟨fun c2 => ?_, fun c2 => ?_⟩
      · -- i = 0 along n
        refine s_X0_derive_82 hp ta tc ⟨fun _ => go h f Fr.rf H D (fun l m hl hm => ?_), fun w => absurd ((powB alN).mp w) (by rw [ea]; decide)⟩
        rw [ea, if_pos rfl, if_neg (by omega)]
      · rw [eN i (by omega)]
        refine ok_times hp ?_
        rw [← eN i (by omega)]
        have ex : nI j * ri h c 0 + nI i - 1 = nI j * ri h c 0 + nI (i - 1) := by
          rw [D.w]; simp (disch := omega) only [nI_z, z0, z1, z2, zm1, zI_add, zI_sub, zI_neg, zI_mul, zI_le, zI_lt, zI_eq, zI_tN, zI_inI]; congr 1; omega
        rw [ex]
        refine ⟨D.inx (by omega) (by omega), fun h2 e2 => ?_⟩
        rw [D.tn (by omega) (by omega)] at e2
        have D2 := D.upd (j := j) (i := i - 1) (v := cc F j i * nF i) (by omega)
        rw [← e2] at D2
        have f2 : Fr h h2 [c, c + 1] := by rw [e2]; exact Fr.rf.put (by simp) (nk4 tc)
        refine go h2 _ f2 (H.fr f2 o1.1 o1.2) D2 (fun l m hl hm => ?_)
        rw [ea, if_pos rfl]
        by_cases c1 : l = j ∧ m = i - 1
        · rw [if_pos c1, if_pos (by omega), c1.1, c1.2]
          unfold dvf
          rw [if_pos rfl, show i - 1 + 1 = i by omega]
        · rw [if_neg c1, if_neg (by omega)]
/-- along n or k -/
noncomputable def bder (alN : Bool) (F : Bi) : Bi := if alN = true then bdN F else bdK F
theorem bder_sz (alN : Bool) (F : Bi) : bsn (bder alN F) ≤ bsn F ∧ bsz (bder alN F) ≤ bsz F := by
  unfold bder
  split
  · exact b2_sz _ _ _
  · exact b2_sz _ _ _
theorem w_der15 (hp : g.2.2.2.2 = true) (ta : lay a = (0, 4, 4)) (tc : lay c = (0, 4, 4)) (hac : a ≠ c) {av : List Value} {F : Bi} {alN : Bool} {Q : Hp → Prop} : ∀ (k j : Nat) (f : Nat → Nat → Fp) (h : Hp), j + k = bsz F → DI h a F → DA h c (bsn F) (bsz F) f → (∀ l m, l < bsz F → m < bsn F → f l m = if alN = true then (if l < j ∧ m + 1 < bsn F then dvf alN F l m else 0) else (if l + 1 < j then dvf alN F l m else 0)) → (∀ h', Fr h h' [c, c + 1] → DI h' c (bder alN F) → Q h') → W_X0_derive g (d + 1) av (QV n Q) n 15 [none, some (.ref a), some (.int (if alN = true then 1 else 0)), some (.ref c), some (.int (nI j)), none, none] [] h := by
  intro k
  induction k with
  | zero =>
    intro j f h hj H D hf q
    have ltk := H.ltk
    refine s_X0_derive_15 hp ta tc ⟨fun _ => ok_dtrim hp tc D (fun h1 f1 H1 => qV (q h1 (f1.mono (by simp)) ?_)), fun c => absurd ?_ c⟩
    · have e : b2 f (bsn F) (bsz F) = bder alN F := by
        unfold bder
        cases alN with
        | true =>
          rw [if_pos rfl]
          refine b2_cong fun l m hl hm => ?_
          rw [hf l m hl hm, if_pos rfl]
          unfold dvf
          by_cases c1 : m + 1 < bsn F
          · rw [if_pos ⟨by omega, c1⟩, if_pos rfl]
          · rw [if_neg (by omega), cc_out (by omega)]; grind
        | false =>
          rw [if_neg (by decide)]
          refine b2_cong fun l m hl hm => ?_
          rw [hf l m hl hm, if_neg (by decide)]
          unfold dvf
          by_cases c1 : l + 1 < j
          · rw [if_pos c1, if_neg (by decide)]
          · rw [if_neg c1, cc_out (by omega)]; grind
      rw [← e]; exact H1
    · rw [H.k, nI_leI (by omega) (by omega)]; omega
  | succ k ih =>
    intro j f h hj H D hf q
    have ltk := H.ltk
    refine s_X0_derive_15 hp ta tc ⟨fun c => absurd c ?_, fun _ => ?_⟩
    · rw [H.k, nI_leI (by omega) (by omega)]; omega
    · refine w_der27 hp ta tc hac (by omega) (bsn F) 0 f h (by omega) H D (fun h1 f1 fr H1 D1 e1 => ih (j + 1) f1 h1 (by omega) H1 D1 (fun l m hl hm => ?_) (fun h' f' D' => q h' (fr.tr f') D'))
      rw [e1 l m hl hm, hf l m hl hm]
      cases alN with
      | true =>
        simp only [if_true]
        by_cases c1 : l = j ∧ 0 ≤ m + 1 ∧ m + 1 < bsn F
        · rw [if_pos c1, if_pos (by omega)]
        · rw [if_neg c1]
          by_cases c2 : l < j ∧ m + 1 < bsn F
          · rw [if_pos c2, if_pos (by omega)]
          · rw [if_neg c2, if_neg (by omega)]
      | false =>
        rw [if_neg (show ¬ false = true by decide), if_neg (show ¬ false = true by decide), if_neg (show ¬ false = true by decide)]
        by_cases c1 : l + 1 = j ∧ 0 ≤ m
        · rw [if_pos c1, if_pos (by omega)]
        · rw [if_neg c1]
          by_cases c2 : l + 1 < j
          · rw [if_pos c2, if_pos (by omega)]
          · rw [if_neg c2, if_neg (by omega)]
theorem ok_derive (hp : g.2.2.2.2 = true) (ta : lay a = (0, 4, 4)) (tc : lay c = (0, 4, 4)) (hac : a ≠ c) (K : Kp h) {F : Bi} {alN : Bool} (H : DI h a F) (hn : bsn F ≤ wd c) (hk : bsz F ≤ hg c) {Q : Hp → Prop} (q : ∀ h', Fr h h' [c, c + 1] → DI h' c (bder alN F) → Q h') : CallV g m_X0_derive (d + 2) [.ref 0, .ref a, .int (if alN = true then 1 else 0), .ref c] n h Q := by
  refine okV 3 rfl rfl (s_X0_derive_0 hp ta tc ?_)
  rw [H.n, H.k]
  have o1 := dout2 tc ta (Ne.symm hac)
  refine ok_open hp tc (K.w tc) hn hk (fun h1 f1 D1 => w_der15 hp ta tc hac (bsz F) 0 _ h1 (by omega) (H.fr f1 o1.1 o1.2) D1 (fun l m hl hm => ?_) (fun h' f' D' => q h' (f1.tr f') D'))
  cases alN with
  | true => rw [if_pos rfl, if_neg (by omega)]
  | false => rw [if_neg (by decide), if_neg (by omega)]
end
