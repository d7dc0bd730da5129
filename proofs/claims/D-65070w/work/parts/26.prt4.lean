set_option maxRecDepth 100000
/-! PARTS: divisors for many n -/
theorem toI_150 : (150 : Int32) = nI 150 := rfl
/-- what is kept of the points so far: places X, of degree b, t of them -/
def Lk (h : Hp) (P1 P2 : Bi) (gm : Un) (m b t : Nat) (X : Nat → Nat) : Prop := ri h 1 19 = nI b ∧ ri h 1 18 = nI t ∧ b ≤ 150 ∧ (∀ i j, i < j → j < t → X i < X j) ∧ (∀ i, i < t → X i < m ∧ ev (bhd P1) (nF (X i)) ≠ 0 ∧ sz (gcdU (bat (nF (X i)) P1) (bat (nF (X i)) P2)) = b + 1 ∧ ri h 35 i = nI (X i) ∧ ∀ j, j ≤ b → ri h 36 (i * 150 + j) = toI (co (gcdU (bat (nF (X i)) P1) (bat (nF (X i)) P2)) j * ev gm (nF (X i))))
abbrev Llk : List Nat := [1, 3, 4, 5, 6, 7, 8, 9, 10, 11, 12, 35, 36]
section
variable {g : GX} {d n : Nat} {h : Hp} {a b c : Nat}
theorem t1 : lay 1 = (0, 1, 20) := by decide +kernel
theorem t13 : lay 13 = (0, 3, 2) := by decide +kernel
theorem t15 : lay 15 = (0, 3, 2) := by decide +kernel
theorem t17 : lay 17 = (0, 3, 2) := by decide +kernel
theorem t23 : lay 23 = (0, 4, 4) := by decide +kernel
theorem t25 : lay 25 = (0, 4, 4) := by decide +kernel
theorem t27 : lay 27 = (0, 4, 4) := by decide +kernel
theorem t31 : lay 31 = (0, 4, 4) := by decide +kernel
theorem t33 : lay 33 = (0, 4, 4) := by decide +kernel
theorem t35 : lay 35 = (1, 2000, 0) := by decide +kernel
theorem t36 : lay 36 = (1, 300000, 0) := by decide +kernel
theorem t37 : lay 37 = (1, 2000, 0) := by decide +kernel
theorem r14 : rm (13 + 1) = 1800 := by decide +kernel
theorem r16 : rm (15 + 1) = 1800 := by decide +kernel
theorem r18 : rm (17 + 1) = 1800 := by decide +kernel
theorem w_keep21 (hp : g.2.2.2.2 = true) {av : List Value} {b t : Nat} {u : Fp} {p : Un} (hb : b + 1 ≤ 150) (ht : t < 2000) (hs : b + 1 ≤ sz p) {Q : Hp → Prop} : ∀ (k j : Nat) (h : Hp), j + k = b + 1 → ri h 1 19 = nI b → ri h 1 18 = nI t → PI h 9 p → (∀ j', j' < j → ri h 36 (t * 150 + j') = toI (co p j' * u)) → (∀ h', Fr h h' [1, 36] → (∀ x, x < t * 150 → ri h' 36 x = ri h 36 x) → ri h' 1 19 = nI b → ri h' 1 18 = nI (t + 1) → (∀ j', j' ≤ b → ri h' 36 (t * 150 + j') = toI (co p j' * u)) → Q h') → W_X1_keep g d av (QV n Q) n 21 [some (.ref 1), none, some (.int (toI u)), some (.int (nI j))] [] h := by
  intro k
  induction k with
  | zero =>
    intro j h hj Hb Ht H9 Hj q
    refine s_X1_keep_21 hp ⟨fun _ h1 e1 => qV (q h1 (by rw [e1]; exact Fr.rf.put (by simp)) (fun x hx => by rw [e1, ri_ne (by decide)]) (by rw [e1, ri_ne' (by decide)]; exact Hb) (by rw [e1, ri_same, Ht, nI_1]) (fun j' hj' => by rw [e1, ri_ne (by decide)]; exact Hj j' (by omega))), fun c' => absurd ?_ c'⟩
    rw [Hb]; simp (disch := omega) only [nI_addz, nI_1, nI_leI, nI_ltI, nI_eq, nI_tN, nI_inI]; omega
  | succ k ih =>
    intro j h hj Hb Ht H9 Hj q
    have h2 := H9.2.1
    have hr := rm_lt (9 + 1)
    refine s_X1_keep_21 hp ⟨fun c' => absurd c' ?_, fun _ => ?_⟩
    · rw [Hb]; simp (disch := omega) only [nI_addz, nI_1, nI_leI, nI_ltI, nI_eq, nI_tN, nI_inI]; omega
    · have e9 : ri h 10 (nI j).toNatClampNeg = toI (co p j) := by rw [nI_tN (by omega)]; exact H9.2.2 j (by omega)
      rw [e9, Ht, toI_150, nI_mulz, nI_addz, nI_tN (by omega)]
      refine ⟨nI_inL (L := rm (9 + 1)) (by omega) (by omega), ok_times hp ⟨nI_inL (by omega) (by omega), fun h3 e3 => ?_⟩⟩
      rw [nI_1]
      have f3 : Fr h h3 [1, 36] := by rw [e3]; exact Fr.rf.put (by simp)
      refine ih (j + 1) h3 (by omega) (by rw [e3, ri_ne (by decide)]; exact Hb) (by rw [e3, ri_ne (by decide)]; exact Ht) (H9.fr f3 (by decide) (by decide)) (fun j' hj' => ?_) (fun h' k1 k2 k3 k4 k5 => q h' (f3.tr k1) (fun x hx => ?_) k3 k4 k5)
      · rw [e3, ri_wi]
        by_cases e : j' = j
        · rw [if_pos ⟨rfl, by rw [e]⟩, e]
        · rw [if_neg (fun z => e (by omega))]; exact Hj j' (by omega)
      · rw [k2 x hx, e3, ri_ne' (by omega)]
theorem ok_keep (hp : g.2.2.2.2 = true) {P1 P2 : Bi} {gm : Un} {m b t : Nat} {X : Nat → Nat} (hm : m < 2147483647) (hb : b + 1 ≤ 150) (ht : t < 2000) (H : Lk h P1 P2 gm m b t X) (Hg : PI h 13 gm) (H9 : PI h 9 (gcdU (bat (nF m) P1) (bat (nF m) P2))) (hs : sz (gcdU (bat (nF m) P1) (bat (nF m) P2)) = b + 1) (hl : ev (bhd P1) (nF m) ≠ 0) {Q : Hp → Prop} (q : ∀ h', Fr h h' [1, 35, 36] → Lk h' P1 P2 gm (m + 1) b (t + 1) (fun i => if i = t then m else X i) → Q h') : CallV g m_X1_keep (d + 2) [.ref 1, .int (nI m)] n h Q := by
  obtain ⟨h1, h2, h3, h4, h5⟩ := H
  refine okV 2 rfl rfl (s_X1_keep_0 hp ?_)
  rw [h2]
  refine ⟨nI_inL ht (by omega), fun h6 e6 => ?_⟩
  rw [nI_tN (by omega)] at e6
  have f6 : Fr h h6 [1, 35, 36] := by rw [e6]; exact Fr.rf.put (by simp)
  have f6' : Fr h h6 [35] := by rw [e6]; exact Fr.rf.put (by simp)
  rw [← toI_nF hm]
  refine ok_value hp t13 (Hg.fr f6' (by decide) (by decide)) ?_
  refine w_keep21 hp hb ht (by omega) (b + 1) 0 h6 (by omega) (by rw [e6, ri_ne (by decide)]; exact h1) (by rw [e6, ri_ne (by decide)]; exact h2) (H9.fr f6' (by decide) (by decide)) (fun j' hj' => absurd hj' (Nat.not_lt_zero j')) (fun h7 k1 k2 k3 k4 k5 => q h7 (f6.tr (k1.mono (by simp))) ⟨k3, k4, h3, fun i j hij hj => ?_, fun i hi => ?_⟩)
  · show (if i = t then m else X i) < (if j = t then m else X j)
    by_cases e : j = t
    · rw [if_pos e, if_neg (by omega)]
      exact (h5 i (by omega)).1
    · rw [if_neg e, if_neg (by omega)]
      exact h4 i j hij (by omega)
  · by_cases e : i = t
    · simp only [if_pos e]
      refine ⟨by omega, hl, hs, ?_, fun j hj => ?_⟩
      · rw [k1.gi (by decide), e6, e, ri_same]
      · rw [e]; exact k5 j hj
    · simp only [if_neg e]
      obtain ⟨g1, g2, g3, g4, g5⟩ := h5 i (by omega)
      refine ⟨by omega, g2, g3, ?_, fun j hj => ?_⟩
      · rw [k1.gi (by decide), e6, ri_ne' e]; exact g4
      · rw [k2 _ (by omega), e6, ri_ne (by decide)]; exact g5 j hj
theorem Lk.fr {h h' : Hp} {P1 P2 : Bi} {gm : Un} {m b t : Nat} {X : Nat → Nat} {L : List Nat} (H : Lk h P1 P2 gm m b t X) (f : Fr h h' L) (o1 : 1 ∉ L) (o2 : 35 ∉ L) (o3 : 36 ∉ L) : Lk h' P1 P2 gm m b t X := ⟨by rw [f.gi o1]; exact H.1, by rw [f.gi o1]; exact H.2.1, H.2.2.1, H.2.2.2.1, fun i hi => by
  obtain ⟨g1, g2, g3, g4, g5⟩ := H.2.2.2.2 i hi
  exact ⟨g1, g2, g3, by rw [f.gi o2]; exact g4, fun j hj => by rw [f.gi o3]; exact g5 j hj⟩⟩
/-- what holds between points: no good one before the least degree is met, all of them kept behind it -/
def Li (P1 P2 : Bi) (bad : Un) (m b t : Nat) : Prop := bsz (gcdB P1 P2) ≤ b + 1 ∧ (bsz (gcdB P1 P2) < b + 1 → ∀ l, l < m → ev bad (nF l) = 0) ∧ (bsz (gcdB P1 P2) = b + 1 → cnt (fun l => ev bad (nF l) ≠ 0) m ≤ t)
theorem Li.bound {P1 P2 : Bi} {bad : Un} {m b t : Nat} (H : Li P1 P2 bad m b t) (hb : bad ≠ pz) (hm : m ≤ 2147483647) : m < sz bad + t := by
  have h1 := cnt_roots hb hm
  have h2 := cnt_not (fun l => ev bad (nF l) = 0) m
  by_cases e : bsz (gcdB P1 P2) = b + 1
  · have h3 := H.2.2 e
    have h4 : cnt (fun l => ¬ ev bad (nF l) = 0) m = cnt (fun l => ev bad (nF l) ≠ 0) m := rfl
    omega
  · have h3 := H.2.1 (by have := H.1; omega)
    have h4 : ∀ k, k ≤ m → cnt (fun l => ¬ ev bad (nF l) = 0) k = 0 := by
      intro k
      induction k with
      | zero => intro _; rfl
      | succ k ih =>
        intro hk
        rw [cnt_no (fun z => z (h3 k (by omega)))]
        exact ih (by omega)
    have := h4 m (Nat.le_refl _)
    omega
theorem w_look2 (hp : g.2.2.2.2 = true) {av : List Value} {P1 P2 : Bi} {gm bad : Un} {wn : Nat} (h1 : P1 ≠ bz) (h2 : P2 ≠ bz) (hk1 : bsz P1 ≤ 150) (hk2 : bsz P2 ≤ 150) (hM : MG P1 P2 (gcdB P1 P2) bad) (hw : wn ≤ 2000) {Q : Int32 → Hp → Prop} : ∀ (fu m b t : Nat) (X : Nat → Nat) (h : Hp), sz bad + wn ≤ m + fu → m < sz bad + wn + 1 → t ≤ wn → Lk h P1 P2 gm m b t X → Li P1 P2 bad m b t → DI h 23 P1 → DI h 25 P2 → PI h 13 gm → (∀ h' m' b' t' X', Fr h h' Llk → m ≤ m' → (t < wn → 0 < b → m < m') → m' < sz bad + wn + 1 → t' ≤ wn → (t' = wn ∨ b' = 0) → Lk h' P1 P2 gm m' b' t' X' → Li P1 P2 bad m' b' t' → Q (nI m') h') → W_X1_look g (d + 4) av (QI n Q) n 2 [some (.ref 1), none, some (.int (nI wn)), some (.int (nI m))] [] h := by
  have hbp : 1 ≤ sz bad := sz_pos hM.1
  have hbs := hM.2.1
  intro fu
  induction fu with
  | zero =>
    intro m b t X h hf hm ht H HI H23 H25 H13 q
    have hbd := HI.bound hM.1 (by omega)
    obtain ⟨l1, l2, l3, l4, l5⟩ := id H
    refine s_X1_look_2 hp ⟨fun _ => qI (q h m b t X Fr.rf (Nat.le_refl _) (fun z => absurd z (by omega)) hm ht (Or.inl (by omega)) H HI), fun c' => absurd ?_ c'⟩
    rw [l2]; simp (disch := omega) only [nI_addz, nI_1, nI_leI, nI_ltI, nI_eq, nI_tN, nI_inI]; omega
  | succ fu ih =>
    intro m b t X h hf hm ht H HI H23 H25 H13 q
    have hbd := HI.bound hM.1 (by omega)
    obtain ⟨l1, l2, l3, l4, l5⟩ := id H
    have step : ∀ (h' : Hp) (b' t' : Nat) (X' : Nat → Nat), Fr h h' Llk → t' ≤ wn → Lk h' P1 P2 gm (m + 1) b' t' X' → Li P1 P2 bad (m + 1) b' t' → t < wn → W_X1_look g (d + 4) av (QI n Q) n 143 [some (.ref 1), none, some (.int (nI wn)), some (.int (nI m))] [] h' := by
      intro h' b' t' X' f' ht' H' HI' htw
      refine s_X1_look_143 hp ?_
      rw [nI_1]
      refine ih (m + 1) b' t' X' h' (by omega) (by omega) ht' H' HI' (H23.fr f' (by decide) (by decide)) (H25.fr f' (by decide) (by decide)) (H13.fr f' (by decide) (by decide)) (fun h2 m2 b2' t2 X2 k1 k2 k3 k4 k5 k6 k7 k8 => q h2 m2 b2' t2 X2 (f'.tr k1) (by omega) (fun _ _ => by omega) k4 k5 k6 k7 k8)
    refine s_X1_look_2 hp ?_
    rw [l1, l2, nI_leI (by omega) (by omega)]
    refine ⟨fun c' => qI (q h m b t X Fr.rf (Nat.le_refl _) (fun z => absurd z (by omega)) hm ht (Or.inl (by omega)) H HI), fun c' => ⟨fun c2 => qI (q h m b t X Fr.rf (Nat.le_refl _) (fun _ z => absurd c2 ?_) hm ht (Or.inr ?_) H HI), fun c2 => ?_⟩⟩
    · rw [show (0 : Int32) = nI 0 from rfl]; simp (disch := omega) only [nI_addz, nI_1, nI_leI, nI_ltI, nI_eq, nI_tN, nI_inI]; omega
    · rw [show (0 : Int32) = nI 0 from rfl, nI_leI (by omega) (by omega)] at c2; omega
    · have hb0 : 0 < b := by
        rw [show (0 : Int32) = nI 0 from rfl, nI_leI (by omega) (by omega)] at c2; omega
      rw [← toI_nF (m := m) (by omega)]
      refine ok_atN hp t23 t9 H23 (by rw [r10]; omega) (fun h3 f3 H3 => ?_)
      refine ok_atN hp t25 t11 (H25.fr f3 (by decide) (by decide)) (by rw [r12]; omega) (fun h4 f4 H4 => ?_)
      have H94 := H3.fr f4 (by decide) (by decide)
      have f34 : Fr h h4 Llk := (f3.mono (by simp)).tr (f4.mono (by simp))
      have f34' : Fr h h4 [9, 10, 11, 12] := (f3.mono (by simp)).tr (f4.mono (by simp))
      have H234 := H23.fr f34' (by decide) (by decide)
      have H254 := H25.fr f34' (by decide) (by decide)
      have Hk4 := H.fr f34' (by decide) (by decide) (by decide)
      rw [toI_nF (m := m) (by omega)]
      have g1 := H94.lt
      have g2 := H4.lt
      rw [H94.1, H4.1, H234.k, H254.k]
      have e1 : nI (sz (bat (nF m) P1)) = nI (bsz P1) ↔ ev (bhd P1) (nF m) ≠ 0 := by rw [← bat_sz h1]; simp (disch := omega) only [nI_z, z0, z1, z2, zm1, zI_add, zI_sub, zI_neg, zI_mul, zI_le, zI_lt, zI_eq, zI_tN, zI_inI]; omega
      have e2 : nI (sz (bat (nF m) P2)) = nI (bsz P2) ↔ ev (bhd P2) (nF m) ≠ 0 := by rw [← bat_sz h2]; simp (disch := omega) only [nI_z, z0, z1, z2, zm1, zI_add, zI_sub, zI_neg, zI_mul, zI_le, zI_lt, zI_eq, zI_tN, zI_inI]; omega
      rw [e1, e2]
      -- a point that is left out is a bad one, or one of a greater degree
      have skip : (ev bad (nF m) = 0 ∨ bsz (gcdB P1 P2) < b + 1 ∧ False) → ∀ h', Fr h h' Llk → Lk h' P1 P2 gm m b t X → t < wn → W_X1_look g (d + 4) av (QI n Q) n 143 [some (.ref 1), none, some (.int (nI wn)), some (.int (nI m))] [] h' := by
        intro hbad h' f' H' htw
        have hb : ev bad (nF m) = 0 := hbad.elim id (fun z => z.2.elim)
        refine step h' b t X f' ht ⟨H'.1, H'.2.1, H'.2.2.1, H'.2.2.2.1, fun i hi => ?_⟩ ⟨HI.1, fun z l hl => ?_, fun z => ?_⟩ htw
        · obtain ⟨q1, q2⟩ := H'.2.2.2.2 i hi
          exact ⟨by omega, q2⟩
        · by_cases e : l = m
          · rw [e]; exact hb
          · exact HI.2.1 z l (by omega)
        · rw [cnt_no (fun w => w hb)]; exact HI.2.2 z
      have nb : ∀ z : ev bad (nF m) ≠ 0, ev (bhd P1) (nF m) ≠ 0 ∧ ev (bhd P2) (nF m) ≠ 0 ∧ sz (gcdU (bat (nF m) P1) (bat (nF m) P2)) = bsz (gcdB P1 P2) := hM.2.2 (nF m)
      refine ⟨fun c3 => skip (Or.inl (Classical.byContradiction fun z => c3 (nb z).1)) h4 f34 Hk4 (by omega), fun c3 => ⟨fun c4 => skip (Or.inl (Classical.byContradiction fun z => c4 (nb z).2.1)) h4 f34 Hk4 (by omega), fun c4 => ?_⟩⟩
      have z1 := (bat_sz h1).mpr c3
      have z2 := (bat_sz h2).mpr c4
      have p1 := bsz_pos h1
      have gne : gcdU (bat (nF m) P1) (bat (nF m) P2) ≠ pz := (mg_dv h1 c3).1
      have b1ne : bat (nF m) P1 ≠ pz := fun z => by rw [z, sz_z] at z1; omega
      have gsz : sz (gcdU (bat (nF m) P1) (bat (nF m) P2)) ≤ 150 := by have := gcdU_szl (q := bat (nF m) P2) b1ne; omega
      have gp := sz_pos gne
      have gge := mg_ge (P2 := P2) h1 c3
      refine ok_common hp t9 t11 t9 (by decide) (by decide) H94 H4 (by omega) (by omega) (by rw [r10]; omega) (fun h5 f5 H5 => ?_)
      have f35 : Fr h h5 Llk := f34.tr (f5.mono (by simp))
      have f5' : Fr h4 h5 [3, 4, 5, 6, 7, 8, 9, 10] := f5.mono (by simp)
      have Hk5 := Hk4.fr f5' (by decide) (by decide) (by decide)
      refine ok_degree hp t9 H5 ?_
      obtain ⟨w1, w2, w3, w4, w5⟩ := id Hk5
      -- behind the choice of the least degree
      have j124 : ∀ (h6 : Hp) (b' t' : Nat), Fr h h6 Llk → Lk h6 P1 P2 gm m b' t' X → Li P1 P2 bad m b' t' → PI h6 9 (gcdU (bat (nF m) P1) (bat (nF m) P2)) → PI h6 13 gm → t' < wn → b' + 1 ≤ 150 → b' ≤ sz (gcdU (bat (nF m) P1) (bat (nF m) P2)) - 1 → W_X1_look g (d + 4) av (QI n Q) n 124 [some (.ref 1), none, some (.int (nI wn)), some (.int (nI m))] [] h6 := by
        intro h6 b' t' f6 H6 HI6 H96 H136 ht6 hb6 hle
        refine s_X1_look_124 hp (ok_degree hp t9 H96 ?_)
        rw [H6.1]
        have e3 : nI (sz (gcdU (bat (nF m) P1) (bat (nF m) P2)) - 1) = nI b' ↔ sz (gcdU (bat (nF m) P1) (bat (nF m) P2)) = b' + 1 := by simp (disch := omega) only [nI_z, z0, z1, z2, zm1, zI_add, zI_sub, zI_neg, zI_mul, zI_le, zI_lt, zI_eq, zI_tN, zI_inI]; omega
        rw [e3]
        refine ⟨fun c5 => ?_, fun c5 => ?_⟩
        · have hb : ev bad (nF m) = 0 := Classical.byContradiction fun z => by
            have := (nb z).2.2
            have := HI6.1
            omega
          refine step h6 b' t' X f6 (by omega) ⟨H6.1, H6.2.1, H6.2.2.1, H6.2.2.2.1, fun i hi => ?_⟩ ⟨HI6.1, fun z l hl => ?_, fun z => ?_⟩ (by omega)
          · obtain ⟨q1, q2⟩ := H6.2.2.2.2 i hi
            exact ⟨by omega, q2⟩
          · by_cases e : l = m
            · rw [e]; exact hb
            · exact HI6.2.1 z l (by omega)
          · rw [cnt_no (fun w => w hb)]; exact HI6.2.2 z
        · refine ok_keep hp (by omega) hb6 (by omega) H6 H136 H96 c5 c3 (fun h7 f7 H7 => ?_)
          refine step h7 b' (t' + 1) _ (f6.tr (f7.mono (by simp))) (by omega) H7 ⟨HI6.1, fun z l hl => ?_, fun z => ?_⟩ (by omega)
          · by_cases e : l = m
            · rw [e]
              exact Classical.byContradiction fun w => by
                have := (nb w).2.2
                omega
            · exact HI6.2.1 z l (by omega)
          · have := HI6.2.2 z
            by_cases w : ev bad (nF m) ≠ 0
            · rw [cnt_yes (P := fun l => ev bad (nF l) ≠ 0) w]; omega
            · rw [cnt_no (P := fun l => ev bad (nF l) ≠ 0) w]; omega
      rw [w1, nI_leI (by omega) (by omega)]
      have H135 := (H13.fr f34' (by decide) (by decide)).fr f5' (by decide) (by decide)
      refine ⟨fun c5 => j124 h5 b t f35 Hk5 HI H5 H135 (by omega) (by omega) c5, fun c5 => ok_degree hp t9 H5 (fun h6 e6 h7 e7 => ?_)⟩
      have f6 : Fr h5 h6 [1] := by rw [e6]; exact Fr.rf.put (by simp)
      have f7 : Fr h5 h7 [1] := by rw [e7]; exact f6.put (by simp)
      refine j124 h7 (sz (gcdU (bat (nF m) P1) (bat (nF m) P2)) - 1) 0 (f35.tr (f7.mono (by simp))) ⟨?_, ?_, by omega, fun i j _ hj => absurd hj (Nat.not_lt_zero j), fun i hi => absurd hi (Nat.not_lt_zero i)⟩ ⟨by omega, fun z l hl => HI.2.1 (by omega) l hl, fun z => ?_⟩ (H5.fr f7 (by decide) (by decide)) (H135.fr f7 (by decide) (by decide)) (by omega) (by omega) (Nat.le_refl _)
      · rw [e7, ri_ne' (by decide), e6, ri_same]
      · rw [e7, ri_same]; rfl
      · have h8 := HI.2.1 (by omega)
        have h9 : ∀ k, k ≤ m → cnt (fun l => ev bad (nF l) ≠ 0) k = 0 := by
          intro k
          induction k with
          | zero => intro _; rfl
          | succ k ihk =>
            intro hk
            rw [cnt_no (P := fun l => ev bad (nF l) ≠ 0) (fun z => z (h8 k (by omega)))]
            exact ihk (by omega)
        rw [h9 m (Nat.le_refl _)]; omega
theorem ok_look (hp : g.2.2.2.2 = true) {P1 P2 : Bi} {gm bad : Un} {wn : Nat} (h1 : P1 ≠ bz) (h2 : P2 ≠ bz) (hk1 : bsz P1 ≤ 150) (hk2 : bsz P2 ≤ 150) (hM : MG P1 P2 (gcdB P1 P2) bad) (hw : wn ≤ 2000) {m b t : Nat} {X : Nat → Nat} (hm : m < sz bad + wn + 1) (ht : t ≤ wn) (H : Lk h P1 P2 gm m b t X) (HI : Li P1 P2 bad m b t) (H23 : DI h 23 P1) (H25 : DI h 25 P2) (H13 : PI h 13 gm) {Q : Int32 → Hp → Prop} (q : ∀ h' m' b' t' X', Fr h h' Llk → m ≤ m' → (t < wn → 0 < b → m < m') → m' < sz bad + wn + 1 → t' ≤ wn → (t' = wn ∨ b' = 0) → Lk h' P1 P2 gm m' b' t' X' → Li P1 P2 bad m' b' t' → Q (nI m') h') : CallI g m_X1_look (d + 5) [.ref 1, .int (nI m), .int (nI wn)] n h Q :=
  okI 1 rfl rfl (s_X1_look_0 hp (w_look2 hp h1 h2 hk1 hk2 hM hw (sz bad + wn) m b t X h (by omega) hm ht H HI H23 H25 H13 q))
end
