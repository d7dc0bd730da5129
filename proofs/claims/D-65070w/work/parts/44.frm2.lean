set_option maxRecDepth 100000
/-! FORMS: the walk -/
section
variable {g : GX} {d n : Nat} {h h' h1 : Hp}
theorem t93 : lay 93 = (0, 4, 4) := by decide +kernel
theorem t95 : lay 95 = (0, 4, 4) := by decide +kernel
theorem t97 : lay 97 = (0, 4, 4) := by decide +kernel
theorem t99 : lay 99 = (0, 4, 4) := by decide +kernel
theorem t101 : lay 101 = (0, 4, 4) := by decide +kernel
theorem t105 : lay 105 = (0, 3, 2) := by decide +kernel
theorem t107 : lay 107 = (0, 3, 2) := by decide +kernel
theorem t109 : lay 109 = (0, 3, 2) := by decide +kernel
theorem t111 : lay 111 = (0, 3, 2) := by decide +kernel
theorem r106 : rm (105 + 1) = 1800 := by decide +kernel
theorem r108 : rm (107 + 1) = 1800 := by decide +kernel
theorem r110 : rm (109 + 1) = 1800 := by decide +kernel
theorem r112 : rm (111 + 1) = 1800 := by decide +kernel
theorem w93 : wd 93 = 900 ∧ hg 93 = 150 := by decide +kernel
theorem w95 : wd 95 = 900 ∧ hg 95 = 150 := by decide +kernel
theorem w97 : wd 97 = 900 ∧ hg 97 = 150 := by decide +kernel
theorem w99 : wd 99 = 900 ∧ hg 99 = 150 := by decide +kernel
theorem w101 : wd 101 = 900 ∧ hg 101 = 150 := by decide +kernel
abbrev Lms : List Nat := [3, 4, 5, 6, 7, 8, 103, 104, 105, 106]
theorem w_ms4 (hp : g.2.2.2.2 = true) {av : List Value} {A B : Bi} (hA : A ≠ bz) (hB : B ≠ bz) {i : Nat} (hi : i ≤ 40) {Q : Int32 → Hp → Prop} : ∀ (k m : Nat) (h : Hp), m + k = sz (pmul (bhd A) (bhd B)) → (∀ t, 1000003 ≤ t → t < 1000003 + m → ev (pmul (bhd A) (bhd B)) (nF t) = 0) → DI h 93 A → DI h 95 B → (∀ h' (b : Bool), Fr h h' Lms → (b = false → bsz (fmG i A B) ≤ 1) → Q (if b = true then 1 else 0) h') → W_X0_mayShare g (d + 4) av (QI n Q) n 4 [some (.ref 0), some (.int (nI i)), some (.int (nI (1000003 + m)))] [] h := by
  have hne : pmul (bhd A) (bhd B) ≠ pz := fun w => by rcases un_mulz w with w | w; exact bhd_ne hA w; exact bhd_ne hB w
  have sz2 := un_szmul_le (bhd A) (bhd B)
  intro k
  induction k with
  | zero =>
    intro m h hm hz DA DB _
    exfalso
    have c1 := cnt_range (P := fun t => ev (pmul (bhd A) (bhd B)) (nF t) = 0) m hz
    have sA := DA.ltn
    have sB := DB.ltn
    have a1 : sz (bhd A) ≤ bsn A := bsn_le A _
    have a2 : sz (bhd B) ≤ bsn B := bsn_le B _
    have c2 := cnt_roots hne (n := 1000003 + m) (by omega)
    omega
  | succ k ih =>
    intro m h hm hz DA DB q
    have sA := DA.ltn
    have sB := DB.ltn
    have kA := DA.ltk
    have kB := DB.ltk
    have a1 : sz (bhd A) ≤ bsn A := bsn_le A _
    have a2 : sz (bhd B) ≤ bsn B := bsn_le B _
    have en : nI (1000003 + m) = toI (nF (1000003 + m)) := (toI_nF (by omega)).symm
    have ex : ∀ x : Fp, ev (pmul (bhd A) (bhd B)) x = ev (bhd A) x * ev (bhd B) x := fun x => ev_mul _ _ x
    have next : ev (pmul (bhd A) (bhd B)) (nF (1000003 + m)) = 0 → ∀ h1, Fr h h1 Lms → W_X0_mayShare g (d + 4) av (QI n Q) n 109 [some (.ref 0), some (.int (nI i)), some (.int (nI (1000003 + m)))] [] h1 := by
      intro z h1 f1
      refine s_X0_mayShare_109 hp ?_
      rw [show (1 : Int32) = nI 1 from rfl, nI_addz]
      refine ih (m + 1) h1 (by omega) (fun t h1 h2 => ?_) ((DA.fr f1 (by decide) (by decide))) ((DB.fr f1 (by decide) (by decide))) (fun h' b f' => q h' b (f1.tr f'))
      by_cases c : t = 1000003 + m
      · rw [c]; exact z
      · exact hz t h1 (by omega)
    refine s_X0_mayShare_4 hp ?_
    conv => arg 4; rw [en]
    refine ok_atN hp t93 t103 DA (by rw [r104]; omega) (fun h1 f1 P1 => ?_)
    rw [en]
    refine ok_atN hp t95 t105 ((DB.fr f1 (by decide) (by decide))) (by rw [r106]; omega) (fun h2 f2 P2 => ?_)
    have P12 := (P1.fr f2 (by decide) (by decide))
    have F2 : Fr h h2 Lms := ((f1.mono (by simp)).tr (f2.mono (by simp)))
    rw [← en]
    have q1 := P12.lt
    have q2 := P2.lt
    rw [P12.1, P2.1, show ri h2 93 3 = nI (bsz A) from (((DA.fr f1 (by decide) (by decide)).fr f2 (by decide) (by decide))).k, show ri h2 95 3 = nI (bsz B) from (((DB.fr f1 (by decide) (by decide)).fr f2 (by decide) (by decide))).k, nI_eq (by omega) (by omega), nI_eq (by omega) (by omega), bat_sz hA, bat_sz hB]
    refine ⟨fun c => next ?_ h2 F2, fun c1 => ⟨fun c => next ?_ h2 F2, fun c2 => ?_⟩⟩
    · rw [ex, Classical.not_not.mp c]; grind
    · rw [ex, Classical.not_not.mp c]; grind
    · rw [show nI i = toI (nF i) from (toI_nF (by omega)).symm]
      refine ok_shift hp t105 P2 (fun h3 f3 P3 => ?_)
      have s1 : sz (bat (nF (1000003 + m)) A) ≤ bsz A := sz_min (bat_szle _ A)
      have s2 : sz (psh (nF i) (bat (nF (1000003 + m)) B)) ≤ bsz B := by rw [sz_sh fp_dom]; exact sz_min (bat_szle _ B)
      have s3 := gcdU_max (bat (nF (1000003 + m)) A) (psh (nF i) (bat (nF (1000003 + m)) B))
      refine ok_common hp t103 t105 t103 (by omega) (by omega) ((P12.fr f3 (by decide) (by decide))) P3 (by omega) (by omega) (by rw [r104]; omega) (fun h4 f4 P4 => ?_)
      have F4 : Fr h h4 Lms := F2.tr (((f3.mono (by simp)).tr (f4.mono (by simp))))
      rw [P4.1, show (1 : Int32) = nI 1 from rfl, nI_leI (by omega) (by omega)]
      exact ⟨fun c => qI (q h4 false F4 (fun _ => fmG_no hA c1 c)), fun c => qI (q h4 true F4 (fun w => by cases w))⟩
/-- whether they may share something: if not, they don't -/
theorem ok_mayShare (hp : g.2.2.2.2 = true) {A B : Bi} (hA : A ≠ bz) (hB : B ≠ bz) {i : Nat} (hi : i ≤ 40) (DA : DI h 93 A) (DB : DI h 95 B) {Q : Int32 → Hp → Prop} (q : ∀ h' (b : Bool), Fr h h' Lms → (b = false → bsz (fmG i A B) ≤ 1) → Q (if b = true then 1 else 0) h') : CallI g m_X0_mayShare (d + 5) [.ref 0, .int (nI i)] n h Q :=
  okI 1 rfl rfl (s_X0_mayShare_0 hp (w_ms4 hp hA hB hi (sz (pmul (bhd A) (bhd B))) 0 h (by omega) (fun t h1 h2 => by omega) DA DB q))
theorem fI_neg {i : Nat} (h : i < 1000000) : fI (-nI i) = -nF i := by
  apply toI_inj
  have e1 : -nI i = zI (-(i : Int)) := by rw [nI_z, zI_neg]
  rw [e1, fI_val _ (by omega) (by omega)]
  have e2 : -nF i = (0 : Fp) - nF i := by grind
  rw [e2, sub_val, nF_val (by omega), show ((0 : Fp)).val = 0 from rfl]
  by_cases c : i = 0
  · rw [c]; decide
  · rw [if_neg (by omega), nI_z]; congr 1; omega
abbrev Ltk : List Nat := [9, 10, 11, 12, 19, 20, 21, 22, 29, 30, 45, 46, 93, 94, 95, 96, 97, 98, 99, 100]
/-- into C -/
theorem w_tk88 (hp : g.2.2.2.2 = true) {av : List Value} {G C : Bi} (hG : G ≠ bz) (hC : C ≠ bz) {i : Nat} (hi : i ≤ 40) (sC : bsz C ≤ 9) (s2 : bsn G ≤ 150 ∧ bsz G ≤ 75) (tC : ∀ s, bsn (fmC G s C) ≤ 24 * (bsz (fmC G s C) - 1) + 1) {Q : Int32 → Hp → Prop} : ∀ (k s : Nat) (h : Hp), s + k = i + 1 → 1 ≤ s → Kp h → DI h 101 G → DI h 97 (fmC G (s - 1) C) → bsz (fmC G (s - 1) C) ≤ 9 → (bsz (fmC G i C) ≤ 9 → ∀ h', Fr h h' [45, 46, 97, 98, 99, 100] → DI h' 97 (fmC G i C) → Q 1 h') → (9 < bsz (fmC G i C) → ∀ h', Fr h h' [45, 46, 97, 98, 99, 100] → Q 0 h') → W_X0_take g (d + 3) av (QI n Q) n 88 [some (.ref 0), some (.int (nI i)), none, none, some (.int (nI s))] [] h := by
  have z45 := w45
  have z97 := w97
  have z99 := w99
  intro k
  induction k with
  | zero =>
    intro s h hk h1 K DG DC c9 q1 q0
    have es : s - 1 = i := by omega
    rw [es] at DC c9
    refine s_X0_take_88 hp ⟨fun _ => qI (q1 c9 h Fr.rf DC), fun c => absurd ?_ c⟩
    rw [nI_ltI (by omega) (by omega)]; omega
  | succ k ih =>
    intro s h hk h1 K DG DC c9 q1 q0
    have t1 := tC (s - 1)
    refine s_X0_take_88 hp ⟨fun c => absurd c ?_, fun _ => ok_dcopy hp t99 t101 (by decide) (K.w t99) DG (by omega) (by omega) (fun h1 f1 D1 => ok_rest hp ?_)⟩
    · rw [nI_ltI (by omega) (by omega)]; omega
    · rw [fI_neg (by omega)]
      refine ok_shiftK hp t99 D1 (fun h2 f2 D2 => ?_)
      have F2 : Fr h h2 [45, 46, 97, 98, 99, 100] := ((f1.mono (by simp)).tr (f2.mono (by simp)))
      refine ok_dcopy hp t45 t97 (by decide) ((F2.kp K).w t45) (((DC.fr f1 (by decide) (by decide)).fr f2 (by decide) (by decide))) (by omega) (by omega) (fun h3 f3 D3 => ?_)
      have F3 : Fr h h3 [45, 46, 97, 98, 99, 100] := F2.tr (f3.mono (by simp))
      have g1 := bsn_shKe (-nF s) G
      have g2 := bsz_shK (-nF s) G
      refine ok_dproduct hp t97 t45 t99 (by decide) (by decide) ((F3.kp K).w t97) D3 ((D2.fr f3 (by decide) (by decide))) (by omega) (by omega) (fun h4 f4 D4 => ?_)
      have F4 : Fr h h4 [45, 46, 97, 98, 99, 100] := F3.tr (f4.mono (by simp))
      obtain ⟨r, rfl⟩ : ∃ r, s = r + 1 := ⟨s - 1, by omega⟩
      have eC : bmul (fmC G (r + 1 - 1) C) (bshK (-nF (r + 1)) G) = fmC G (r + 1) C := rfl
      rw [eC] at D4
      have lk := D4.ltk
      rw [D4.k, show (9 : Int32) = nI 9 from rfl, nI_leI (by omega) (by omega)]
      refine ⟨fun c => ?_, fun c => qI (q0 ?_ h4 F4)⟩
      · rw [show (1 : Int32) = nI 1 from rfl, nI_addz]
        refine ih (r + 1 + 1) h4 (by omega) (by omega) (F4.kp K) (((((DG.fr f1 (by decide) (by decide)).fr f2 (by decide) (by decide)).fr f3 (by decide) (by decide)).fr f4 (by decide) (by decide))) D4 c (fun c' h' f' => q1 c' h' (F4.tr f')) (fun c' h' f' => q0 c' h' (F4.tr f'))
      · have e1 := fmC_bsz hG hC (r + 1)
        have e2 := fmC_bsz hG hC i
        have : (r + 1) * (bsz G - 1) ≤ i * (bsz G - 1) := Nat.mul_le_mul_right _ (by omega)
        omega
/-- what A and B shifted share goes into C -/
theorem ok_take (hp : g.2.2.2.2 = true) (K : Kp h) {T B0 : Bi} {X : B3} (I : fmI T B0 X) (hT : thin T) {i : Nat} (hi : i ≤ 40) (s1 : bsn X.1 ≤ 150 ∧ bsz X.1 ≤ 75) (s2 : bsn X.2.1 ≤ 150 ∧ bsz X.2.1 ≤ 75) (sC : bsz X.2.2 ≤ 9) (c1 : 1 < bsz (fmG i X.1 X.2.1)) (DA : DI h 93 X.1) (DB : DI h 95 X.2.1) (DC : DI h 97 X.2.2) (DG : DI h 101 (fmG i X.1 X.2.1)) {Q : Int32 → Hp → Prop} (q1 : bsz (fmS i X).2.2 ≤ 9 → ∀ h', Fr h h' Ltk → DI h' 93 (fmS i X).1 → DI h' 95 (fmS i X).2.1 → DI h' 97 (fmS i X).2.2 → Q 1 h') (q0 : 9 < bsz (fmS i X).2.2 → ∀ h', Fr h h' Ltk → Q 0 h') : CallI g m_X0_take (d + 5) [.ref 0, .int (nI i)] n h Q := by
  have dA := fmG_dvA i X.1 X.2.1
  have dB := fmG_dvB i X.1 X.2.1
  have nG := fmG_ne (i := i) (B := X.2.1) I.a
  have sG := bdv_bsz dA I.a
  have z45 := w45
  have z93 := w93
  have z95 := w95
  have z99 := w99
  have IS := fmI_S I i
  have tC : ∀ s, bsn (fmC (fmG i X.1 X.2.1) s X.2.2) ≤ 24 * (bsz (fmC (fmG i X.1 X.2.1) s X.2.2) - 1) + 1 := by
    intro s
    have t1 := hT _ (fmG_prim (i := i) (B := X.2.1) I.a) (bdv_trans dA I.da)
    have t2 := I.th hT
    have p1 := bsz_pos I.c
    have p3 := bsn_pos nG
    rw [fmC_bsn nG I.c, fmC_bsz nG I.c]
    generalize bsn (fmG i X.1 X.2.1) = x at t1 p3
    generalize bsz (fmG i X.1 X.2.1) = y at t1
    have : s * (x - 1) ≤ s * (24 * (y - 1)) := Nat.mul_le_mul_left _ (by omega)
    have e : s * (24 * (y - 1)) = 24 * (s * (y - 1)) := by rw [Nat.mul_left_comm]
    generalize s * (y - 1) = z at e
    generalize s * (x - 1) = w at this
    omega
  have eS : fmS i X = (bqo X.1 (fmG i X.1 X.2.1), bqo X.2.1 (bshK (-nF i) (fmG i X.1 X.2.1)), fmC (fmG i X.1 X.2.1) i X.2.2) := by unfold fmS; rw [cite_pos c1]
  rw [eS] at q1 q0
  have eA := bqo_mul dA
  have eB := bqo_mul dB
  have sA := bdv_bsz (bdv_iff.mpr ⟨_, eA.trans (b_mulc _ _)⟩ : bdv (bqo X.1 (fmG i X.1 X.2.1)) X.1) I.a
  have sB := bdv_bsz (bdv_iff.mpr ⟨_, eB.trans (b_mulc _ _)⟩ : bdv (bqo X.2.1 (bshK (-nF i) (fmG i X.1 X.2.1))) X.2.1) I.b
  generalize fmG i X.1 X.2.1 = G at *
  refine okI 3 rfl rfl (s_X0_take_0 hp (ok_divides hp t101 t93 t45 (by decide) (by decide) (by decide) (by decide) (by decide) (by decide) (by decide) (by decide) K DG DA nG (by omega) (by omega) (by omega) (fun H eH h1 f1 D1 => ?_) (fun w => absurd dA w)))
  have eH' : H = bqo X.1 G := (bqo_eq nG eH).symm
  subst eH'
  have F1 : Fr h h1 Ltk := f1.mono (by simp)
  refine ok_dcopy hp t93 t45 (by decide) ((F1.kp K).w t93) D1 (by omega) (by omega) (fun h2 f2 D2 => ?_)
  have F2 : Fr h h2 Ltk := F1.tr (f2.mono (by simp))
  refine ok_dcopy hp t99 t101 (by decide) ((F2.kp K).w t99) (((DG.fr f1 (by decide) (by decide)).fr f2 (by decide) (by decide))) (by omega) (by omega) (fun h3 f3 D3 => ok_rest hp ?_)
  rw [fI_neg (by omega)]
  refine ok_shiftK hp t99 D3 (fun h5 f5 D5 => ?_)
  have F5 : Fr h h5 Ltk := F2.tr (((f3.mono (by simp)).tr (f5.mono (by simp))))
  have nG' : bshK (-nF i) G ≠ bz := shK_ne _ nG
  refine ok_divides hp t99 t95 t45 (by decide) (by decide) (by decide) (by decide) (by decide) (by decide) (by decide) (by decide) (F5.kp K) D5 (((((DB.fr f1 (by decide) (by decide)).fr f2 (by decide) (by decide)).fr f3 (by decide) (by decide)).fr f5 (by decide) (by decide))) nG' (by omega) (by omega) (by omega) (fun H eH h6 f6 D6 => ?_) (fun w => absurd dB w)
  have eH' : H = bqo X.2.1 (bshK (-nF i) G) := (bqo_eq nG' eH).symm
  subst eH'
  have F6 : Fr h h6 Ltk := F5.tr (f6.mono (by simp))
  refine ok_dcopy hp t95 t45 (by decide) ((F6.kp K).w t95) D6 (by omega) (by omega) (fun h7 f7 D7 => ?_)
  have F7 : Fr h h7 Ltk := F6.tr (f7.mono (by simp))
  have A7 : DI h7 93 (bqo X.1 G) := ((((D2.fr f3 (by decide) (by decide)).fr f5 (by decide) (by decide)).fr f6 (by decide) (by decide)).fr f7 (by decide) (by decide))
  have C7 : DI h7 97 X.2.2 := ((((((DC.fr f1 (by decide) (by decide)).fr f2 (by decide) (by decide)).fr f3 (by decide) (by decide)).fr f5 (by decide) (by decide)).fr f6 (by decide) (by decide)).fr f7 (by decide) (by decide))
  have G7 : DI h7 101 G := ((((((DG.fr f1 (by decide) (by decide)).fr f2 (by decide) (by decide)).fr f3 (by decide) (by decide)).fr f5 (by decide) (by decide)).fr f6 (by decide) (by decide)).fr f7 (by decide) (by decide))
  rw [show (1 : Int32) = nI 1 from rfl]
  exact w_tk88 hp nG I.c hi sC (by omega) tC i 1 h7 (by omega) (by omega) (F7.kp K) G7 C7 sC (fun c' h' f' D' => q1 c' h' (F7.tr (f'.mono (by simp))) ((A7.fr f' (by decide) (by decide))) ((D7.fr f' (by decide) (by decide))) D') (fun c' h' f' => q0 c' h' (F7.tr (f'.mono (by simp))))
/-- cells of findForm -/
abbrev Lff : List Nat := [1, 3, 4, 5, 6, 7, 8, 9, 10, 11, 12, 13, 14, 15, 16, 17, 18, 19, 20, 21, 22, 23, 24, 25, 26, 27, 28, 29, 30, 31, 32, 33, 34, 35, 36, 37, 38, 45, 46, 93, 94, 95, 96, 97, 98, 99, 100, 101, 102, 103, 104, 105, 106, 107, 108, 109, 110]
theorem w_ff32 (hp : g.2.2.2.2 = true) {av : List Value} {T B : Bi} (hT : T ≠ bz) (hB : B ≠ bz) (th : thin T) (s1 : bsn T ≤ 150 ∧ bsz T ≤ 75) (s2 : bsn B ≤ 150 ∧ bsz B ≤ 75) {Q : Int32 → Hp → Prop} : ∀ (k i : Nat) (h : Hp), i + k = 41 → Kp h → DI h 93 (fmL T B i).1 → DI h 95 (fmL T B i).2.1 → DI h 97 (fmL T B i).2.2 → bsz (fmL T B i).2.2 ≤ 9 → (bsz (fm T B).2.2 ≤ 9 → ∀ h', Fr h h' Lff → DI h' 93 (fm T B).1 → DI h' 95 (fm T B).2.1 → DI h' 97 (fm T B).2.2 → PI h' 107 (bhd (fm T B).2.1) → PI h' 109 (bhd (fm T B).2.2) → Q 1 h') → (9 < bsz (fm T B).2.2 → ∀ h', Fr h h' Lff → Q 0 h') → W_X0_findForm g (d + 9) av (QI n Q) n 32 [some (.ref 0), some (.int (nI i))] [] h := by
  have z99 := w99
  have z101 := w101
  have fin : ∀ h, fm T B = fm T B → DI h 93 (fm T B).1 → DI h 95 (fm T B).2.1 → DI h 97 (fm T B).2.2 → (∀ h', Fr h h' Lff → DI h' 93 (fm T B).1 → DI h' 95 (fm T B).2.1 → DI h' 97 (fm T B).2.2 → PI h' 107 (bhd (fm T B).2.1) → PI h' 109 (bhd (fm T B).2.2) → Q 1 h') → W_X0_findForm g (d + 9) av (QI n Q) n 148 [some (.ref 0), none] [] h := by
    intro h _ DA DB DC q
    have I := fmI_L hT hB 41
    have lB := DB.ltn
    have lC := DC.ltn
    have kB := DB.ltk
    have kC := DC.ltk
    have pB := bsz_pos I.b
    have pC := bsz_pos I.c
    have pB' : 0 < bsz (fm T B).2.1 := pB
    have pC' : 0 < bsz (fm T B).2.2 := pC
    refine s_X0_findForm_148 hp ?_
    rw [DB.k, nI_sub1 pB']
    refine ok_row hp t95 t107 DB (by omega) (by rw [r108]; omega) (fun h1 f1 P1 => ?_)
    have DC1 := (DC.fr f1 (by decide) (by decide))
    rw [DC1.k, nI_sub1 pC']
    refine ok_row hp t97 t109 DC1 (by omega) (by rw [r110]; omega) (fun h2 f2 P2 => qI (q h2 (((f1.mono (by simp)).tr (f2.mono (by simp)))) (((DA.fr f1 (by decide) (by decide)).fr f2 (by decide) (by decide))) (((DB.fr f1 (by decide) (by decide)).fr f2 (by decide) (by decide))) ((DC1.fr f2 (by decide) (by decide))) ((P1.fr f2 (by decide) (by decide))) P2))
  intro k
  induction k with
  | zero =>
    intro i h hi K DA DB DC sC q1 q0
    have ei : i = 41 := by omega
    subst ei
    refine s_X0_findForm_32 hp ⟨fun _ => fin h rfl DA DB DC (q1 sC), fun c => absurd (by decide) c⟩
  | succ k ih =>
    intro i h hi K DA DB DC sC q1 q0
    have I := fmI_L hT hB i
    have sA := bdv_bsz I.da hT
    have sB := bdv_bsz I.db hB
    have kA := DA.ltk
    have kB := DB.ltk
    have early : (bsz (fmL T B i).1 ≤ 1 ∨ bsz (fmL T B i).2.1 ≤ 1) → W_X0_findForm g (d + 9) av (QI n Q) n 148 [some (.ref 0), none] [] h := by
      intro w
      have e : fm T B = fmL T B i := by
        have := fmL_end hT hB w (41 - i)
        rw [show i + (41 - i) = 41 by omega] at this; exact this
      rw [← e] at DA DB DC sC
      exact fin h rfl DA DB DC (q1 sC)
    have next : ∀ h1, Fr h h1 Lff → fmL T B (i + 1) = fmL T B i → DI h1 93 (fmL T B i).1 → DI h1 95 (fmL T B i).2.1 → DI h1 97 (fmL T B i).2.2 → W_X0_findForm g (d + 9) av (QI n Q) n 142 [some (.ref 0), some (.int (nI i))] [] h1 := by
      intro h1 f1 e A1 B1 C1
      refine s_X0_findForm_142 hp ?_
      rw [show (1 : Int32) = nI 1 from rfl, nI_addz]
      exact ih (i + 1) h1 (by omega) (f1.kp K) (by rw [e]; exact A1) (by rw [e]; exact B1) (by rw [e]; exact C1) (by rw [e]; exact sC) (fun c h' f' => q1 c h' (f1.tr f')) (fun c h' f' => q0 c h' (f1.tr f'))
    have stay : ¬ 1 < bsz (fmG i (fmL T B i).1 (fmL T B i).2.1) → fmL T B (i + 1) = fmL T B i := fun w => by
      show fmS i (fmL T B i) = _
      unfold fmS; rw [cite_neg w]
    refine s_X0_findForm_32 hp ⟨fun c => absurd c ?_, fun _ => ?_⟩
    · rw [show (40 : Int32) = nI 40 from rfl, nI_ltI (by omega) (by omega)]; omega
    · rw [DA.k, DB.k, show (1 : Int32) = nI 1 from rfl, nI_leI (by omega) (by omega), nI_leI (by omega) (by omega)]
      refine ⟨fun c => early (Or.inl c), fun cA => ⟨fun c => early (Or.inr c), fun cB => ok_mayShare hp I.a I.b (by omega) DA DB (fun h1 b f1 hb => ?_)⟩⟩
      rw [powB]
      have F1 : Fr h h1 Lff := f1.mono (by simp)
      refine ⟨fun c => next h1 F1 (stay (by have := hb c; omega)) ((DA.fr f1 (by decide) (by decide))) ((DB.fr f1 (by decide) (by decide))) ((DC.fr f1 (by decide) (by decide))), fun c => ?_⟩
      refine ok_dcopy hp t99 t95 (by decide) ((F1.kp K).w t99) ((DB.fr f1 (by decide) (by decide))) (by omega) (by omega) (fun h2 f2 D2 => ?_)
      rw [show nI i = toI (nF i) from (toI_nF (by omega)).symm]
      refine ok_shiftK hp t99 D2 (fun h3 f3 D3 => ?_)
      rw [toI_nF (by omega)]
      have F3 : Fr h h3 Lff := F1.tr (((f2.mono (by simp)).tr (f3.mono (by simp))))
      have A3 : DI h3 93 (fmL T B i).1 := (((DA.fr f1 (by decide) (by decide)).fr f2 (by decide) (by decide)).fr f3 (by decide) (by decide))
      have B3' : DI h3 95 (fmL T B i).2.1 := (((DB.fr f1 (by decide) (by decide)).fr f2 (by decide) (by decide)).fr f3 (by decide) (by decide))
      have C3 : DI h3 97 (fmL T B i).2.2 := (((DC.fr f1 (by decide) (by decide)).fr f2 (by decide) (by decide)).fr f3 (by decide) (by decide))
      have b1 := bsn_shKe (nF i) (fmL T B i).2.1
      have b2 := bsz_shK (nF i) (fmL T B i).2.1
      have p1 := ppB_bsn (fmL T B i).1
      refine ok_bcommon hp t93 t99 t101 (by decide) (by decide) (by decide) (by decide) (by decide) (F3.kp K) A3 D3 (by omega) (by omega) (by omega) (by omega) (by omega) (by omega) (by omega) (fun h4 f4 D4 => ?_)
      have F4 : Fr h h4 Lff := F3.tr (f4.mono (by simp))
      have sg := bdv_bsz ((gcdB_is (fmL T B i).1 (bshK (nF i) (fmL T B i).2.1)).1 : bdv _ _) I.a
      refine ok_primitive hp t101 (by decide) t103 (by decide) D4 (by omega) (by rw [r104]; omega) (fun h5 f5 D5 _ => ?_)
      have F5 : Fr h h5 Lff := F4.tr (f5.mono (by simp))
      have D5 : DI h5 101 (fmG i (fmL T B i).1 (fmL T B i).2.1) := D5
      have A5 := ((A3.fr f4 (by decide) (by decide)).fr f5 (by decide) (by decide))
      have B5 := ((B3'.fr f4 (by decide) (by decide)).fr f5 (by decide) (by decide))
      have C5 := ((C3.fr f4 (by decide) (by decide)).fr f5 (by decide) (by decide))
      have k5 := D5.ltk
      rw [D5.k, nI_leI (by omega) (by omega)]
      refine ⟨fun c => next h5 F5 (stay (by omega)) A5 B5 C5, fun c => ?_⟩
      refine ok_take hp (F5.kp K) I th (by omega) (by omega) (by omega) sC (by omega) A5 B5 C5 D5 (fun c9 h6 f6 A6 B6 C6 => ⟨fun _ => ?_, fun c => absurd c (by decide)⟩) (fun c9 h6 f6 => ⟨fun c => absurd rfl c, fun _ => ?_⟩)
      · have F6 : Fr h h6 Lff := F5.tr (f6.mono (by simp))
        refine s_X0_findForm_142 hp ?_
        rw [show (1 : Int32) = nI 1 from rfl, nI_addz]
        exact ih (i + 1) h6 (by omega) (F6.kp K) A6 B6 C6 c9 (fun c h' f' => q1 c h' (F6.tr f')) (fun c h' f' => q0 c h' (F6.tr f'))
      · have F6 : Fr h h6 Lff := F5.tr (f6.mono (by simp))
        have up := fmL_up hT hB (i + 1) (41 - (i + 1))
        rw [show i + 1 + (41 - (i + 1)) = 41 by omega] at up
        have c9' : 9 < bsz (fmL T B (i + 1)).2.2 := c9
        exact qI (q0 (Nat.lt_of_lt_of_le c9' up) h6 F6)
/-- A, B, C of over by under -/
theorem ok_findForm (hp : g.2.2.2.2 = true) (K : Kp h) {T B : Bi} (hT : T ≠ bz) (hB : B ≠ bz) (th : thin T) (s1 : bsn T ≤ 150 ∧ bsz T ≤ 75) (s2 : bsn B ≤ 150 ∧ bsz B ≤ 75) (D39 : DI h 39 T) (D41 : DI h 41 B) {Q : Int32 → Hp → Prop} (q1 : bsz (fm T B).2.2 ≤ 9 → ∀ h', Fr h h' Lff → DI h' 93 (fm T B).1 → DI h' 95 (fm T B).2.1 → DI h' 97 (fm T B).2.2 → PI h' 107 (bhd (fm T B).2.1) → PI h' 109 (bhd (fm T B).2.2) → Q 1 h') (q0 : 9 < bsz (fm T B).2.2 → ∀ h', Fr h h' Lff → Q 0 h') : CallI g m_X0_findForm (d + 10) [.ref 0] n h Q := by
  have z93 := w93
  have z95 := w95
  have z97 := w97
  refine okI 1 rfl rfl (s_X0_findForm_0 hp (ok_dcopy hp t93 t39 (by decide) (K.w t93) D39 (by omega) (by omega) (fun h1 f1 A1 => ?_)))
  refine ok_dcopy hp t95 t41 (by decide) ((f1.kp K).w t95) ((D41.fr f1 (by decide) (by decide))) (by omega) (by omega) (fun h2 f2 B2 => ?_)
  rw [show (1 : Int32) = toI 1 from toI_1.symm]
  refine ok_dset hp t97 ((f2.kp (f1.kp K)).w t97) (by omega) (by omega) (fun h3 f3 C3 => ?_)
  have F3 : Fr h h3 Lff := (((f1.mono (by simp)).tr (f2.mono (by simp))).tr (f3.mono (by simp)))
  have c1 := C1_sz.2
  exact w_ff32 hp hT hB th s1 s2 41 0 h3 (by omega) (F3.kp K) (((A1.fr f2 (by decide) (by decide)).fr f3 (by decide) (by decide))) ((B2.fr f3 (by decide) (by decide))) C3 (by show bsz (bC (pC 1)) ≤ 9; omega) (fun c h' f' => q1 c h' (F3.tr f')) (fun c h' f' => q0 c h' (F3.tr f'))
end
