set_option maxRecDepth 100000
/-! TEXTS: letters and choices on the pile -/
theorem szX : sz (pX 1 : Un) = 2 := sz_eq (n := 1) (fun i hi => by rw [co_X, if_neg (by omega)]) (by rw [co_X, if_pos rfl]; exact fp_dom.2)
theorem pX_ne : (pX 1 : Un) ≠ pz := fun z => by
  have := szX
  rw [z, sz_z] at this
  omega
theorem cc_bX (j i : Nat) : cc (bX 1) j i = if j = 1 ∧ i = 0 then 1 else 0 := by
  unfold cc
  rw [bco_X]
  by_cases e : j = 1
  · rw [if_pos e, co_C]
    by_cases e2 : i = 0
    · rw [if_pos e2, if_pos ⟨e, e2⟩]
    · rw [if_neg e2, if_neg (fun w => e2 w.2)]
  · rw [if_neg e, co_z, if_neg (fun w => e w.1)]
theorem bX_sz : bsz (bX 1) = 2 ∧ bsn (bX 1) = 1 := by
  constructor
  · exact bsz_eq' (n := 1) (i := 0) (fun j i hj => by rw [cc_bX, if_neg (by omega)]) (by rw [cc_bX, if_pos ⟨rfl, rfl⟩]; exact fp_dom.2)
  · exact bsn_eq (n := 0) (j := 1) (fun j i hi => by rw [cc_bX, if_neg (by omega)]) (by rw [cc_bX, if_pos ⟨rfl, rfl⟩]; exact fp_dom.2)
theorem bX_ne : bX 1 ≠ bz := fun z => by
  have := bX_sz.1
  rw [z, bsz_z] at this
  omega
theorem gI_N : gI itN := ⟨fun c _ h => h, by show hB (bC (pC 1)) = 1; rw [hB_C, hd_C], by show fitB (bC (pX 1)); unfold fitB; rw [bsn_C, szX, bsz_C pX_ne]; omega, fit_C 1, fp_dom.2, fp_dom.2, fun r hr => absurd hr (by simp [itN]), by simp [itN, szF], fun w => absurd w (bC_ne pX_ne)⟩
theorem gI_K : gI itK := ⟨fun c _ h => h, by show hB (bC (pC 1)) = 1; rw [hB_C, hd_C], by show fitB (bX 1); unfold fitB; rw [bX_sz.1, bX_sz.2]; omega, fit_C 1, fp_dom.2, fp_dom.2, fun r hr => absurd hr (by simp [itK]), by simp [itK, szF], fun w => absurd w bX_ne⟩
section
variable {g : GX} {d n : Nat} {h h' h1 : Hp} {t : Nat → Int32} {len a op s : Nat}
theorem sv_in {x : Nat} (hs : s < 100) (h1 : pcl s ≤ x) (h2 : x ≤ pcl s + 9) : Sv s x := by
  have hpc : pcl s = 1509 + 10 * s := rfl
  unfold Sv; omega
theorem w_letter (hp : g.2.2.2.2 = true) {av : List Value} (hs : s < 100) (P : VS h t len a s) (hl : a < len) {isn : Bool} {Q : Hp → Prop} (q : ∀ h', Vr h h' t len s op (Sum.inl (a + 1, if isn = true then itN else itK)) → Q h') : W_X0_readB g (d + 4) av (QV n Q) n 120 [some (.ref 0), some (.int (if isn = true then 110 else 107)), none, none] [] h := by
  have hpc : pcl s = 1509 + 10 * s := rfl
  have tv := pcl_lay hs
  have t1 := it_1 tv
  have t2 := it_2 tv
  have t4 := it_4 tv
  have w := rt_w t1
  have w2 : wd (pcl s + 2) = 25 ∧ hg (pcl s + 2) = 13 := ⟨w.1, w.2.1⟩
  have w4 : wd (pcl s + 4) = 25 ∧ hg (pcl s + 4) = 13 := ⟨w.2.2.1, w.2.2.2⟩
  refine s_X0_readB_120 hp (fun h1 e1 => ?_)
  have A := P.adv (u := s) hl (by rw [P.2.1, nI_1]) e1
  refine ok_push hp A.1 hs (fun h2 f2 P2 => ⟨tv, ok_plain hp tv (fun h3 f3 p1 p2 p3 => ?_)⟩)
  have z3 : Vz s h2 h3 := Vz.of_fr f3 (by simp; omega) (fun x hx => by simp at hx; exact sv_in hs (by omega) (by omega))
  have P3 : VS h3 t len (a + 1) (s + 1) := P2.fr f3 (by simp; omega) (fun x hx => by simp at hx; exact sv_in hs (by omega) (by omega))
  refine ok_dset (v := 1) hp t4 (P3.2.2.2.2.2.w t4) (by rw [w4.1]; omega) (by rw [w4.2]; omega) (fun h4 f4 H4 => ?_)
  have z4 : Vz s h3 h4 := Vz.of_fr f4 (by simp) (fun x hx => by simp at hx; exact sv_in hs (by omega) (by omega))
  have P4 : VS h4 t len (a + 1) (s + 1) := P3.fr f4 (by simp) (fun x hx => by simp at hx; exact sv_in hs (by omega) (by omega))
  -- the last part
  have last : ∀ (h5 : Hp) (F : Bi) (N K j i : Nat), Fr h4 h5 [pcl s + 2, pcl s + 3] → DA h5 (pcl s + 2) N K (fun _ _ => 0) → j < K → i < N → (∀ x y, cc F x y = if x = j ∧ y = i then 1 else 0) → bsn F = N → bsz F = K → (∀ h', Vr h h' t len s op (Sum.inl (a + 1, (F, bC (pC 1), 1, 1, []))) → Q h') → gI (F, bC (pC 1), 1, 1, []) → W_X0_readB g (d + 4) av (QV n Q) n 204 [none, none, none, none] [.int (nI (j * 25 + i)), .ref (pcl s + 3)] h5 := by
    intro h5 F N K j i f5 H5 hj hi hF hN hK q' gF
    have hx := dx_lt (a := pcl s + 2) (j := j) (i := i) (by have := H5.kl; omega) (by have := H5.nl; omega)
    rw [w2.1] at hx
    have hr3 : rm (pcl s + 2 + 1) = 325 := by show (lay (pcl s + 3)).2.1 = 325; rw [it_3 tv]
    refine s_X0_readB_204 hp (it_3 tv) ⟨nI_inL (by omega) (by omega), fun h6 e6 => qV (q' h6 ?_)⟩
    rw [nI_tN (by omega)] at e6
    have H6 : DA h6 (pcl s + 2) N K (fun j' i' => if j' = j ∧ i' = i then 1 else 0) := by
      have := H5.upd (j := j) (i := i) (v := 1) hi
      rw [w2.1] at this
      rw [e6]; exact this
    have f6 : Fr h4 h6 [pcl s + 2, pcl s + 3] := by rw [e6]; exact f5.put (by simp) (okp_a (it_3 tv) (by decide))
    have z6 : Vz s h4 h6 := Vz.of_fr f6 (by simp) (fun x hx => by simp at hx; exact sv_in hs (by omega) (by omega))
    have P6 : VS h6 t len (a + 1) (s + 1) := P4.fr f6 (by simp) (fun x hx => by simp at hx; exact sv_in hs (by omega) (by omega))
    refine ⟨(((A.2.tr f2).tr z3).tr z4).tr z6, P6, ⟨⟨?_, H4.fr f6 (by simp) (by simp)⟩, ?_, ?_, ?_⟩, gF⟩
    · refine DI.of H6 (cc_ext fun x y => ?_) hN hK
      rw [hF, cc_b2]
      by_cases e : x = j ∧ y = i
      · rw [if_pos e, if_pos (by omega)]
      · rw [if_neg e]
        split <;> rfl
    · rw [f6.gi (by simp), f4.gi (by simp; omega)]; exact p1
    · rw [f6.gi (by simp), f4.gi (by simp; omega)]; exact p2
    · exact (p3.fr f4 (fun x hx => by simp at hx ⊢; omega)).fr f6 (fun x hx => by simp at hx ⊢; omega)
  cases isn with
  | true =>
    refine ⟨fun c => absurd rfl c, fun _ => s_X0_readB_168 hp tv t2 ⟨fun c => absurd rfl c, fun _ => s_X0_readB_179 hp tv t2 ?_⟩⟩
    refine ok_open (N := 2) (K := 1) hp t2 (P4.2.2.2.2.2.w t2) (by rw [w2.1]; omega) (by rw [w2.2]; omega) (fun h5 f5 H5 => ⟨fun c => absurd rfl c, fun _ => last h5 (bC (pX 1)) 2 1 0 1 f5 H5 (by omega) (by omega) (fun x y => ?_) (by rw [bsn_C, szX]) (bsz_C pX_ne) q gI_N⟩)
    rw [cc_C, co_X]
    by_cases e : x = 0
    · rw [if_pos e]
      by_cases e2 : y = 1
      · rw [if_pos e2, if_pos ⟨e, e2⟩]
      · rw [if_neg e2, if_neg (fun w => e2 w.2)]
    · rw [if_neg e, if_neg (fun w => e w.1)]
  | false =>
    refine ⟨fun _ => s_X0_readB_168 hp tv t2 ⟨fun _ => s_X0_readB_179 hp tv t2 ?_, fun c => absurd c (by decide)⟩, fun c => absurd c (by decide)⟩
    refine ok_open (N := 1) (K := 2) hp t2 (P4.2.2.2.2.2.w t2) (by rw [w2.1]; omega) (by rw [w2.2]; omega) (fun h5 f5 H5 => ⟨fun _ => last h5 (bX 1) 1 2 1 0 f5 H5 (by omega) (by omega) (fun x y => cc_bX x y) bX_sz.2 bX_sz.1 q gI_K, fun c => absurd c (by decide)⟩)
/-- the end of a choice -/
theorem w_ch76 (hp : g.2.2.2.2 = true) {av : List Value} {x y : Itm} {p : Nat} {pl : Nat} (hs : s + 1 < 100) (P : VS h t len p (s + 2)) (Hx : IIt h (pcl s) x) (Hy : IIt h (pcl (s + 1)) y) {Q : Hp → Prop} (q : ∀ h', Vz s h h' → (∀ r, chI x y = Sum.inl r → VS h' t len p (s + 1) ∧ IIt h' (pcl s) r ∧ gI r) → (∀ c, chI x y = Sum.inr c → TP h' t len ∧ PF h' (nI c) (nI pl) ∧ ri h' 0 13 = nI p) → Q h') : W_X0_readChoice g (d + 4) av (QV n Q) n 76 [some (.ref 0), some (.int (nI pl)), none, none, none, none, none, none, none, none] [] h := by
  have hpc : pcl s = 1509 + 10 * s := rfl
  have hpc1 : pcl (s + 1) = 1509 + 10 * (s + 1) := rfl
  have tx := pcl_lay (show s < 100 by omega)
  have ty := pcl_lay hs
  refine s_X0_readChoice_76 hp ⟨fun _ h1 e1 => ?_, fun c => absurd P.2.2.2.1 c⟩
  have f1 : Vz s h h1 := by rw [e1]; exact Vz.rf.put (Or.inr rfl)
  have r1 : Fr h h1 [0] := by rw [e1]; exact Fr.rf.put (by simp) (okp_o l0 (Or.inr (by decide)))
  have e19 : ri h1 0 19 = nI (s + 1) := by rw [e1, ri_same, P.2.2.2.2.1, nI_sub1 (by omega)]; rfl
  have P1 : VS h1 t len p (s + 1) := ⟨P.1.vz f1, by rw [e1, ri_ne' (by decide)]; exact P.2.1, P.2.2.1, by rw [e1, ri_ne' (by decide)]; exact P.2.2.2.1, e19, f1.2.2.1 P.2.2.2.2.2⟩
  have Hx1 : IIt h1 (pcl s) x := Hx.fr2 r1 (fun z h1 _ => by simp; omega)
  have Hy1 : IIt h1 (pcl (s + 1)) y := Hy.fr2 r1 (fun z h1 _ => by simp; omega)
  rw [e19, nI_sub1 (by omega), Nat.add_sub_cancel, nI_tN (by omega)]
  refine ⟨nI_inL (by omega) (by omega), fun r2 e2 => ?_⟩
  subst e2
  -- a flaw
  have bad : ∀ (h5 : Hp) (v6 v7 v8 : Int32), Fl h1 h5 → chI x y = Sum.inr 2 → W_X0_readChoice g (d + 4) av (QV n Q) n 185 [some (.ref 0), some (.int (nI pl)), none, none, some (.ref (pcl s)), none, some (.int v6), some (.int v7), some (.int v8), none] [] h5 := by
    intro h5 v6 v7 v8 f5 ec
    refine s_X0_readChoice_185 hp tx (s_X0_readChoice_186 hp tx ⟨fun w => absurd rfl w, fun _ => ?_⟩)
    refine ok_flawW (L := []) hp (by rw [f5.2 15 (by omega)]; exact P1.2.2.2.1) (by decide) (fun h6 f6 P6 => qV (q h6 ?_ (fun r er => ?_) (fun c er => ?_)))
    · exact (f1.tr (Vz.of_w (Fw.of_l (L := []) f5) (by simp))).tr (Vz.of_w f6 (by simp))
    · rw [ec] at er; cases er
    · rw [ec] at er
      injection er with er
      have z6 : Vz s h h6 := (f1.tr (Vz.of_w (Fw.of_l (L := []) f5) (by simp))).tr (Vz.of_w f6 (by simp))
      rw [← er]
      exact ⟨P.1.vz z6, P6, by rw [f6.2 13 (by omega), f5.2 13 (by omega)]; exact P1.2.1⟩
  refine ok_isLine hp tx Hx1 (fun a1 b1 c1 hl1 hr1 h3 f3 r8 r9 r10' => ⟨fun w => absurd w (by decide), fun _ => ?_⟩) (fun hn h3 f3 => ⟨fun _ => bad h3 _ _ _ f3 (by unfold chI; rw [cite_neg (fun w => hn w.1)]), fun w => absurd rfl w⟩)
  obtain ⟨ex, ey, ez⟩ := isLi_eq hl1
  have e193 : ri h3 0 19 = nI (s + 1) := by rw [f3.2 19 (by omega)]; exact e19
  rw [e193, nI_tN (by omega)]
  refine ⟨nI_inL hs (by omega), fun r4 e4 => ?_⟩
  subst e4
  have Hy3 : IIt h3 (pcl (s + 1)) y := Hy1.fr2 f3.1 (fun z h1 _ => by simp; omega)
  have Hx3 : IIt h3 (pcl s) x := Hx1.fr2 f3.1 (fun z h1 _ => by simp; omega)
  have fl : ∀ h5, Fl h3 h5 → Fl h1 h5 := fun h5 f5 => ⟨f3.1.tr f5.1, fun k hk => (f5.2 k hk).trans (f3.2 k hk)⟩
  refine ok_isLine hp ty Hy3 (fun a2 b2' c2 hl2 hr2 h5 f5 s8 s9 s10 => ⟨fun w => absurd w (by decide), fun _ => ?_⟩) (fun hn h5 f5 => ⟨fun _ => bad h5 _ _ _ (fl h5 f5) (by unfold chI; rw [cite_neg (fun w => hn w.2.1)]), fun w => absurd rfl w⟩)
  obtain ⟨ex2, ey2, ez2⟩ := isLi_eq hl2
  obtain ⟨u1, u2, u3⟩ := id hr1
  obtain ⟨u4, u5, u6⟩ := id hr2
  rw [s8, s9, s10, r8, r9, r10', zI_sub, zI_sub, zI_sub]
  refine ok_isLine2 hp (by omega) (by omega) (by omega) (fun hr3 => ⟨fun w => absurd w (by decide), fun _ => ?_⟩) (fun hn => ⟨fun _ => bad h5 _ _ _ (fl h5 f5) (by unfold chI; rw [cite_neg (fun w => hn (by rw [ex, ey, ez, ex2, ey2, ez2]; exact w.2.2))]), fun w => absurd rfl w⟩)
  have f15 := fl h5 f5
  have z5 : Vz s h h5 := f1.tr (Vz.of_w (Fw.of_l (L := []) f15) (by simp))
  have P5 : VS h5 t len p (s + 1) := ⟨P.1.vz z5, by rw [f15.2 13 (by omega)]; exact P1.2.1, P.2.2.1, by rw [f15.2 15 (by omega)]; exact P1.2.2.2.1, by rw [f15.2 19 (by omega)]; exact P1.2.2.2.2.1, z5.2.2.1 P.2.2.2.2.2⟩
  have eC : chI x y = (match addFa (numI 1) a1 b1 c1 1 with
    | none => Sum.inr 3
    | some r => match addFa r a2 b2' c2 (-1) with
      | none => Sum.inr 3
      | some r => orF (addFa r (a1 - a2) (b1 - b2') (c1 - c2) (-1)) 3) := by
    unfold chI
    rw [cite_pos ⟨⟨a1, b1, c1, hl1, hr1⟩, ⟨a2, b2', c2, hl2, hr2⟩, by rw [← ex, ← ey, ← ez, ← ex2, ← ey2, ← ez2]; exact hr3⟩, ← ex, ← ey, ← ez, ← ex2, ← ey2, ← ez2]
    rfl
  refine s_X0_readChoice_186 hp tx ⟨fun _ => ?_, fun w => absurd w (by decide)⟩
  refine ok_iset (v := 1) hp tx P5.2.2.2.2.2 (fun h6 f6 H6 => ?_)
  have sub : ∀ z, z ∈ Lit (pcl s) → Sv s z := fun z hz => Lit_sv s z (by omega) hz
  have step : ∀ h7, Fr h5 h7 (Lit (pcl s)) → Vz s h h7 ∧ VS h7 t len p (s + 1) ∧ (ri h7 0 8 = zI a2 ∧ ri h7 0 9 = zI b2' ∧ ri h7 0 10 = zI c2) := by
    intro h7 f7
    exact ⟨z5.tr (Vz.of_fr f7 (Lit_p0 s) sub), P5.fr f7 (Lit_p0 s) sub, by rw [f7.gi (Lit_p0 s)]; exact s8, by rw [f7.gi (Lit_p0 s)]; exact s9, by rw [f7.gi (Lit_p0 s)]; exact s10⟩
  have no : ∀ h7, Fr h5 h7 (Lit (pcl s)) → chI x y = Sum.inr 3 → W_X0_readChoice g (d + 4) av (QV n Q) n 279 [some (.ref 0), some (.int (nI pl)), none, none, none, none, none, none, none, none] [] h7 := by
    intro h7 f7 ec
    obtain ⟨z7, P7, _⟩ := step h7 f7
    refine s_X0_readChoice_279 hp (s_X0_readChoice_280 hp ⟨fun w => absurd rfl w, fun _ => ?_⟩)
    refine ok_flawW (L := []) hp P7.2.2.2.1 (by decide) (fun h8 f8 P8 => qV (q h8 (z7.tr (Vz.of_w f8 (by simp))) (fun r er => ?_) (fun c er => ?_)))
    · rw [ec] at er; cases er
    · rw [ec] at er
      injection er with er
      rw [← er]
      exact ⟨P7.1.vz (Vz.of_w (s := s) f8 (by simp)), P8, by rw [f8.2 13 (by omega)]; exact P7.2.1⟩
  have n1 : (numI 1).1 ≠ bz := bC_ne (pC_ne fp_dom.2)
  refine ok_addFactorial (i := numI 1) (e := 1) hp tx hr1 (Or.inl rfl) H6 (by simp [numI]) (by simp [numI]) (fun ra era h7 f7 H7 => ⟨fun w => absurd w (by decide), fun _ => ?_⟩) (fun era => ⟨fun _ => no h6 f6 (by rw [eC, era]), fun w => absurd rfl w⟩)
  have g7 := gI_addFa (gI_num 1) n1 hr1 (Or.inl rfl) (by simp [numI, szF]) era
  have f57 := f6.tr f7
  obtain ⟨z7, P7, k8, k9, k10⟩ := step h7 f57
  rw [era] at eC
  have eC : chI x y = (match addFa ra a2 b2' c2 (-1) with
      | none => Sum.inr 3
      | some r => orF (addFa r (a1 - a2) (b1 - b2') (c1 - c2) (-1)) 3) := eC
  have sra : szF ra.2.2.2.2 ≤ 1 := by have := g7.2.2; simp [numI, szF] at this ⊢; omega
  rw [k8, k9, k10]
  have la := gL_len g7.1.2.2.2.2.2.2.1
  refine ok_addFactorial (e := -1) hp tx hr2 (Or.inr rfl) H7 (gL_mq g7.1.2.2.2.2.2.2.1 (by omega)) (by omega) (fun rb erb h8 f8 H8 => ⟨fun w => absurd w (by decide), fun _ => ?_⟩) (fun erb => ⟨fun _ => no h7 f57 (by rw [eC, erb]), fun w => absurd rfl w⟩)
  have g8 := gI_addFa g7.1 g7.2.1 hr2 (Or.inr rfl) (by omega) erb
  have f58 := f57.tr f8
  obtain ⟨z8, P8, m8, m9, m10⟩ := step h8 f58
  rw [erb] at eC
  have eC : chI x y = orF (addFa rb (a1 - a2) (b1 - b2') (c1 - c2) (-1)) 3 := eC
  rw [m8, m9, m10, zI_sub, zI_sub, zI_sub]
  have lb := gL_len g8.1.2.2.2.2.2.2.1
  have srb := g8.2.2
  refine ok_addFactorial (e := -1) hp tx hr3 (Or.inr rfl) H8 (gL_mq g8.1.2.2.2.2.2.2.1 (by omega)) (by omega) (fun rc erc h9 f9 H9 => ⟨fun w => absurd w (by decide), fun _ => ?_⟩) (fun erc => ⟨fun _ => no h8 f58 (by rw [eC, erc]; rfl), fun w => absurd rfl w⟩)
  have g9 := gI_addFa g8.1 g8.2.1 hr3 (Or.inr rfl) (by omega) erc
  obtain ⟨z9, P9, _⟩ := step h9 (f58.tr f9)
  rw [erc] at eC
  refine s_X0_readChoice_280 hp ⟨fun _ => qV (q h9 z9 (fun r er => ?_) (fun c er => ?_)), fun w => absurd w (by decide)⟩
  · rw [eC] at er
    have er : (Sum.inl rc : VR) = Sum.inl r := er
    injection er with er
    rw [← er]
    exact ⟨P9, H9, g9.1⟩
  · rw [eC] at er
    cases er
end
