set_option maxRecDepth 100000
/-! FORMS: laid out, modest, the operation -/
theorem pp_C {p : Un} (hp : p ≠ pz) : bsn (ppB (bC p)) ≤ 1 := by
  have h1 := ppB_bsz (bC p)
  rw [bsz_C hp] at h1
  have := prim_sz1 (ppB_prim (bC_ne hp)) (by omega)
  omega
theorem lowC_sz {F : Bi} {p : Un} (hp : p ≠ pz) (hF : F ≠ bz) : bsz (lowT F (bC p)) = bsz F ∧ bsz (lowB F (bC p)) = 1 := by
  have h := low_is F (bC_ne hp)
  have d := (bdv_bsz (low_dv (F := F) (bC_ne hp)).2 (bC_ne hp)).1
  rw [bsz_C hp] at d
  have nT := lowT_ne hF (bC_ne hp)
  have p1 := bsz_pos h.ne
  have e1 := (bsz_mul nT (bC_ne hp)).1
  have e2 := (bsz_mul hF h.ne).1
  rw [h.1] at e1
  have c1 := bsz_C hp
  have p2 := bsz_pos nT
  have p3 := bsz_pos hF
  omega
theorem fm_big {X : B3} {T B : Bi} (I : fmI T B X) (h : 9 < bsz X.2.2) : ¬ fmOK X := fun w => by
  have h1 := w.2.2.1.1
  have e : fmT 2 X = lowT X.2.2 (bC (bhd X.2.2)) := rfl
  rw [e, (lowC_sz (bhd_ne I.c) I.c).1] at h1
  omega
section
variable {g : GX} {d n : Nat} {h h' h1 : Hp}
/-- the form as it stands -/
def FmI (h : Hp) (X : B3) : Prop := DI h 93 X.1 ∧ DI h 95 X.2.1 ∧ DI h 97 X.2.2 ∧ PI h 107 (bhd X.2.1) ∧ PI h 109 (bhd X.2.2)
theorem FmI.rd {X : B3} (H : FmI h X) (f : Fr h h' Lrd) : FmI h' X := ⟨H.1.fr f (by decide) (by decide), H.2.1.fr f (by decide) (by decide), H.2.2.1.fr f (by decide) (by decide), H.2.2.2.1.fr f (by decide) (by decide), H.2.2.2.2.fr f (by decide) (by decide)⟩
/-- A, B or C as a ratio -/
theorem ok_layForm (hp : g.2.2.2.2 = true) (K : Kp h) {X : B3} (hb : X.2.1 ≠ bz) (hc : X.2.2 ≠ bz) {w : Nat} (hw : w < 3) (H : FmI h X) (s1 : bsn X.1 ≤ 900 ∧ bsn X.2.1 ≤ 900 ∧ bsn X.2.2 ≤ 900) {Q : Hp → Prop} (q : ∀ h', Fr h h' Lrd → DI h' 39 (fmT w X) → DI h' 41 (fmB w X) → Q h') : CallV g m_X0_layForm (d + 10) [.ref 0, .int (nI w)] n h Q := by
  have z39 := w39
  have z41 := w41
  have kA := H.1.ltk
  have kB := H.2.1.ltk
  have kC := H.2.2.1.ltk
  have nH : fmH w X ≠ pz := by unfold fmH; split; exact bhd_ne hc; exact bhd_ne hb
  have sH : sz (fmH w X) ≤ 900 := by
    unfold fmH
    split
    · exact Nat.le_trans (bsn_le X.2.2 _) s1.2.2
    · exact Nat.le_trans (bsn_le X.2.1 _) s1.2.1
  have j31 : ∀ a, lay a = (0, 4, 4) → a ≠ 39 → DI h a (fmF w X) → bsn (fmF w X) ≤ 900 ∧ bsz (fmF w X) ≤ 150 → W_X0_layForm g (d + 9) [.ref 0, .int (nI w)] (QV n Q) n 31 [some (.ref 0), some (.int (nI w)), none] [.ref a, .ref 39] h := by
    intro a ta na D sF
    refine s_X0_layForm_31 hp ta t39 (ok_dcopy hp t39 ta (Ne.symm na) (K.w t39) D (by omega) (by omega) (fun h1 f1 D1 => ?_))
    have F1 : Fr h h1 Lrd := f1.mono (by simp)
    have j50 : ∀ c, lay c = (0, 3, 2) → c ≠ 39 → c ≠ 40 → c + 1 ≠ 39 → c + 1 ≠ 40 → c ≠ 41 → c ≠ 42 → c + 1 ≠ 41 → c + 1 ≠ 42 → PI h c (fmH w X) → W_X0_layForm g (d + 9) [.ref 0, .int (nI w)] (QV n Q) n 50 [some (.ref 0), none, none] [.ref c] h1 := by
      intro c tc n1 n2 n3 n4 n5 n6 n7 n8 P
      have P1 := (P.fr f1 (by simp; omega) (by simp; omega))
      have o := pout2 t41 tc
      refine s_X0_layForm_50 hp tc ?_
      rw [P1.1, show (1 : Int32) = nI 1 from rfl]
      refine ok_open hp t41 ((F1.kp K).w t41) (by omega) (by omega) (fun h2 f2 D2 => ?_)
      refine ok_putRow (j := 0) hp t41 tc D2 (P1.fr f2 o.1 o.2) (by omega) (fun h3 f3 D3 => ?_)
      have D3' : DI h3 41 (bC (fmH w X)) := DI.C nH D3 (fun i => by rw [if_pos rfl])
      have F3 : Fr h h3 Lrd := F1.tr (((f2.mono (by simp)).tr (f3.mono (by simp))))
      refine ok_reduce hp (F3.kp K) (bC_ne nH) (((D1.fr f2 (by decide) (by decide)).fr f3 (by decide) (by decide))) D3' ?_ (fun h4 f4 A4 B4 => qV (q h4 (F3.tr f4) A4 B4))
      have := pp_C nH
      omega
    rw [show (2 : Int32) = nI 2 from rfl, nI_eq (by omega) (by omega)]
    refine ⟨fun c => j50 107 t107 (by decide) (by decide) (by decide) (by decide) (by decide) (by decide) (by decide) (by decide) ?_, fun c => j50 109 t109 (by decide) (by decide) (by decide) (by decide) (by decide) (by decide) (by decide) (by decide) ?_⟩
    · unfold fmH; rw [if_neg c]; exact H.2.2.2.1
    · unfold fmH; rw [if_pos c]; exact H.2.2.2.2
  refine okV 1 rfl rfl (s_X0_layForm_0 hp ?_)
  rw [show (0 : Int32) = nI 0 from rfl, nI_eq (by omega) (by omega), show (1 : Int32) = nI 1 from rfl, nI_eq (by omega) (by omega)]
  refine ⟨fun c0 => ⟨fun c1 => ?_, fun c1 => ?_⟩, fun c0 => ?_⟩
  · have e : fmF w X = X.2.2 := by unfold fmF; rw [if_neg c0, if_neg c1]
    exact j31 97 t97 (by decide) (by rw [e]; exact H.2.2.1) (by rw [e]; omega)
  · have e : fmF w X = X.2.1 := by unfold fmF; rw [if_neg c0, if_pos c1]
    exact j31 95 t95 (by decide) (by rw [e]; exact H.2.1) (by rw [e]; omega)
  · have e : fmF w X = X.1 := by unfold fmF; rw [if_pos c0]
    exact j31 93 t93 (by decide) (by rw [e]; exact H.1) (by rw [e]; omega)
theorem ok_isModest (hp : g.2.2.2.2 = true) {T B : Bi} (DT : DI h 39 T) (DB : DI h 41 B) {Q : Int32 → Hp → Prop} (q1 : modB T B → Q 1 h) (q0 : ¬ modB T B → Q 0 h) : CallI g m_X0_isModest d [.ref 0] n h Q := by
  have a1 := DT.ltk
  have a2 := DT.ltn
  have b1 := DB.ltk
  have b2 := DB.ltn
  refine okI 0 rfl rfl (s_X0_isModest_0 hp ?_)
  rw [DT.k, DT.n, DB.k, DB.n, show (9 : Int32) = nI 9 from rfl, show (13 : Int32) = nI 13 from rfl, nI_ltI (by omega) (by omega), nI_ltI (by omega) (by omega), nI_ltI (by omega) (by omega), nI_ltI (by omega) (by omega)]
  unfold modB at q1 q0
  exact ⟨fun c => qI (q0 (by omega)), fun c => ⟨fun c => qI (q0 (by omega)), fun c => ⟨fun c => qI (q0 (by omega)), fun c => ⟨fun c => qI (q0 (by omega)), fun c => qI (q1 (by omega))⟩⟩⟩⟩
theorem w_mf4 (hp : g.2.2.2.2 = true) {av : List Value} {X : B3} (hb : X.2.1 ≠ bz) (hc : X.2.2 ≠ bz) (s1 : bsn X.1 ≤ 900 ∧ bsn X.2.1 ≤ 900 ∧ bsn X.2.2 ≤ 900) {Q : Int32 → Hp → Prop} : ∀ (k j : Nat) (h : Hp), j + k = 3 → Kp h → FmI h X → (∀ l, l < j → modB (fmT l X) (fmB l X)) → (fmOK X → ∀ h', Fr h h' Lrd → Q 1 h') → (¬ fmOK X → ∀ h', Fr h h' Lrd → Q 0 h') → W_X0_isModestForm g (d + 10) av (QI n Q) n 4 [some (.ref 0), some (.int 1), some (.int (nI j))] [] h := by
  intro k
  induction k with
  | zero =>
    intro j h hj K H hl q1 q0
    refine s_X0_isModestForm_4 hp ⟨fun _ => ⟨Or.inr rfl, qI (q1 ⟨hl 0 (by omega), hl 1 (by omega), hl 2 (by omega)⟩ h Fr.rf)⟩, fun c => absurd ?_ c⟩
    rw [show (3 : Int32) = nI 3 from rfl, nI_leI (by omega) (by omega)]; omega
  | succ k ih =>
    intro j h hj K H hl q1 q0
    refine s_X0_isModestForm_4 hp ⟨fun c => absurd c ?_, fun _ => ⟨fun c => absurd c (by decide), fun _ => ok_layForm hp K hb hc (by omega) H s1 (fun h1 f1 A1 B1 => ok_isModest hp A1 B1 (fun m => ?_) (fun m => ?_))⟩⟩
    · rw [show (3 : Int32) = nI 3 from rfl, nI_leI (by omega) (by omega)]; omega
    · have e1 : nI j + 1 = nI (j + 1) := nI_1 j
      rw [e1]
      refine ih (j + 1) h1 (by omega) (f1.kp K) (H.rd f1) (fun l hl' => ?_) (fun w h' f' => q1 w h' (f1.tr f')) (fun w h' f' => q0 w h' (f1.tr f'))
      by_cases c : l = j
      · rw [c]; exact m
      · exact hl l (by omega)
    · have bad : ¬ fmOK X := fun w => m (by
        rcases (show j = 0 ∨ j = 1 ∨ j = 2 by omega) with e | e | e <;> subst e
        · exact w.1
        · exact w.2.1
        · exact w.2.2)
      refine s_X0_isModestForm_4 hp ⟨fun _ => ⟨Or.inl rfl, qI (q0 bad h1 f1)⟩, fun _ => ⟨fun _ => ⟨Or.inl rfl, qI (q0 bad h1 f1)⟩, fun c => absurd rfl c⟩⟩
theorem ok_isModestForm (hp : g.2.2.2.2 = true) (K : Kp h) {X : B3} (hb : X.2.1 ≠ bz) (hc : X.2.2 ≠ bz) (s1 : bsn X.1 ≤ 900 ∧ bsn X.2.1 ≤ 900 ∧ bsn X.2.2 ≤ 900) (H : FmI h X) {Q : Int32 → Hp → Prop} (q1 : fmOK X → ∀ h', Fr h h' Lrd → Q 1 h') (q0 : ¬ fmOK X → ∀ h', Fr h h' Lrd → Q 0 h') : CallI g m_X0_isModestForm (d + 11) [.ref 0] n h Q :=
  okI 2 rfl rfl (s_X0_isModestForm_0 hp (w_mf4 hp hb hc s1 3 0 h (by omega) K H (fun l hl => absurd hl (Nat.not_lt_zero _)) q1 q0))
theorem fmS_sz {T B : Bi} {X : B3} (I : fmI T B X) (hT : T ≠ bz) (hB : B ≠ bz) (th : thin T) (s1 : bsn T ≤ 150) (s2 : bsn B ≤ 150) (c : bsz X.2.2 ≤ 9) : bsn X.1 ≤ 900 ∧ bsn X.2.1 ≤ 900 ∧ bsn X.2.2 ≤ 900 := by
  have a := bdv_bsz I.da hT
  have b := bdv_bsz I.db hB
  have t := I.th th
  omega
end
/-- form -/
noncomputable def S_form (S : SS) (x y z : Int32) : SS × Int32 := slS S x (fun s => slS S z (fun t => match itmS (S.sl s) with
  | none => (S, -3)
  | some i => cite (isT i.2.2.1 i.2.2.2.1 i.2.2.2.2) (S, -3) (cite ((0 ≤ y.toInt ∧ y.toInt ≤ 2) ∧ i.1 ≠ bz) (cite (fmOK (fm i.1 i.2.1)) (putR S t (fmT y.toInt.toNat (fm i.1 i.2.1)) (fmB y.toInt.toNat (fm i.1 i.2.1))) (S, -2)) (S, -1))))
section
variable {g : GX} {d n : Nat} {h h' h1 : Hp} {S : SS} {s : Nat}
theorem Wz.lff (f : Fr h h' Lff) : Wz h h' := Wz.of_fr f (fun x hx => by simp only [Lff, List.mem_cons, List.not_mem_nil, or_false] at hx; unfold pubC; omega)
theorem lowT_idem {F G : Bi} (hG : G ≠ bz) : lowT (lowT F G) (lowB F G) = lowT F G ∧ lowB (lowT F G) (lowB F G) = lowB F G := by
  have h := low_is F hG
  have := low_eq h.ne (show Low (lowT F G) (lowB F G) (lowT F G) (lowB F G) from ⟨rfl, h.2.1, h.2.2⟩)
  exact ⟨this.1.symm, this.2.symm⟩
theorem ok_S_form (hp : g.2.2.2.2 = true) (I : SI h S) {x y z : Int32} {Q : Int32 → Hp → Prop} (q : Pub h (S_form S x y z) Q) : CallI g m_X0_form (d + 12) [.ref 0, .int x, .int y, .int z] n h Q := by
  unfold S_form at q
  refine okI 2 rfl rfl (s_X0_form_0 hp (ok_isSlot hp (fun s hs e => ⟨fun c => absurd c (by decide), fun _ => ?_⟩) (fun e => ⟨fun _ => ?_, fun c => absurd rfl c⟩)))
  · subst e
    refine ok_isSlot hp (fun t ht e => ⟨fun _ => ⟨nI_inL hs (by omega), fun r3 e3 => ?_⟩, fun c => absurd c (by decide)⟩) (fun e => ⟨fun c => absurd rfl c, fun _ => ?_⟩)
    · subst e
      rw [nI_tN (by omega)] at e3; subst e3
      rw [slS_n hs, slS_n ht] at q
      have hsc : slc s = 1185 + 27 * s := rfl
      rcases I.slot hs with ⟨e, k⟩ | ⟨i, e, H, gi, k, kk⟩ | ⟨T, B, a, e, H, H2, gr, ga, k⟩ | ⟨a, m', f, e, H, gs, k⟩
      · rw [show ri h (1185 + 27 * s) 0 = nI 0 from k]
        rw [e] at q
        exact ⟨fun c => absurd c (by decide), fun _ => qI (q.same I)⟩
      · rw [show ri h (1185 + 27 * s) 0 = nI (kdI i) from k]
        rw [e] at q
        have q : Pub h (cite (isT i.2.2.1 i.2.2.2.1 i.2.2.2.2) (S, -3) (cite ((0 ≤ y.toInt ∧ y.toInt ≤ 2) ∧ i.1 ≠ bz) (cite (fmOK (fm i.1 i.2.1)) (putR S t (fmT y.toInt.toNat (fm i.1 i.2.1)) (fmB y.toInt.toNat (fm i.1 i.2.1))) (S, -2)) (S, -1))) Q := q
        have e1 : nI (kdI i) = (1 : Int32) ↔ ¬ isT i.2.2.1 i.2.2.2.1 i.2.2.2.2 := by
          rw [show (1 : Int32) = nI 1 from rfl, nI_eq (by omega) (by omega), ← kdI_T]; omega
        rw [e1]
        refine ⟨fun nt => ⟨nI_inL hs (by omega), fun r4 e4 => ?_⟩, fun it => ?_⟩
        · rw [nI_tN (by omega)] at e4; subst e4
          rw [cite_neg nt] at q
          show CallI g m_X0_within (d + 11) [.int y, .int (zI 0), .int (zI 2)] n h _
          refine ok_withinX hp (by omega) (by omega) (by omega) (by omega) (fun a1 a2 => ⟨fun c => absurd c (by decide), fun _ => ?_⟩) (fun w => ⟨fun _ => ?_, fun c => absurd rfl c⟩)
          · have tI := lf_9_1 (slc_lay hs)
            refine ok_risZero hp (it_1 tI) H.1 (fun z => ⟨fun c => absurd c (by decide), fun _ => ?_⟩) (fun z => ⟨fun _ => ?_, fun c => absurd rfl c⟩)
            · rw [cite_neg (fun w => w.2 z)] at q
              exact qI (q.same I)
            · rw [cite_pos ⟨⟨a1, a2⟩, z⟩] at q
              have g3 := gi.2.2.1
              have g4 := gi.2.2.2.1
              unfold fitB at g3 g4
              have z39 := w39
              have z41 := w41
              refine ok_dcopy hp t39 (it_2 tI) (by omega) (I.kp.w t39) H.1.1 (by omega) (by omega) (fun h7 f7 D7 => ?_)
              have H7 : IIt h7 (slc s + 1) i := H.fr2 f7 (fun x h1 h2 => by simp; omega)
              refine ok_dcopy hp t41 (it_4 tI) (by omega) ((f7.kp I.kp).w t41) H7.1.2 (by omega) (by omega) (fun h8 f8 D8 => ?_)
              have w8 : Wz h h8 := Wz.lrd (((f7.mono (by simp)).tr (f8.mono (by simp))))
              have th := thin_small z g3.1
              have Im : fmI i.1 i.2.1 (fm i.1 i.2.1) := fmI_L z gi.b 41
              refine ok_findForm hp (w8.k I.kp) z gi.b th (by omega) (by omega) ((D7.fr f8 (by decide) (by decide))) D8 (fun c9 h9 f9 A9 B9 C9 P9 R9 => ⟨fun c => absurd c (by decide), fun _ => ?_⟩) (fun c9 h9 f9 => ⟨fun _ => ?_, fun c => absurd rfl c⟩)
              · have w9 := w8.tr (Wz.lff f9)
                have sX := fmS_sz Im z gi.b th (by omega) (by omega) c9
                have FM : FmI h9 (fm i.1 i.2.1) := ⟨A9, B9, C9, P9, R9⟩
                refine ok_isModestForm hp (w9.k I.kp) Im.b Im.c sX FM (fun ok h10 f10 => ⟨fun _ => ?_, fun c => absurd c (by decide)⟩) (fun ok h10 f10 => ⟨fun c => absurd rfl c, fun _ => ?_⟩)
                · rw [cite_pos ok] at q
                  have w10 := w9.tr (Wz.lrd f10)
                  have y3 : y.toInt.toNat < 3 := by omega
                  rw [show y = nI y.toInt.toNat from I32_nat a1]
                  generalize y.toInt.toNat = w at q y3
                  refine ok_layForm hp (w10.k I.kp) Im.b Im.c y3 (FM.rd f10) sX (fun h11 f11 A11 B11 => ?_)
                  have w11 := w10.tr (Wz.lrd f11)
                  have nH : fmH w (fm i.1 i.2.1) ≠ pz := by unfold fmH; split; exact bhd_ne Im.c; exact bhd_ne Im.b
                  have lw := low_is (fmF w (fm i.1 i.2.1)) (bC_ne nH)
                  have nB : fmB w (fm i.1 i.2.1) ≠ bz := lw.ne
                  have idm := lowT_idem (F := fmF w (fm i.1 i.2.1)) (bC_ne nH)
                  have md : modB (fmT w (fm i.1 i.2.1)) (fmB w (fm i.1 i.2.1)) := by
                    rcases (show w = 0 ∨ w = 1 ∨ w = 2 by omega) with e | e | e <;> subst e
                    · exact ok.1
                    · exact ok.2.1
                    · exact ok.2.2
                  have f1 : fitB (fmT w (fm i.1 i.2.1)) := ⟨by have := md.2.1; omega, by have := md.1.1; omega⟩
                  have f2 : fitB (fmB w (fm i.1 i.2.1)) := ⟨by have := md.2.2; omega, by have := md.1.2; omega⟩
                  have pp := ppB_bsn (fmB w (fm i.1 i.2.1))
                  have md2 := md.2.2
                  have eT : lowT (fmT w (fm i.1 i.2.1)) (fmB w (fm i.1 i.2.1)) = fmT w (fm i.1 i.2.1) := idm.1
                  have eB : lowB (fmT w (fm i.1 i.2.1)) (fmB w (fm i.1 i.2.1)) = fmB w (fm i.1 i.2.1) := idm.2
                  refine ok_give hp t81 (w11.k I.kp) nB A11 B11 (by omega) (fun _ _ h12 f12 R12 => ?_) (fun nf => absurd (by rw [eT, eB]; exact ⟨f1, f2⟩) nf)
                  rw [eT, eB] at R12
                  have w12 := w11.tr (Wz.lgv f12)
                  exact ok_keepRS hp (I.wz w12) ht R12 (gI_ratio lw.2.1 lw.2.2 f1 f2) (fun h' c' I' => qI (q.wz w12 h' c' I'))
                · rw [cite_neg ok] at q
                  have w10 := w9.tr (Wz.lrd f10)
                  exact qI (q h10 w10.cz (I.wz w10))
              · rw [cite_neg (fm_big Im c9)] at q
                have w9 := w8.tr (Wz.lff f9)
                exact qI (q h9 w9.cz (I.wz w9))
          · rw [cite_neg (fun u => w u.1)] at q
            exact qI (q.same I)
        · rw [cite_pos (Classical.not_not.mp it)] at q
          exact qI (q.same I)
      · rw [show ri h (1185 + 27 * s) 0 = nI 3 from k]
        rw [e] at q
        exact ⟨fun c => absurd c (by decide), fun _ => qI (q.same I)⟩
      · rw [show ri h (1185 + 27 * s) 0 = nI 4 from k]
        rw [e] at q
        exact ⟨fun c => absurd c (by decide), fun _ => qI (q.same I)⟩
    · rw [slS_no2 e] at q
      exact qI (q.same I)
  · rw [slS_no e] at q
    exact qI (q.same I)
end
