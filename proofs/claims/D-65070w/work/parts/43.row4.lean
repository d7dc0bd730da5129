set_option maxRecDepth 100000
/-! OPERATIONS: row, part, poke -/
noncomputable def fnL (a : List Un) (j : Nat) : Un := a.getD j pz
/-- a recurrence made a row: its slot and answer, or too large -/
noncomputable def mkRow (S : SS) (t : Nat) (p : Nat → Un) (N : Nat) : SS × Int32 := if ndn (tdF p N (N - 1)) (N - 1) 301 ≤ 60 then (S.put t (rowSV (tdF p N) N (ndn (tdF p N (N - 1)) (N - 1) 301) []), nI (ndn (tdF p N (N - 1)) (N - 1) 301)) else (S, -2)
noncomputable def S_row (S : SS) (x z : Int32) : SS × Int32 := slS S x (fun s => slS S z (fun t => match S.sl s with
  | some (Sum.inr (Sum.inl (_, _, a))) => cite (a.length = 1 ∨ a.getD (a.length - 1) pz = pz) (S, -1) (mkRow S t (fnL a) a.length)
  | _ => (S, -3)))
section
variable {g : GX} {d n : Nat} {h h' h1 : Hp} {S : SS} {s : Nat}
theorem Fr.wz0 {L : List Nat} (f : Fr h h' L) (e : ∀ k, pubF k → ri h' 0 k = ri h 0 k) (o : ∀ x, x ∈ L → ¬ pubC x ∧ x < 2759) : Wz h h' := ⟨fun x hx => f.2.1 x (fun q => by have := o x q; omega), fun x _ => by rw [f.1], e, f.2.2, fun b => b.eq f.1, fun b => b.eq f.1⟩
theorem Wz.ltd (f : Fr h h' Ltd) : Wz h h' := Wz.of_fr f (fun x hx => by simp only [Ltd, Lfr, List.cons_append, List.nil_append, List.mem_cons, List.not_mem_nil, or_false] at hx; unfold pubC; omega)
theorem Wz.lfr (f : Fr h h' Lfr) : Wz h h' := Wz.of_fr f (fun x hx => by simp only [Lfr, List.mem_cons, List.not_mem_nil, or_false] at hx; unfold pubC; omega)
/-- a recurrence that is worked out becomes a row without first numbers -/
theorem SI.newrow (I : SI h S) (hs : s < 12) {p : Nat → Un} {N m : Nat} (hN : 2 ≤ N ∧ N ≤ 7) (hm : N ≤ m + 1 ∧ m ≤ 60) (hf : fitF p N) (w : Wq s h h1) (e0 : ri h1 (slc s) 0 = nI 4) (e3 : ri h1 (slc s) 3 = nI (N - 1)) (e4 : ri h1 (slc s) 4 = nI m) (e5 : ri h1 (slc s) 5 = 0) (e7 : ri h1 (slc s) 7 = 0) (P : ∀ l, l < N → PI h1 (slc s + 13 + 2 * l) (p l)) : SI h1 (S.put s (rowSV p N m [])) := by
  refine I.put hs w (v := rowSV p N m []) ⟨gA_ls (by omega) hN.2 hf, by rw [lsF_len]; omega, by rw [lsF_len]; omega, hm.2, Nat.zero_le _⟩ e0 ⟨LA_ls (by omega) e3 P, e4, e5, 0, e7, by simp, fun _ => rfl, fun i hi => absurd hi (by simp)⟩
theorem w_row69 (hp : g.2.2.2.2 = true) {t : Nat} (ht : t < 12) (hs : s < 12) {av : List Value} (I : SI h S) {a : List Un} (ga : gA a 4) (h2 : 2 ≤ a.length) (hl : a.getD (a.length - 1) pz ≠ pz) {Q : Int32 → Hp → Prop} (q : Pub h (mkRow S t (fnL a) a.length) Q) : ∀ (k j : Nat) (h1 : Hp), j + k = a.length → Wz h h1 → LA h1 (slc s) a → ri h1 0 62 = nI (a.length - 1) → FLf h1 j (fnL a) → W_X0_row g (d + 5) av (QI n Q) n 69 [some (.ref 0), none, some (.int (nI t)), some (.ref (slc s)), some (.int (nI j))] [] h1 := by
  have ts := slc_lay hs
  have hsc : slc s = 1185 + 27 * s := rfl
  have l4 := ga.2.1
  intro k
  induction k with
  | zero =>
    intro j h1 hj w La e62 F
    have ej : j = a.length := by omega
    subst ej
    refine s_X0_row_69 hp ts ⟨fun _ => ?_, fun c => absurd ?_ c⟩
    · rw [e62]
      have FPh : FP h1 := (w.b I.bp).2
      refine ok_tidy hp FPh (by omega) (fun l hl => by have := ga.2.2 l hl; show sz (a.getD l pz) ≤ 1800; omega) hl F (fun h3 f3 F3 => ?_)
      have w3 := w.tr (Wz.ltd f3)
      have fit : fitF (tdF (fnL a) a.length) a.length := fun l hl' => by
        have h1 := tdF_sz (p := fnL a) (N := a.length) (by omega) hl hl'
        have h2 : sz (fnL a l) ≤ 25 := ga.2.2 l hl'
        omega
      have x62 : ri h3 0 62 = nI (a.length - 1) := by rw [f3.gi (by simp)]; exact e62
      have nb := ndn_le (tdF (fnL a) a.length (a.length - 1)) (a.length - 1) 301
      unfold mkRow at q
      rw [show (0 : Int32) = nI 0 from rfl]
      refine ok_keepRow hp ht (FPh.fr f3) (by omega) (by omega) F3 x62 (fun c1 c2 h4 f4 e0 e3 e4 e5 e7 P => ?_) (fun c => ?_)
      · rw [Nat.zero_max] at c1 e4
        rw [if_pos c1.1] at q
        have wq : Wq t h h4 := w3.q.tr (Wq.lrw ht f4)
        rw [nI_leI (by omega) (by omega)]
        refine ⟨fun _ => ⟨nI_inL ht (by omega), fun r3 er => ?_⟩, fun c => absurd (Nat.zero_le _) c⟩
        rw [nI_tN (by omega)] at er; subst er
        rw [show ri h4 (1185 + 27 * t) 4 = _ from e4]
        exact qI (q h4 wq.cz (I.newrow ht (by omega) (by omega) c2 wq e0 e3 e4 e5 e7 P))
      · rw [Nat.zero_max] at c
        rw [if_neg (fun u => c ⟨⟨u, by omega⟩, fit⟩)] at q
        exact ⟨fun c => absurd c (by decide), fun _ => qI (q h3 w3.cz (I.wz w3))⟩
    · rw [La.1, nI_ltI (by omega) (by omega)]; omega
  | succ k ih =>
    intro j h1 hj w La e62 F
    refine s_X0_row_69 hp ts ⟨fun c => absurd c ?_, fun _ => ⟨nI_inL (by omega) (by omega), fun r4 e4 => ⟨nI_inL (by omega) (by omega), fun r5 e5 => ?_⟩⟩⟩
    · rw [La.1, nI_ltI (by omega) (by omega)]; omega
    · rw [nI_tN (by omega)] at e4 e5; subst e4; subst e5
      refine ok_copy hp (fr_lay (by omega)) (lay_sa hs (by omega)) (La.2 j (by omega)) (by rw [fr_rm (by omega)]; have := ga.2.2 j (by omega); omega) (fun h6 f6 P6 => ?_)
      rw [show (1 : Int32) = nI 1 from rfl, nI_addz]
      have fw : Fr h1 h6 Lfr := f6.mono (fun x hx => by simp at hx ⊢; omega)
      refine ih (j + 1) h6 (by omega) (w.tr (Wz.lfr fw)) (La.c (by omega) (fun x a b k => f6.gi (by simp; omega) k)) (by rw [f6.gi (by simp; omega)]; exact e62) (fun l hl => ?_)
      by_cases c : l = j
      · rw [c]; exact P6
      · exact (F l (by omega)).fr f6 (by simp; omega) (by simp; omega)
theorem ok_S_row (hp : g.2.2.2.2 = true) (I : SI h S) {x z : Int32} {Q : Int32 → Hp → Prop} (q : Pub h (S_row S x z) Q) : CallI g m_X0_row (d + 6) [.ref 0, .int x, .int z] n h Q := by
  unfold S_row at q
  refine okI 2 rfl rfl (s_X0_row_0 hp (ok_isSlot hp (fun s hs e => ⟨fun c => absurd c (by decide), fun _ => ?_⟩) (fun e => ⟨fun _ => ?_, fun c => absurd rfl c⟩)))
  · subst e
    refine ok_isSlot hp (fun t ht e => ⟨fun _ => ⟨nI_inL hs (by omega), fun r3 e3 => ?_⟩, fun c => absurd c (by decide)⟩) (fun e => ⟨fun c => absurd rfl c, fun _ => ?_⟩)
    · subst e
      rw [nI_tN (by omega)] at e3; subst e3
      rw [slS_n hs, slS_n ht] at q
      rcases I.slot hs with ⟨e, k⟩ | ⟨i, e, H, gi, k, kk⟩ | ⟨T, B, a, e, H, H2, _, ga, k⟩ | ⟨a, m, f, e, H, gs, k⟩
      · rw [show ri h (1185 + 27 * s) 0 = nI 0 from k]
        rw [e] at q
        exact ⟨fun c => absurd c (by decide), fun _ => qI (q.same I)⟩
      · rw [show ri h (1185 + 27 * s) 0 = nI (kdI i) from k]
        rw [e] at q
        refine ⟨fun c => absurd c ?_, fun _ => qI (q.same I)⟩
        rcases kk with w | w <;> rw [w] <;> decide
      · rw [show ri h (1185 + 27 * s) 0 = nI 3 from k]
        rw [e] at q
        have q : Pub h (cite (a.length = 1 ∨ a.getD (a.length - 1) pz = pz) (S, -1) (mkRow S t (fnL a) a.length)) Q := q
        have l1 := ga.1
        have l4 := ga.2.1
        rw [show ri h (1185 + 27 * s) 3 = nI (a.length - 1) from H2.1, show (0 : Int32) = nI 0 from rfl, nI_eq (by omega) (by omega), nI_tN (by omega)]
        refine ⟨fun _ => ⟨fun c => ?_, fun c => ⟨nI_inL (by omega) (by omega), fun r4 e4 => ?_⟩⟩, fun c => absurd rfl c⟩
        · rw [cite_pos (Or.inl (by omega))] at q
          exact qI (q.same I)
        · subst e4
          refine ok_isZero hp (lay_sa hs (by omega)) (H2.2 (a.length - 1) (by omega)) (fun z => ⟨fun c => absurd c (by decide), fun _ => ?_⟩) (fun z => ⟨fun _ h6 e6 => ?_, fun c => absurd rfl c⟩)
          · rw [cite_pos (Or.inr z)] at q
            exact qI (q.same I)
          · rw [cite_neg (fun w => by rcases w with w | w; omega; exact z w)] at q
            rw [show ri h (1185 + 27 * s) 3 = nI (a.length - 1) from H2.1] at e6
            have w6 : Wz h h6 := by rw [e6]; exact Wz.rf.put0 (by unfold pubF; omega)
            refine w_row69 hp ht hs I ga (by omega) z q a.length 0 h6 (by omega) w6 ?_ (by rw [e6, ri_same]) (fun l hl => absurd hl (Nat.not_lt_zero _))
            exact H2.c (by omega) (fun x a b k => by rw [e6, ri_ne (by have hsc : slc s = 1185 + 27 * s := rfl; omega)])
      · rw [show ri h (1185 + 27 * s) 0 = nI 4 from k]
        rw [e] at q
        exact ⟨fun c => absurd c (by decide), fun _ => qI (q.same I)⟩
    · rw [slS_no2 e] at q
      exact qI (q.same I)
  · rw [slS_no e] at q
    exact qI (q.same I)
/-- part -/
noncomputable def prtS (S : SS) (t : Nat) (lo : Int) (R : Bi × Bi) (a : List Un) (y : Int) : SS × Int32 := if lo ≤ y ∧ y ≤ (a.length : Int) - 1 then (if y < 0 then putR S t R.1 R.2 else putR S t (bC (a.getD y.toNat pz)) (bC (pC 1))) else (S, -1)
noncomputable def S_part (S : SS) (x y z : Int32) : SS × Int32 := slS S x (fun s => slS S z (fun t => match S.sl s with
  | some (Sum.inr (Sum.inl (T, B, a))) => prtS S t (-1) (T, B) a y.toInt
  | some (Sum.inr (Sum.inr (a, _, _))) => prtS S t 0 (bz, bz) a y.toInt
  | _ => (S, -3)))
theorem gI_poly {p : Un} (h : sz p ≤ 25) : gI (bC p, bC (pC 1), 1, 1, []) := by
  refine gI_ratio (fun c _ h2 => h2) (by rw [hB_C, hd_C]) ⟨by rw [bsn_C]; exact h, ?_⟩ (fit_C 1)
  by_cases c : p = pz
  · rw [c, bC_z, bsz_z]; omega
  · rw [bsz_C c]; omega
theorem ok_keep1 (hp : g.2.2.2.2 = true) {h0 : Hp} (I : SI h0 S) (w : Wz h0 h) {t : Nat} (ht : t < 12) {T B : Bi} (H : IIt h 80 (T, B, 1, 1, [])) (gi : gI (T, B, 1, 1, [])) {av : List Value} {Q : Int32 → Hp → Prop} (q : Pub h0 (putR S t T B) Q) : W_X0_part g (d + 4) av (QI n Q) n 168 [some (.ref 0), none, none, some (.int (nI t)), none] [] h := by
  refine s_X0_part_168 hp (ok_keep80 hp I w ht H gi (fun h' c' I' => ?_))
  rw [show (putI S t (T, B, 1, 1, [])).2 = nI 1 by unfold putI; rw [kdI_R]]
  exact ⟨fun c => absurd c (by decide), fun _ => qI (q h' c' I')⟩
theorem w_part51 (hp : g.2.2.2.2 = true) (I : SI h S) {t : Nat} (ht : t < 12) (hs : s < 12) {av : List Value} {lo : Int} (hlo : lo = 0 ∨ lo = -1) {T B : Bi} {a : List Un} (ga : gA a 7) (La : LA h (slc s) a) (R : lo = -1 → RI h (slc s + 2) T B ∧ gR T B) {y : Int32} {Q : Int32 → Hp → Prop} (q : Pub h (prtS S t lo (T, B) a y.toInt) Q) : W_X0_part g (d + 5) av (QI n Q) n 51 [some (.ref 0), none, some (.int y), some (.int (nI t)), some (.ref (slc s))] [.int (zI lo), .int y] h := by
  have ts := slc_lay hs
  have hsc : slc s = 1185 + 27 * s := rfl
  have tI := lf_9_1 ts
  have l1 := ga.1
  have l7 := ga.2.1
  unfold prtS at q
  have w82 : wd 82 = 25 ∧ hg 82 = 13 ∧ wd 84 = 25 ∧ hg 84 = 13 := rt_w t81
  have t82 : lay 82 = (0, 4, 4) := lf_6_0 t81
  have t84 : lay 84 = (0, 4, 4) := lf_6_1 t81
  refine s_X0_part_51 hp ts ?_
  rw [La.1, nI_z]
  refine ok_withinX hp (by omega) (by omega) (by omega) (by omega) (fun a1 a2 => ⟨fun _ => ok_plain hp t80 (fun h2 f2 p1 p2 p3 => ?_), fun c => absurd c (by decide)⟩) (fun w => ⟨fun c => absurd rfl c, fun _ => ?_⟩)
  · rw [if_pos ⟨a1, by omega⟩] at q
    have w2 : Wz h h2 := Wz.of_fr f2 (fun x hx => by simp at hx; unfold pubC; omega)
    rw [show (0 : Int32) = zI 0 from rfl, I32_gez (by omega) (by omega)]
    refine ⟨fun c => ?_, fun c => ?_⟩
    · rw [if_neg (by omega)] at q
      rw [show (1 : Int32) = toI 1 from toI_1.symm]
      refine ok_dset hp t84 ((w2.k I.kp).w t84) (by omega) (by omega) (fun h3 f3 D3 => ?_)
      have ey : y = nI y.toInt.toNat := I32_nat c
      rw [ey]
      refine ⟨nI_inL (by omega) (by omega), fun r4 e4 => ?_⟩
      rw [nI_tN (by omega)] at e4; subst e4
      have P := La.2 y.toInt.toNat (by omega)
      have sp : sz (a.getD y.toInt.toNat pz) ≤ 25 := ga.2.2 _ (by omega)
      have P3 : PI h3 (slc s + 13 + 2 * y.toInt.toNat) (a.getD y.toInt.toNat pz) := (P.fr f2 (by simp; omega) (by simp; omega)).fr f3 (by simp; omega) (by simp; omega)
      have w3 := w2.tr (Wz.of_fr f3 (fun x hx => by simp at hx; unfold pubC; omega))
      rw [toI_1, show (1 : Int32) = nI 1 from rfl, P3.1]
      refine ok_open hp t82 ((w3.k I.kp).w t82) (by omega) (by omega) (fun h5 f5 D5 => ⟨nI_inL (by omega) (by omega), fun r6 e6 => ?_⟩)
      rw [nI_tN (by omega)] at e6; subst e6
      refine ok_putRow (j := 0) hp t82 (lay_sa hs (by omega)) D5 (P3.fr f5 (by simp; omega) (by simp; omega)) (by omega) (fun h7 f7 D7 => ok_dtrim hp t82 D7 (fun h8 f8 D8 => ?_))
      have ec : b2 (fun j' i' => if j' = 0 then co (a.getD y.toInt.toNat pz) i' else 0) (sz (a.getD y.toInt.toNat pz)) 1 = bC (a.getD y.toInt.toNat pz) := by
        refine cc_ext fun j i => ?_
        rw [cc_b2, cc_C]
        by_cases hj : j = 0
        · subst hj
          by_cases hi : i < sz (a.getD y.toInt.toNat pz)
          · rw [if_pos ⟨by omega, hi⟩]
          · rw [if_neg (by omega), if_pos rfl, sz_le _ i (by omega)]
        · rw [if_neg (by omega), if_neg hj]
      rw [ec] at D8
      have w8 : Wz h h8 := ((w3.tr (Wz.of_fr f5 (fun x hx => by simp at hx; unfold pubC; omega))).tr (Wz.of_fr f7 (fun x hx => by simp at hx; unfold pubC; omega))).tr (Wz.of_fr f8 (fun x hx => by simp at hx; unfold pubC; omega))
      have n8 : ∀ x k, x ≠ 82 → x ≠ 83 → x ≠ 84 → x ≠ 85 → ri h8 x k = ri h2 x k := fun x k a1 a2 a3 a4 => by
        rw [f8.gi (by simp; omega), f7.gi (by simp; omega), f5.gi (by simp; omega), f3.gi (by simp; omega)]
      have FA8 : FA h8 80 [] := ⟨by rw [n8 80 3 (by omega) (by omega) (by omega) (by omega)]; exact p3.1, by simp, fun q hq => (by cases hq), fun i q hq => by simp at hq⟩
      exact ok_keep1 hp I w8 ht ⟨⟨D8, ((D3.fr f5 (by decide) (by decide)).fr f7 (by decide) (by decide)).fr f8 (by decide) (by decide)⟩, by rw [n8 80 1 (by omega) (by omega) (by omega) (by omega)]; exact p1, by rw [n8 80 2 (by omega) (by omega) (by omega) (by omega)]; exact p2, FA8⟩ (gI_poly sp) q
    · rw [if_pos (by omega)] at q
      have R' := R (by omega)
      have RI2 : RI h2 (slc s + 2) T B := R'.1.fr f2 (by simp; omega) (by simp; omega) (by simp; omega) (by simp; omega)
      refine ok_rcopy hp t81 (it_1 tI) (by omega) (w2.k I.kp) RI2 (fun h6 f6 R6 => ?_)
      have w6 : Wz h h6 := w2.tr (Wz.of_fr f6 (fun x hx => by simp only [Lra, List.mem_cons, List.not_mem_nil, or_false] at hx; unfold pubC; omega))
      have n6 : ∀ x k, x ∉ Lra 81 → ri h6 x k = ri h2 x k := fun x k hx => f6.gi hx k
      exact ok_keep1 hp I w6 ht ⟨R6, by rw [n6 80 1 (by decide)]; exact p1, by rw [n6 80 2 (by decide)]; exact p2, p3.fr f6 (fun x hx => by simp at hx ⊢; omega)⟩ (gI_ratio R'.2.1 R'.2.2.1 R'.2.2.2.1 R'.2.2.2.2) q
  · rw [if_neg (by omega)] at q
    exact qI (q.same I)
theorem ok_S_part (hp : g.2.2.2.2 = true) (I : SI h S) {x y z : Int32} {Q : Int32 → Hp → Prop} (q : Pub h (S_part S x y z) Q) : CallI g m_X0_part (d + 6) [.ref 0, .int x, .int y, .int z] n h Q := by
  unfold S_part at q
  refine okI 1 rfl rfl (s_X0_part_0 hp (ok_isSlot hp (fun s hs e => ⟨fun c => absurd c (by decide), fun _ => ?_⟩) (fun e => ⟨fun _ => ?_, fun c => absurd rfl c⟩)))
  · subst e
    refine ok_isSlot hp (fun t ht e => ⟨fun _ => ⟨nI_inL hs (by omega), fun r3 e3 => ?_⟩, fun c => absurd c (by decide)⟩) (fun e => ⟨fun c => absurd rfl c, fun _ => ?_⟩)
    · subst e
      rw [nI_tN (by omega)] at e3; subst e3
      rw [slS_n hs, slS_n ht] at q
      rcases I.slot hs with ⟨e, k⟩ | ⟨i, e, H, gi, k, kk⟩ | ⟨T, B, a, e, H, H2, gr, ga, k⟩ | ⟨a, m, f, e, H, gs, k⟩
      · rw [show ri h (1185 + 27 * s) 0 = nI 0 from k]
        rw [e] at q
        exact ⟨fun c => absurd c (by decide), fun _ => qI (q.same I)⟩
      · rw [show ri h (1185 + 27 * s) 0 = nI (kdI i) from k]
        rw [e] at q
        refine ⟨fun c => absurd c ?_, fun _ => qI (q.same I)⟩
        rcases kk with w | w <;> rw [w] <;> decide
      · rw [show ri h (1185 + 27 * s) 0 = nI 3 from k]
        rw [e] at q
        refine ⟨fun _ => ⟨fun c => absurd rfl c, fun _ => ?_⟩, fun c => absurd (by decide) c⟩
        exact w_part51 hp I ht hs (lo := -1) (Or.inr rfl) ⟨ga.1, by have := ga.2.1; omega, ga.2.2⟩ H2 (fun _ => ⟨H, gr⟩) q
      · rw [show ri h (1185 + 27 * s) 0 = nI 4 from k]
        rw [e] at q
        refine ⟨fun _ => ⟨fun _ => ?_, fun c => absurd c (by decide)⟩, fun c => absurd (by decide) c⟩
        exact w_part51 hp I ht hs (lo := 0) (Or.inl rfl) gs.1 H.1 (fun w => by omega) q
    · rw [slS_no2 e] at q
      exact qI (q.same I)
  · rw [slS_no e] at q
    exact qI (q.same I)
end
