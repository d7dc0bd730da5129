set_option maxRecDepth 100000
/-! TEXTS: what the parts of a text are worth -/
noncomputable def cite {α : Type} (p : Prop) (a b : α) : α := @ite α p (Classical.propDecidable p) a b
theorem cite_pos {α : Type} {p : Prop} {a b : α} (h : p) : cite p a b = a := if_pos h
theorem cite_neg {α : Type} {p : Prop} {a b : α} (h : ¬ p) : cite p a b = b := if_neg h
abbrev VR : Type := Itm ⊕ Nat
noncomputable def lA (i : Itm) : Int := sml (cc i.1 0 1)
noncomputable def lB (i : Itm) : Int := sml (cc i.1 1 0)
noncomputable def lC (i : Itm) : Int := sml (cc i.1 0 0)
def isLi (i : Itm) : Prop := ∃ x y z, isLn i x y z ∧ rgL x y z
theorem isLi_eq {i : Itm} {x y z : Int} (h : isLn i x y z) : x = lA i ∧ y = lB i ∧ z = lC i := h.2.2.2
def orF (o : Option Itm) (c : Nat) : VR := match o with
  | some r => Sum.inl r
  | none => Sum.inr c
/-- a factorial -/
noncomputable def facI (i : Itm) : VR := cite (isLi i) (orF (addFa (numI 1) (lA i) (lB i) (lC i) 1) 3) (Sum.inr 2)
def isNum (i : Itm) : Prop := ¬ isT i.2.2.1 i.2.2.2.1 i.2.2.2.2 ∧ (bsn i.2.1 = 1 ∧ bsz i.2.1 = 1) ∧ bsn i.1 ≤ 1 ∧ bsz i.1 ≤ 1
/-- a power -/
noncomputable def powT (i e : Itm) : VR := cite (isLi e) (if lA e = 0 ∧ lB e = 0 then (cite ((¬ isT i.2.2.1 i.2.2.2.1 i.2.2.2.2 ∧ i.1 = bz) ∧ lC e < 0) (Sum.inr 3) (orF (powI (decide (lC e < 0)) i (lC e).natAbs) 4)) else cite (isNum i) (cite (i.1 = bz) (Sum.inr 3) (Sum.inl (bC (pC (spw (cc i.1 0 0) (lC e))), bC (pC 1), spw (cc i.1 0 0) (lA e), spw (cc i.1 0 0) (lB e), []))) (Sum.inr 2)) (Sum.inr 2)
/-- of so many, so many -/
noncomputable def chI (i j : Itm) : VR := cite (isLi i ∧ isLi j ∧ rgL (lA i - lA j) (lB i - lB j) (lC i - lC j)) (match addFa (numI 1) (lA i) (lB i) (lC i) 1 with
  | none => Sum.inr 3
  | some r => match addFa r (lA j) (lB j) (lC j) (-1) with
    | none => Sum.inr 3
    | some r => orF (addFa r (lA i - lA j) (lB i - lB j) (lC i - lC j) (-1)) 3) (Sum.inr 2)
theorem gI_addFa {i r : Itm} {x y z e : Int} (gi : gI i) (hi0 : i.1 ≠ bz) (hr : rgL x y z) (he : e = 1 ∨ e = -1) (hs : szF i.2.2.2.2 ≤ 11) (h : addFa i x y z e = some r) : gI r ∧ r.1 ≠ bz ∧ szF r.2.2.2.2 ≤ szF i.2.2.2.2 + 1 := by
  unfold addFa at h
  split at h
  · injection h with h
    have hin : szF (insF (x, y, z, e) i.2.2.2.2) ≤ szF i.2.2.2.2 + 1 := by
      have gen : ∀ (L : List Q4) (k : Nat) (q : Q4), szF (L.insertIdx k q) ≤ szF L + q.2.2.2.natAbs := by
        intro L
        induction L with
        | nil => intro k q; cases k <;> simp [szF]
        | cons s L ih =>
          intro k q
          cases k with
          | zero => simp [szF]; omega
          | succ k =>
            have := ih k q
            simp only [List.insertIdx_succ_cons, szF, List.map_cons, List.sum_cons] at this ⊢
            omega
      have gen2 : ∀ (L : List Q4) (k : Nat), szF (L.eraseIdx k) ≤ szF L := by
        intro L
        induction L with
        | nil => intro k; simp [szF]
        | cons s L ih =>
          intro k
          cases k with
          | zero => simp [szF]
          | succ k =>
            have := ih k
            simp only [List.eraseIdx_cons_succ, szF, List.map_cons, List.sum_cons] at this ⊢
            omega
      have gen3 : ∀ (L : List Q4) (k : Nat) (s q : Q4), L[k]? = some s → szF (L.set k q) + s.2.2.2.natAbs = szF L + q.2.2.2.natAbs := by
        intro L
        induction L with
        | nil => intro k s q e; simp at e
        | cons u L ih =>
          intro k s q e
          cases k with
          | zero =>
            simp at e
            rw [← e]
            simp [szF]; omega
          | succ k =>
            have := ih k s q (by simpa using e)
            simp only [List.set_cons_succ, szF, List.map_cons, List.sum_cons] at this ⊢
            omega
      unfold insF
      split
      · rename_i s es
        split
        · split
          · have := gen2 i.2.2.2.2 (fpos (x, y, z, e) i.2.2.2.2); omega
          · have := gen3 i.2.2.2.2 (fpos (x, y, z, e) i.2.2.2.2) s (s.1, s.2.1, s.2.2.1, s.2.2.2 + e) es
            have e1 : ((s.1, s.2.1, s.2.2.1, s.2.2.2 + e) : Q4).2.2.2 = s.2.2.2 + e := rfl
            rw [e1] at this
            show szF (i.2.2.2.2.set _ (s.1, s.2.1, s.2.2.1, s.2.2.2 + e)) ≤ _
            omega
        · have := gen i.2.2.2.2 (fpos (x, y, z, e) i.2.2.2.2) (x, y, z, e)
          have e1 : ((x, y, z, e) : Q4).2.2.2 = e := rfl
          rw [e1] at this
          omega
      · have := gen i.2.2.2.2 (fpos (x, y, z, e) i.2.2.2.2) (x, y, z, e)
        have e1 : ((x, y, z, e) : Q4).2.2.2 = e := rfl
        rw [e1] at this
        omega
    rw [← h]
    obtain ⟨g1, g2, g3, g4, g5, g6, g7, g8, g9⟩ := gi
    refine ⟨⟨g1, g2, g3, g4, g5, g6, gL_ins ⟨hr, by show e ≠ 0; omega⟩ g7, ?_, fun w => absurd w hi0⟩, hi0, hin⟩
    show szF (insF (x, y, z, e) i.2.2.2.2) ≤ 12
    omega
  · split at h
    · cases h
    · injection h with h
      rename_i hz
      have hne : (if 0 < e then facF z.toNat else iv (facF z.toNat)) ≠ 0 := by
        have hf : ∀ m, m < 2147483647 → facF m ≠ 0 := by
          intro m
          induction m with
          | zero => intro _; exact fp_dom.2
          | succ m ih =>
            intro hm
            refine dom_mul_ne fp_dom (ih (by omega)) (fun w => ?_)
            have := nF_inj (m := m + 1) (n := 0) hm (by omega) (w.trans rfl)
            omega
        have h1 := hf z.toNat (by have := hr.2.2; omega)
        split
        · exact h1
        · exact iv_ne h1
      obtain ⟨g1, g2, g3, g4, g5, g6, g7, g8, g9⟩ := gi
      rw [← h]
      generalize (if 0 < e then facF z.toNat else iv (facF z.toNat)) = w at hne ⊢
      refine ⟨⟨?_, g2, ⟨Nat.le_trans (bsn_sc_le w i.1) g3.1, Nat.le_trans (bsz_sc_le w i.1) g3.2⟩, g4, g5, g6, g7, g8, fun w => absurd w (sc_ne hne hi0)⟩, sc_ne hne hi0, by show szF i.2.2.2.2 ≤ _; omega⟩
      have := cop_sc hne fp_dom.2 g1
      rw [sc_1] at this
      exact this
section
variable {g : GX} {d n : Nat} {h h' : Hp} {a b c : Nat}
/-- one place of the house's parser, and cells of an item -/
def Fw (h h' : Hp) (L : List Nat) : Prop := Fr h h' (0 :: L) ∧ ∀ k, k < 8 ∨ (10 < k ∧ k < 15) ∨ 16 < k → ri h' 0 k = ri h 0 k
theorem Fw.of_l {L : List Nat} (f : Fl h h') : Fw h h' L := ⟨f.1.mono (by simp), fun k hk => f.2 k (by omega)⟩
theorem Fw.of_fr {L : List Nat} (f : Fr h h' L) (o : 0 ∉ L) : Fw h h' L := ⟨f.mono (fun x hx => List.mem_cons_of_mem _ hx), fun k _ => f.gi o k⟩
theorem Fw.tr {h1 : Hp} {L : List Nat} (f : Fw h h1 L) (e : Fw h1 h' L) : Fw h h' L := ⟨f.1.tr e.1, fun k hk => (e.2 k hk).trans (f.2 k hk)⟩
theorem ok_flawW (hp : g.2.2.2.2 = true) (h0 : ri h 0 15 = 0) {L : List Nat} {c p : Int32} (hc : c ≠ 0) {Q : Hp → Prop} (q : ∀ h', Fw h h' L → PF h' c p → Q h') : CallV g m_X0_flaw d [.ref 0, .int c, .int p] n h Q :=
  ok_flaw hp h0 hc (fun h' k1 k2 k3 => q h' ⟨k1.1.mono (by simp), fun k hk => k2 k (by omega) (by omega)⟩ k3)
theorem Lit_0 (ha : 46 < a) : 0 ∉ Lit a := by simp; omega
/-- what a step on the pile leaves -/
def Vw (h h' : Hp) (a : Nat) (L : List Nat) (r : VR) (p : Int32) : Prop := Fw h h' L ∧ match r with
  | Sum.inl i => ri h' 0 15 = 0 ∧ IIt h' a i ∧ gI i
  | Sum.inr c => PF h' (nI c) p
theorem ok_readFactorial (hp : g.2.2.2.2 = true) (ta : lay a = (0, 5, 8)) (K : Kp h) (h0 : ri h 0 15 = 0) {i : Itm} {p : Int32} (Ha : IIt h a i) {Q : Hp → Prop} (q : ∀ h', Vw h h' a (Lit a) (facI i) p → Q h') : CallV g m_X0_readFactorial (d + 5) [.ref 0, .ref a, .int p] n h Q := by
  have la := it_lo ta
  have o0 := Lit_0 la
  refine okV 0 rfl rfl (s_X0_readFactorial_0 hp ta (ok_isLine hp ta Ha (fun x y z hl hr h1 f1 r8 r9 r10' => ⟨fun _ => ?_, fun w => absurd w (by decide)⟩) (fun hn h1 f1 => ⟨fun w => absurd rfl w, fun _ => ?_⟩)))
  · obtain ⟨ex, ey, ez⟩ := isLi_eq hl
    refine ok_iset (v := 1) hp ta (f1.1.kp K) (fun h2 f2 H2 => ?_)
    have g8 : ∀ k, ri h2 0 k = ri h1 0 k := fun k => f2.gi o0 k
    rw [g8, g8, g8, r8, r9, r10']
    have fI : facI i = orF (addFa (numI 1) x y z 1) 3 := by unfold facI; rw [cite_pos ⟨x, y, z, hl, hr⟩, ← ex, ← ey, ← ez]
    have f12 : Fw h h2 (Lit a) := (Fw.of_l f1).tr (Fw.of_fr f2 o0)
    have z15 : ri h2 0 15 = 0 := by rw [g8, f1.2 15 (by omega)]; exact h0
    refine ok_addFactorial (i := numI 1) (e := 1) hp ta hr (Or.inl rfl) H2 (by simp [numI]) (by simp [numI]) (fun r er h3 f3 H3 => ⟨fun _ => qV (q h3 ?_), fun w => absurd w (by decide)⟩) (fun er => ⟨fun w => absurd rfl w, fun _ => ?_⟩)
    · have gr := gI_addFa (gI_num 1) (bC_ne (pC_ne fp_dom.2)) hr (Or.inl rfl) (by simp [numI, szF]) er
      rw [fI, er]
      exact ⟨f12.tr (Fw.of_fr f3 o0), by rw [f3.gi o0]; exact z15, H3, gr.1⟩
    · refine ok_flawW (L := Lit a) hp z15 (by decide) (fun h4 f4 P4 => qV (q h4 ?_))
      rw [fI, er]
      exact ⟨f12.tr f4, P4⟩
  · refine ok_flawW (L := Lit a) hp (by rw [f1.2 15 (by omega)]; exact h0) (by decide) (fun h4 f4 P4 => qV (q h4 ?_))
    have fI : facI i = Sum.inr 2 := by unfold facI; rw [cite_neg (p := isLi i) hn]
    rw [fI]
    exact ⟨(Fw.of_l f1).tr f4, P4⟩
theorem Lrs_0 {c : Nat} (hc : 46 < c) : 0 ∉ Lrs c := by
  simp only [Lrs, Lit, Lrd, List.mem_append, List.mem_cons, List.not_mem_nil, or_false]; omega
theorem Lit_rs {c x : Nat} (h : x ∈ Lit c) : x ∈ Lrs c := List.mem_append_left _ h
theorem ok_readPower (hp : g.2.2.2.2 = true) (ta : lay a = (0, 5, 8)) (tb : lay b = (0, 5, 8)) (ha : 76 < a) (hab : a ≠ b) (K : Kp h) (h0 : ri h 0 15 = 0) {i e : Itm} {p : Int32} (Ha : IIt h a i) (Hb : IIt h b e) (gi : gI i) {Q : Hp → Prop} (q : ∀ h', Vw h h' a (Lrs a) (powT i e) p → Q h') : CallV g m_X0_readPower (d + 14) [.ref 0, .ref a, .ref b, .int p] n h Q := by
  have la := it_lo ta
  have o0 := Lit_0 la
  have or0 := Lrs_0 la
  have w := rt_w (it_1 ta)
  have hT : DI h (a + 2) i.1 := Ha.1.1
  have ln := hT.ltn
  have lk := hT.ltk
  have out0 : ∀ x, a ≤ x → x ≤ a + 9 → x ∉ [0] := fun x h1 _ => by simp; omega
  refine okV 7 rfl rfl (s_X0_readPower_0 hp ta tb (ok_isLine hp tb Hb (fun x y z hl hr h1 f1 r8 r9 r10' => ⟨fun _ => ?_, fun w => absurd w (by decide)⟩) (fun hn h1 f1 => ⟨fun w => absurd rfl w, fun _ => ?_⟩)))
  · obtain ⟨ex, ey, ez⟩ := isLi_eq hl
    obtain ⟨rx, ry, rz⟩ := id hr
    rw [r8, r9, r10']
    have Ha1 : IIt h1 a i := Ha.fr2 f1.1 out0
    have hT1 : DI h1 (a + 2) i.1 := Ha1.1.1
    have z15 : ri h1 0 15 = 0 := by rw [f1.2 15 (by omega)]; exact h0
    have fw1 : Fw h h1 (Lrs a) := Fw.of_l f1
    have eP : powT i e = (if lA e = 0 ∧ lB e = 0 then (cite ((¬ isT i.2.2.1 i.2.2.2.1 i.2.2.2.2 ∧ i.1 = bz) ∧ lC e < 0) (Sum.inr 3) (orF (powI (decide (lC e < 0)) i (lC e).natAbs) 4)) else cite (isNum i) (cite (i.1 = bz) (Sum.inr 3) (Sum.inl (bC (pC (spw (cc i.1 0 0) (lC e))), bC (pC 1), spw (cc i.1 0 0) (lA e), spw (cc i.1 0 0) (lB e), []))) (Sum.inr 2)) := by
      unfold powT; rw [cite_pos (p := isLi e) ⟨x, y, z, hl, hr⟩]
    rw [← ex, ← ey, ← ez] at eP
    have bad : ∀ (c : Nat), nI c ≠ 0 → powT i e = Sum.inr c → CallV g m_X0_flaw (d + 13) [.ref 0, .int (nI c), .int p] n h1 (fun h' => QV n Q none n h') := by
      intro c hc ec
      refine ok_flawW (L := Lrs a) hp z15 hc (fun h4 f4 P4 => qV (q h4 ?_))
      rw [ec]
      exact ⟨fw1.tr f4, P4⟩
    have nz : ∀ w : Int, -1000 ≤ w → w ≤ 1000 → (zI w = (0 : Int32) ↔ w = 0) := fun w h1 h2 => by rw [z0, zI_eq (by omega) (by omega) (by omega) (by omega)]
    have z0Z : i.1 = bz → ¬ isT i.2.2.1 i.2.2.2.1 i.2.2.2.2 → True := fun _ _ => trivial
    -- the zero flag
    have j55 : ∀ (f : Int32), (f = 0 ∨ f = 1) → (f ≠ 0 ↔ (¬ isT i.2.2.1 i.2.2.2.1 i.2.2.2.2 ∧ i.1 = bz)) → W_X0_readPower g (d + 13) [.ref 0, .ref a, .ref b, .int p] (QV n Q) n 55 [some (.ref 0), some (.ref a), none, some (.int p), some (.int (zI x)), some (.int (zI y)), some (.int (zI z)), none, none, none] [.int f] h1 := by
      intro f hf hz
      have j104 : ¬ (x = 0 ∧ y = 0) → W_X0_readPower g (d + 13) [.ref 0, .ref a, .ref b, .int p] (QV n Q) n 104 [some (.ref 0), some (.ref a), none, some (.int p), some (.int (zI x)), some (.int (zI y)), some (.int (zI z)), some (.int f), none, none] [] h1 := by
        intro hxy
        rw [if_neg hxy] at eP
        have j153 : ¬ isNum i → W_X0_readPower g (d + 13) [.ref 0, .ref a, .ref b, .int p] (QV n Q) n 153 [some (.ref 0), some (.ref a), none, some (.int p), some (.int (zI x)), some (.int (zI y)), some (.int (zI z)), some (.int f), none, none] [] h1 := by
          intro hnn
          rw [cite_neg hnn] at eP
          exact s_X0_readPower_153 hp ta (s_X0_readPower_154 hp ta ⟨fun w => absurd rfl w, fun _ => bad 2 (by decide) eP⟩)
        refine s_X0_readPower_104 hp ta (ok_isTerm hp ta Ha1.2.1 Ha1.2.2.1 Ha1.2.2.2 (fun z => ⟨fun _ => j153 (fun w => w.1 z), fun w => absurd w (by decide)⟩) (fun hnt => ⟨fun w => absurd rfl w, fun _ => ok_isPoly hp (it_1 ta) Ha1.1 (fun p1 p2 => ⟨fun w => absurd w (by decide), fun _ => ?_⟩) (fun w => ⟨fun _ => j153 (fun z => w z.2.1), fun w => absurd rfl w⟩)⟩))
        rw [hT1.n, hT1.k]
        have e1 : (1 : Int32) < nI (bsn i.1) ↔ 1 < bsn i.1 := by rw [show (1 : Int32) = nI 1 from rfl]; simp (disch := omega) only [nI_addz, nI_1, nI_leI, nI_ltI, nI_eq, nI_tN, nI_inI]
        have e2 : (1 : Int32) < nI (bsz i.1) ↔ 1 < bsz i.1 := by rw [show (1 : Int32) = nI 1 from rfl]; simp (disch := omega) only [nI_addz, nI_1, nI_leI, nI_ltI, nI_eq, nI_tN, nI_inI]
        rw [e1, e2]
        refine ⟨fun w => j153 (fun z => by have := z.2.2.1; omega), fun w => ⟨fun w2 => j153 (fun z => by have := z.2.2.2; omega), fun w2 => ?_⟩⟩
        have hnum : isNum i := ⟨hnt, ⟨p1, p2⟩, by omega, by omega⟩
        rw [cite_pos hnum] at eP
        refine s_X0_readPower_154 hp ta ⟨fun _ => ⟨fun w3 => ?_, fun w3 => bad 3 (by decide) (by rw [cite_pos ((hz.mp w3).2)] at eP; exact eP)⟩, fun w => absurd w (by decide)⟩
        have hne : i.1 ≠ bz := fun zz => (hz.mpr ⟨hnt, zz⟩) w3
        rw [cite_neg hne] at eP
        have q1 := bsz_pos hne
        have q2 := bsn_pos hne
        have e00 : ri h1 (a + 3) (0 : Int32).toNatClampNeg = toI (cc i.1 0 0) := by
          have := hT1.at (j := 0) (i := 0) (by omega) (by omega)
          rw [Nat.zero_mul] at this
          exact this
        have hr3 : rm (a + 3) = 325 := by unfold rm; rw [it_3 ta]
        rw [e00]
        refine ⟨by rw [hr3]; exact zI_in (a := 0) (by omega) (by omega) (by omega), ok_signedPower hp (by omega) (by omega) (ok_iset hp ta (f1.1.kp K) (fun h2 f2 H2 => ok_signedPower hp (by omega) (by omega) (fun h4 e4 => ok_signedPower hp (by omega) (by omega) (fun h6 e6 => qV (q h6 ?_)))))⟩
        rw [eP]
        have oa := fun k => okp_o (k := k) ta (Or.inr (by decide))
        have f4 : Fr h2 h4 [a] := by rw [e4]; exact Fr.rf.put (by simp) (oa _)
        have f6 : Fr h2 h6 [a] := by rw [e6]; exact f4.put (by simp) (oa _)
        have fw6 : Fw h h6 (Lrs a) := (fw1.tr (Fw.of_fr (f2.mono (fun x hx => Lit_rs hx)) or0)).tr (Fw.of_fr (f6.mono (fun x hx => Lit_rs (by simp at hx ⊢; omega))) or0)
        have hu : cc i.1 0 0 ≠ 0 := by
          intro zz
          apply hne
          refine cc_ext fun j l => ?_
          rw [cc_z]
          by_cases hj : j = 0 ∧ l = 0
          · rw [hj.1, hj.2]; exact zz
          · exact cc_out (by omega)
        have sp : ∀ k : Int, spw (cc i.1 0 0) k ≠ 0 := by
          intro k
          have pw : ∀ m : Nat, (cc i.1 0 0) ^ m ≠ 0 := by
            intro m
            induction m with
            | zero => rw [Lean.Grind.Semiring.pow_zero]; exact fp_dom.2
            | succ m ih => rw [Lean.Grind.Semiring.pow_succ]; exact dom_mul_ne fp_dom ih hu
          unfold spw
          split
          · exact iv_ne (pw _)
          · exact pw _
        refine ⟨fw6, ?_, ?_, ?_⟩
        · rw [f6.gi (by simp; omega), f2.gi o0]; exact z15
        · refine ⟨H2.1.fr f6 (by simp; omega) (by simp; omega) (by simp; omega) (by simp; omega), by rw [e6, ri_ne' (by decide), e4, ri_same], by rw [e6, ri_same], ?_⟩
          have H24 := H2.2.2.2
          refine ⟨by rw [e6, ri_ne' (by decide), e4, ri_ne' (by decide)]; exact H24.1, by simp, fun q hq => absurd hq (by simp), fun i q e => absurd e (by simp)⟩
        · have g1 := gI_num (spw (cc i.1 0 0) z)
          exact ⟨g1.1, g1.2.1, g1.2.2.1, g1.2.2.2.1, sp x, sp y, g1.2.2.2.2.2.2.1, g1.2.2.2.2.2.2.2.1, fun w => absurd w (bC_ne (pC_ne (sp z)))⟩
      have j86 : x = 0 ∧ y = 0 → ¬ ((¬ isT i.2.2.1 i.2.2.2.1 i.2.2.2.2 ∧ i.1 = bz) ∧ z < 0) → W_X0_readPower g (d + 13) [.ref 0, .ref a, .ref b, .int p] (QV n Q) n 86 [some (.ref 0), some (.ref a), none, some (.int p), none, none, some (.int (zI z)), none, none, none] [] h1 := by
        intro hxy hnz
        rw [if_pos hxy, cite_neg hnz] at eP
        have hTz : z < 0 → i.1 ≠ bz := by
          intro hz0 zz
          by_cases ht : isT i.2.2.1 i.2.2.2.1 i.2.2.2.2
          · exact gi.2.2.2.2.2.2.2.2 zz ht
          · exact hnz ⟨⟨ht, zz⟩, hz0⟩
        refine s_X0_readPower_86 hp ta (ok_raise hp ta ta (by omega) (by omega) (by omega) (f1.1.kp K) (by omega) Ha1 gi hTz (fun r er gr h2 f2 H2 => ⟨fun _ => qV (q h2 ?_), fun w => absurd w (by decide)⟩) (fun er h2 f2 => ⟨fun w => absurd rfl w, fun _ => ?_⟩))
        · rw [eP, er]
          exact ⟨fw1.tr (Fw.of_fr f2 or0), by rw [f2.gi or0]; exact z15, H2, gr⟩
        · refine ok_flawW (L := Lrs a) hp (by rw [f2.gi or0]; exact z15) (by decide) (fun h4 f4 P4 => qV (q h4 ?_))
          rw [eP, er]
          exact ⟨(fw1.tr (Fw.of_fr f2 or0)).tr f4, P4⟩
      refine s_X0_readPower_55 hp ta ?_
      rw [nz x (by omega) (by omega), nz y (by omega) (by omega), z0, zI_le (by omega) (by omega) (by omega) (by omega)]
      refine ⟨fun w => j104 (fun zz => w zz.1), fun w => ⟨fun w2 => j104 (fun zz => w2 zz.2), fun w2 => ⟨fun w3 => j86 ⟨w, w2⟩ (fun zz => (hz.mpr zz.1) w3), fun w3 => ⟨fun w4 => j86 ⟨w, w2⟩ (fun zz => by have := zz.2; omega), fun w4 => bad 3 (by decide) (by rw [if_pos ⟨w, w2⟩, cite_pos ⟨hz.mp w3, by omega⟩] at eP; exact eP)⟩⟩⟩⟩
    refine ok_isTerm hp ta Ha1.2.1 Ha1.2.2.1 Ha1.2.2.2 (fun ht => ⟨fun _ => s_X0_readPower_54 hp ta (j55 0 (Or.inl rfl) ⟨fun w => absurd rfl w, fun w => absurd ht w.1⟩), fun w => absurd w (by decide)⟩) (fun ht => ⟨fun w => absurd rfl w, fun _ => ?_⟩)
    refine ok_risZero hp (it_1 ta) Ha1.1 (fun zz => ⟨fun w => absurd w (by decide), fun _ => j55 1 (Or.inr rfl) ⟨fun _ => ⟨ht, zz⟩, fun _ => by decide⟩⟩) (fun zz => ⟨fun _ => s_X0_readPower_54 hp ta (j55 0 (Or.inl rfl) ⟨fun w => absurd rfl w, fun w => absurd w.2 zz⟩), fun w => absurd rfl w⟩)
  · refine ok_flawW (L := Lrs a) hp (by rw [f1.2 15 (by omega)]; exact h0) (by decide) (fun h4 f4 P4 => qV (q h4 ?_))
    have fI : powT i e = Sum.inr 2 := by unfold powT; rw [cite_neg (p := isLi e) hn]
    rw [fI]
    exact ⟨(Fw.of_l f1).tr f4, P4⟩
end
