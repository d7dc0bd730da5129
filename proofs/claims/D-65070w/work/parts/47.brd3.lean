set_option maxRecDepth 100000
/-! THE BOARD: a pivot's line is taken away, cleared, the solution told -/
section
variable {g : GX} {d n : Nat} {h h' h1 : Hp} {σ : Nat → Nat} {L N c : Nat} {M : Nat → Nat → Un}
theorem ps_m1 (p q : Un) : padd p (pmul (pC (-1)) q) = psub p q := pl_ext fun i => by rw [co_add, pC_mul, co_sub]; grind
abbrev Lta (a : Nat) : List Nat := [139, 140, 141, 142, a, a + 1]
/-- a line times the pivot less the pivot's line, by the pivot before -/
theorem ok_btake (hp : g.2.2.2.2 = true) (B : BS h σ) (D : BD h L N) {r i S : Nat} (er : ri h 113 8 = nI r) (hr : r < L) (hi : i < L) (hir : i ≠ r) (hc : c < N) (H : BM h σ L N c M) {dd : Un} (hd : dd ≠ pz) (Pd : PI h 143 dd) {X : Nat → Un} (hX : ∀ j, c < j → j < N → pmul dd (X j) = psub (pmul (M r c) (M i j)) (pmul (M i c) (M r j))) (sM : ∀ a b, a < L → c ≤ b → b < N → sz (M a b) ≤ S) (sX : ∀ j, c < j → j < N → sz (X j) ≤ S) (hS : S ≤ 1300) {Q : Hp → Prop} (q : ∀ h', FrP h h' Bar → BS h' σ → BD h' L N → ri h' 113 8 = nI r → PI h' 143 dd → (∀ k, ri h' 145 k = ri h 145 k) → BM h' σ L N c (fun a j => if a = i then (if j = c then pz else X j) else M a j) → Q h') : CallV g m_X7_takeAway (d + 4) [.ref 113, .int (nI i), .int (nI c)] n h Q := by
  have dL := D.2.2.1
  have dN := D.2.2.2
  have sR := (B.1 r (by omega)).1
  have sI := (B.1 i (by omega)).1
  have go : ∀ (k j : Nat) (h1 : Hp), j + k = N → c < j → FrP h h1 Bar → BS h1 σ → BD h1 L N → ri h1 113 8 = nI r → PI h1 143 dd → (∀ k, ri h1 145 k = ri h 145 k) → BM h1 σ L N c (fun a b => if a = i ∧ c < b ∧ b < j then X b else M a b) → W_X7_takeAway g (d + 3) [.ref 113, .int (nI i), .int (nI c)] (QV n Q) n 17 [some (.ref 113), some (.int (nI i)), some (.int (nI c)), some (.ref (bcl (σ r) c)), some (.int (nI j))] [] h1 := by
    intro k
    induction k with
    | zero =>
      intro j h1 hj hcj f1 B1 D1 er1 P1 e145 H1
      refine s_X7_takeAway_17 hp (b_lay sR (by omega)) ⟨fun _ => B1.at (by omega) (by omega) ?_, fun w => absurd ?_ w⟩
      · have bb := bcl_bar sI (show c < 14 by omega)
        refine ok_clear hp (b_lay sI (by omega)) (fun h3 f3 P3 => ?_)
        have H3 := H1.set B1 dL dN hi (b := c) (by omega) f3 (fun x hx => by simp at hx; omega) P3
        refine qV (q h3 (f1.tr (f3.p (fun x hx => by simp at hx; rw [hx]; exact bb.1))) (B1.fr f3.1) (D1.fr f3 (by simp; omega)) (by rw [f3.gi (by simp; omega)]; exact er1) (P1.fr f3 (by simp; omega) (by simp; omega)) (fun k => by rw [f3.gi (by simp; omega)]; exact e145 k) (fun a b ha hb1 hb2 => ?_))
        have w := H3 a b ha hb1 hb2
        dsimp only at w ⊢
        by_cases ca : a = i
        · rw [if_pos ca]
          by_cases cb : b = c
          · rw [if_pos ⟨ca, cb⟩] at w; rw [if_pos cb]; exact w
          · rw [if_neg (fun u => cb u.2), if_pos ⟨ca, by omega, by omega⟩] at w; rw [if_neg cb]; exact w
        · rw [if_neg (fun u => ca u.1), if_neg (fun u => ca u.1)] at w; rw [if_neg ca]; exact w
      · rw [D1.2.1, nI_leI (by omega) (by omega)]; omega
    | succ k ih =>
      intro j h1 hj hcj f1 B1 D1 er1 P1 e145 H1
      have bb := bcl_bar sI (show j < 14 by omega)
      have bbr := bcl_bar sR (show c < 14 by omega)
      have bic := bcl_bar sI (show c < 14 by omega)
      have brj := bcl_bar sR (show j < 14 by omega)
      have Prc := H1 r c hr (by omega) hc
      have Pij := H1 i j hi (by omega) (by omega)
      have Pic := H1 i c hi (by omega) hc
      have Prj := H1 r j hr (by omega) (by omega)
      dsimp only at Prc Pij Pic Prj
      rw [if_neg (fun u => hir u.1.symm)] at Prc Prj
      rw [if_neg (by omega)] at Pij Pic
      have s1 := sM r c hr (by omega) hc
      have s2 := sM i j hi (by omega) (by omega)
      have s3 := sM i c hi (by omega) hc
      have s4 := sM r j hr (by omega) (by omega)
      have s5 := sX j hcj (by omega)
      have m1 := un_szmul_le (M r c) (M i j)
      have m2 := un_szmul_le (M i c) (M r j)
      refine s_X7_takeAway_17 hp (b_lay sR (by omega)) ⟨fun w => absurd w ?_, fun _ => B1.at (by omega) (by omega) ?_⟩
      · rw [D1.2.1, nI_leI (by omega) (by omega)]; omega
      · refine ok_product hp t139 (b_lay sR (by omega)) (b_lay sI (by omega)) (by omega) (by omega) Prc Pij (by rw [r140]; omega) (fun h6 f6 P6 => ?_)
        have B6 := B1.fr f6.1
        refine B6.at (by omega) (by omega) ?_
        rw [show ri h6 113 8 = nI r by rw [f6.gi (by simp)]; exact er1]
        refine B6.at (by omega) (by omega) ?_
        rw [show (2147483646 : Int32) = toI (-1) from toI_m1.symm]
        refine ok_addProduct hp t139 (b_lay sI (by omega)) (b_lay sR (by omega)) (by omega) (by omega) P6 (Pic.fr f6 (by simp; omega) (by simp; omega)) (Prj.fr f6 (by simp; omega) (by simp; omega)) (by rw [r140]; omega) (fun h11 f11 P11 => ?_)
        rw [ps_m1, ← hX j hcj (by omega)] at P11
        have m3 := un_szmul_le dd (X j)
        have Pd11 := (P1.fr f6 (by decide) (by decide)).fr f11 (by decide) (by decide)
        have sd := Pd11.2.1
        rw [r144] at sd
        have sp := P11.2.1
        rw [r140] at sp
        refine ok_divide hp t139 t143 t141 (by decide) (by decide) (by decide) hd P11 Pd11 (by rw [r142]; omega) (fun h12 s' r' f12 e12 hlt Pr Ps => ?_)
        have ex := div_exact hd rfl e12 hlt
        rw [ex.1] at Ps
        have B12 := (B6.fr f11.1).fr f12.1
        refine B12.at (by omega) (by omega) (ok_copy hp (b_lay sI (by omega)) t141 Ps (by rw [b_rm sI (by omega)]; omega) (fun h15 f15 P15 => ?_))
        have fA : Fr h1 h15 (Lta (bcl (σ i) j)) := (((f6.mono (by simp)).tr (f11.mono (by simp))).tr (f12.mono (fun x hx => by simp at hx ⊢; omega))).tr (f15.mono (by simp))
        have fA143 : PI h15 143 dd := (((P1.fr f6 (by decide) (by decide)).fr f11 (by decide) (by decide)).c (fun k => (f12.gi (by decide) k)) (fun k => f12.gi (by decide) k)).fr f15 (by simp; omega) (by simp; omega)
        rw [show (1 : Int32) = nI 1 from rfl, nI_addz]
        have H15 := H1.set B1 dL dN hi (b := j) (by omega) fA (fun x hx => by simp at hx; omega) P15
        refine ih (j + 1) h15 (by omega) (by omega) (f1.tr (fA.p (fun x hx => by simp at hx; unfold Bar; omega))) (B1.fr fA.1) (D1.fr fA (by simp; omega)) (by rw [fA.gi (by simp; omega)]; exact er1) fA143 (fun k => by rw [fA.gi (by simp; omega)]; exact e145 k) (fun a b ha hb1 hb2 => ?_)
        have w := H15 a b ha hb1 hb2
        dsimp only at w ⊢
        by_cases ca : a = i ∧ b = j
        · rw [if_pos ca] at w
          rw [if_pos ⟨ca.1, by omega, by omega⟩, ca.2]; rw [ca.2] at w; exact w
        · rw [if_neg ca] at w
          by_cases cb : a = i ∧ c < b ∧ b < j
          · rw [if_pos cb] at w; rw [if_pos ⟨cb.1, cb.2.1, by omega⟩]; exact w
          · rw [if_neg cb] at w
            rw [if_neg (fun u => by
              by_cases e : b = j
              · exact ca ⟨u.1, e⟩
              · exact cb ⟨u.1, u.2.1, by omega⟩)]
            exact w
  refine okV 2 rfl rfl (s_X7_takeAway_0 hp ?_)
  rw [er]
  refine B.at (by omega) (by omega) ?_
  rw [show (1 : Int32) = nI 1 from rfl, nI_addz]
  refine go (N - (c + 1)) (c + 1) h (by omega) (by omega) FrP.rf B D er Pd (fun _ => rfl) (fun a b ha hb1 hb2 => ?_)
  dsimp only
  rw [if_neg (by omega)]
  exact H a b ha hb1 hb2
/-- the frame of clearing: the order of the rows may change -/
def FrB (h h' : Hp) : Prop := (∀ x, ¬ Bar x → h'.1 x = h.1 x) ∧ (∀ x, x ≠ 114 → h'.2 x = h.2 x) ∧ (Kp h → Kp h')
theorem FrB.i {h h' : Hp} (I : FrB h h') : ∀ x, ¬ Bar x → h'.1 x = h.1 x := I.1
theorem FrB.r {h h' : Hp} (I : FrB h h') : ∀ x, x ≠ 114 → h'.2 x = h.2 x := I.2.1
theorem FrB.k {h h' : Hp} (I : FrB h h') : Kp h → Kp h' := I.2.2
theorem FrB.of {h h' : Hp} (f : FrP h h' Bar) : FrB h h' := ⟨f.2.1, fun x _ => by rw [f.1], f.2.2⟩
theorem FrB.tr {h h1 h2 : Hp} (f : FrB h h1) (e : FrB h1 h2) : FrB h h2 := ⟨fun x hx => (e.i x hx).trans (f.i x hx), fun x hx => (e.r x hx).trans (f.r x hx), fun k => e.k (f.k k)⟩
/-- how the board tells the number of each column -/
def BZ (h : Hp) (σ : Nat → Nat) (hh : Nat) (z : Nat → Un) : Prop := PI h 143 (z hh) ∧ ∀ j, j < hh → (ri h 145 j = -1 ∧ z j = pz) ∨ ∃ u v, u < 24 ∧ ri h 145 j = nI u ∧ PI h (bcl (σ u) hh) v ∧ z j = pmul (pC (-1)) v
theorem isSol_ker {R : Type} [Lean.Grind.CommRing R] {L N f h : Nat} {A B : Nat → Nat → R} (e : ∀ z, kerv L N A z ↔ kerv L N B z) {z : Nat → R} (k : isSol L N A f h z) : isSol L N B f h z := by
  have hang' : ∀ j, hang L N B j → hang L N A j := fun j ⟨w, w1, w2, w3⟩ => ⟨w, (e w).mpr w1, w2, w3⟩
  exact ⟨k.1, k.2.1, (e z).mp k.2.2.1, k.2.2.2.1, k.2.2.2.2.1, fun j hj hz w => k.2.2.2.2.2.1 j hj hz (hang' j w), fun j h1 h2 w => k.2.2.2.2.2.2 j h1 h2 (hang' j w)⟩
theorem kerv_swap {R : Type} [Lean.Grind.CommRing R] {L N : Nat} {A : Nat → Nat → R} {p q : Nat} (hp : p < L) (hq : q < L) (z : Nat → R) : kerv L N (udt (udt A p (A q)) q (A p)) z ↔ kerv L N A z := by
  have row : ∀ i, i < L → ∃ a, a < L ∧ udt (udt A p (A q)) q (A p) i = A a := fun i hi => by
    by_cases c : i = q
    · exact ⟨p, hp, by rw [c, udt_same]⟩
    · rw [udt_ne c]
      by_cases c2 : i = p
      · exact ⟨q, hq, by rw [c2, udt_same]⟩
      · exact ⟨i, hi, by rw [udt_ne c2]⟩
  have back : ∀ i, i < L → ∃ a, a < L ∧ A i = udt (udt A p (A q)) q (A p) a := fun i hi => by
    by_cases c : i = p
    · exact ⟨q, hq, by rw [c, udt_same]⟩
    · by_cases c2 : i = q
      · by_cases e : p = q
        · exact absurd (c2.trans e.symm) c
        · exact ⟨p, hp, by rw [c2, udt_ne e, udt_same]⟩
      · exact ⟨i, hi, by rw [udt_ne c2, udt_ne c]⟩
  exact ⟨fun k i hi => by obtain ⟨a, ha, e⟩ := back i hi; have := k a ha; rw [← e] at this; exact this, fun k i hi => by obtain ⟨a, ha, e⟩ := row i hi; have := k a ha; rw [← e] at this; exact this⟩
end
