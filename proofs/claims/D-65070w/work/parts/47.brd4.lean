set_option maxRecDepth 100000
/-! THE BOARD: cleared -/
section
variable {g : GX} {d n : Nat} {h h' h1 : Hp} {σ : Nat → Nat} {L N c : Nat} {M : Nat → Nat → Un}
def swp {V : Type} (f : Nat → V) (p q : Nat) : Nat → V := udt (udt f p (f q)) q (f p)
theorem swp_p {V : Type} (f : Nat → V) (p q : Nat) : swp f p q p = f q := by
  unfold swp
  by_cases e : p = q
  · rw [e, udt_same]
  · rw [udt_ne e, udt_same]
theorem swp_q {V : Type} (f : Nat → V) (p q : Nat) : swp f p q q = f p := udt_same
theorem swp_o {V : Type} (f : Nat → V) {p q i : Nat} (h1 : i ≠ p) (h2 : i ≠ q) : swp f p q i = f i := by
  unfold swp; rw [udt_ne h2, udt_ne h1]
theorem swp_ex {V : Type} (f : Nat → V) (p q i : Nat) : ∃ a, (a = p ∨ a = q ∨ a = i) ∧ swp f p q i = f a ∧ (i ≠ p → i ≠ q → a = i) ∧ (i = p → a = q) ∧ (i = q → a = p) := by
  by_cases c1 : i = q
  · exact ⟨p, Or.inl rfl, by rw [c1, swp_q], fun _ w => absurd c1 w, fun w => by omega, fun _ => rfl⟩
  · by_cases c2 : i = p
    · exact ⟨q, Or.inr (Or.inl rfl), by rw [c2, swp_p], fun w _ => absurd c2 w, fun _ => rfl, fun w => absurd w c1⟩
    · exact ⟨i, Or.inr (Or.inr rfl), swp_o f c2 c1, fun _ _ => rfl, fun w => absurd w c2, fun w => absurd w c1⟩
/-- two rows change places -/
theorem BS.swap (B : BS h σ) {p r : Nat} (hp : p < 24) (hr : r < 24) (e : h1 = wr (wr h 114 p (some (115 + σ r))) 114 r (some (115 + σ p))) : BS h1 (swp σ p r) := by
  refine ⟨fun i hi => ?_, fun i j hi hj w => ?_, fun a b ha hb => ?_⟩
  · have rdi : rr h1 114 i = if i = r then some (115 + σ p) else if i = p then some (115 + σ r) else rr h 114 i := by
      rw [e]
      show (if 114 = 114 ∧ i = r then some (115 + σ p) else if 114 = 114 ∧ i = p then some (115 + σ r) else h.2 114 i) = _
      simp only [true_and]; rfl
    rw [rdi]
    by_cases c1 : i = r
    · rw [if_pos c1, c1, swp_q]; exact ⟨(B.1 p hp).1, rfl⟩
    · rw [if_neg c1]
      by_cases c2 : i = p
      · rw [if_pos c2, c2, swp_p]; exact ⟨(B.1 r hr).1, rfl⟩
      · rw [if_neg c2, swp_o σ c2 c1]; exact B.1 i hi
  · obtain ⟨a, a1, a2, a3, a4, a5⟩ := swp_ex σ p r i
    obtain ⟨b, b1, b2, b3, b4, b5⟩ := swp_ex σ p r j
    rw [a2, b2] at w
    have := B.2.1 a b (by omega) (by omega) w
    omega
  · have : rr h1 (115 + a) b = rr h (115 + a) b := by
      rw [e]
      show (if 115 + a = 114 ∧ b = r then _ else if 115 + a = 114 ∧ b = p then _ else h.2 (115 + a) b) = _
      rw [if_neg (by omega), if_neg (by omega)]; rfl
    rw [this]; exact B.2.2 a b ha hb
theorem f114_all : (List.range 24).all (fun i => decide (fin 114 i = none)) = true := by decide +kernel
theorem f114 {i : Nat} (h : i < 24) : fin 114 i = none := by
  have := List.all_eq_true.mp f114_all i (List.mem_range.mpr h)
  simpa using this
theorem neg_m1 (v : Un) : pneg v = pmul (pC (-1)) v := pl_ext fun i => by rw [co_neg, pC_mul]; grind
/-- what holds at a column -/
def CI (h : Hp) (σ : Nat → Nat) (L N r c fr : Nat) (C : Nat → Nat) (dd : Un) (A0 A M : Nat → Nat → Un) : Prop := (BS h σ) ∧ (BD h L N) ∧ (ri h 113 8 = nI r) ∧ (PI h 143 dd) ∧ (@St Un (plRing Fp) L N r c C dd A M) ∧ (BM h σ L N c M) ∧ (∀ j, j < c → (∃ u, u < r ∧ C u = j ∧ ri h 145 j = nI u) ∨ ((∀ u, u < r → C u ≠ j) ∧ ri h 145 j = -1)) ∧ (∀ z, @kerv Un (plRing Fp) L N A z ↔ @kerv Un (plRing Fp) L N A0 z) ∧ (∀ j, fr ≤ j → j < c → ∃ u, u < r ∧ C u = j)
theorem CI.b {h : Hp} {σ : Nat → Nat} {L N r c fr : Nat} {C : Nat → Nat} {dd : Un} {A0 A M : Nat → Nat → Un} (I : CI h σ L N r c fr C dd A0 A M) : BS h σ := I.1
theorem CI.bd {h : Hp} {σ : Nat → Nat} {L N r c fr : Nat} {C : Nat → Nat} {dd : Un} {A0 A M : Nat → Nat → Un} (I : CI h σ L N r c fr C dd A0 A M) : BD h L N := I.2.1
theorem CI.rk {h : Hp} {σ : Nat → Nat} {L N r c fr : Nat} {C : Nat → Nat} {dd : Un} {A0 A M : Nat → Nat → Un} (I : CI h σ L N r c fr C dd A0 A M) : ri h 113 8 = nI r := I.2.2.1
theorem CI.pd {h : Hp} {σ : Nat → Nat} {L N r c fr : Nat} {C : Nat → Nat} {dd : Un} {A0 A M : Nat → Nat → Un} (I : CI h σ L N r c fr C dd A0 A M) : PI h 143 dd := I.2.2.2.1
theorem CI.st {h : Hp} {σ : Nat → Nat} {L N r c fr : Nat} {C : Nat → Nat} {dd : Un} {A0 A M : Nat → Nat → Un} (I : CI h σ L N r c fr C dd A0 A M) : @St Un (plRing Fp) L N r c C dd A M := I.2.2.2.2.1
theorem CI.m {h : Hp} {σ : Nat → Nat} {L N r c fr : Nat} {C : Nat → Nat} {dd : Un} {A0 A M : Nat → Nat → Un} (I : CI h σ L N r c fr C dd A0 A M) : BM h σ L N c M := I.2.2.2.2.2.1
theorem CI.rws {h : Hp} {σ : Nat → Nat} {L N r c fr : Nat} {C : Nat → Nat} {dd : Un} {A0 A M : Nat → Nat → Un} (I : CI h σ L N r c fr C dd A0 A M) : ∀ j, j < c → (∃ u, u < r ∧ C u = j ∧ ri h 145 j = nI u) ∨ ((∀ u, u < r → C u ≠ j) ∧ ri h 145 j = -1) := I.2.2.2.2.2.2.1
theorem CI.kr {h : Hp} {σ : Nat → Nat} {L N r c fr : Nat} {C : Nat → Nat} {dd : Un} {A0 A M : Nat → Nat → Un} (I : CI h σ L N r c fr C dd A0 A M) : ∀ z, @kerv Un (plRing Fp) L N A z ↔ @kerv Un (plRing Fp) L N A0 z := I.2.2.2.2.2.2.2.1
theorem CI.pv {h : Hp} {σ : Nat → Nat} {L N r c fr : Nat} {C : Nat → Nat} {dd : Un} {A0 A M : Nat → Nat → Un} (I : CI h σ L N r c fr C dd A0 A M) : ∀ j, fr ≤ j → j < c → ∃ u, u < r ∧ C u = j := I.2.2.2.2.2.2.2.2
/-- the pivot's line is taken from all others -/
theorem w_bc99 (hp : g.2.2.2.2 = true) {av : List Value} {fr r S : Nat} (hr : r < L) (hc : c < N) {M2 M3 : Nat → Nat → Un} {dd : Un} (hd : dd ≠ pz) (hS : S ≤ 1300) (hX : ∀ i j, i < L → j < N → i ≠ r → pmul dd (M3 i j) = psub (pmul (M2 r c) (M2 i j)) (pmul (M2 i c) (M2 r j))) (s2 : ∀ a b, a < L → b < N → sz (M2 a b) ≤ S) (s3 : ∀ a b, a < L → b < N → sz (M3 a b) ≤ S) (e3 : ∀ j, j < N → M3 r j = M2 r j) {Q : QT} : ∀ (k i : Nat) (h : Hp), i + k = L → BS h σ → BD h L N → ri h 113 8 = nI r → PI h 143 dd → BM h σ L N c (fun a j => if a < i ∧ a ≠ r then (if j = c then pz else M3 a j) else M2 a j) → (∀ h', FrP h h' Bar → BS h' σ → BD h' L N → ri h' 113 8 = nI (r + 1) → PI h' 143 (M2 r c) → (∀ k, ri h' 145 k = ri h 145 k) → BM h' σ L N (c + 1) M3 → W_X7_clear g (d + 5) av Q n 158 [some (.ref 113), some (.int (nI fr)), some (.int (nI c)), none, none, none] [] h') → W_X7_clear g (d + 5) av Q n 99 [some (.ref 113), some (.int (nI fr)), some (.int (nI c)), none, none, some (.int (nI i))] [] h := by
  intro k
  induction k with
  | zero =>
    intro i h hi B D er Pd H q
    have dL := D.2.2.1
    have dN := D.2.2.2
    have sR := (B.1 r (by omega)).1
    have bb := bcl_bar sR (show c < 14 by omega)
    refine s_X7_clear_99 hp ⟨fun _ => ?_, fun w => absurd ?_ w⟩
    · rw [er]
      refine B.at (by omega) (by omega) ?_
      have P := H r c hr (Nat.le_refl _) hc
      dsimp only at P
      rw [if_neg (fun u => u.2 rfl)] at P
      have sP := s2 r c hr hc
      refine ok_copy hp t143 (b_lay sR (by omega)) P (by rw [r144]; omega) (fun h3 f3 P3 h4 e4 => ?_)
      rw [show ri h3 113 8 = nI r by rw [f3.gi (by decide)]; exact er, show (1 : Int32) = nI 1 from rfl, nI_addz] at e4
      have f4 : Fr h h4 [113, 143, 144] := by
        rw [e4]; exact (f3.mono (by simp)).put (by simp) (okp_o t113 (Or.inr (by decide)))
      have n4 : ∀ x k, x ≠ 113 → ri h4 x k = ri h3 x k := fun x k hx => by rw [e4, ri_ne hx]
      refine q h4 (f4.p (fun x hx => by simp at hx; unfold Bar; omega)) (B.fr f4.1) ⟨by rw [e4, ri_ne' (by omega), f3.gi (by decide)]; exact D.1, by rw [e4, ri_ne' (by omega), f3.gi (by decide)]; exact D.2.1, dL, dN⟩ (by rw [e4, ri_same]) (P3.c (fun k => n4 _ _ (by omega)) (fun k => n4 _ _ (by omega))) (fun k => by rw [f4.gi (by decide)]) (fun a j ha hj1 hj2 => ?_)
      have w := H a j ha (by omega) hj2
      dsimp only at w
      have b1 := bcl_bar (B.1 a (by omega)).1 (show j < 14 by omega)
      have w' : PI h (bcl (σ a) j) (M3 a j) := by
        by_cases ca : a = r
        · rw [if_neg (fun u => u.2 ca)] at w; rw [ca] at w ⊢; rw [e3 j hj2]; exact w
        · rw [if_pos ⟨by omega, ca⟩, if_neg (by omega)] at w; exact w
      exact w'.fr f4 (by simp; omega) (by simp; omega)
    · rw [D.1, nI_leI (by omega) (by omega)]; omega
  | succ k ih =>
    intro i h hi B D er Pd H q
    have dL := D.2.2.1
    have dN := D.2.2.2
    have next : ∀ h1, FrP h h1 Bar → BS h1 σ → BD h1 L N → ri h1 113 8 = nI r → PI h1 143 dd → (∀ k, ri h1 145 k = ri h 145 k) → BM h1 σ L N c (fun a j => if a < i + 1 ∧ a ≠ r then (if j = c then pz else M3 a j) else M2 a j) → W_X7_clear g (d + 5) av Q n 124 [some (.ref 113), some (.int (nI fr)), some (.int (nI c)), none, none, some (.int (nI i))] [] h1 := by
      intro h1 f1 B1 D1 er1 Pd1 e145 H1
      refine s_X7_clear_124 hp ?_
      rw [show (1 : Int32) = nI 1 from rfl, nI_addz]
      exact ih (i + 1) h1 (by omega) B1 D1 er1 Pd1 H1 (fun h' f' B' D' er' P' e' H' => q h' (f1.tr f') B' D' er' P' (fun k => (e' k).trans (e145 k)) H')
    refine s_X7_clear_99 hp ⟨fun w => absurd w ?_, fun _ => ?_⟩
    · rw [D.1, nI_leI (by omega) (by omega)]; omega
    · rw [er, nI_eq (by omega) (by omega)]
      refine ⟨fun e => next h FrP.rf B D er Pd (fun _ => rfl) (fun a j ha hj1 hj2 => ?_), fun e => ?_⟩
      · have w := H a j ha hj1 hj2
        dsimp only at w ⊢
        by_cases ca : a < i ∧ a ≠ r
        · rw [if_pos ca] at w; rw [if_pos ⟨by omega, ca.2⟩]; exact w
        · rw [if_neg ca] at w; rw [if_neg (by omega)]; exact w
      · refine ok_btake (M := fun a j => if a < i ∧ a ≠ r then (if j = c then pz else M3 a j) else M2 a j) (X := M3 i) (S := S) hp B D er hr (by omega) e hc H hd Pd (fun j hj1 hj2 => ?_) (fun a b ha hb1 hb2 => ?_) (fun j hj1 hj2 => s3 i j (by omega) hj2) hS (fun h1 f1 B1 D1 er1 P1 e145 H1 => next h1 f1 B1 D1 er1 P1 e145 (fun a j ha hj1 hj2 => ?_))
        · rw [if_neg (fun u => u.2 rfl), if_neg (fun u => by omega), if_neg (fun u => by omega), if_neg (fun u => u.2 rfl)]
          exact hX i j (by omega) hj2 e
        · split
          · split
            · rw [sz_z]; omega
            · exact s3 a b ha hb2
          · exact s2 a b ha hb2
        · have w := H1 a j ha hj1 hj2
          dsimp only at w ⊢
          by_cases ca : a = i
          · rw [if_pos ca] at w; rw [if_pos ⟨by omega, by omega⟩, ca]; rw [ca] at w; exact w
          · rw [if_neg ca] at w
            by_cases cb : a < i ∧ a ≠ r
            · rw [if_pos cb] at w; rw [if_pos ⟨by omega, cb.2⟩]; exact w
            · rw [if_neg cb] at w; rw [if_neg (by omega)]; exact w
/-- the first column from one on that hangs on those before it, and how -/
theorem w_bc19 (hp : g.2.2.2.2 = true) {av : List Value} {fr W : Nat} {A0 : Nat → Nat → Un} (hfr : fr ≤ 14) (hW : N * W + 1 ≤ 1300) {Q : Int32 → Hp → Prop} : ∀ (k c r : Nat) (σ C : Nat → Nat) (dd : Un) (A M : Nat → Nat → Un) (h : Hp), c + k = N → CI h σ L N r c fr C dd A0 A M → (∀ i j, i < L → j < N → szle (A i j) (W + 1)) → (∀ h' σ' hh z, FrB h h' → BS h' σ' → @isSol Un (plRing Fp) L N A0 fr hh z → BZ h' σ' hh z → (∀ j, sz (z j) ≤ N * W + 1) → Q (nI hh) h') → ((∀ hh z, ¬ @isSol Un (plRing Fp) L N A0 fr hh z) → ∀ h' σ', FrB h h' → BS h' σ' → Q (-1) h') → W_X7_clear g (d + 5) av (QI n Q) n 19 [some (.ref 113), some (.int (nI fr)), some (.int (nI c)), none, none, none] [] h := by
  intro k
  induction k with
  | zero =>
    intro c r σ C dd A M h hk I sA q1 q0
    have dN := I.bd.2.2.2
    refine s_X7_clear_19 hp ⟨fun _ => qI (q0 (fun hh z w => ?_) h σ ⟨fun _ _ => rfl, fun _ _ => rfl, id⟩ I.b), fun w => absurd ?_ w⟩
    · obtain ⟨u, hu, e⟩ := I.pv hh w.2.1 (by have := w.1; omega)
      have nh := @st_nh Un (plRing Fp) un_dom L N r c C dd A M I.st u hu
      rw [e] at nh
      exact nh ⟨z, (I.kr z).mpr w.2.2.1, w.2.2.2.1, w.2.2.2.2.1⟩
    · rw [I.bd.2.1, nI_leI (by omega) (by omega)]; omega
  | succ k ih =>
    intro c r σ C dd A M h hk I sA q1 q0
    have dL := I.bd.2.2.1
    have dN := I.bd.2.2.2
    have hrL : r ≤ L := I.st.2.2.2.2.1
    have hCc : ∀ u, u < r → C u < c := I.st.2.2.2.2.2.1
    refine s_X7_clear_19 hp ⟨fun w => absurd w ?_, fun _ => ?_⟩
    · rw [I.bd.2.1, nI_leI (by omega) (by omega)]; omega
    · refine ok_pivot hp I.b I.bd I.rk hrL I.m (by omega) (fun p h1 h2 h3 => ⟨fun _ => ?_, fun w => absurd (nI_pos' (by omega)) w⟩) (fun hz => ⟨fun w => absurd w (by decide), fun _ => ?_⟩)
      · -- a pivot
        rw [I.rk]
        refine s_X7_clear_50 hp t145 ⟨nI_inL (by omega) (by omega), fun ha ea => ?_⟩
        rw [nI_tN (by omega)] at ea
        have fa : Fr h ha [145] := by rw [ea]; exact Fr.rf.put (by simp) (okp_a t145 (by decide))
        have Ba := I.b.fr fa.1
        refine ⟨fun _ => ?_, fun w => absurd (nI_pos' (by omega)) w⟩
        have xa : ri ha 113 8 = nI r := by rw [fa.gi (by decide)]; exact I.rk
        have pr := Ba.1 p (by omega)
        have rrr := Ba.1 r (by omega)
        refine ⟨nI_inL (by omega) (by omega), 115 + σ p, 14, by rw [nI_tN (by omega)]; exact pr.2, ⟨b_row pr.1, by show 115 + σ p < 11081; omega⟩, ?_⟩
        rw [xa]
        refine ⟨nI_inL (by omega) (by omega), 115 + σ r, 14, by rw [nI_tN (by omega)]; exact rrr.2, ⟨b_row rrr.1, by show 115 + σ r < 11081; omega⟩, nI_inL (by omega) (by omega), ?_, fun h4 e4 => ?_⟩
        · rw [nI_tN (by omega)]; exact f114 (by omega)
        · rw [nI_tN (by omega)] at e4
          have x4 : ri h4 113 8 = nI r := by rw [e4]; exact xa
          rw [x4]
          refine ⟨nI_inL (by omega) (by omega), by rw [nI_tN (by omega)]; exact f114 (by omega), fun h5 e5 => ?_⟩
          rw [nI_tN (by omega), e4] at e5
          have B5 := Ba.swap (show p < 24 by omega) (show r < 24 by omega) e5
          have i5 : ∀ x k, ri h5 x k = ri ha x k := fun x k => by rw [e5]; rfl
          have r5 : ∀ x, x ≠ 114 → h5.2 x = ha.2 x := fun x hx => by
            rw [e5]; funext y
            show (if x = 114 ∧ y = r then _ else if x = 114 ∧ y = p then _ else ha.2 x y) = _
            rw [if_neg (fun u => hx u.1), if_neg (fun u => hx u.1)]
          have F5 : FrB h h5 := ⟨fun x hx => by rw [e5]; exact fa.2.1 x (fun w => hx (by simp at w; rw [w]; unfold Bar; omega)), fun x hx => by rw [r5 x hx, fa.1], fun K => by have := fa.kp K; rw [e5]; exact this⟩
          -- the lines as they stand now
          have st2 := @st_swap Un (plRing Fp) L N r c C dd A M I.st p r h1 (Nat.le_refl _) h2 (by omega)
          obtain ⟨M3, m1, m2, st3⟩ := @st_piv Un (plRing Fp) un_dom L N r c C dd _ _ st2 (by omega) (by omega) (by
            show swp M p r r c ≠ _
            rw [swp_q]; exact h3)
          have sA2 : ∀ i j, i < L → j < N → szle (swp A p r i j) (W + 1) := fun i j hi hj => by
            obtain ⟨a, a1, a2, _⟩ := swp_ex A p r i
            rw [a2]; exact sA a j (by omega) hj
          have s2' : ∀ a b, a < L → b < N → sz (swp M p r a b) ≤ N * W + 1 := fun a b ha hb => sz_min (st_sz st2 sA2 ha hb)
          have s3' : ∀ a b, a < L → b < N → sz (M3 a b) ≤ N * W + 1 := fun a b ha hb => sz_min (st_sz st3 sA2 ha hb)
          have D5 : BD h5 L N := ⟨by rw [i5, fa.gi (by decide)]; exact I.bd.1, by rw [i5, fa.gi (by decide)]; exact I.bd.2.1, dL, dN⟩
          have P5 : PI h5 143 dd := (I.pd.fr fa (by decide) (by decide)).c (fun k => i5 _ _) (fun k => i5 _ _)
          have H5 : BM h5 (swp σ p r) L N c (swp M p r) := fun a j ha hj1 hj2 => by
            obtain ⟨b, b1, b2, b3, b4, b5⟩ := swp_ex σ p r a
            obtain ⟨b', b1', b2', b3', b4', b5'⟩ := swp_ex M p r a
            have eb : b = b' := by omega
            rw [b2, b2', ← eb]
            have bb := bcl_bar (I.b.1 b (by omega)).1 (show j < 14 by omega)
            exact ((I.m b j (by omega) hj1 hj2).fr fa (by simp; omega) (by simp; omega)).c (fun k => i5 _ _) (fun k => i5 _ _)
          refine w_bc99 (M2 := swp M p r) (M3 := M3) (S := N * W + 1) hp (by omega) (by omega) I.st.1 hW m1 s2' s3' m2 L 0 h5 (by omega) B5 D5 (by rw [i5]; exact xa) P5 (fun a j ha hj1 hj2 => ?_) (fun h6 f6 B6 D6 er6 P6 e145 H6 => ?_)
          · dsimp only
            rw [if_neg (by omega)]
            exact H5 a j ha hj1 hj2
          · refine s_X7_clear_158 hp ?_
            rw [show (1 : Int32) = nI 1 from rfl, nI_addz]
            have F6 : FrB h h6 := F5.tr (FrB.of f6)
            refine ih (c + 1) (r + 1) (swp σ p r) (udt C r c) (swp M p r r c) (swp A p r) M3 h6 (by omega) ⟨B6, D6, er6, P6, st3, H6, fun j hj => ?_, fun z => (@kerv_swap Un (plRing Fp) L N A p r h2 (by omega) z).trans (I.kr z), fun j hj1 hj2 => ?_⟩ sA2 (fun h' σ' hh z f' => q1 h' σ' hh z (F6.tr f')) (fun w h' σ' f' => q0 w h' σ' (F6.tr f'))
            · by_cases ej : j = c
              · exact Or.inl ⟨r, by omega, by rw [udt_same, ej], by rw [e145, i5, ea, ej, ri_same]⟩
              · have e6 : ri h6 145 j = ri h 145 j := by rw [e145, i5, ea, ri_ne' ej]
                rw [e6]
                rcases I.rws j (by omega) with ⟨u, u1, u2, u3⟩ | ⟨u1, u2⟩
                · exact Or.inl ⟨u, by omega, by rw [udt_ne (by omega)]; exact u2, u3⟩
                · refine Or.inr ⟨fun u hu => ?_, u2⟩
                  by_cases eu : u = r
                  · rw [eu, udt_same]; omega
                  · rw [udt_ne eu]; exact u1 u (by omega)
            · by_cases ej : j = c
              · exact ⟨r, by omega, by rw [udt_same, ej]⟩
              · obtain ⟨u, u1, u2⟩ := I.pv j hj1 (by omega)
                exact ⟨u, by omega, by rw [udt_ne (by omega)]; exact u2⟩
      · -- a free column
        refine s_X7_clear_50 hp t145 ⟨nI_inL (by omega) (by omega), fun ha ea => ⟨fun w => absurd w (by decide), fun _ => ?_⟩⟩
        rw [nI_tN (by omega)] at ea
        have fa : Fr h ha [145] := by rw [ea]; exact Fr.rf.put (by simp) (okp_a t145 (by decide))
        have Fa : FrB h ha := FrB.of (fa.p (fun x hx => by simp at hx; rw [hx]; unfold Bar; omega))
        rw [nI_ltI (by omega) (by omega)]
        refine ⟨fun w => s_X7_clear_158 hp ?_, fun w => ?_⟩
        · rw [show (1 : Int32) = nI 1 from rfl, nI_addz]
          refine ih (c + 1) r σ C dd A M ha (by omega) ⟨I.b.fr fa.1, I.bd.fr fa (by decide), by rw [fa.gi (by decide)]; exact I.rk, I.pd.fr fa (by decide) (by decide), @st_free Un (plRing Fp) L N r c C dd A M I.st (by omega) hz, (I.m.fr I.b dL fa (fun x hx => by simp at hx; omega) dN).mono (by omega), fun j hj => ?_, I.kr, fun j hj1 hj2 => by omega⟩ sA (fun h' σ' hh z f' => q1 h' σ' hh z (Fa.tr f')) (fun w h' σ' f' => q0 w h' σ' (Fa.tr f'))
          by_cases ej : j = c
          · exact Or.inr ⟨fun u hu => by have := hCc u hu; omega, by rw [ea, ej, ri_same]⟩
          · have e6 : ri ha 145 j = ri h 145 j := by rw [ea, ri_ne' ej]
            rw [e6]; exact I.rws j (by omega)
        · -- it hangs
          have inj := fun u v hu hv e => @st_inj Un (plRing Fp) L N r c C dd A M I.st u v hu hv e
          have hz1 : (fun j => cite (j = c) dd (@dite Un (∃ u, u < r ∧ C u = j) (Classical.propDecidable _) (fun e => pmul (pC (-1)) (M (Classical.choose e) c)) (fun _ => pz))) c = dd := cite_pos rfl
          have hz2 : ∀ u, u < r → (fun j => cite (j = c) dd (@dite Un (∃ u, u < r ∧ C u = j) (Classical.propDecidable _) (fun e => pmul (pC (-1)) (M (Classical.choose e) c)) (fun _ => pz))) (C u) = pmul (pC (-1)) (M u c) := fun u hu => by
            dsimp only
            rw [cite_neg (by have := hCc u hu; omega), dif_pos ⟨u, hu, rfl⟩]
            have cs := Classical.choose_spec (⟨u, hu, rfl⟩ : ∃ v, v < r ∧ C v = C u)
            rw [inj (u := Classical.choose (⟨u, hu, rfl⟩ : ∃ v, v < r ∧ C v = C u)) (v := u) cs.1 hu cs.2]
          have hz3 : ∀ j, j ≠ c → (∀ u, u < r → C u ≠ j) → (fun j => cite (j = c) dd (@dite Un (∃ u, u < r ∧ C u = j) (Classical.propDecidable _) (fun e => pmul (pC (-1)) (M (Classical.choose e) c)) (fun _ => pz))) j = pz := fun j hj hu => by
            dsimp only
            rw [cite_neg hj, dif_neg (fun ⟨u, u1, u2⟩ => hu u u1 u2)]
          generalize (fun j => cite (j = c) dd (@dite Un (∃ u, u < r ∧ C u = j) (Classical.propDecidable _) (fun e => pmul (pC (-1)) (M (Classical.choose e) c)) (fun _ => pz))) = z at hz1 hz2 hz3
          have sol := @st_isSol Un (plRing Fp) un_dom L N r c fr C dd A M I.st (by omega) (by omega) hz I.pv z hz1 (fun u hu => (hz2 u hu).trans (neg_m1 _).symm) hz3
          have sz0 : ∀ a, a < L → sz (M a c) ≤ N * W + 1 := fun a ha => sz_min (st_sz I.st sA ha (by omega))
          have sdd : sz dd ≤ N * W + 1 := by
            by_cases r0 : r = 0
            · have e1 := I.st.2.2.2.1
              rw [r0] at e1
              have e2 : dd = pC 1 := e1.symm
              rw [e2, sz_C (by decide)]; omega
            · have e1 := I.st.2.2.1 0 0 (by omega) (by omega)
              rw [if_pos rfl] at e1
              rw [← e1]
              exact sz_min (st_sz I.st sA (by omega) (by have := hCc 0 (by omega); omega))
          refine qI (q1 ha σ c z Fa (I.b.fr fa.1) (@isSol_ker Un (plRing Fp) _ _ _ _ _ _ I.kr _ sol) ⟨by rw [hz1]; exact I.pd.fr fa (by decide) (by decide), fun j hj => ?_⟩ (fun j => ?_))
          · have e6 : ri ha 145 j = ri h 145 j := by rw [ea, ri_ne' (by omega)]
            rw [e6]
            rcases I.rws j hj with ⟨u, u1, u2, u3⟩ | ⟨u1, u2⟩
            · have bb := bcl_bar (I.b.1 u (by omega)).1 (show c < 14 by omega)
              exact Or.inr ⟨u, M u c, by omega, u3, (I.m u c (by omega) (Nat.le_refl _) (by omega)).fr fa (by simp; omega) (by simp; omega), by rw [← u2]; exact hz2 u u1⟩
            · exact Or.inl ⟨u2, hz3 j (by omega) u1⟩
          · by_cases ej : j = c
            · rw [ej, hz1]; exact sdd
            · by_cases eu : ∃ u, u < r ∧ C u = j
              · obtain ⟨u, u1, u2⟩ := eu
                rw [← u2, hz2 u u1]
                exact Nat.le_trans (sz_min fun l hl => by rw [pC_mul, sz_le _ l hl]; grind) (sz0 u (by omega))
              · rw [hz3 j ej (fun u u1 u2 => eu ⟨u, u1, u2⟩), sz_z]; omega
end
