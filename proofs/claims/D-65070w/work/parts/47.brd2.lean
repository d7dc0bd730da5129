set_option maxRecDepth 100000
/-! THE BOARD: its cells, opened, tidied, pivots -/
def FrP (h h' : Hp) (P : Nat → Prop) : Prop := h'.2 = h.2 ∧ (∀ x, ¬ P x → h'.1 x = h.1 x) ∧ (Kp h → Kp h')
section
variable {h h' h1 h2 : Hp} {P : Nat → Prop}
theorem FrP.rf : FrP h h P := ⟨rfl, fun _ _ => rfl, id⟩
theorem FrP.tr (f : FrP h h1 P) (e : FrP h1 h2 P) : FrP h h2 P := ⟨e.1.trans f.1, fun x hx => (e.2.1 x hx).trans (f.2.1 x hx), fun k => e.2.2 (f.2.2 k)⟩
theorem FrP.gi (f : FrP h h' P) {x : Nat} (hx : ¬ P x) (k : Nat) : ri h' x k = ri h x k := by unfold ri; rw [f.2.1 x hx]
theorem FrP.kp (f : FrP h h' P) (k : Kp h) : Kp h' := f.2.2 k
theorem Fr.p {L : List Nat} (f : Fr h h' L) (o : ∀ x, x ∈ L → P x) : FrP h h' P := ⟨f.1, fun x hx => f.2.1 x (fun q => hx (o x q)), f.2.2⟩
theorem FrP.mono {P' : Nat → Prop} (f : FrP h h' P) (o : ∀ x, P x → P' x) : FrP h h' P' := ⟨f.1, fun x hx => f.2.1 x (fun q => hx (o x q)), f.2.2⟩
theorem PI.frp {a : Nat} {p : Un} (H : PI h a p) (f : FrP h h' P) (h1 : ¬ P a) (h2 : ¬ P (a + 1)) : PI h' a p := ⟨by rw [f.gi h1]; exact H.1, H.2.1, fun i hi => by rw [f.gi h2]; exact H.2.2 i hi⟩
theorem DI.frp {a : Nat} {F : Bi} (H : DI h a F) (f : FrP h h' P) (h1 : ¬ P a) (h2 : ¬ P (a + 1)) : DI h' a F := H.c (fun k => f.gi h1 k) (fun k => f.gi h2 k)
end
/-- the board's cells, and those of the divisors -/
def Bar (x : Nat) : Prop := (3 ≤ x ∧ x ≤ 8) ∨ (113 ≤ x ∧ x < 818)
abbrev bcl (r c : Nat) : Nat := 146 + 2 * (14 * r + c)
theorem b_all1 : (List.range 24).all (fun r => decide (lay (115 + r) = (2, 14, 3))) = true := by decide +kernel
theorem b_all2 : (List.range 336).all (fun k => decide (lay (146 + 2 * k) = (0, 3, 2)) && decide (lay (147 + 2 * k) = (1, 1300, 0))) = true := by decide +kernel
theorem b_row {r : Nat} (h : r < 24) : lay (115 + r) = (2, 14, 3) := by
  have := List.all_eq_true.mp b_all1 r (List.mem_range.mpr h)
  simpa using this
theorem b_lay {r c : Nat} (h : r < 24) (hc : c < 14) : lay (bcl r c) = (0, 3, 2) := by
  have := List.all_eq_true.mp b_all2 (14 * r + c) (List.mem_range.mpr (by omega))
  simp only [Bool.and_eq_true, decide_eq_true_eq] at this
  exact this.1
theorem b_rm {r c : Nat} (h : r < 24) (hc : c < 14) : rm (bcl r c + 1) = 1300 := by
  have := List.all_eq_true.mp b_all2 (14 * r + c) (List.mem_range.mpr (by omega))
  simp only [Bool.and_eq_true, decide_eq_true_eq] at this
  unfold rm
  rw [show bcl r c + 1 = 147 + 2 * (14 * r + c) by show 146 + 2 * (14 * r + c) + 1 = _; omega, this.2]
theorem t113 : lay 113 = (0, 7, 9) := by decide +kernel
theorem t139 : lay 139 = (0, 3, 2) := by decide +kernel
theorem t141 : lay 141 = (0, 3, 2) := by decide +kernel
theorem t143 : lay 143 = (0, 3, 2) := by decide +kernel
theorem t145 : lay 145 = (1, 14, 0) := by decide +kernel
theorem r140 : rm (139 + 1) = 2600 := by decide +kernel
theorem r142 : rm (141 + 1) = 2600 := by decide +kernel
theorem r144 : rm (143 + 1) = 1300 := by decide +kernel
/-- the rows of the board in their order -/
def BS (h : Hp) (σ : Nat → Nat) : Prop := (∀ i, i < 24 → σ i < 24 ∧ rr h 114 i = some (115 + σ i)) ∧ (∀ i j, i < 24 → j < 24 → σ i = σ j → i = j) ∧ ∀ r c, r < 24 → c < 14 → rr h (115 + r) c = some (bcl r c)
/-- its size, and the polynomials from a column on -/
def BD (h : Hp) (L N : Nat) : Prop := ri h 113 5 = nI L ∧ ri h 113 6 = nI N ∧ L ≤ 24 ∧ N ≤ 14
def BM (h : Hp) (σ : Nat → Nat) (L N c : Nat) (M : Nat → Nat → Un) : Prop := ∀ i j, i < L → c ≤ j → j < N → PI h (bcl (σ i) j) (M i j)
section
variable {g : GX} {d n : Nat} {h h' h1 : Hp} {σ : Nat → Nat} {L N c : Nat} {M : Nat → Nat → Un}
theorem BS.fr (B : BS h σ) (e : h'.2 = h.2) : BS h' σ := by unfold BS rr at *; rw [e]; exact B
/-- the way to a number of the board -/
theorem BS.at (B : BS h σ) {i j : Nat} (hi : i < 24) (hj : j < 14) {X : Nat → Prop} (k : X (bcl (σ i) j)) : vp_in (nI i) 24 ∧ ∃ r1 L1, rr h 114 (nI i).toNatClampNeg = some r1 ∧ (lay r1 = (2, L1, 3) ∧ r1 < N0) ∧ (vp_in (nI j) L1 ∧ ∃ r2, rr h r1 (nI j).toNatClampNeg = some r2 ∧ lay r2 = (0, 3, 2) ∧ X r2) := by
  have hs := (B.1 i hi).1
  refine ⟨nI_inL hi (by omega), 115 + σ i, 14, by rw [nI_tN (by omega)]; exact (B.1 i hi).2, ⟨b_row hs, ?_⟩, nI_inL hj (by omega), bcl (σ i) j, by rw [nI_tN (by omega)]; exact B.2.2 _ _ hs hj, b_lay hs hj, k⟩
  show 115 + σ i < 11081
  omega
theorem bcl_ne {r r' c c' : Nat} (hc : c < 14) (hc' : c' < 14) (h : r ≠ r' ∨ c ≠ c') : bcl r c ≠ bcl r' c' ∧ bcl r c ≠ bcl r' c' + 1 ∧ bcl r c + 1 ≠ bcl r' c' := by
  show 146 + 2 * (14 * r + c) ≠ 146 + 2 * (14 * r' + c') ∧ 146 + 2 * (14 * r + c) ≠ 146 + 2 * (14 * r' + c') + 1 ∧ 146 + 2 * (14 * r + c) + 1 ≠ 146 + 2 * (14 * r' + c')
  omega
theorem bcl_bar {r c : Nat} (hr : r < 24) (hc : c < 14) : Bar (bcl r c) ∧ Bar (bcl r c + 1) ∧ 146 ≤ bcl r c ∧ bcl r c + 1 < 818 := by
  have e : bcl r c = 146 + 2 * (14 * r + c) := rfl
  unfold Bar; omega
theorem BM.fr {L0 : List Nat} (H : BM h σ L N c M) (B : BS h σ) (hL : L ≤ 24) (f : Fr h h' L0) (o : ∀ x, x ∈ L0 → x < 146 ∨ 818 ≤ x) (hN : N ≤ 14) : BM h' σ L N c M := fun i j hi hc hj => by
  have := bcl_bar (B.1 i (by omega)).1 (show j < 14 by omega)
  exact (H i j hi hc hj).fr f (fun w => by have := o _ w; omega) (fun w => by have := o _ w; omega)
/-- one number changes -/
theorem BM.set {L0 : List Nat} {a b : Nat} {v : Un} (H : BM h σ L N c M) (B : BS h σ) (hL : L ≤ 24) (hN : N ≤ 14) (ha : a < L) (hb : b < N) (f : Fr h h' L0) (o : ∀ x, x ∈ L0 → (x < 146 ∨ 818 ≤ x) ∨ x = bcl (σ a) b ∨ x = bcl (σ a) b + 1) (P : PI h' (bcl (σ a) b) v) : BM h' σ L N c (fun i j => if i = a ∧ j = b then v else M i j) := fun i j hi hc hj => by
  dsimp only
  by_cases e : i = a ∧ j = b
  · rw [if_pos e, e.1, e.2]; exact P
  · rw [if_neg e]
    have b1 := bcl_bar (B.1 i (by omega)).1 (show j < 14 by omega)
    have ne := bcl_ne (r := σ i) (r' := σ a) (c := j) (c' := b) (by omega) (by omega) (by
      by_cases q : i = a
      · exact Or.inr (fun w => e ⟨q, w⟩)
      · exact Or.inl (fun w => q (B.2.1 i a (by omega) (by omega) w)))
    exact (H i j hi hc hj).fr f (fun w => by have := o _ w; omega) (fun w => by have := o _ w; omega)
theorem BD.fr {L0 : List Nat} (H : BD h L N) (f : Fr h h' L0) (o : 113 ∉ L0) : BD h' L N := ⟨by rw [f.gi o]; exact H.1, by rw [f.gi o]; exact H.2.1, H.2.2.1, H.2.2.2⟩
theorem BM.mono {c' : Nat} (H : BM h σ L N c M) (hc : c ≤ c') : BM h σ L N c' M := fun i j hi h1 hj => H i j hi (by omega) hj
theorem w_bo23 (hp : g.2.2.2.2 = true) {av : List Value} {i : Nat} (hi : i < L) {Q : QT} : ∀ (k j : Nat) (h : Hp), j + k = N → BS h σ → BD h L N → (∀ a b, (a < i ∧ b < N) ∨ (a = i ∧ b < j) → PI h (bcl (σ a) b) pz) → (∀ h', FrP h h' Bar → BS h' σ → BD h' L N → (∀ a b, a < i + 1 → b < N → PI h' (bcl (σ a) b) pz) → W_X7_open g d av Q n 12 [some (.ref 113), none, none, some (.int (nI (i + 1))), none] [] h') → W_X7_open g d av Q n 23 [some (.ref 113), none, none, some (.int (nI i)), some (.int (nI j))] [] h := by
  intro k
  induction k with
  | zero =>
    intro j h hj B D H q
    have dL := D.2.2.1
    have dN := D.2.2.2
    refine s_X7_open_23 hp ⟨fun _ => ?_, fun c => absurd ?_ c⟩
    · rw [show (1 : Int32) = nI 1 from rfl, nI_addz]
      exact q h FrP.rf B D (fun a b ha hb => H a b (by omega))
    · rw [D.2.1, nI_leI (by omega) (by omega)]; omega
  | succ k ih =>
    intro j h hj B D H q
    have dL := D.2.2.1
    have dN := D.2.2.2
    refine s_X7_open_23 hp ⟨fun c => absurd c ?_, fun _ => B.at (by omega) (by omega) ?_⟩
    · rw [D.2.1, nI_leI (by omega) (by omega)]; omega
    · have sI := (B.1 i (by omega)).1
      have bb := bcl_bar sI (show j < 14 by omega)
      refine ok_clear hp (b_lay sI (by omega)) (fun h3 f3 P3 => ?_)
      rw [show (1 : Int32) = nI 1 from rfl, nI_addz]
      refine ih (j + 1) h3 (by omega) (B.fr f3.1) (D.fr f3 (by simp; omega)) (fun a b hab => ?_) (fun h' f' => q h' ((f3.p (fun x hx => by simp at hx; rw [hx]; exact bb.1)).tr f'))
      by_cases e : a = i ∧ b = j
      · rw [e.1, e.2]; exact P3
      · have := bcl_ne (r := σ a) (r' := σ i) (c := b) (c' := j) (by omega) (by omega) (by
          by_cases q : a = i
          · exact Or.inr (fun w => e ⟨q, w⟩)
          · exact Or.inl (fun w => q (B.2.1 a i (by omega) (by omega) w)))
        have e1 : bcl (σ a) b = 146 + 2 * (14 * σ a + b) := rfl
        have e2 : bcl (σ i) j = 146 + 2 * (14 * σ i + j) := rfl
        exact (H a b (by omega)).fr f3 (fun w => by have := List.mem_singleton.mp w; omega) (fun w => by have := List.mem_singleton.mp w; omega)
/-- all numbers 0 -/
theorem ok_bopen (hp : g.2.2.2.2 = true) (B : BS h σ) (hL : L ≤ 24) (hN : N ≤ 14) {Q : Hp → Prop} (q : ∀ h', FrP h h' Bar → BS h' σ → BD h' L N → BM h' σ L N 0 (fun _ _ => pz) → Q h') : CallV g m_X7_open (d + 1) [.ref 113, .int (nI L), .int (nI N)] n h Q := by
  refine okV 2 rfl rfl (s_X7_open_0 hp (fun h1 e1 h2 e2 => ?_))
  have f2 : Fr h h2 [113] := by rw [e2, e1]; exact (Fr.rf.put (by simp) (okp_o t113 (Or.inr (by decide)))).put (by simp) (okp_o t113 (Or.inr (by decide)))
  have D2 : BD h2 L N := ⟨by rw [e2, ri_ne' (by omega), e1, ri_same], by rw [e2, ri_same], hL, hN⟩
  have go : ∀ (k i : Nat) (h : Hp), i + k = L → BS h σ → BD h L N → (∀ a b, a < i → b < N → PI h (bcl (σ a) b) pz) → (∀ h', FrP h h' Bar → BS h' σ → BD h' L N → BM h' σ L N 0 (fun _ _ => pz) → Q h') → W_X7_open g d [.ref 113, .int (nI L), .int (nI N)] (QV n Q) n 12 [some (.ref 113), none, none, some (.int (nI i)), none] [] h := by
    intro k
    induction k with
    | zero =>
      intro i h hi B D H q
      refine s_X7_open_12 hp ⟨fun _ => qV (q h FrP.rf B D (fun a b ha _ hb => H a b (by omega) hb)), fun c => absurd ?_ c⟩
      rw [D.1, nI_leI (by omega) (by omega)]; omega
    | succ k ih =>
      intro i h hi B D H q
      refine s_X7_open_12 hp ⟨fun c => absurd c ?_, fun _ => ?_⟩
      · rw [D.1, nI_leI (by omega) (by omega)]; omega
      · exact w_bo23 hp (by omega) N 0 h (by omega) B D (fun a b hab => H a b (by omega) (by omega)) (fun h' f' B' D' H' => ih (i + 1) h' (by omega) B' D' H' (fun h'' f'' => q h'' (f'.tr f'')))
  exact go L 0 h2 (by omega) (B.fr f2.1) D2 (fun a b ha => absurd ha (Nat.not_lt_zero _)) (fun h' f' => q h' ((f2.p (fun x hx => by simp at hx; rw [hx]; unfold Bar; omega)).tr f'))
/-- the line's common divisor so far -/
noncomputable def lnG (M : Nat → Nat → Un) (i : Nat) : Nat → Un := gcF (fun j => M i j)
theorem gcF_one {p : Nat → Un} {j : Nat} (h : gcF p j = pC 1) : ∀ k, gcF p (j + k) = pC 1
  | 0 => h
  | k + 1 => by show gcdU (gcF p (j + k)) (p (j + k)) = _; rw [gcF_one h k, gcdU_1]
theorem w_bt19 (hp : g.2.2.2.2 = true) {av : List Value} {i : Nat} (hi : i < L) {Q : QT} : ∀ (k j : Nat) (h : Hp), j + k = N → BS h σ → BD h L N → BM h σ L N 0 M → PI h 139 (gcF (fun j => M i j) j) → (∀ h', Fr h h' [3, 4, 5, 6, 7, 8, 139, 140] → PI h' 139 (gcF (fun j => M i j) N) → W_X7_tidy g (d + 4) av Q n 70 [some (.ref 113), some (.int (nI i)), none] [] h') → W_X7_tidy g (d + 4) av Q n 19 [some (.ref 113), some (.int (nI i)), some (.int (nI j))] [] h := by
  intro k
  induction k with
  | zero =>
    intro j h hj B D H G q
    have dN := D.2.2.2
    refine s_X7_tidy_19 hp ⟨fun _ => q h Fr.rf (by rw [show N = j by omega]; exact G), fun c => absurd ?_ c⟩
    rw [D.2.1, nI_leI (by omega) (by omega)]; omega
  | succ k ih =>
    intro j h hj B D H G q
    have dL := D.2.2.1
    have dN := D.2.2.2
    have gs := G.lt
    refine s_X7_tidy_19 hp ⟨fun c => absurd c ?_, fun _ => ?_⟩
    · rw [D.2.1, nI_leI (by omega) (by omega)]; omega
    · rw [G.1, show (1 : Int32) = nI 1 from rfl, nI_eq (by omega) (by omega)]
      refine ⟨fun c => ?_, fun c => B.at (by omega) (by omega) ?_⟩
      · have e1 : gcF (fun j => M i j) j = pC 1 := sz1_monic c (gcF_hd _ j)
        have e2 := gcF_one e1 (N - j)
        rw [show j + (N - j) = N by omega] at e2
        exact q h Fr.rf (by rw [e2, ← e1]; exact G)
      · have sI := (B.1 i (by omega)).1
        have bb := bcl_bar sI (show j < 14 by omega)
        have P := H i j hi (by omega) (by omega)
        have rmP := P.2.1
        rw [b_rm sI (by omega)] at rmP
        have s1 : sz (gcF (fun j => M i j) j) ≤ 1300 := gcF_sz j (fun l hl => by
          have Pl := (H i l hi (by omega) (by omega)).2.1
          rw [b_rm sI (by omega)] at Pl; exact Pl)
        have s3 := gcdU_max (gcF (fun j => M i j) j) (M i j)
        refine ok_common hp t139 (b_lay sI (by omega)) t139 (by omega) (by omega) G P (by omega) (by omega) (by rw [r140]; omega) (fun h3 f3 G3 => ?_)
        rw [nI_addz]
        exact ih (j + 1) h3 (by omega) (B.fr f3.1) (D.fr f3 (by simp)) (H.fr B dL f3 (fun x hx => by simp at hx; omega) dN) G3 (fun h' f' => q h' (f3.tr f'))
/-- a line divided by g -/
theorem w_bt72 (hp : g.2.2.2.2 = true) {av : List Value} {i : Nat} (hi : i < L) {gg : Un} (hg : gg ≠ pz) {Q : QT} : ∀ (k j : Nat) (M' : Nat → Nat → Un) (h : Hp), j + k = N → BS h σ → BD h L N → BM h σ L N 0 M' → PI h 139 gg → (∀ b, j ≤ b → b < N → udv gg (M' i b)) → (∀ h' M'', FrP h h' Bar → BS h' σ → BD h' L N → BM h' σ L N 0 M'' → (∀ a b, a ≠ i → M'' a b = M' a b) → (∀ b, b < j → M'' i b = M' i b) → (∀ b, j ≤ b → b < N → M'' i b = if sz gg ≤ 1 then M' i b else uq (M' i b) gg) → W_X7_tidy g (d + 4) av Q n 119 [some (.ref 113), some (.int (nI i)), none] [] h') → W_X7_tidy g (d + 4) av Q n 72 [some (.ref 113), some (.int (nI i)), some (.int (nI j))] [] h := by
  intro k
  induction k with
  | zero =>
    intro j M' h hj B D H G hdv q
    have dN := D.2.2.2
    refine s_X7_tidy_72 hp ⟨fun _ => q h M' FrP.rf B D H (fun _ _ _ => rfl) (fun _ _ => rfl) (fun b h1 h2 => by omega), fun c => absurd ?_ c⟩
    rw [D.2.1, nI_leI (by omega) (by omega)]; omega
  | succ k ih =>
    intro j M' h hj B D H G hdv q
    have dL := D.2.2.1
    have dN := D.2.2.2
    have gs := G.lt
    refine s_X7_tidy_72 hp ⟨fun c => absurd c ?_, fun _ => ?_⟩
    · rw [D.2.1, nI_leI (by omega) (by omega)]; omega
    · rw [G.1, show (1 : Int32) = nI 1 from rfl, nI_leI (by omega) (by omega)]
      refine ⟨fun c => q h M' FrP.rf B D H (fun _ _ _ => rfl) (fun _ _ => rfl) (fun b h1 h2 => by rw [if_pos c]), fun c => B.at (by omega) (by omega) ?_⟩
      have sI := (B.1 i (by omega)).1
      have bb := bcl_bar sI (show j < 14 by omega)
      have P := H i j hi (by omega) (by omega)
      have rmP := P.2.1
      rw [b_rm sI (by omega)] at rmP
      refine ok_divideExactly hp (b_lay sI (by omega)) t139 (by omega) (by omega) (by omega) P G hg (uq_mul (hdv j (by omega) (by omega))) (by omega) (fun h3 f3 P3 => ?_)
      rw [nI_addz]
      have H3 := H.set B dL dN hi (b := j) (by omega) f3 (fun x hx => by simp at hx; omega) P3
      refine ih (j + 1) _ h3 (by omega) (B.fr f3.1) (D.fr f3 (by simp; omega)) H3 (G.fr f3 (by simp; omega) (by simp; omega)) (fun b h1 h2 => by rw [if_neg (by omega)]; exact hdv b (by omega) h2) (fun h' M'' f' B' D' H' e1 e2 e3 => q h' M'' ((f3.p (fun x hx => by simp at hx; unfold Bar; omega)).tr f') B' D' H' (fun a b ha => by rw [e1 a b ha, if_neg (fun w => ha w.1)]) (fun b hb => by rw [e2 b (by omega), if_neg (by omega)]) (fun b h1 h2 => ?_))
      rw [if_neg c]
      by_cases e : b = j
      · rw [e2 b (by omega), if_pos ⟨rfl, e⟩, e]
      · rw [e3 b (by omega) h2, if_neg c, if_neg (fun w => e w.2)]
/-- each line is divided by what all its numbers share -/
theorem ok_btidy (hp : g.2.2.2.2 = true) (B : BS h σ) (D : BD h L N) (H : BM h σ L N 0 M) {Q : Hp → Prop} (q : ∀ (h' : Hp) (M' : Nat → Nat → Un) (u : Nat → Un), FrP h h' Bar → BS h' σ → BD h' L N → BM h' σ L N 0 M' → (∀ i, i < L → u i ≠ pz) → (∀ i j, i < L → j < N → M i j = pmul (u i) (M' i j)) → (∀ i j, i < L → j < N → sz (M' i j) ≤ sz (M i j)) → Q h') : CallV g m_X7_tidy (d + 5) [.ref 113] n h Q := by
  have one : (pC 1 : Un) ≠ pz := pC_ne (by decide)
  have go : ∀ (k i : Nat) (M' : Nat → Nat → Un) (u : Nat → Un) (h1 : Hp), i + k = L → FrP h h1 Bar → BS h1 σ → BD h1 L N → BM h1 σ L N 0 M' → (∀ i, i < L → u i ≠ pz) → (∀ i j, i < L → j < N → M i j = pmul (u i) (M' i j)) → (∀ i j, i < L → j < N → sz (M' i j) ≤ sz (M i j)) → W_X7_tidy g (d + 4) [.ref 113] (QV n Q) n 2 [some (.ref 113), some (.int (nI i)), none] [] h1 := by
    intro k
    induction k with
    | zero =>
      intro i M' u h1 hi f1 B1 D1 H1 u1 u2 u3
      have dL := D1.2.2.1
      refine s_X7_tidy_2 hp ⟨fun _ => qV (q h1 M' u f1 B1 D1 H1 u1 u2 u3), fun c => absurd ?_ c⟩
      rw [D1.1, nI_leI (by omega) (by omega)]; omega
    | succ k ih =>
      intro i M' u h1 hi f1 B1 D1 H1 u1 u2 u3
      have dL := D1.2.2.1
      have dN := D1.2.2.2
      refine s_X7_tidy_2 hp ⟨fun c => absurd c ?_, fun _ => ok_clear hp t139 (fun h2 f2 G2 => ?_)⟩
      · rw [D1.1, nI_leI (by omega) (by omega)]; omega
      · have H2 := H1.fr B1 dL f2 (fun x hx => by simp at hx; omega) dN
        refine w_bt19 hp (M := M') (by omega) N 0 h2 (by omega) (B1.fr f2.1) (D1.fr f2 (by simp)) H2 G2 (fun h3 f3 G3 => s_X7_tidy_70 hp ?_)
        have B3 := (B1.fr f2.1).fr f3.1
        have D3 := (D1.fr f2 (by simp)).fr f3 (by simp)
        have H3 := H2.fr (B1.fr f2.1) dL f3 (fun x hx => by simp at hx; omega) dN
        have f13 : FrP h h3 Bar := (f1.tr (f2.p (fun x hx => by simp at hx; unfold Bar; omega))).tr (f3.p (fun x hx => by simp at hx; unfold Bar; omega))
        have last : ∀ h4 M'' v, v ≠ pz → FrP h h4 Bar → BS h4 σ → BD h4 L N → BM h4 σ L N 0 M'' → (∀ a b, a ≠ i → M'' a b = M' a b) → (∀ b, b < N → M' i b = pmul v (M'' i b)) → (∀ b, b < N → sz (M'' i b) ≤ sz (M' i b)) → W_X7_tidy g (d + 4) [.ref 113] (QV n Q) n 119 [some (.ref 113), some (.int (nI i)), none] [] h4 := by
          intro h4 M'' v hv f4 B4 D4 H4 e1 e2 e3
          refine s_X7_tidy_119 hp ?_
          rw [show (1 : Int32) = nI 1 from rfl, nI_addz]
          refine ih (i + 1) M'' (fun a => if a = i then pmul (u i) v else u a) h4 (by omega) f4 B4 D4 H4 (fun a ha => ?_) (fun a b ha hb => ?_) (fun a b ha hb => ?_)
          · show (if a = i then pmul (u i) v else u a) ≠ pz
            by_cases c : a = i
            · rw [if_pos c]; intro w; rcases un_mulz w with w | w; exact u1 i (by omega) w; exact hv w
            · rw [if_neg c]; exact u1 a ha
          · show M a b = pmul (if a = i then pmul (u i) v else u a) (M'' a b)
            by_cases c : a = i
            · rw [if_pos c, c, u2 i b (by omega) hb, e2 b hb, pmul_assoc]
            · rw [if_neg c, e1 a b c]; exact u2 a b ha hb
          · by_cases c : a = i
            · rw [c]; exact Nat.le_trans (e3 b hb) (u3 i b (by omega) hb)
            · rw [e1 a b c]; exact u3 a b ha hb
        by_cases hz : gcF (fun j => M' i j) N = pz
        · -- a line of 0: nothing is divided
          refine s_X7_tidy_72 hp ⟨fun _ => last h3 M' (pC 1) one f13 B3 D3 H3 (fun _ _ _ => rfl) (fun b _ => ?_) (fun _ _ => Nat.le_refl _), fun _ => ?_⟩
          · exact pl_ext fun l => by rw [pC_mul]; grind
          · rw [G3.1, hz, sz_z]
            refine ⟨fun _ => last h3 M' (pC 1) one f13 B3 D3 H3 (fun _ _ _ => rfl) (fun b _ => ?_) (fun _ _ => Nat.le_refl _), fun c => absurd (by decide) c⟩
            exact pl_ext fun l => by rw [pC_mul]; grind
        · refine w_bt72 hp (by omega) hz N 0 M' h3 (by omega) B3 D3 H3 G3 (fun b _ hb => gcF_dv (fun j => M' i j) N b hb) (fun h4 M'' f4 B4 D4 H4 e1 _ e3 => ?_)
          by_cases c : sz (gcF (fun j => M' i j) N) ≤ 1
          · refine last h4 M'' (pC 1) one (f13.tr f4) B4 D4 H4 e1 (fun b hb => ?_) (fun b hb => ?_)
            · rw [e3 b (by omega) hb, if_pos c]
              exact pl_ext fun l => by rw [pC_mul]; grind
            · rw [e3 b (by omega) hb, if_pos c]; exact Nat.le_refl _
          · refine last h4 M'' (gcF (fun j => M' i j) N) hz (f13.tr f4) B4 D4 H4 e1 (fun b hb => ?_) (fun b hb => ?_)
            · rw [e3 b (by omega) hb, if_neg c]
              exact uq_mul (gcF_dv (fun j => M' i j) N b hb)
            · rw [e3 b (by omega) hb, if_neg c]
              exact uq_sz hz (gcF_dv (fun j => M' i j) N b hb)
  refine okV 2 rfl rfl (s_X7_tidy_0 hp (go L 0 M (fun _ => pC 1) h (by omega) FrP.rf B D H (fun _ _ => one) (fun i j _ _ => ?_) (fun _ _ _ _ => Nat.le_refl _)))
  exact pl_ext fun l => by rw [pC_mul]; grind
/-- a line from the rank on with a number that isn't 0 in a column -/
theorem ok_pivot (hp : g.2.2.2.2 = true) (B : BS h σ) (D : BD h L N) {r : Nat} (er : ri h 113 8 = nI r) (hr : r ≤ L) (H : BM h σ L N c M) (hc : c < N) {Q : Int32 → Hp → Prop} (q1 : ∀ p, r ≤ p → p < L → M p c ≠ pz → Q (nI p) h) (q0 : (∀ i, r ≤ i → i < L → M i c = pz) → Q (-1) h) : CallI g m_X7_pivot (d + 1) [.ref 113, .int (nI c)] n h Q := by
  have dL := D.2.2.1
  have dN := D.2.2.2
  have go : ∀ (k i : Nat) (best : Int), i + k = L → r ≤ i → ((best = -1 ∧ ∀ a, r ≤ a → a < i → M a c = pz) ∨ (∃ b : Nat, best = b ∧ r ≤ b ∧ b < i ∧ M b c ≠ pz)) → W_X7_pivot g d [.ref 113, .int (nI c)] (QI n Q) n 7 [some (.ref 113), some (.int (nI c)), some (.int (zI best)), some (.int (nI i))] [] h := by
    intro k
    induction k with
    | zero =>
      intro i best hi hri hb
      refine s_X7_pivot_7 hp ⟨fun _ => ?_, fun w => absurd ?_ w⟩
      · rcases hb with ⟨e, z⟩ | ⟨b, e, h1, h2, h3⟩
        · rw [e]; exact qI (q0 (fun a h1 h2 => z a h1 (by omega)))
        · rw [e, ← nI_z]; exact qI (q1 b h1 (by omega) h3)
      · rw [D.1, nI_leI (by omega) (by omega)]; omega
    | succ k ih =>
      intro i best hi hri hb
      have sI := (B.1 i (by omega)).1
      have P := H i c (by omega) (Nat.le_refl _) hc
      have j60 : ∀ b' : Int, ((b' = -1 ∧ ∀ a, r ≤ a → a < i + 1 → M a c = pz) ∨ (∃ b : Nat, b' = b ∧ r ≤ b ∧ b < i + 1 ∧ M b c ≠ pz)) → W_X7_pivot g d [.ref 113, .int (nI c)] (QI n Q) n 60 [some (.ref 113), some (.int (nI c)), some (.int (zI b')), some (.int (nI i))] [] h := by
        intro b' hb'
        refine s_X7_pivot_60 hp ?_
        rw [show (1 : Int32) = nI 1 from rfl, nI_addz]
        exact ih (i + 1) b' (by omega) (by omega) hb'
      refine s_X7_pivot_7 hp ⟨fun w => absurd w ?_, fun _ => B.at (by omega) (by omega) ?_⟩
      · rw [D.1, nI_leI (by omega) (by omega)]; omega
      · refine ok_isZero hp (b_lay sI (by omega)) P (fun z => ⟨fun _ => j60 best ?_, fun w => absurd w (by decide)⟩) (fun z => ⟨fun w => absurd rfl w, fun _ => ?_⟩)
        · rcases hb with ⟨e, zz⟩ | ⟨b, e, h1, h2, h3⟩
          · refine Or.inl ⟨e, fun a h1 h2 => ?_⟩
            by_cases ea : a = i
            · rw [ea]; exact z
            · exact zz a h1 (by omega)
          · exact Or.inr ⟨b, e, h1, by omega, h3⟩
        · have j58 : W_X7_pivot g d [.ref 113, .int (nI c)] (QI n Q) n 58 [some (.ref 113), some (.int (nI c)), none, some (.int (nI i))] [] h := s_X7_pivot_58 hp (by
            have := j60 i (Or.inr ⟨i, rfl, hri, by omega, z⟩)
            rw [← nI_z] at this; exact this)
          rcases hb with ⟨e, zz⟩ | ⟨b, e, h1, h2, h3⟩
          · rw [e]
            exact ⟨fun _ => j58, fun w => absurd (by decide) w⟩
          · rw [e, ← nI_z]
            refine ⟨fun w => absurd w (nI_pos (by omega)), fun _ => B.at (by omega) (by omega) (B.at (by omega) (by omega) ⟨fun _ => ?_, fun _ => j58⟩)⟩
            have := j60 b (Or.inr ⟨b, rfl, h1, by omega, h3⟩)
            rw [← nI_z] at this; exact this
  refine okI 2 rfl rfl (s_X7_pivot_0 hp ?_)
  rw [er]
  exact go (L - r) r (-1) (by omega) (Nat.le_refl _) (Or.inl ⟨rfl, fun a h1 h2 => by omega⟩)
end
