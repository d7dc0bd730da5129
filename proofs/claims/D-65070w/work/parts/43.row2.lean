set_option maxRecDepth 100000
/-! ROWS: recurrences without what they share, how many first numbers they need -/
/-- the quotient without rest -/
noncomputable def uq (p q : Un) : Un := @dite Un (∃ s, p = pmul q s) (Classical.propDecidable _) (fun h => Classical.choose h) (fun _ => pz)
theorem uq_eq {p q s : Un} (hq : q ≠ pz) (e : p = pmul q s) : uq p q = s := by
  unfold uq
  rw [dif_pos ⟨s, e⟩]
  have h := Classical.choose_spec (⟨s, e⟩ : ∃ s, p = pmul q s)
  generalize Classical.choose (⟨s, e⟩ : ∃ s, p = pmul q s) = t at h
  have hs : pmul q t = pmul q s := by rw [← h, e]
  letI := plRing Fp
  exact dom_cancel un_dom (c := q) (fun w => hq (w.trans pz_def.symm)) hs
theorem uq_mul {p q : Un} (h : udv q p) : p = pmul q (uq p q) := by
  obtain ⟨s, e⟩ := un_dv_eq.mp h
  unfold uq
  rw [dif_pos ⟨s, e⟩]
  exact Classical.choose_spec (⟨s, e⟩ : ∃ s, p = pmul q s)
/-- what the first j of a recurrence share -/
noncomputable def gcF (p : Nat → Un) : Nat → Un
  | 0 => pz
  | j + 1 => gcdU (gcF p j) (p j)
theorem gcF_dv (p : Nat → Un) : ∀ (j l : Nat), l < j → udv (gcF p j) (p l)
  | j + 1, l, h => by
    have g := gcdU_is (gcF p j) (p j)
    by_cases c : l = j
    · rw [c]; exact g.2.1
    · letI := plRing Fp
      exact dv_trans (K := Un) g.1 (gcF_dv p j l (by omega))
theorem gcF_gt (p : Nat → Un) {c : Un} (h : ∀ j, udv c (p j)) : ∀ j, udv c (gcF p j)
  | 0 => by letI := plRing Fp; exact dv_zero (K := Un) c
  | j + 1 => (gcdU_is (gcF p j) (p j)).2.2 c (gcF_gt p h j) (h j)
theorem gcF_hd (p : Nat → Un) : ∀ j, gcF p j = pz ∨ hd (gcF p j) = 1
  | 0 => Or.inl rfl
  | j + 1 => gcdU_hd _ _
theorem gcF_ne {p : Nat → Un} {j l : Nat} (hl : l < j) (h : p l ≠ pz) : gcF p j ≠ pz := fun w => by
  have := gcF_dv p j l hl
  rw [w] at this
  exact h (udv_of_z this)
theorem gcF_sz {p : Nat → Un} {M : Nat} : ∀ j, (∀ l, l < j → sz (p l) ≤ M) → sz (gcF p j) ≤ M
  | 0, _ => by show sz (pz : Un) ≤ M; rw [sz_z]; omega
  | j + 1, h => by
    have := gcdU_max (gcF p j) (p j)
    have h1 := gcF_sz j (fun l hl => h l (by omega))
    have h2 := h j (by omega)
    show sz (gcdU (gcF p j) (p j)) ≤ M
    omega
theorem uq_sz {p q : Un} (hq : q ≠ pz) (h : udv q p) : sz (uq p q) ≤ sz p := by
  by_cases hp : p = pz
  · have : uq p q = pz := uq_eq hq (by rw [hp]; exact (szmul_z q).1.symm)
    rw [this, sz_z]; omega
  · have e := uq_mul h
    refine dv_sz fp_dom (un_dv_eq.mpr ⟨q, ?_⟩) hp
    exact e.trans (pmul_comm _ _)
/-- the recurrence without what all share, the last head 1 -/
noncomputable def tdF (p : Nat → Un) (N : Nat) (j : Nat) : Un := pmul (pC (iv (hd (uq (p (N - 1)) (gcF p N))))) (uq (p j) (gcF p N))
def lsF (p : Nat → Un) (N : Nat) : List Un := (List.range N).map p
theorem lsF_len (p : Nat → Un) (N : Nat) : (lsF p N).length = N := by simp [lsF]
theorem lsF_get (p : Nat → Un) {N j : Nat} (h : j < N) : (lsF p N).getD j pz = p j := by
  simp [lsF, List.getD, h]
theorem tdF_sz {p : Nat → Un} {N j : Nat} (hN : 0 < N) (h : p (N - 1) ≠ pz) (hj : j < N) : sz (tdF p N j) ≤ sz (p j) := by
  have hg := gcF_ne (j := N) (l := N - 1) (by omega) h
  have h1 := uq_sz hg (gcF_dv p N j hj)
  have h2 : sz (tdF p N j) ≤ sz (uq (p j) (gcF p N)) := by
    refine sz_min fun i hi => ?_
    unfold tdF
    rw [pC_mul, sz_le _ i hi]
    generalize iv _ = w
    grind
  omega
/-- how many first numbers: r, or behind the last root -/
noncomputable def ndn (p : Un) (r : Nat) : Nat → Nat
  | 0 => r
  | m + 1 => if ev p (nF m) = 0 then r + 1 + m else ndn p r m
theorem ndn_le (p : Un) (r : Nat) : ∀ m, r ≤ ndn p r m ∧ ndn p r m ≤ r + m
  | 0 => ⟨Nat.le_refl _, Nat.le_refl _⟩
  | m + 1 => by
    have := ndn_le p r m
    show r ≤ (if ev p (nF m) = 0 then r + 1 + m else ndn p r m) ∧ (if ev p (nF m) = 0 then r + 1 + m else ndn p r m) ≤ r + (m + 1)
    split <;> omega
/-- the cells of a recurrence that is worked out -/
def FLf (h : Hp) (N : Nat) (p : Nat → Un) : Prop := ∀ j, j < N → PI h (2601 + 2 * j) (p j)
def FP (h : Hp) : Prop := ∀ k, k < 8 → rr h 855 k = some (2601 + 2 * k)
abbrev Lfr : List Nat := [2601, 2602, 2603, 2604, 2605, 2606, 2607, 2608, 2609, 2610, 2611, 2612, 2613, 2614, 2615, 2616]
abbrev Ltd : List Nat := [3, 4, 5, 6, 7, 8, 828, 829] ++ Lfr
theorem l855 : lay 855 = (2, 8, 3) := by decide +kernel
theorem fr_all : (List.range 8).all (fun j => decide (lay (2601 + 2 * j) = (0, 3, 2)) && decide (lay (2602 + 2 * j) = (1, 1800, 0))) = true := by decide +kernel
theorem fr_lay {j : Nat} (h : j < 8) : lay (2601 + 2 * j) = (0, 3, 2) := by
  have := List.all_eq_true.mp fr_all j (List.mem_range.mpr h)
  simp only [Bool.and_eq_true, decide_eq_true_eq] at this
  exact this.1
theorem fr_rm {j : Nat} (h : j < 8) : rm (2601 + 2 * j + 1) = 1800 := by
  have := List.all_eq_true.mp fr_all j (List.mem_range.mpr h)
  simp only [Bool.and_eq_true, decide_eq_true_eq] at this
  unfold rm
  rw [show 2601 + 2 * j + 1 = 2602 + 2 * j by omega, this.2]
theorem fr_in {j : Nat} (h : j < 8) : 2601 + 2 * j ∈ Lfr ∧ 2601 + 2 * j + 1 ∈ Lfr := by simp; omega
theorem t828 : lay 828 = (0, 3, 2) := by decide +kernel
theorem r829 : rm (828 + 1) = 1800 := by decide +kernel
section
variable {g : GX} {d n : Nat} {h h' h1 : Hp} {S : SS} {s : Nat}
theorem FP.fr {L : List Nat} (H : FP h) (f : Fr h h' L) : FP h' := fun k hk => by unfold rr; rw [f.1]; exact H k hk
theorem FLf.fr {L : List Nat} {N : Nat} {p : Nat → Un} (hN : N ≤ 8) (H : FLf h N p) (f : Fr h h' L) (o : ∀ x, x ∈ L → x < 2601 ∨ 2616 < x) : FLf h' N p := fun j hj => (H j hj).fr f (fun w => by have := o _ w; omega) (fun w => by have := o _ w; omega)
theorem FLf.set {N j : Nat} {p : Nat → Un} {v : Un} {L : List Nat} (H : FLf h N p) (f : Fr h h' L) (o : ∀ x, x ∈ L → x < 2601 ∨ 2616 < x ∨ x = 2601 + 2 * j ∨ x = 2602 + 2 * j) (hN : N ≤ 8) (P : PI h' (2601 + 2 * j) v) : FLf h' N (fun l => if l = j then v else p l) := fun l hl => by
  by_cases c : l = j
  · dsimp only; rw [if_pos c, c]; exact P
  · dsimp only; rw [if_neg c]; exact (H l hl).fr f (fun w => by have := o _ w; omega) (fun w => by have := o _ w; omega)
theorem w_td9 (hp : g.2.2.2.2 = true) {av : List Value} {Q : QT} {N : Nat} (hN : 1 ≤ N ∧ N ≤ 8) {p : Nat → Un} (hs : ∀ j, j < N → sz (p j) ≤ 1800) : ∀ (k j : Nat) (h : Hp), j + k = N → FP h → FLf h N p → PI h 828 (gcF p j) → (∀ h', Fr h h' [3, 4, 5, 6, 7, 8, 828, 829] → FLf h' N p → PI h' 828 (gcF p N) → W_X0_tidy g (d + 4) av Q n 43 [some (.ref 0), some (.ref 855), some (.int (nI (N - 1))), some (.int 0), none] [] h') → W_X0_tidy g (d + 4) av Q n 9 [some (.ref 0), some (.ref 855), some (.int (nI (N - 1))), some (.int (nI j)), none] [] h := by
  intro k
  induction k with
  | zero =>
    intro j h hj F H G q
    refine s_X0_tidy_9 hp l855 (by decide) ⟨fun _ => q h Fr.rf H (by rw [show N = j by omega]; exact G), fun c => absurd ?_ c⟩
    rw [nI_ltI (by omega) (by omega)]; omega
  | succ k ih =>
    intro j h hj F H G q
    refine s_X0_tidy_9 hp l855 (by decide) ⟨fun c => absurd c ?_, fun _ => ⟨nI_inL (by omega) (by omega), 2601 + 2 * j, ?_, fr_lay (by omega), ?_⟩⟩
    · rw [nI_ltI (by omega) (by omega)]; omega
    · rw [nI_tN (by omega)]; exact F j (by omega)
    · have s1 : sz (gcF p j) ≤ 1800 := gcF_sz j (fun l hl => hs l (by omega))
      have s2 := hs j (by omega)
      have s3 := gcdU_max (gcF p j) (p j)
      refine ok_common hp t828 (fr_lay (by omega)) t828 (by omega) (by omega) G (H j (by omega)) s1 s2 (by rw [r829]; omega) (fun h2 f2 G2 => ?_)
      rw [show (1 : Int32) = nI 1 from rfl, nI_addz]
      exact ih (j + 1) h2 (by omega) (F.fr f2) (H.fr hN.2 f2 (fun x hx => by simp at hx; omega)) G2 (fun h' f' => q h' (f2.tr f'))
theorem w_td43 (hp : g.2.2.2.2 = true) {av : List Value} {Q : QT} {N : Nat} (hN : 1 ≤ N ∧ N ≤ 8) {p : Nat → Un} (hs : ∀ j, j < N → sz (p j) ≤ 1800) (hl : p (N - 1) ≠ pz) : ∀ (k j : Nat) (h : Hp), j + k = N → FP h → FLf h N (fun l => if l < j then uq (p l) (gcF p N) else p l) → PI h 828 (gcF p N) → (∀ h', Fr h h' Ltd → FLf h' N (fun l => uq (p l) (gcF p N)) → W_X0_tidy g (d + 4) av Q n 84 [none, some (.ref 855), some (.int (nI (N - 1))), some (.int (toI (iv (hd (uq (p (N - 1)) (gcF p N)))))), some (.int 0)] [] h') → W_X0_tidy g (d + 4) av Q n 43 [some (.ref 0), some (.ref 855), some (.int (nI (N - 1))), some (.int (nI j)), none] [] h := by
  have hg := gcF_ne (j := N) (l := N - 1) (by omega) hl
  intro k
  induction k with
  | zero =>
    intro j h hj F H G q
    have H' : FLf h N (fun l => uq (p l) (gcF p N)) := fun l hl => by
      have := H l hl
      dsimp only at this
      rw [if_pos (by omega)] at this; exact this
    refine s_X0_tidy_43 hp l855 (by decide) ⟨fun _ => ⟨nI_inL (by omega) (by omega), 2601 + 2 * (N - 1), ?_, fr_lay (by omega), ?_⟩, fun c => absurd ?_ c⟩
    · rw [nI_tN (by omega)]; exact F (N - 1) (by omega)
    · exact ok_head hp (fr_lay (by omega)) (H' (N - 1) (by omega)) (ok_inverse hp (q h Fr.rf H'))
    · rw [nI_ltI (by omega) (by omega)]; omega
  | succ k ih =>
    intro j h hj F H G q
    refine s_X0_tidy_43 hp l855 (by decide) ⟨fun c => absurd c ?_, fun _ => ⟨nI_inL (by omega) (by omega), 2601 + 2 * j, ?_, fr_lay (by omega), ?_⟩⟩
    · rw [nI_ltI (by omega) (by omega)]; omega
    · rw [nI_tN (by omega)]; exact F j (by omega)
    · have P := H j (by omega)
      dsimp only at P
      rw [if_neg (by omega)] at P
      refine ok_divideExactly hp (fr_lay (by omega)) t828 (by omega) (by omega) (by omega) P G hg (uq_mul (gcF_dv p N j (by omega))) (hs j (by omega)) (fun h5 f5 P5 => ?_)
      have f5' : Fr h h5 Ltd := f5.mono (fun x hx => by simp at hx ⊢; omega)
      rw [show (1 : Int32) = nI 1 from rfl, nI_addz]
      refine ih (j + 1) h5 (by omega) (F.fr f5) ?_ (G.fr f5 (by simp; omega) (by simp; omega)) (fun h' f' => q h' (f5'.tr f'))
      have := H.set f5 (fun x hx => by simp at hx; omega) hN.2 P5
      intro l hl
      have w := this l hl
      dsimp only at w ⊢
      by_cases c : l = j
      · rw [if_pos c] at w
        rw [if_pos (by omega), c]; rw [c] at w; exact w
      · rw [if_neg c] at w
        by_cases c2 : l < j
        · rw [if_pos c2] at w; rw [if_pos (by omega)]; exact w
        · rw [if_neg c2] at w; rw [if_neg (by omega)]; exact w
theorem w_td84 (hp : g.2.2.2.2 = true) {av : List Value} {N : Nat} (hN : 1 ≤ N ∧ N ≤ 8) {p : Nat → Un} {c : Fp} {Q : Hp → Prop} : ∀ (k j : Nat) (h : Hp), j + k = N → FP h → FLf h N (fun l => if l < j then pmul (pC c) (p l) else p l) → (∀ h', Fr h h' Ltd → FLf h' N (fun l => pmul (pC c) (p l)) → Q h') → W_X0_tidy g (d + 1) av (QV n Q) n 84 [none, some (.ref 855), some (.int (nI (N - 1))), some (.int (toI c)), some (.int (nI j))] [] h := by
  intro k
  induction k with
  | zero =>
    intro j h hj F H q
    refine s_X0_tidy_84 hp l855 (by decide) ⟨fun _ => qV (q h Fr.rf (fun l hl => ?_)), fun c => absurd ?_ c⟩
    · have := H l hl
      dsimp only at this
      rw [if_pos (by omega)] at this; exact this
    · rw [nI_ltI (by omega) (by omega)]; omega
  | succ k ih =>
    intro j h hj F H q
    refine s_X0_tidy_84 hp l855 (by decide) ⟨fun c => absurd c ?_, fun _ => ⟨nI_inL (by omega) (by omega), 2601 + 2 * j, ?_, fr_lay (by omega), ?_⟩⟩
    · rw [nI_ltI (by omega) (by omega)]; omega
    · rw [nI_tN (by omega)]; exact F j (by omega)
    · have P := H j (by omega)
      dsimp only at P
      rw [if_neg (by omega)] at P
      refine ok_scale hp (fr_lay (by omega)) P (fun h2 f2 P2 => ?_)
      have f2' : Fr h h2 Ltd := f2.mono (fun x hx => by simp at hx ⊢; omega)
      rw [show (1 : Int32) = nI 1 from rfl, nI_addz]
      refine ih (j + 1) h2 (by omega) (F.fr f2) ?_ (fun h' f' => q h' (f2'.tr f'))
      have := H.set f2 (fun x hx => by simp at hx; omega) hN.2 P2
      intro l hl
      have w := this l hl
      dsimp only at w ⊢
      by_cases c : l = j
      · rw [if_pos c] at w
        rw [if_pos (by omega), c]; rw [c] at w; exact w
      · rw [if_neg c] at w
        by_cases c2 : l < j
        · rw [if_pos c2] at w; rw [if_pos (by omega)]; exact w
        · rw [if_neg c2] at w; rw [if_neg (by omega)]; exact w
/-- a recurrence without what it shares -/
theorem ok_tidy (hp : g.2.2.2.2 = true) (F : FP h) {N : Nat} (hN : 1 ≤ N ∧ N ≤ 8) {p : Nat → Un} (hs : ∀ j, j < N → sz (p j) ≤ 1800) (hl : p (N - 1) ≠ pz) (H : FLf h N p) {Q : Hp → Prop} (q : ∀ h', Fr h h' Ltd → FLf h' N (tdF p N) → Q h') : CallV g m_X0_tidy (d + 5) [.ref 0, .ref 855, .int (nI (N - 1))] n h Q := by
  refine okV 2 rfl rfl (s_X0_tidy_0 hp l855 (by decide) (ok_clear hp t828 (fun h1 f1 G1 => ?_)))
  have H1 : FLf h1 N p := H.fr hN.2 f1 (fun x hx => by simp at hx; omega)
  refine w_td9 hp hN hs N 0 h1 (by omega) (F.fr f1) H1 G1 (fun h2 f2 H2 G2 => ?_)
  refine w_td43 hp hN hs hl N 0 h2 (by omega) ((F.fr f1).fr f2) (fun l hl => by dsimp only; rw [if_neg (by omega)]; exact H2 l hl) G2 (fun h3 f3 H3 => ?_)
  refine w_td84 hp hN (p := fun l => uq (p l) (gcF p N)) (c := iv (hd (uq (p (N - 1)) (gcF p N)))) N 0 h3 (by omega) (((F.fr f1).fr f2).fr f3) (fun l hl => by dsimp only; rw [if_neg (by omega)]; exact H3 l hl) (fun h4 f4 H4 => q h4 ((((f1.mono (by simp)).tr (f2.mono (by simp))).tr f3).tr f4) H4)
/-- how many first numbers it needs -/
theorem w_needs (hp : g.2.2.2.2 = true) {av : List Value} (F : FP h) {r : Nat} (hr : r < 8) {p : Un} (P : PI h (2601 + 2 * r) p) {Q : Int32 → Hp → Prop} (q : Q (nI (ndn p r 301)) h) : ∀ (k m : Nat), m + k = 301 → W_X0_needsOf g (d + 1) av (QI n Q) n 4 [some (.ref 855), some (.int (nI r)), some (.int (nI (ndn p r m))), some (.int (nI m))] [] h := by
  intro k
  induction k with
  | zero =>
    intro m hm
    refine s_X0_needsOf_4 hp l855 (by decide) ⟨fun _ => by rw [show m = 301 by omega]; exact qI q, fun c => absurd ?_ c⟩
    rw [show (300 : Int32) = nI 300 from rfl, nI_ltI (by omega) (by omega)]; omega
  | succ k ih =>
    intro m hm
    have j30 : ∀ v : Nat, v = ndn p r (m + 1) → W_X0_needsOf g (d + 1) av (QI n Q) n 30 [some (.ref 855), some (.int (nI r)), none, some (.int (nI m))] [.int (nI v)] h := by
      intro v ev
      refine s_X0_needsOf_30 hp l855 (by decide) ?_
      rw [show (1 : Int32) = nI 1 from rfl, nI_addz, ev]
      exact ih (m + 1) (by omega)
    refine s_X0_needsOf_4 hp l855 (by decide) ⟨fun c => absurd c ?_, fun _ => ⟨nI_inL hr (by omega), 2601 + 2 * r, ?_, fr_lay hr, ?_⟩⟩
    · rw [show (300 : Int32) = nI 300 from rfl, nI_ltI (by omega) (by omega)]; omega
    · rw [nI_tN (by omega)]; exact F r hr
    · rw [show nI m = toI (nF m) from (toI_nF (by omega)).symm]
      refine ok_value hp (fr_lay hr) P ?_
      rw [toI_eq0, toI_nF (by omega), show (1 : Int32) = nI 1 from rfl, nI_addz, nI_addz]
      refine ⟨fun c => j30 _ ?_, fun c => j30 _ ?_⟩
      · show _ = if ev p (nF m) = 0 then r + 1 + m else ndn p r m
        rw [if_neg c]
      · show _ = if ev p (nF m) = 0 then r + 1 + m else ndn p r m
        rw [if_pos c]
theorem ok_needsOf (hp : g.2.2.2.2 = true) (F : FP h) {r : Nat} (hr : r < 8) {p : Un} (P : PI h (2601 + 2 * r) p) {Q : Int32 → Hp → Prop} (q : Q (nI (ndn p r 301)) h) : CallI g m_X0_needsOf (d + 2) [.ref 855, .int (nI r)] n h Q :=
  okI 2 rfl rfl (s_X0_needsOf_0 hp l855 (by decide) (w_needs hp F hr P q 301 0 (by omega)))
end
