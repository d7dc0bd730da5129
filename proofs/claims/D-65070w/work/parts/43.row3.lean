set_option maxRecDepth 100000
/-! ROWS: kept; the operation row -/
section
variable {g : GX} {d n : Nat} {h h' h1 : Hp} {S : SS} {s : Nat}
/-- a row out of a recurrence with N polynomials: its slot -/
def rowSV (p : Nat → Un) (N m : Nat) (f : List Fp) : SV := svW (lsF p N) m f
def fitF (p : Nat → Un) (N : Nat) : Prop := ∀ j, j < N → sz (p j) ≤ 25
theorem LA_ls {p : Nat → Un} {N : Nat} (hN : 1 ≤ N) (e : ri h (slc s) 3 = nI (N - 1)) (H : ∀ j, j < N → PI h (slc s + 13 + 2 * j) (p j)) : LA h (slc s) (lsF p N) := by
  refine ⟨by rw [lsF_len]; exact e, fun j hj => ?_⟩
  rw [lsF_len] at hj
  rw [lsF_get p hj]
  exact H j hj
theorem gA_ls {p : Nat → Un} {N M : Nat} (hN : 1 ≤ N) (hM : N ≤ M) (hf : fitF p N) : gA (lsF p N) M := by
  refine ⟨by rw [lsF_len]; exact hN, by rw [lsF_len]; exact hM, fun j hj => ?_⟩
  rw [lsF_len] at hj
  rw [lsF_get p hj]
  exact hf j hj
abbrev Lrw (s : Nat) : List Nat := [slc s, slc s + 13, slc s + 14, slc s + 15, slc s + 16, slc s + 17, slc s + 18, slc s + 19, slc s + 20, slc s + 21, slc s + 22, slc s + 23, slc s + 24, slc s + 25, slc s + 26]
theorem Wq.lrw (hs : s < 12) (f : Fr h h1 (Lrw s)) : Wq s h h1 := Wq.of_fr f (fun x hx => by have hsc : slc s = 1185 + 27 * s := rfl; simp only [Lrw, List.mem_cons, List.not_mem_nil, or_false] at hx; omega)
/-- copied into the slot -/
theorem w_kr117 (hp : g.2.2.2.2 = true) (hs : s < 12) {av : List Value} {p : Nat → Un} {N m : Nat} (hN : 1 ≤ N ∧ N ≤ 7) (hf : fitF p N) {Q : Int32 → Hp → Prop} : ∀ (k j : Nat) (h : Hp), j + k = N → FLf h N p → ri h 0 62 = nI (N - 1) → ri h (slc s) 3 = nI (N - 1) → ri h (slc s) 0 = nI 4 → (∀ l, l < j → PI h (slc s + 13 + 2 * l) (p l)) → (∀ h', Fr h h' (Lrw s) → ri h' (slc s) 0 = nI 4 → ri h' (slc s) 3 = nI (N - 1) → ri h' (slc s) 4 = nI m → ri h' (slc s) 5 = 0 → ri h' (slc s) 7 = 0 → (∀ l, l < N → PI h' (slc s + 13 + 2 * l) (p l)) → Q (nI (N - 1)) h') → W_X0_keepRow g (d + 1) av (QI n Q) n 117 [some (.ref 0), none, none, some (.int (nI m)), none, some (.ref (slc s)), some (.int (nI j))] [] h := by
  have ts := slc_lay hs
  have hsc : slc s = 1185 + 27 * s := rfl
  intro k
  induction k with
  | zero =>
    intro j h hj F e62 e3 e0 P q
    refine s_X0_keepRow_117 hp ts ⟨fun _ h1 e1 h2 e2 h3 e3' => ?_, fun c => absurd ?_ c⟩
    · have fr : Fr h h3 (Lrw s) := by
        rw [e3', e2, e1]
        exact ((Fr.rf.put (by simp) (okp_o ts (Or.inr (by decide)))).put (by simp) (okp_o ts (Or.inr (by decide)))).put (by simp) (okp_o ts (Or.inr (by decide)))
      have fr' : Fr h h3 [slc s] := by
        rw [e3', e2, e1]
        exact ((Fr.rf.put (by simp) (okp_o ts (Or.inr (by decide)))).put (by simp) (okp_o ts (Or.inr (by decide)))).put (by simp) (okp_o ts (Or.inr (by decide)))
      have r62 : ri h3 0 62 = nI (N - 1) := by rw [fr.gi (by simp; omega)]; exact e62
      rw [r62]
      refine qI (q h3 fr ?_ ?_ ?_ ?_ ?_ (fun l hl => (P l (by omega)).fr fr' (by simp; omega) (by simp; omega)))
      · rw [e3', ri_ne' (by omega), e2, ri_ne' (by omega), e1, ri_ne' (by omega)]; exact e0
      · rw [e3', ri_ne' (by omega), e2, ri_ne' (by omega), e1, ri_ne' (by omega)]; exact e3
      · rw [e3', ri_ne' (by omega), e2, ri_ne' (by omega), e1, ri_same]
      · rw [e3', ri_ne' (by omega), e2, ri_same]
      · rw [e3', ri_same]
    · rw [e62, nI_ltI (by omega) (by omega)]; omega
  | succ k ih =>
    intro j h hj F e62 e3 e0 P q
    refine s_X0_keepRow_117 hp ts ⟨fun c => absurd c ?_, fun _ => ⟨nI_inL (by omega) (by omega), fun r4 e4 => ⟨nI_inL (by omega) (by omega), fun r5 e5 => ?_⟩⟩⟩
    · rw [e62, nI_ltI (by omega) (by omega)]; omega
    · rw [nI_tN (by omega)] at e4 e5
      subst e4; subst e5
      refine ok_copy hp (lay_sa hs (by omega)) (fr_lay (by omega)) (F j (by omega)) (by rw [rm_sa hs (by omega)]; have := hf j (by omega); omega) (fun h6 f6 P6 => ?_)
      have f6' : Fr h h6 (Lrw s) := f6.mono (fun x hx => by simp at hx ⊢; omega)
      have n6 : ∀ x k, x ≠ slc s + 13 + 2 * j → x ≠ slc s + 13 + 2 * j + 1 → ri h6 x k = ri h x k := fun x k a b => f6.gi (by simp; omega) k
      rw [show (1 : Int32) = nI 1 from rfl, nI_addz]
      refine ih (j + 1) h6 (by omega) (F.fr (by omega) f6 (fun x hx => by simp at hx; omega)) (by rw [n6 _ _ (by omega) (by omega)]; exact e62) (by rw [n6 _ _ (by omega) (by omega)]; exact e3) (by rw [n6 _ _ (by omega) (by omega)]; exact e0) (fun l hl => ?_) (fun h' f' => q h' (f6'.tr f'))
      by_cases c : l = j
      · rw [c]; exact P6
      · exact (P l (by omega)).fr f6 (by simp; omega) (by simp; omega)
theorem w_kr41 (hp : g.2.2.2.2 = true) (hs : s < 12) {av : List Value} {p : Nat → Un} {N m : Nat} (hN : 1 ≤ N ∧ N ≤ 8) (F : FLf h N p) (e62 : ri h 0 62 = nI (N - 1)) {Q : Int32 → Hp → Prop} (q1 : (m ≤ 60 ∧ N ≤ 7) → fitF p N → ∀ h', Fr h h' (Lrw s) → ri h' (slc s) 0 = nI 4 → ri h' (slc s) 3 = nI (N - 1) → ri h' (slc s) 4 = nI m → ri h' (slc s) 5 = 0 → ri h' (slc s) 7 = 0 → (∀ l, l < N → PI h' (slc s + 13 + 2 * l) (p l)) → Q (nI (N - 1)) h') (q0 : ¬ ((m ≤ 60 ∧ N ≤ 7) ∧ fitF p N) → Q (-2) h) : ∀ (k j : Nat) (b : Bool), j + k = N → (b = true ↔ (m ≤ 60 ∧ N ≤ 7) ∧ ∀ l, l < j → sz (p l) ≤ 25) → W_X0_keepRow g (d + 1) av (QI n Q) n 41 [some (.ref 0), some (.int (nI s)), none, some (.int (nI m)), some (.int (if b = true then 1 else 0)), some (.int (nI j)), none] [] h := by
  have ts := slc_lay hs
  have hsc : slc s = 1185 + 27 * s := rfl
  intro k
  induction k with
  | zero =>
    intro j b hj hb
    refine s_X0_keepRow_41 hp ⟨fun _ => ?_, fun c => absurd ?_ c⟩
    · rw [powB]
      refine ⟨fun c => ⟨nI_inL hs (by omega), fun r1 er h2 e2 h3 e3 => ?_⟩, fun c => qI (q0 (fun w => ?_))⟩
      · rw [nI_tN (by omega)] at er; subst er
        have hb' := hb.mp (by simpa using c)
        have x62 : ri h2 0 62 = nI (N - 1) := by rw [e2, ri_ne (by omega)]; exact e62
        rw [x62] at e3
        have fr : Fr h h3 (Lrw s) := by
          rw [e3, e2]; exact (Fr.rf.put (by simp) (okp_o ts (Or.inr (by decide)))).put (by simp) (okp_o ts (Or.inr (by decide)))
        have fr' : Fr h h3 [slc s] := by
          rw [e3, e2]; exact (Fr.rf.put (by simp) (okp_o ts (Or.inr (by decide)))).put (by simp) (okp_o ts (Or.inr (by decide)))
        refine w_kr117 hp hs (p := p) (N := N) (m := m) (by omega) (fun l hl => hb'.2 l (by omega)) N 0 h3 (by omega) (F.fr (by omega) fr' (fun x hx => by simp at hx; omega)) (by rw [fr.gi (by simp; omega)]; exact e62) (by rw [e3, ri_same]) (by rw [e3, ri_ne' (by omega), e2, ri_same]; rfl) (fun l hl => absurd hl (Nat.not_lt_zero _)) (fun h' f' => q1 hb'.1 (fun l hl => hb'.2 l (by omega)) h' (fr.tr f'))
      · rw [c] at hb
        have := hb.mpr ⟨w.1, fun l hl => w.2 l (by omega)⟩
        cases this
    · rw [e62, nI_ltI (by omega) (by omega)]; omega
  | succ k ih =>
    intro j b hj hb
    have j75 : ∀ b' : Bool, (b' = true ↔ (m ≤ 60 ∧ N ≤ 7) ∧ ∀ l, l < j + 1 → sz (p l) ≤ 25) → W_X0_keepRow g (d + 1) av (QI n Q) n 75 [some (.ref 0), some (.int (nI s)), none, some (.int (nI m)), none, some (.int (nI j)), none] [.int (if b' = true then 1 else 0)] h := by
      intro b' hb'
      refine s_X0_keepRow_75 hp ?_
      rw [show (1 : Int32) = nI 1 from rfl, nI_addz]
      exact ih (j + 1) b' (by omega) hb'
    have j74 : ¬ ((m ≤ 60 ∧ N ≤ 7) ∧ ∀ l, l < j + 1 → sz (p l) ≤ 25) → W_X0_keepRow g (d + 1) av (QI n Q) n 74 [some (.ref 0), some (.int (nI s)), none, some (.int (nI m)), none, some (.int (nI j)), none] [] h := fun w => s_X0_keepRow_74 hp (j75 false ⟨fun c => absurd c (by decide), fun c => absurd c w⟩)
    have P := F j (by omega)
    have ps := P.lt
    refine s_X0_keepRow_41 hp ⟨fun c => absurd c ?_, fun _ => ?_⟩
    · rw [e62, nI_ltI (by omega) (by omega)]; omega
    · rw [powB]
      refine ⟨fun c => j74 (fun w => ?_), fun c => ⟨nI_inL (by omega) (by omega), fun r4 e4 => ?_⟩⟩
      · rw [c] at hb
        have := hb.mpr ⟨w.1, fun l hl => w.2 l (by omega)⟩
        cases this
      · rw [nI_tN (by omega)] at e4; subst e4
        have hb' := hb.mp (by simpa using c)
        rw [P.1, show (25 : Int32) = nI 25 from rfl, nI_ltI (by omega) (by omega)]
        refine ⟨fun c2 => j74 (fun w => by have := w.2 j (by omega); omega), fun c2 => j75 true ⟨fun _ => ⟨hb'.1, fun l hl => ?_⟩, fun _ => rfl⟩⟩
        by_cases e : l = j
        · rw [e]; omega
        · exact hb'.2 l (by omega)
/-- the recurrence becomes a row, or is too large -/
theorem ok_keepRow (hp : g.2.2.2.2 = true) (hs : s < 12) (FPh : FP h) {p : Nat → Un} {N least : Nat} (hN : 1 ≤ N ∧ N ≤ 8) (hle : least ≤ 1000) (F : FLf h N p) (e62 : ri h 0 62 = nI (N - 1)) {Q : Int32 → Hp → Prop} (q1 : (max least (ndn (p (N - 1)) (N - 1) 301) ≤ 60 ∧ N ≤ 7) → fitF p N → ∀ h', Fr h h' (Lrw s) → ri h' (slc s) 0 = nI 4 → ri h' (slc s) 3 = nI (N - 1) → ri h' (slc s) 4 = nI (max least (ndn (p (N - 1)) (N - 1) 301)) → ri h' (slc s) 5 = 0 → ri h' (slc s) 7 = 0 → (∀ l, l < N → PI h' (slc s + 13 + 2 * l) (p l)) → Q (nI (N - 1)) h') (q0 : ¬ ((max least (ndn (p (N - 1)) (N - 1) 301) ≤ 60 ∧ N ≤ 7) ∧ fitF p N) → Q (-2) h) : CallI g m_X0_keepRow (d + 3) [.ref 0, .int (nI s), .int (nI least)] n h Q := by
  have nb := ndn_le (p (N - 1)) (N - 1) 301
  refine okI 4 rfl rfl (s_X0_keepRow_0 hp ?_)
  rw [e62]
  refine ok_needsOf hp FPh (by omega) (F (N - 1) (by omega)) (ok_maxN hp (by omega) (by omega) ?_)
  rw [e62, show (60 : Int32) = nI 60 from rfl, nI_ltI (by omega) (by omega), show (6 : Int32) = nI 6 from rfl, nI_ltI (by omega) (by omega)]
  have j36 : ∀ b : Bool, (b = true ↔ (max least (ndn (p (N - 1)) (N - 1) 301) ≤ 60 ∧ N ≤ 7)) → W_X0_keepRow g (d + 2) [.ref 0, .int (nI s), .int (nI least)] (QI n Q) n 36 [some (.ref 0), some (.int (nI s)), none, some (.int (nI (max least (ndn (p (N - 1)) (N - 1) 301)))), none, none, none] [.int (if b = true then 1 else 0)] h := by
    intro b hb
    refine s_X0_keepRow_36 hp ?_
    exact w_kr41 hp hs hN F e62 q1 q0 N 0 b (by omega) ⟨fun c => ⟨hb.mp c, fun l hl => absurd hl (Nat.not_lt_zero _)⟩, fun c => hb.mpr c.1⟩
  refine ⟨fun c => s_X0_keepRow_35 hp (j36 false ⟨fun c => absurd c (by decide), fun w => by omega⟩), fun c => ⟨fun c2 => s_X0_keepRow_35 hp (j36 false ⟨fun c => absurd c (by decide), fun w => by omega⟩), fun c2 => j36 true ⟨fun _ => by omega, fun _ => rfl⟩⟩⟩
end
