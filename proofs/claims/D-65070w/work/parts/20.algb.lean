set_option maxRecDepth 100000
/-! ALGEBRA: what a cleared board tells -/
section
variable {R : Type}
def kerv [Lean.Grind.CommRing R] (L N : Nat) (A : Nat → Nat → R) (z : Nat → R) : Prop := ∀ i, i < L → sm (fun j => A i j * z j) N = 0
def hang [Lean.Grind.CommRing R] (L N : Nat) (A : Nat → Nat → R) (j : Nat) : Prop := ∃ z, kerv L N A z ∧ z j ≠ 0 ∧ ∀ l, j < l → z l = 0
/-- h is the first column from one on that hangs on those before it, z tells how; columns before that hang themselves aren't used -/
def isSol [Lean.Grind.CommRing R] (L N : Nat) (A : Nat → Nat → R) (from0 h : Nat) (z : Nat → R) : Prop := h < N ∧ from0 ≤ h ∧ kerv L N A z ∧ z h ≠ 0 ∧ (∀ l, h < l → z l = 0) ∧ (∀ j, j < h → z j ≠ 0 → ¬ hang L N A j) ∧ ∀ j, from0 ≤ j → j < h → ¬ hang L N A j
theorem kerv_comb [Lean.Grind.CommRing R] {L N : Nat} {A : Nat → Nat → R} {z w : Nat → R} (h1 : kerv L N A z) (h2 : kerv L N A w) (a b : R) : kerv L N A (fun j => a * z j - b * w j) := fun i hi => by
  have e : sm (fun j => A i j * (a * z j - b * w j)) N = sm (fun j => a * (A i j * z j) + (- b) * (A i j * w j)) N := sm_congr (fun j _ => by grind)
  rw [e, sm_add, sm_mul, sm_mul, h1 i hi, h2 i hi]; grind
/-- one that is not 0 has a last place -/
theorem last_ex [Lean.Grind.CommRing R] {z : Nat → R} : ∀ n, (∀ l, n ≤ l → z l = 0) → (∃ j, z j ≠ 0) → ∃ j, j < n ∧ z j ≠ 0 ∧ ∀ l, j < l → z l = 0 := by
  intro n
  induction n with
  | zero => intro h1 ⟨j, hj⟩; exact absurd (h1 j (by omega)) hj
  | succ n ih =>
    intro h1 h2
    by_cases e : z n = 0
    · obtain ⟨j, h3, h4, h5⟩ := ih (fun l hl => by
        by_cases q : l = n
        · rw [q]; exact e
        · exact h1 l (by omega)) h2
      exact ⟨j, by omega, h4, h5⟩
    · exact ⟨n, by omega, e, fun l hl => h1 l (by omega)⟩
/-- all such are one, up to numbers -/
theorem sol_uniq [Lean.Grind.CommRing R] (hD : Dom R) {L N f h h' : Nat} {A : Nat → Nat → R} {z z' : Nat → R} (h1 : isSol L N A f h z) (h2 : isSol L N A f h' z') : h = h' ∧ ∀ j, z' h * z j = z h * z' j := by
  have hh : h = h' := by
    rcases Nat.lt_trichotomy h h' with q | q | q
    · exact absurd ⟨z, h1.2.2.1, h1.2.2.2.1, h1.2.2.2.2.1⟩ (h2.2.2.2.2.2.2 h h1.2.1 q)
    · exact q
    · exact absurd ⟨z', h2.2.2.1, h2.2.2.2.1, h2.2.2.2.2.1⟩ (h1.2.2.2.2.2.2 h' h2.2.1 q)
  subst hh
  refine ⟨rfl, ?_⟩
  have key : ¬ ∃ j, z' h * z j - z h * z' j ≠ 0 := by
    intro hne
    obtain ⟨j, h3, h4, h5⟩ := last_ex (z := fun j => z' h * z j - z h * z' j) (h + 1) (fun l hl => by
      show z' h * z l - z h * z' l = 0
      rw [h1.2.2.2.2.1 l (by omega), h2.2.2.2.2.1 l (by omega)]; grind) hne
    have hk := kerv_comb h1.2.2.1 h2.2.2.1 (z' h) (z h)
    have hjh : j ≠ h := fun q => h4 (by show z' h * z j - z h * z' j = 0; rw [q]; grind)
    have hor : z j ≠ 0 ∨ z' j ≠ 0 := by
      refine Classical.byContradiction fun q => h4 ?_
      obtain ⟨q1, q2⟩ := not_or.mp q
      show z' h * z j - z h * z' j = 0
      rw [Classical.not_not.mp q1, Classical.not_not.mp q2]; grind
    rcases hor with q | q
    · exact h1.2.2.2.2.2.1 j (by omega) q ⟨_, hk, h4, h5⟩
    · exact h2.2.2.2.2.2.1 j (by omega) q ⟨_, hk, h4, h5⟩
  intro j
  have : z' h * z j - z h * z' j = 0 := Classical.not_not.mp fun q => key ⟨j, q⟩
  generalize z' h * z j = x at this ⊢
  generalize z h * z' j = y at this ⊢
  grind
theorem st_ker [Lean.Grind.CommRing R] {L N r c : Nat} {C : Nat → Nat} {d : R} {A M : Nat → Nat → R} (h : St L N r c C d A M) {z : Nat → R} (hz : kerv L N A z) (i : Nat) (hi : i < L) : sm (fun j => M i j * z j) N = 0 := by
  obtain ⟨h1, ⟨Y, h2⟩, h3, h4, h5, h6, h7, h8, h9⟩ := h
  have e : sm (fun j => M i j * z j) N = sm (fun j => (if i < r then 0 else d) * (A i j * z j) + sm (fun s => Y i s * (A s j * z j)) r) N := sm_congr (fun j hj => by
    rw [h2 i j hi hj]
    have e1 : sm (fun s => Y i s * (A s j * z j)) r = sm (fun s => Y i s * A s j) r * z j := by
      rw [← sm_mul']; exact sm_congr (fun s _ => by grind)
    rw [e1]
    split <;> grind)
  rw [e, sm_add, sm_mul, hz i hi, sm_swap]
  have e2 : sm (fun s => sm (fun j => Y i s * (A s j * z j)) N) r = 0 := sm_zero (fun s hs => by
    rw [sm_mul, hz s (by omega)]; grind)
  rw [e2]; grind
theorem st_nh [Lean.Grind.CommRing R] (hD : Dom R) {L N r c : Nat} {C : Nat → Nat} {d : R} {A M : Nat → Nat → R} (h : St L N r c C d A M) {u : Nat} (hu : u < r) : ¬ hang L N A (C u) := by
  intro ⟨z, hz, hne, hl⟩
  have h0 := st_ker h hz u (by have := h.2.2.2.2.1; omega)
  have hc := h.2.2.2.2.2.1 u hu
  have hcN := h.2.2.2.2.2.2.2.2
  rw [sm_one (k := C u) (by omega) (fun j hj hne => by
    rcases Nat.lt_or_gt_of_ne hne with q | q
    · rw [h.2.2.2.2.2.2.1 u j hu q]; grind
    · rw [hl j q]; grind), h.2.2.1 u u (by have := h.2.2.2.2.1; omega) hu, if_pos rfl] at h0
  rcases hD.1 _ _ h0 with q | q
  · exact h.1 q
  · exact hne q
theorem st_inj [Lean.Grind.CommRing R] {L N r c : Nat} {C : Nat → Nat} {d : R} {A M : Nat → Nat → R} (h : St L N r c C d A M) {u v : Nat} (hu : u < r) (hv : v < r) (e : C u = C v) : u = v := by
  refine Classical.byContradiction fun hne => h.1 ?_
  have h1 := h.2.2.1 u u (by have := h.2.2.2.2.1; omega) hu
  have h2 := h.2.2.1 u v (by have := h.2.2.2.2.1; omega) hv
  rw [if_pos rfl, e, h2, if_neg hne] at h1
  exact h1.symm
/-- how a free column hangs -/
theorem st_sol [Lean.Grind.CommRing R] (hD : Dom R) {L N r h : Nat} {C : Nat → Nat} {d : R} {A M : Nat → Nat → R} (H : St L N r h C d A M) (hN : h < N) (hz : ∀ i, r ≤ i → i < L → M i h = 0) {z : Nat → R} (z1 : z h = d) (z2 : ∀ u, u < r → z (C u) = - M u h) (z3 : ∀ j, j ≠ h → (∀ u, u < r → C u ≠ j) → z j = 0) : kerv L N A z := by
  have H' := H
  obtain ⟨h1, ⟨Y, h2⟩, h3, h4, h5, h6, h7, h8, h9⟩ := H
  have hsum : ∀ i, sm (fun j => A i j * z j) N = d * A i h - sm (fun u => A i (C u) * M u h) r := by
    intro i
    have key : ∀ m, m ≤ r → sm (fun j => A i j * (if j = h then d else if ∃ u, u < m ∧ C u = j then z j else 0)) N = d * A i h - sm (fun u => A i (C u) * M u h) m := by
      intro m
      induction m with
      | zero =>
        intro _
        rw [sm_one (k := h) hN (fun j _ hne => by rw [if_neg hne, if_neg (fun ⟨u, hu, _⟩ => by omega)]; grind), if_pos rfl]
        simp only [sm]; grind
      | succ m ih =>
        intro hm
        have e : sm (fun j => A i j * (if j = h then d else if ∃ u, u < m + 1 ∧ C u = j then z j else 0)) N = sm (fun j => A i j * (if j = h then d else if ∃ u, u < m ∧ C u = j then z j else 0) + (if j = C m then A i j * z j else 0)) N := sm_congr (fun j _ => by
          have hCm := h6 m (by omega)
          by_cases e1 : j = h
          · rw [if_pos e1, if_pos e1, if_neg (by omega)]; grind
          · rw [if_neg e1, if_neg e1]
            by_cases e2 : j = C m
            · rw [if_pos e2, if_pos ⟨m, by omega, e2.symm⟩, if_neg (fun ⟨u, hu, hc⟩ => by
                have := st_inj H' (u := u) (v := m) (by omega) (by omega) (hc.trans e2)
                omega)]
              grind
            · rw [if_neg e2]
              by_cases e3 : ∃ u, u < m ∧ C u = j
              · obtain ⟨u, hu, hc⟩ := e3
                rw [if_pos ⟨u, by omega, hc⟩, if_pos ⟨u, hu, hc⟩]; grind
              · rw [if_neg e3, if_neg (fun ⟨u, hu, hc⟩ => by
                  by_cases q : u = m
                  · exact e2 (by rw [← hc, q])
                  · exact e3 ⟨u, by omega, hc⟩)]
                grind)
        have hCm := h6 m (by omega)
        rw [e, sm_add, ih (by omega), sm_one (k := C m) (by omega) (fun j _ hne => if_neg hne), if_pos rfl, z2 m (by omega)]
        show _ = d * A i h - (sm (fun u => A i (C u) * M u h) m + A i (C m) * M m h)
        grind
    rw [← key r (Nat.le_refl _)]
    apply sm_congr
    intro j hj
    by_cases e1 : j = h
    · rw [if_pos e1, e1, z1]
    · rw [if_neg e1]
      by_cases e2 : ∃ u, u < r ∧ C u = j
      · rw [if_pos e2]
      · rw [if_neg e2, z3 j e1 (fun u hu q => e2 ⟨u, hu, q⟩)]
  have hxu : ∀ u, u < r → M u h = sm (fun s => Y u s * A s h) r := fun u hu => by
    rw [h2 u h (by omega) hN, if_pos hu]; grind
  have hYB : ∀ j k, j < r → k < r → sm (fun i => Y j i * (fun t u => A t (C u)) i k) r = if j = k then det r (fun t u => A t (C u)) else 0 := fun j k hj hk => by
    have hCk := h6 k hk
    have e := h2 j (C k) (by omega) (by omega)
    rw [if_pos hj, h3 j k (by omega) hk] at e
    show sm (fun i => Y j i * A i (C k)) r = _
    rw [h4, e]; grind
  have hlow : ∀ i, i < r → d * A i h - sm (fun u => A i (C u) * M u h) r = 0 := by
    intro i hi
    have e1 : sm (fun u => A i (C u) * M u h) r = sm (fun u => sm (fun s => A i (C u) * (Y u s * A s h)) r) r := sm_congr (fun u hu => by rw [hxu u hu, sm_mul])
    rw [e1, sm_swap]
    have e2 : sm (fun s => sm (fun u => A i (C u) * (Y u s * A s h)) r) r = sm (fun s => (if i = s then d else 0) * A s h) r := sm_congr (fun s hs => by
      have e3 := adj_right hD hYB (by rw [h4]; exact h1) i s hi hs
      rw [h4] at e3
      rw [← e3, ← sm_mul']
      exact sm_congr (fun u _ => by grind))
    rw [e2, sm_one (k := i) hi (fun s _ hne => by rw [if_neg (Ne.symm hne)]; grind), if_pos rfl]; grind
  intro i hi
  rw [hsum]
  by_cases hir : i < r
  · exact hlow i hir
  · refine dom_cancel hD h1 ?_
    have e1 := h2 i h hi hN
    rw [hz i (by omega) hi, if_neg hir] at e1
    have e2 : d * sm (fun u => A i (C u) * M u h) r = - sm (fun s => Y i s * sm (fun u => A s (C u) * M u h) r) r := by
      have e3 : d * sm (fun u => A i (C u) * M u h) r = sm (fun u => - sm (fun s => Y i s * (A s (C u) * M u h)) r) r := by
        rw [← sm_mul]
        refine sm_congr (fun u hu => ?_)
        have hCu := h6 u hu
        have e4 := h2 i (C u) hi (by omega)
        rw [h3 i u hi hu, if_neg (by omega), if_neg hir] at e4
        have e5 : sm (fun s => Y i s * (A s (C u) * M u h)) r = sm (fun s => Y i s * A s (C u)) r * M u h := by
          rw [← sm_mul']; exact sm_congr (fun s _ => by grind)
        rw [e5]
        generalize sm (fun s => Y i s * A s (C u)) r = S at e4 ⊢
        have : S = - (d * A i (C u)) := by grind
        rw [this]; grind
      rw [e3, sm_neg, sm_swap]
      congr 1
      exact sm_congr (fun s _ => sm_mul _ _ _)
    have e6 : sm (fun s => Y i s * sm (fun u => A s (C u) * M u h) r) r = sm (fun s => Y i s * (d * A s h)) r := sm_congr (fun s hs => by
      have := hlow s hs
      have e7 : sm (fun u => A s (C u) * M u h) r = d * A s h := by
        generalize sm (fun u => A s (C u) * M u h) r = X at this ⊢
        generalize d * A s h = Z at this ⊢
        grind
      rw [e7])
    have e8 : sm (fun s => Y i s * (d * A s h)) r = d * sm (fun s => Y i s * A s h) r := by
      rw [← sm_mul]; exact sm_congr (fun s _ => by grind)
    rw [e6, e8] at e2
    generalize sm (fun u => A i (C u) * M u h) r = X at e2 ⊢
    generalize sm (fun s => Y i s * A s h) r = Z at e1 e2
    have e9 : Z = - (d * A i h) := by grind
    rw [e9] at e2
    grind
end
