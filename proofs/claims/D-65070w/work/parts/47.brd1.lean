set_option maxRecDepth 100000
/-! THE BOARD: sizes of what stands on it, how it tells a solution -/
section
variable {R : Type}
theorem det_col0 [Lean.Grind.CommRing R] (n j0 : Nat) (A : Nat → Nat → R) (hj : j0 < n) (h : ∀ i, A i j0 = 0) : det n A = 0 := by
  have e := det_col n j0 A A A 1 hj (fun i j _ => ⟨rfl, rfl⟩) (fun i => by rw [h i]; grind)
  generalize det n A = x at e
  grind
/-- what stands above the rank: a determinant with a column put in -/
theorem st_low [Lean.Grind.CommRing R] (hD : Dom R) {L N r c : Nat} {C : Nat → Nat} {d : R} {A M : Nat → Nat → R} (h : St L N r c C d A M) {i j : Nat} (hi : i < r) (hj : j < N) : M i j = det r (fun t u => A t (if u = i then j else C u)) := by
  obtain ⟨h1, ⟨Y, h2⟩, h3, h4, h5, h6, h7, h8, h9⟩ := h
  have hN : ∀ u, u < r → C u < N := fun u hu => by have := h6 u hu; omega
  have hY : ∀ a u, a < r → u < r → sm (fun s => Y a s * A s (C u)) r = if a = u then det r (fun t u => A t (C u)) else 0 := fun a u ha hu => by
    rw [h4, ← h3 a u (by omega) hu, h2 a (C u) (by omega) (hN u hu), if_pos ha]; grind
  have hR := adj_right hD (B := fun t u => A t (C u)) (T := Y) hY (by rw [h4]; exact h1)
  -- rows from r on play no part
  have eA : ∀ f : Nat → Nat, det r (fun t u => A t (f u)) = det r (fun t u => if t < r then A t (f u) else 0) := fun f => det_congr r _ _ (fun t u ht _ => by rw [if_pos ht])
  -- d times the column is a sum of the others
  have hv : ∀ t, (if t < r then A t j else 0) * d = sm (fun u => (if t < r then A t (C u) else 0) * M u j) r := fun t => by
    by_cases ht : t < r
    · simp only [if_pos ht]
      have e1 : sm (fun u => A t (C u) * M u j) r = sm (fun u => sm (fun s => A t (C u) * Y u s * A s j) r) r := sm_congr fun u hu => by
        rw [h2 u j (by omega) hj, if_pos hu]
        have e0 : (0 : R) + sm (fun s => Y u s * A s j) r = sm (fun s => Y u s * A s j) r := by grind
        rw [e0, ← sm_mul]
        exact sm_congr fun s _ => by grind
      rw [e1, sm_swap]
      have e2 : sm (fun s => sm (fun u => A t (C u) * Y u s * A s j) r) r = sm (fun s => (if t = s then d else 0) * A s j) r := sm_congr fun s hs => by
        rw [sm_mul', hR t s ht hs, h4]
      rw [e2, sm_one ht (fun s hs hst => by rw [if_neg (Ne.symm hst)]; grind), if_pos rfl]; grind
    · simp only [if_neg ht]
      rw [sm_zero (fun u _ => by grind)]; grind
  have alt := det_altc (R := R) r
  have key : ∀ m, m ≤ r → det r (fun t u => if u = i then sm (fun w => (if t < r then A t (C w) else 0) * M w j) m else (if t < r then A t (C u) else 0)) = (if i < m then M i j else 0) * d := by
    intro m
    induction m with
    | zero =>
      intro _
      rw [if_neg (by omega), det_col0 r i _ hi (fun t => by rw [if_pos rfl]; rfl)]; grind
    | succ m ih =>
      intro hm
      have ihm := ih (by omega)
      have e := det_col r i (fun t u => if u = i then sm (fun w => (if t < r then A t (C w) else 0) * M w j) (m + 1) else (if t < r then A t (C u) else 0)) (fun t u => if u = i then sm (fun w => (if t < r then A t (C w) else 0) * M w j) m else (if t < r then A t (C u) else 0)) (fun t u => if u = i then (if t < r then A t (C m) else 0) else (if t < r then A t (C u) else 0)) (M m j) hi (fun t u hu => by simp only [if_neg hu]; exact ⟨trivial, trivial⟩) (fun t => by
        simp only [if_true]
        show sm (fun w => (if t < r then A t (C w) else 0) * M w j) m + (if t < r then A t (C m) else 0) * M m j = _
        grind)
      rw [e, ihm]
      by_cases hmi : m = i
      · subst hmi
        have e5 : det r (fun t u => if u = m then (if t < r then A t (C m) else 0) else (if t < r then A t (C u) else 0)) = d := by
          rw [← h4]
          refine det_congr r _ _ (fun t u ht _ => ?_)
          by_cases q : u = m
          · rw [if_pos q, if_pos ht, q]
          · rw [if_neg q, if_pos ht]
        rw [e5, if_neg (by omega), if_pos (by omega)]; grind
      · have e6 : det r (fun t u => if u = i then (if t < r then A t (C m) else 0) else (if t < r then A t (C u) else 0)) = 0 := by
          have := alt.same (i := i) (j := m) hi (by omega) (Ne.symm hmi) (fun u t => if u = i then (if t < r then A t (C m) else 0) else (if t < r then A t (C u) else 0)) (by
            funext t
            rw [if_pos rfl, if_neg hmi])
          exact this
        rw [e6]
        by_cases q : i < m
        · rw [if_pos q, if_pos (by omega)]; grind
        · rw [if_neg q, if_neg (by omega)]; grind
  have kr := key r (Nat.le_refl _)
  rw [if_pos hi] at kr
  have e7 : det r (fun t u => if u = i then sm (fun w => (if t < r then A t (C w) else 0) * M w j) r else (if t < r then A t (C u) else 0)) = d * det r (fun t u => A t (if u = i then j else C u)) := by
    have e8 := det_col r i (fun t u => if u = i then sm (fun w => (if t < r then A t (C w) else 0) * M w j) r else (if t < r then A t (C u) else 0)) (fun t u => if u = i then (0 : R) else (if t < r then A t (C u) else 0)) (fun t u => if u = i then (if t < r then A t j else 0) else (if t < r then A t (C u) else 0)) d hi (fun t u hu => by simp only [if_neg hu]; exact ⟨trivial, trivial⟩) (fun t => by
      simp only [if_true]
      rw [← hv t]; grind)
    rw [e8, det_col0 r i _ hi (fun t => by rw [if_pos rfl])]
    have e9 : det r (fun t u => if u = i then (if t < r then A t j else 0) else (if t < r then A t (C u) else 0)) = det r (fun t u => A t (if u = i then j else C u)) := det_congr r _ _ (fun t u ht _ => by
      by_cases q : u = i
      · rw [if_pos q, if_pos ht, if_pos q]
      · rw [if_neg q, if_pos ht, if_neg q])
    rw [e9]; grind
  rw [e7] at kr
  have kr' : d * det r (fun t u => A t (if u = i then j else C u)) = d * M i j := by rw [kr]; grind
  exact (dom_cancel hD h1 kr').symm
/-- what stands below it: a determinant of one more -/
theorem st_high [Lean.Grind.CommRing R] (hD : Dom R) {L N r c : Nat} {C : Nat → Nat} {d : R} {A M : Nat → Nat → R} (h : St L N r c C d A M) {i j : Nat} (hi : r ≤ i) (hiL : i < L) (hj : j < N) : M i j = det (r + 1) (fun t u => A (if t = r then i else t) (if u = r then j else C u)) := by
  obtain ⟨h1, ⟨Y, h2⟩, h3, h4, h5, h6, h7, h8, h9⟩ := h
  have hN : ∀ u, u < r → C u < N := fun u hu => by have := h6 u hu; omega
  -- the last row becomes M's
  have key : ∀ m, m ≤ r → det (r + 1) (fun t u => if t = r then d * A i (if u = r then j else C u) + sm (fun s => Y i s * A s (if u = r then j else C u)) m else A t (if u = r then j else C u)) = d * det (r + 1) (fun t u => A (if t = r then i else t) (if u = r then j else C u)) := by
    intro m
    induction m with
    | zero =>
      intro _
      have e := (det_alt (R := R) (r + 1)).scale (i := r) (by omega) (fun t u => A (if t = r then i else t) (if u = r then j else C u)) d (fun u => A i (if u = r then j else C u))
      have e1 : udt (fun t u => A (if t = r then i else t) (if u = r then j else C u)) r (fun u => A i (if u = r then j else C u)) = (fun t u => A (if t = r then i else t) (if u = r then j else C u)) := by
        funext t u
        unfold udt
        by_cases q : t = r
        · rw [if_pos q, if_pos q]
        · rw [if_neg q]
      rw [e1] at e
      have e' : det (r + 1) (udt (fun t u => A (if t = r then i else t) (if u = r then j else C u)) r (fun u => d * A i (if u = r then j else C u))) = d * det (r + 1) (fun t u => A (if t = r then i else t) (if u = r then j else C u)) := e
      rw [← e']
      refine det_congr (r + 1) _ _ (fun t u _ _ => ?_)
      unfold udt
      by_cases q : t = r
      · rw [if_pos q, if_pos q]
        show d * A i _ + 0 = _
        grind
      · rw [if_neg q, if_neg q]
        dsimp only
        rw [if_neg q]
    | succ m ih =>
      intro hm
      rw [← ih (by omega)]
      have e := (det_alt (R := R) (r + 1)).addrow (i := r) (j := m) (by omega) (by omega) (by omega) (fun t u => if t = r then d * A i (if u = r then j else C u) + sm (fun s => Y i s * A s (if u = r then j else C u)) m else A t (if u = r then j else C u)) (Y i m)
      have e' : det (r + 1) (udt (fun t u => if t = r then d * A i (if u = r then j else C u) + sm (fun s => Y i s * A s (if u = r then j else C u)) m else A t (if u = r then j else C u)) r (fun u => (if r = r then d * A i (if u = r then j else C u) + sm (fun s => Y i s * A s (if u = r then j else C u)) m else A r (if u = r then j else C u)) + Y i m * (if m = r then d * A i (if u = r then j else C u) + sm (fun s => Y i s * A s (if u = r then j else C u)) m else A m (if u = r then j else C u)))) = det (r + 1) (fun t u => if t = r then d * A i (if u = r then j else C u) + sm (fun s => Y i s * A s (if u = r then j else C u)) m else A t (if u = r then j else C u)) := e
      rw [← e']
      refine det_congr (r + 1) _ _ (fun t u _ _ => ?_)
      unfold udt
      by_cases q : t = r
      · rw [if_pos q, if_pos q, if_pos rfl, if_neg (show ¬ m = r by omega)]
        show _ + (sm (fun s => Y i s * A s (if u = r then j else C u)) m + Y i m * A m (if u = r then j else C u)) = _
        grind
      · rw [if_neg q, if_neg q]
        dsimp only
        rw [if_neg q]
  have kr := key r (Nat.le_refl _)
  have el : det (r + 1) (fun t u => if t = r then d * A i (if u = r then j else C u) + sm (fun s => Y i s * A s (if u = r then j else C u)) r else A t (if u = r then j else C u)) = det r (fun t u => A t (C u)) * M i j := by
    have e1 : det (r + 1) (fun t u => if t = r then d * A i (if u = r then j else C u) + sm (fun s => Y i s * A s (if u = r then j else C u)) r else A t (if u = r then j else C u)) = det (r + 1) (fun t u => if t = r then (if u = r then M i j else 0) else A t (if u = r then j else C u)) := det_congr (r + 1) _ _ (fun t u ht hu => by
      by_cases q : t = r
      · rw [if_pos q, if_pos q]
        by_cases q2 : u = r
        · rw [if_pos q2, if_pos q2, h2 i j hiL hj, if_neg (by omega)]
        · rw [if_neg q2, if_neg q2]
          have h3' := h3 i u hiL (by omega)
          rw [h2 i (C u) hiL (hN u (by omega)), if_neg (by omega), if_neg (by omega)] at h3'
          exact h3'
      · rw [if_neg q, if_neg q])
    rw [e1, det_last r _ (fun u hu => by rw [if_pos rfl, if_neg (by omega)])]
    rw [if_pos rfl, if_pos rfl]
    congr 1
    exact det_congr r _ _ (fun t u ht hu => by rw [if_neg (by omega), if_neg (by omega)])
  rw [el, h4] at kr
  exact dom_cancel hD h1 kr
end
theorem nsm_const (W : Nat) : ∀ n, nsm (fun _ => W) n = n * W
  | 0 => by show 0 = 0 * W; omega
  | n + 1 => by show nsm (fun _ => W) n + W = _; rw [nsm_const W n, Nat.succ_mul]
/-- sizes stay bounded -/
theorem st_sz {L N r c : Nat} {C : Nat → Nat} {d : Un} {A M : Nat → Nat → Un} {W : Nat} (h : @St Un (plRing Fp) L N r c C d A M) (hA : ∀ i j, i < L → j < N → szle (A i j) (W + 1)) {i j : Nat} (hi : i < L) (hj : j < N) : szle (M i j) (N * W + 1) := by
  have h5 := h.2.2.2.2.1
  have h6 := h.2.2.2.2.2.1
  have h8 := h.2.2.2.2.2.2.2.1
  have h9 := h.2.2.2.2.2.2.2.2
  have hrN : r ≤ N := by
    -- r columns, all different, ahead of c
    have inj := fun u v hu hv e => @st_inj Un (plRing Fp) L N r c C d A M h u v hu hv e
    refine Nat.le_of_not_lt fun w => ?_
    obtain ⟨a, b, ha, hb, hab, e⟩ : ∃ a b, a < N + 1 ∧ b < N + 1 ∧ a ≠ b ∧ C a = C b := by
      refine Classical.byContradiction fun q => ?_
      have := php (N + 1) (fun u => if u < N + 1 then C u else u) (fun u hu => by rw [if_pos hu]; have := h6 u (by omega); omega) (fun u v hu hv e => by
        rw [if_pos hu, if_pos hv] at e
        exact Classical.byContradiction fun q2 => q ⟨u, v, hu, hv, q2, e⟩) N (by omega)
      obtain ⟨u, hu, e⟩ := this
      rw [if_pos hu] at e
      have := h6 u (by omega)
      omega
    exact hab (inj (u := a) (v := b) (by omega) (by omega) e)
  have hC : ∀ u, u < r → C u < N := fun u hu => by have := h6 u hu; omega
  by_cases q : i < r
  · rw [@st_low Un (plRing Fp) un_dom L N r c C d A M h i j q hj]
    have := det_szle r (fun t u => A t (if u = i then j else C u)) (fun _ => W) (fun t u ht hu => hA t _ (by omega) (by split; exact hj; exact hC u hu))
    rw [nsm_const] at this
    exact szle_mono this (by have := Nat.mul_le_mul_right W hrN; omega)
  · by_cases q2 : j < c
    · rw [h8 i j (by omega) hi q2]
      exact fun l hl => co_z l
    · have hr1 : r + 1 ≤ N := by
        have inj := fun u v hu hv e => @st_inj Un (plRing Fp) L N r c C d A M h u v hu hv e
        refine Nat.le_of_not_lt fun w => ?_
        have hrN' : r = N := by omega
        -- r = N columns ahead of c <= j < N: one too many
        have := php N (fun u => if u < N then C u else u) (fun u hu => by rw [if_pos hu]; exact hC u (by omega)) (fun u v hu hv e => by
          rw [if_pos hu, if_pos hv] at e
          exact inj (u := u) (v := v) (by omega) (by omega) e) j hj
        obtain ⟨u, hu, e⟩ := this
        rw [if_pos hu] at e
        have := h6 u (by omega)
        omega
      rw [@st_high Un (plRing Fp) un_dom L N r c C d A M h i j (by omega) hi hj]
      have := det_szle (r + 1) (fun t u => A (if t = r then i else t) (if u = r then j else C u)) (fun _ => W) (fun t u ht hu => hA _ _ (by split <;> omega) (by split; exact hj; exact hC u (by omega)))
      rw [nsm_const] at this
      exact szle_mono this (by have := Nat.mul_le_mul_right W hr1; omega)
/-- a free column from one on tells a solution, if all from there on before it have pivots -/
theorem st_isSol {R : Type} [Lean.Grind.CommRing R] (hD : Dom R) {L N r h f : Nat} {C : Nat → Nat} {d : R} {A M : Nat → Nat → R} (H : St L N r h C d A M) (hN : h < N) (hf : f ≤ h) (hz : ∀ i, r ≤ i → i < L → M i h = 0) (hp : ∀ j, f ≤ j → j < h → ∃ u, u < r ∧ C u = j) {z : Nat → R} (z1 : z h = d) (z2 : ∀ u, u < r → z (C u) = - M u h) (z3 : ∀ j, j ≠ h → (∀ u, u < r → C u ≠ j) → z j = 0) : isSol L N A f h z := by
  refine ⟨hN, hf, st_sol hD H hN hz z1 z2 z3, by rw [z1]; exact H.1, fun l hl => z3 l (by omega) (fun u hu e => by have := H.2.2.2.2.2.1 u hu; omega), fun j hj hzj => ?_, fun j h1 h2 => ?_⟩
  · have : ∃ u, u < r ∧ C u = j := Classical.byContradiction fun q => hzj (z3 j (by omega) (fun u hu e => q ⟨u, hu, e⟩))
    obtain ⟨u, hu, e⟩ := this
    rw [← e]; exact st_nh hD H hu
  · obtain ⟨u, hu, e⟩ := hp j h1 h2
    rw [← e]; exact st_nh hD H hu
/-- lines times numbers that are not 0 have the same solutions -/
theorem kerv_lines {R : Type} [Lean.Grind.CommRing R] (hD : Dom R) {L N : Nat} {A B : Nat → Nat → R} {u v : Nat → R} (hu : ∀ i, i < L → u i ≠ 0) (hv : ∀ i, i < L → v i ≠ 0) (h : ∀ i j, i < L → j < N → u i * A i j = v i * B i j) {z : Nat → R} (k : kerv L N A z) : kerv L N B z := fun i hi => by
  have e1 : v i * sm (fun j => B i j * z j) N = u i * sm (fun j => A i j * z j) N := by
    rw [← sm_mul, ← sm_mul]
    exact sm_congr fun j hj => by
      have := h i j hi hj
      generalize A i j = a at this
      generalize B i j = b at this
      grind
  rw [k i hi] at e1
  have e2 : v i * sm (fun j => B i j * z j) N = 0 := by rw [e1]; grind
  rcases hD.1 _ _ e2 with w | w
  · exact absurd w (hv i hi)
  · exact w
theorem isSol_lines {R : Type} [Lean.Grind.CommRing R] (hD : Dom R) {L N f h : Nat} {A B : Nat → Nat → R} {u v : Nat → R} (hu : ∀ i, i < L → u i ≠ 0) (hv : ∀ i, i < L → v i ≠ 0) (he : ∀ i j, i < L → j < N → u i * A i j = v i * B i j) {z : Nat → R} (k : isSol L N A f h z) : isSol L N B f h z := by
  have back : ∀ i j, i < L → j < N → v i * B i j = u i * A i j := fun i j hi hj => (he i j hi hj).symm
  have hang' : ∀ j, hang L N B j → hang L N A j := fun j ⟨w, w1, w2, w3⟩ => ⟨w, kerv_lines hD hv hu back w1, w2, w3⟩
  exact ⟨k.1, k.2.1, kerv_lines hD hu hv he k.2.2.1, k.2.2.2.1, k.2.2.2.2.1, fun j hj hz w => k.2.2.2.2.2.1 j hj hz (hang' j w), fun j h1 h2 w => k.2.2.2.2.2.2 j h1 h2 (hang' j w)⟩
