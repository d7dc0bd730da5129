set_option maxRecDepth 100000
/-! ALGEBRA: clearing a board without fractions -/
section
variable {R : Type}
theorem det_rows [Lean.Grind.CommRing R] {n : Nat} (B : Nat → Nat → R) {s : Nat} (hs : s < n) (y : Nat → R) : ∀ m, m ≤ n → (∀ t, m ≤ t → y t = 0) → ∀ x : Nat → R, (∀ k, k < n → x k = sm (fun t => y t * B t k) m) → det n (udt B s x) = (if s < m then y s else 0) * det n B := by
  intro m
  induction m generalizing y with
  | zero =>
    intro _ _ x hx
    have h1 := (det_alt (R := R) n).scale hs B 0 (fun _ => 0)
    have h2 : det n (udt B s x) = det n (udt B s (fun t => 0 * 0)) := det_congr n _ _ (fun i j hi hj => by
      unfold udt
      split
      · rw [hx j hj]; simp only [sm]; grind
      · rfl)
    rw [h2, if_neg (by omega)]
    exact h1.trans (by grind)
  | succ m ih =>
    intro hm hy x hx
    have h1 : det n (udt B s x) = det n (udt B s (fun k => sm (fun t => y t * B t k) m + y m * B m k)) := det_congr n _ _ (fun i j hi hj => by
      unfold udt
      split
      · rw [hx j hj]; rfl
      · rfl)
    rw [h1]
    have h2 := (det_alt (R := R) n).1 B s (fun k => sm (fun t => y t * B t k) m) (B m) (y m) hs
    simp only at h2
    rw [h2]
    have e : sm (fun t => (if t < m then y t else 0) * B t 0) m = sm (fun t => y t * B t 0) m := sm_congr (fun t ht => by rw [if_pos ht])
    have h3 := ih (fun t => if t < m then y t else 0) (by omega) (fun t ht => if_neg (by omega)) (fun k => sm (fun t => y t * B t k) m) (fun k _ => sm_congr (fun t ht => by rw [if_pos ht]))
    rw [h3]
    by_cases e1 : s = m
    · rw [if_neg (by omega), if_pos (by omega), e1, udt_self]; grind
    · have h4 : det n (udt B s (B m)) = 0 := (det_alt (R := R) n).same hs (show m < n by omega) e1 _ (by rw [udt_same, udt_ne (Ne.symm e1)])
      rw [h4]
      by_cases h5 : s < m
      · rw [if_pos h5, if_pos h5, if_pos (by omega)]; grind
      · rw [if_neg h5, if_neg (by omega)]; grind
/-- rows that sum up to 0 -/
theorem det_ker [Lean.Grind.CommRing R] {n : Nat} (B : Nat → Nat → R) (y : Nat → R) (h : ∀ k, k < n → sm (fun t => y t * B t k) n = 0) {s : Nat} (hs : s < n) : y s * det n B = 0 := by
  have h1 := det_rows B hs (fun t => if t < n then y t else 0) n (Nat.le_refl _) (fun t ht => if_neg (by omega)) (fun _ => 0) (fun k hk => by
    rw [← h k hk]
    exact sm_congr (fun t ht => by rw [if_pos ht]))
  rw [if_pos hs, if_pos hs] at h1
  rw [← h1]
  have h2 := (det_alt (R := R) n).scale hs B 0 (fun _ => 0)
  have h3 : (fun t : Nat => (0 : R) * 0) = fun _ => 0 := funext fun t => by grind
  rw [h3] at h2
  rw [h2]; grind
/-- the other side's inverse -/
theorem adj_right [Lean.Grind.CommRing R] (hD : Dom R) {n : Nat} {B T : Nat → Nat → R} (hT : ∀ j k, j < n → k < n → sm (fun i => T j i * B i k) n = if j = k then det n B else 0) (hd : det n B ≠ 0) (i k : Nat) (hi : i < n) (hk : k < n) : sm (fun j => B i j * T j k) n = if i = k then det n B else 0 := by
  have h1 := det_ker B (fun t => sm (fun j => B i j * T j t) n - (if i = t then det n B else 0)) (fun l hl => by
    have e1 : sm (fun t => (sm (fun j => B i j * T j t) n - if i = t then det n B else 0) * B t l) n = sm (fun t => sm (fun j => B i j * (T j t * B t l)) n + - ((if i = t then det n B else 0) * B t l)) n := sm_congr (fun t _ => by
      have : sm (fun j => B i j * (T j t * B t l)) n = sm (fun j => B i j * T j t) n * B t l := by
        rw [← sm_mul']; exact sm_congr (fun j _ => by grind)
      rw [this]; grind)
    rw [e1, sm_add, sm_neg, sm_swap, sm_one (f := fun t => (if i = t then det n B else 0) * B t l) hi (fun t _ ht => by rw [if_neg (Ne.symm ht)]; grind), if_pos rfl]
    have e2 : sm (fun j => sm (fun t => B i j * (T j t * B t l)) n) n = sm (fun j => B i j * (if j = l then det n B else 0)) n := sm_congr (fun j hj => by
      rw [sm_mul, hT j l hj hl])
    rw [e2, sm_one (k := l) hl (fun t _ ht => by rw [if_neg ht]; grind), if_pos rfl]
    grind) hk
  rcases hD.1 _ _ h1 with h2 | h2
  · generalize sm (fun j => B i j * T j k) n = x at h2 ⊢
    generalize (if i = k then det n B else 0) = y at h2 ⊢
    grind
  · exact absurd h2 hd
/-- L lines, N columns, r pivots in the columns C before c; d is the pivot; A the lines as they came -/
def St [Lean.Grind.CommRing R] (L N r c : Nat) (C : Nat → Nat) (d : R) (A M : Nat → Nat → R) : Prop :=
  d ≠ 0 ∧ (∃ Y : Nat → Nat → R, ∀ i j, i < L → j < N → M i j = (if i < r then 0 else d * A i j) + sm (fun s => Y i s * A s j) r) ∧ (∀ i u, i < L → u < r → M i (C u) = if i = u then d else 0) ∧ det r (fun t u => A t (C u)) = d ∧ r ≤ L ∧ (∀ u, u < r → C u < c) ∧ (∀ u j, u < r → j < C u → M u j = 0) ∧ (∀ i j, r ≤ i → i < L → j < c → M i j = 0) ∧ c ≤ N
theorem st_0 [Lean.Grind.CommRing R] (hD : Dom R) (L N : Nat) (C : Nat → Nat) (A : Nat → Nat → R) : St L N 0 0 C 1 A A := by
  refine ⟨hD.2, ⟨fun _ _ => 0, fun i j _ _ => ?_⟩, fun i u _ h => absurd h (Nat.not_lt_zero u), rfl, Nat.zero_le _, fun u h => absurd h (Nat.not_lt_zero u), fun u j h => absurd h (Nat.not_lt_zero u), fun i j _ _ h => absurd h (Nat.not_lt_zero j), Nat.zero_le _⟩
  rw [if_neg (by omega)]; simp only [sm]; grind
theorem st_free [Lean.Grind.CommRing R] {L N r c : Nat} {C : Nat → Nat} {d : R} {A M : Nat → Nat → R} (h : St L N r c C d A M) (hc : c < N) (hz : ∀ i, r ≤ i → i < L → M i c = 0) : St L N r (c + 1) C d A M := by
  obtain ⟨h1, h2, h3, h4, h5, h6, h7, h8, h9⟩ := h
  refine ⟨h1, h2, h3, h4, h5, fun u hu => by have := h6 u hu; omega, h7, fun i j hi hL hj => ?_, hc⟩
  by_cases e : j = c
  · rw [e]; exact hz i hi hL
  · exact h8 i j hi hL (by omega)
theorem st_swap [Lean.Grind.CommRing R] {L N r c : Nat} {C : Nat → Nat} {d : R} {A M : Nat → Nat → R} (h : St L N r c C d A M) {p q : Nat} (hp : r ≤ p) (hq : r ≤ q) (hpL : p < L) (hqL : q < L) : St L N r c C d (udt (udt A p (A q)) q (A p)) (udt (udt M p (M q)) q (M p)) := by
  obtain ⟨h1, ⟨Y, h2⟩, h3, h4, h5, h6, h7, h8, h9⟩ := h
  have low : ∀ (X : Nat → Nat → R) t, t < r → udt (udt X p (X q)) q (X p) t = X t := fun X t ht => by
    rw [udt_ne (by omega), udt_ne (by omega)]
  have two : ∀ (X : Nat → Nat → R) t, udt (udt X p (X q)) q (X p) t = X (if t = q then p else if t = p then q else t) := fun X t => by
    unfold udt
    by_cases e1 : t = q
    · rw [if_pos e1, if_pos e1]
    · rw [if_neg e1, if_neg e1]
      by_cases e2 : t = p
      · rw [if_pos e2, if_pos e2]
      · rw [if_neg e2, if_neg e2]
  have lt : ∀ t, t < L → (if t = q then p else if t = p then q else t) < L := fun t ht => by
    split
    · exact hpL
    · split <;> omega
  have inr : ∀ t, ((if t = q then p else if t = p then q else t) < r ↔ t < r) := fun t => by
    split
    · omega
    · split <;> omega
  refine ⟨h1, ⟨fun i => Y (if i = q then p else if i = p then q else i), fun i j hi hj => ?_⟩, fun i u hi hu => ?_, ?_, h5, h6, fun u j hu hj => by rw [low M u hu]; exact h7 u j hu hj, fun i j hi hL hj => ?_, h9⟩
  · rw [two M i, two A i, h2 _ j (lt i hi) hj]
    congr 1
    · by_cases e : i < r
      · rw [if_pos e, if_pos ((inr i).mpr e)]
      · rw [if_neg e, if_neg (fun q => e ((inr i).mp q))]
    · exact sm_congr (fun s hs => by rw [low A s hs])
  · rw [two M i, h3 _ u (lt i hi) hu]
    by_cases e : i = u
    · rw [if_pos e, if_neg (show ¬ i = q by omega), if_neg (show ¬ i = p by omega), if_pos e]
    · rw [if_neg e, if_neg ?_]
      split
      · omega
      · split <;> omega
  · rw [← h4]
    exact det_congr r _ _ (fun t u ht hu => by rw [low A t ht])
  · rw [two M i]
    refine h8 _ j ?_ (lt i hL) hj
    have := (inr i)
    omega
/-- a pivot: all is divided without rest -/
theorem st_piv [Lean.Grind.CommRing R] (hD : Dom R) {L N r c : Nat} {C : Nat → Nat} {d : R} {A M : Nat → Nat → R} (h : St L N r c C d A M) (hr : r < L) (hc : c < N) (hs : M r c ≠ 0) : ∃ M' : Nat → Nat → R, (∀ i j, i < L → j < N → i ≠ r → d * M' i j = M r c * M i j - M i c * M r j) ∧ (∀ j, j < N → M' r j = M r j) ∧ St L N (r + 1) (c + 1) (udt C r c) (M r c) A M' := by
  obtain ⟨h1, ⟨Y, h2⟩, h3, h4, h5, h6, h7, h8, h9⟩ := h
  have hCN : ∀ u, u < r + 1 → udt C r c u < N := fun u hu => by
    unfold udt
    split
    · exact hc
    · have := h6 u (by omega); omega
  have hCo : ∀ u, u < r → udt C r c u = C u := fun u hu => udt_ne (by omega)
  -- the new block's determinant
  have hdet : det (r + 1) (fun t u => A t (udt C r c u)) = M r c := by
    have e1 := det_rows (n := r + 1) (fun t u => A t (udt C r c u)) (s := r) (by omega) (fun t => if t < r then Y r t else if t = r then d else 0) (r + 1) (Nat.le_refl _) (fun t ht => by rw [if_neg (by omega), if_neg (by omega)]) (fun k => M r (udt C r c k)) (fun k hk => by
      rw [h2 r _ hr (hCN k hk), if_neg (by omega)]
      show _ = sm (fun t => (if t < r then Y r t else if t = r then d else 0) * A t (udt C r c k)) r + (if r < r then Y r r else if r = r then d else 0) * A r (udt C r c k)
      rw [if_neg (by omega), if_pos rfl]
      have : sm (fun t => (if t < r then Y r t else if t = r then d else 0) * A t (udt C r c k)) r = sm (fun s => Y r s * A s (udt C r c k)) r := sm_congr (fun t ht => by rw [if_pos ht])
      rw [this]; grind)
    rw [if_pos (by omega), if_neg (by omega), if_pos rfl] at e1
    have e2 := det_last r (udt (fun t u => A t (udt C r c u)) r (fun k => M r (udt C r c k))) (fun j hj => by
      rw [udt_same, hCo j hj, h3 r j hr hj, if_neg (by omega)])
    have e3 : det r (udt (fun t u => A t (udt C r c u)) r (fun k => M r (udt C r c k))) = d := by
      rw [← h4]
      exact det_congr r _ _ (fun t u ht hu => by rw [udt_ne (by omega), hCo u hu])
    rw [e2, e3, udt_same, udt_same] at e1
    exact (dom_cancel hD h1 e1).symm
  obtain ⟨T, hT⟩ := adj_ex (r + 1) (fun t u => A t (udt C r c u))
  rw [hdet] at hT
  -- what is 0 at all pivots' columns and comes of these lines is 0
  have uniq : ∀ (y : Nat → R) (x : Nat → R), (∀ j, j < N → x j = sm (fun t => y t * A t j) (r + 1)) → (∀ u, u < r + 1 → x (udt C r c u) = 0) → ∀ j, j < N → x j = 0 := by
    intro y x hx hz j hj
    have hy : ∀ t, t < r + 1 → y t = 0 := fun t ht => by
      have := det_ker (n := r + 1) (fun t u => A t (udt C r c u)) y (fun k hk => by rw [← hx _ (hCN k hk)]; exact hz k hk) ht
      rw [hdet] at this
      rcases hD.1 _ _ this with q | q
      · exact q
      · exact absurd q hs
    rw [hx j hj]
    exact sm_zero (fun t ht => by rw [hy t ht]; grind)
  obtain ⟨P, hP⟩ : ∃ P : Nat → Nat → R, ∀ t j, P t j = sm (fun s => T t s * A s j) (r + 1) := ⟨_, fun _ _ => rfl⟩
  have hPC : ∀ t u, t < r + 1 → u < r + 1 → P t (udt C r c u) = if t = u then M r c else 0 := fun t u ht hu => by rw [hP]; exact hT t u ht hu
  obtain ⟨M', hM'⟩ : ∃ M' : Nat → Nat → R, ∀ i j, M' i j = if i < r + 1 then P i j else M r c * A i j + sm (fun s => (- sm (fun u => A i (udt C r c u) * T u s) (r + 1)) * A s j) (r + 1) := ⟨_, fun _ _ => rfl⟩
  have hM'2 : ∀ i j, r + 1 ≤ i → M' i j = M r c * A i j - sm (fun u => A i (udt C r c u) * P u j) (r + 1) := by
    intro i j hi
    rw [hM', if_neg (by omega)]
    have e : sm (fun u => A i (udt C r c u) * P u j) (r + 1) = sm (fun s => sm (fun u => A i (udt C r c u) * T u s) (r + 1) * A s j) (r + 1) := by
      have e1 : sm (fun u => A i (udt C r c u) * P u j) (r + 1) = sm (fun u => sm (fun s => A i (udt C r c u) * (T u s * A s j)) (r + 1)) (r + 1) := sm_congr (fun u _ => by rw [hP, sm_mul])
      rw [e1, sm_swap]
      exact sm_congr (fun s _ => by
        rw [← sm_mul']; exact sm_congr (fun u _ => by grind))
    rw [e]
    have e2 : sm (fun s => (- sm (fun u => A i (udt C r c u) * T u s) (r + 1)) * A s j) (r + 1) = - sm (fun s => sm (fun u => A i (udt C r c u) * T u s) (r + 1) * A s j) (r + 1) := by
      rw [← sm_neg]; exact sm_congr (fun s _ => by grind)
    rw [e2]; grind
  have hMC : ∀ i u, i < L → u < r + 1 → M' i (udt C r c u) = if i = u then M r c else 0 := by
    intro i u hi hu
    by_cases e : i < r + 1
    · rw [hM', if_pos e, hPC i u e hu]
    · rw [hM'2 i _ (by omega), if_neg (by omega)]
      have : sm (fun v => A i (udt C r c v) * P v (udt C r c u)) (r + 1) = A i (udt C r c u) * M r c := by
        rw [sm_one (k := u) hu (fun v hv hne => by rw [hPC v u hv hu, if_neg hne]; grind), hPC u u hu hu, if_pos rfl]
      rw [this]; grind
  have hMr : ∀ j, j < N → M' r j = M r j := by
    intro j hj
    have h0 := uniq (fun t => T r t - (if t < r then Y r t else if t = r then d else 0)) (fun j => M' r j - M r j) (fun j hj => by
      show M' r j - M r j = sm (fun t => (T r t - (if t < r then Y r t else if t = r then d else 0)) * A t j) r + (T r r - (if r < r then Y r r else if r = r then d else 0)) * A r j
      rw [hM', if_pos (by omega), hP, h2 r j hr hj, if_neg (by omega), if_neg (by omega), if_pos rfl]
      have e1 : sm (fun t => (T r t - (if t < r then Y r t else if t = r then d else 0)) * A t j) r = sm (fun t => T r t * A t j + - (Y r t * A t j)) r := sm_congr (fun t ht => by rw [if_pos ht]; grind)
      rw [e1, sm_add, sm_neg]
      show sm (fun s => T r s * A s j) r + T r r * A r j - _ = _
      grind) (fun u hu => by
      show M' r (udt C r c u) - M r (udt C r c u) = 0
      rw [hMC r u hr hu]
      by_cases e : u = r
      · rw [if_pos e.symm, e, udt_same]; grind
      · rw [if_neg (Ne.symm e), hCo u (by omega), h3 r u hr (by omega), if_neg (Ne.symm e)]; grind) j hj
    generalize M' r j = x at h0 ⊢
    generalize M r j = y at h0 ⊢
    grind
  have hMi : ∀ i j, i < L → j < N → i ≠ r → d * M' i j = M r c * M i j - M i c * M r j := by
    intro i j hi hj hne
    have hyr : ∀ j, j < N → M r j = sm (fun t => (if t < r then Y r t else if t = r then d else 0) * A t j) (r + 1) := fun j hj => by
      rw [h2 r j hr hj, if_neg (by omega)]
      show _ = sm (fun t => (if t < r then Y r t else if t = r then d else 0) * A t j) r + (if r < r then Y r r else if r = r then d else 0) * A r j
      rw [if_neg (by omega), if_pos rfl]
      have : sm (fun t => (if t < r then Y r t else if t = r then d else 0) * A t j) r = sm (fun s => Y r s * A s j) r := sm_congr (fun t ht => by rw [if_pos ht])
      rw [this]; grind
    have hyi : ∀ j, j < N → sm (fun s => Y i s * A s j) r = sm (fun s => (if s < r then Y i s else 0) * A s j) (r + 1) := fun j hj => by
      show _ = sm (fun s => (if s < r then Y i s else 0) * A s j) r + (if r < r then Y i r else 0) * A r j
      rw [if_neg (by omega)]
      have : sm (fun s => (if s < r then Y i s else 0) * A s j) r = sm (fun s => Y i s * A s j) r := sm_congr (fun t ht => by rw [if_pos ht])
      rw [this]; grind
    have hm' : ∃ w : Nat → R, ∀ j, j < N → M' i j = (if i < r then 0 else M r c * A i j) + sm (fun s => w s * A s j) (r + 1) := by
      by_cases e : i < r
      · exact ⟨T i, fun j hj => by rw [hM', if_pos (by omega), if_pos e, hP]; grind⟩
      · exact ⟨_, fun j hj => by rw [hM', if_neg (by omega), if_neg e]⟩
    obtain ⟨w, hw⟩ := hm'
    have h0 := uniq (fun t => d * w t - M r c * (if t < r then Y i t else 0) + M i c * (if t < r then Y r t else if t = r then d else 0)) (fun j => d * M' i j - (M r c * M i j - M i c * M r j)) (fun j hj => by
      have e1 : sm (fun t => (d * w t - M r c * (if t < r then Y i t else 0) + M i c * (if t < r then Y r t else if t = r then d else 0)) * A t j) (r + 1) = sm (fun t => (d * (w t * A t j) + (- M r c) * ((if t < r then Y i t else 0) * A t j)) + M i c * ((if t < r then Y r t else if t = r then d else 0) * A t j)) (r + 1) := sm_congr (fun t _ => by grind)
      show d * M' i j - (M r c * M i j - M i c * M r j) = _
      rw [e1, sm_add, sm_add, sm_mul, sm_mul, sm_mul, ← hyr j hj, ← hyi j hj, hw j hj, h2 i j hi hj]
      by_cases e : i < r
      · rw [if_pos e, if_pos e]; grind
      · rw [if_neg e, if_neg e]; grind) (fun u hu => by
      show d * M' i (udt C r c u) - (M r c * M i (udt C r c u) - M i c * M r (udt C r c u)) = 0
      rw [hMC i u hi hu]
      by_cases e : u = r
      · rw [if_neg (by omega), e, udt_same]; grind
      · rw [hCo u (by omega), h3 i u hi (by omega), h3 r u hr (by omega), if_neg (Ne.symm e)]
        by_cases e2 : i = u
        · rw [if_pos e2, if_pos e2]; grind
        · rw [if_neg e2, if_neg e2]; grind) j hj
    generalize d * M' i j = x at h0 ⊢
    generalize M r c * M i j - M i c * M r j = y at h0 ⊢
    grind
  refine ⟨M', hMi, hMr, hs, ⟨fun i => if i < r + 1 then T i else fun s => - sm (fun u => A i (udt C r c u) * T u s) (r + 1), fun i j hi hj => ?_⟩, hMC, hdet, hr, fun u hu => ?_, fun u j hu hj => ?_, fun i j hi hL hj => ?_, hc⟩
  · rw [hM']
    by_cases e : i < r + 1
    · rw [if_pos e, if_pos e, hP]; simp only [if_pos e]; grind
    · rw [if_neg e, if_neg e]; simp only [if_neg e]
  · unfold udt
    split
    · omega
    · have := h6 u (by omega); omega
  · by_cases e : u = r
    · rw [e, udt_same] at hj
      rw [e, hMr j (by omega)]
      exact h8 r j (Nat.le_refl _) hr hj
    · rw [udt_ne e] at hj
      have hjc := h6 u (by omega)
      have h0 := hMi u j (by omega) (by omega) e
      rw [h7 u j (by omega) hj, h8 r j (Nat.le_refl _) hr (by omega)] at h0
      exact dom_cancel hD h1 (h0.trans (by grind))
  · have h0 := hMi i j hL (by omega) (by omega)
    by_cases e : j = c
    · rw [e] at h0 ⊢
      exact dom_cancel hD h1 (h0.trans (by grind))
    · rw [h8 i j (by omega) hL (by omega), h8 r j (Nat.le_refl _) hr (by omega)] at h0
      exact dom_cancel hD h1 (h0.trans (by grind))
end
