set_option maxRecDepth 100000
/-! ALGEBRA: determinants -/
def udt {V : Type} (v : Nat → V) (i : Nat) (x : V) (t : Nat) : V := if t = i then x else v t
theorem udt_same {V : Type} {v : Nat → V} {i : Nat} {x : V} : udt v i x i = x := if_pos rfl
theorem udt_ne {V : Type} {v : Nat → V} {i t : Nat} {x : V} (h : t ≠ i) : udt v i x t = v t := if_neg h
theorem udt_self {V : Type} (v : Nat → V) (i : Nat) : udt v i (v i) = v := funext fun t => by
  unfold udt; split
  · rename_i h; rw [h]
  · rfl
theorem udt_upd {V : Type} (v : Nat → V) (i : Nat) (x y : V) : udt (udt v i x) i y = udt v i y := funext fun t => by
  unfold udt; split <;> rfl
theorem udt_comm {V : Type} (v : Nat → V) {i j : Nat} (h : i ≠ j) (x y : V) : udt (udt v i x) j y = udt (udt v j y) i x := funext fun t => by
  unfold udt
  by_cases h1 : t = i
  · rw [if_neg (by omega), if_pos h1, if_pos h1]
  · rw [if_neg h1, if_neg h1]
section
variable {R : Type}
/-- linear in each of the first N, and 0 where two neighbours are the same -/
def Alt [Lean.Grind.CommRing R] (N : Nat) (F : (Nat → Nat → R) → R) : Prop := (∀ v i x y c, i < N → F (udt v i (fun t => x t + c * y t)) = F (udt v i x) + c * F (udt v i y)) ∧ ∀ v i, i + 1 < N → v i = v (i + 1) → F v = 0
theorem Alt.add [Lean.Grind.CommRing R] {N : Nat} {F : (Nat → Nat → R) → R} (h : Alt N F) (v : Nat → Nat → R) {i : Nat} (hi : i < N) (x y : Nat → R) : F (udt v i (fun t => x t + y t)) = F (udt v i x) + F (udt v i y) := by
  have := h.1 v i x y 1 hi
  rw [show (fun t => x t + 1 * y t) = fun t => x t + y t from funext fun t => by grind] at this
  rw [this]; grind
theorem Alt.two [Lean.Grind.CommRing R] {N : Nat} {F : (Nat → Nat → R) → R} (h : Alt N F) {i j : Nat} (hi : i < N) (hj : j < N) (hij : i ≠ j) (hz : ∀ v, v i = v j → F v = 0) (v : Nat → Nat → R) (a b : Nat → R) : F (udt (udt v i b) j a) = - F (udt (udt v i a) j b) := by
  have h0 := hz (udt (udt v i (fun t => a t + b t)) j (fun t => a t + b t)) (by rw [udt_same, udt_ne hij, udt_same])
  rw [h.add _ hj, udt_comm v hij, udt_comm v hij, h.add _ hi, h.add _ hi] at h0
  have h1 := hz (udt (udt v j a) i a) (by rw [udt_same, udt_ne (Ne.symm hij), udt_same])
  have h2 := hz (udt (udt v j b) i b) (by rw [udt_same, udt_ne (Ne.symm hij), udt_same])
  rw [h1, h2] at h0
  rw [udt_comm v hij, udt_comm v hij]
  generalize F (udt (udt v j a) i b) = x at h0 ⊢
  generalize F (udt (udt v j b) i a) = y at h0 ⊢
  grind
theorem Alt.eq [Lean.Grind.CommRing R] {N : Nat} {F : (Nat → Nat → R) → R} (h : Alt N F) : ∀ (g i : Nat) (v : Nat → Nat → R), i + g + 1 < N → v i = v (i + g + 1) → F v = 0 := by
  intro g
  induction g with
  | zero => intro i v hi e; exact h.2 v i hi e
  | succ g ih =>
    intro i v hi e
    have h1 := h.two (i := i + g + 1) (j := i + g + 2) (by omega) (by omega) (by omega) (fun w hw => h.2 w (i + g + 1) (by omega) hw) v (v (i + g + 1)) (v (i + g + 2))
    rw [ih i _ (by omega) (by rw [udt_ne (by omega), udt_ne (by omega), udt_ne (by omega), udt_same]; exact e)] at h1
    rw [udt_self, udt_self] at h1
    generalize F v = x at h1 ⊢
    grind
theorem Alt.same [Lean.Grind.CommRing R] {N : Nat} {F : (Nat → Nat → R) → R} (h : Alt N F) {i j : Nat} (hi : i < N) (hj : j < N) (hij : i ≠ j) (v : Nat → Nat → R) (e : v i = v j) : F v = 0 := by
  by_cases hlt : i < j
  · exact h.eq (j - i - 1) i v (by omega) (by rw [show i + (j - i - 1) + 1 = j by omega]; exact e)
  · exact h.eq (i - j - 1) j v (by omega) (by rw [show j + (i - j - 1) + 1 = i by omega]; exact e.symm)
theorem Alt.swap [Lean.Grind.CommRing R] {N : Nat} {F : (Nat → Nat → R) → R} (h : Alt N F) {i j : Nat} (hi : i < N) (hj : j < N) (hij : i ≠ j) (v : Nat → Nat → R) : F (udt (udt v i (v j)) j (v i)) = - F v := by
  have := h.two hi hj hij (fun w hw => h.same hi hj hij w hw) v (v i) (v j)
  rw [udt_self, udt_self] at this
  exact this
theorem Alt.addrow [Lean.Grind.CommRing R] {N : Nat} {F : (Nat → Nat → R) → R} (h : Alt N F) {i j : Nat} (hi : i < N) (hj : j < N) (hij : i ≠ j) (v : Nat → Nat → R) (c : R) : F (udt v i (fun t => v i t + c * v j t)) = F v := by
  rw [h.1 v i (v i) (v j) c hi, udt_self, h.same hi hj hij (udt v i (v j)) (by rw [udt_same, udt_ne (Ne.symm hij)])]
  grind
theorem Alt.scale [Lean.Grind.CommRing R] {N : Nat} {F : (Nat → Nat → R) → R} (h : Alt N F) {i : Nat} (hi : i < N) (v : Nat → Nat → R) (c : R) (x : Nat → R) : F (udt v i (fun t => c * x t)) = c * F (udt v i x) := by
  have h0 : F (udt v i (fun t => 0 + c * x t)) = F (udt v i (fun _ => 0)) + c * F (udt v i x) := h.1 v i (fun _ => 0) x c hi
  have h1 : F (udt v i (fun t => 0 + 1 * 0)) = F (udt v i (fun _ => 0)) + 1 * F (udt v i (fun _ => 0)) := h.1 v i (fun _ => 0) (fun _ => 0) 1 hi
  rw [show (fun t : Nat => (0 : R) + 1 * 0) = fun _ => 0 from funext fun t => by grind] at h1
  rw [show (fun t => 0 + c * x t) = fun t => c * x t from funext fun t => by grind] at h0
  rw [h0]
  generalize F (udt v i (fun _ => 0)) = z at h1 ⊢
  grind
def sk (i r : Nat) : Nat := if r < i then r else r + 1
def sgn [Lean.Grind.CommRing R] : Nat → R
  | 0 => 1
  | n + 1 => - sgn n
def det [Lean.Grind.CommRing R] : Nat → (Nat → Nat → R) → R
  | 0, _ => 1
  | n + 1, A => sm (fun i => sgn i * A i 0 * det n (fun r c => A (sk i r) (c + 1))) (n + 1)
theorem sk_lt {i r n : Nat} (h : r < n) : sk i r < n + 1 := by unfold sk; split <;> omega
theorem sk_ne (i r : Nat) : sk i r ≠ i := by unfold sk; split <;> omega
theorem sk_inj {i r s : Nat} (h : sk i r = sk i s) : r = s := by unfold sk at h; split at h <;> split at h <;> omega
theorem sk_ex {i t n : Nat} (hi : i < n + 1) (ht : t < n + 1) (h : t ≠ i) : ∃ r, r < n ∧ sk i r = t := by
  by_cases h1 : t < i
  · exact ⟨t, by omega, by unfold sk; rw [if_pos h1]⟩
  · exact ⟨t - 1, by omega, by unfold sk; rw [if_neg (by omega)]; omega⟩
theorem det_congr [Lean.Grind.CommRing R] : ∀ (n : Nat) (A B : Nat → Nat → R), (∀ i j, i < n → j < n → A i j = B i j) → det n A = det n B := by
  intro n
  induction n with
  | zero => intros; rfl
  | succ n ih =>
    intro A B h
    apply sm_congr
    intro i hi
    rw [h i 0 hi (by omega), ih _ _ (fun r c hr hc => h _ _ (sk_lt hr) (by omega))]
theorem det_row [Lean.Grind.CommRing R] : ∀ (n i0 : Nat) (A X Y : Nat → Nat → R) (c : R), i0 < n → (∀ i, i ≠ i0 → A i = X i ∧ A i = Y i) → (∀ j, A i0 j = X i0 j + c * Y i0 j) → det n A = det n X + c * det n Y := by
  intro n
  induction n with
  | zero => intro i0 A X Y c h; omega
  | succ n ih =>
    intro i0 A X Y c hi0 h h0
    show sm _ (n + 1) = sm _ (n + 1) + c * sm _ (n + 1)
    rw [← sm_mul, ← sm_add]
    apply sm_congr
    intro i hi
    by_cases e : i = i0
    · subst e
      have e1 : det n (fun r c => A (sk i r) (c + 1)) = det n (fun r c => X (sk i r) (c + 1)) := det_congr n _ _ (fun r c _ _ => by rw [(h _ (sk_ne i r)).1])
      have e2 : det n (fun r c => A (sk i r) (c + 1)) = det n (fun r c => Y (sk i r) (c + 1)) := det_congr n _ _ (fun r c _ _ => by rw [(h _ (sk_ne i r)).2])
      rw [← e1, ← e2, h0]; grind
    · obtain ⟨r0, hr0, er0⟩ := sk_ex hi hi0 (Ne.symm e)
      rw [ih r0 (fun r c => A (sk i r) (c + 1)) (fun r c => X (sk i r) (c + 1)) (fun r c => Y (sk i r) (c + 1)) c hr0 ?_ ?_, ← (h i e).1, ← (h i e).2]
      · grind
      · intro r hr
        have hne : sk i r ≠ i0 := fun q => hr (sk_inj (q.trans er0.symm))
        exact ⟨funext fun t => by rw [(h _ hne).1], funext fun t => by rw [(h _ hne).2]⟩
      · intro j
        simp only [er0]; exact h0 (j + 1)
theorem det_rowadj [Lean.Grind.CommRing R] : ∀ (n i0 : Nat) (A : Nat → Nat → R), i0 + 1 < n → A i0 = A (i0 + 1) → det n A = 0 := by
  intro n
  induction n with
  | zero => intro i0 A h; omega
  | succ n ih =>
    intro i0 A hi0 h
    show sm (fun i => sgn i * A i 0 * det n (fun r c => A (sk i r) (c + 1))) (n + 1) = 0
    have e : sm (fun i => sgn i * A i 0 * det n (fun r c => A (sk i r) (c + 1))) (n + 1) = sm (fun i => (if i = i0 then sgn i0 * A i0 0 * det n (fun r c => A (sk i0 r) (c + 1)) else 0) + (if i = i0 + 1 then sgn (i0 + 1) * A (i0 + 1) 0 * det n (fun r c => A (sk (i0 + 1) r) (c + 1)) else 0)) (n + 1) := by
      apply sm_congr
      intro i hi
      by_cases e1 : i = i0
      · rw [if_pos e1, if_neg (by omega), e1]; grind
      · by_cases e2 : i = i0 + 1
        · rw [if_neg e1, if_pos e2, e2]; grind
        · rw [if_neg e1, if_neg e2]
          obtain ⟨r0, hr0, er0⟩ := sk_ex hi (show i0 < n + 1 by omega) (Ne.symm e1)
          obtain ⟨r1, hr1, er1⟩ := sk_ex hi hi0 (Ne.symm e2)
          have : r1 = r0 + 1 := by unfold sk at er0 er1; split at er0 <;> split at er1 <;> omega
          rw [ih r0 (fun r c => A (sk i r) (c + 1)) (by omega) (funext fun t => by rw [er0, ← this, er1, h])]
          grind
    rw [e, sm_add, sm_one (k := i0) (by omega) (fun i _ hne => if_neg hne), sm_one (k := i0 + 1) (by omega) (fun i _ hne => if_neg hne), if_pos rfl, if_pos rfl]
    have e2 : det n (fun r c => A (sk (i0 + 1) r) (c + 1)) = det n (fun r c => A (sk i0 r) (c + 1)) := det_congr n _ _ (fun r c _ _ => by
      unfold sk
      by_cases h1 : r < i0
      · rw [if_pos h1, if_pos (by omega)]
      · by_cases h2 : r = i0
        · rw [if_neg h1, if_pos (by omega), h2, h]
        · rw [if_neg h1, if_neg (by omega)])
    rw [e2, ← h]
    show sgn i0 * A i0 0 * _ + (- sgn i0) * A i0 0 * _ = 0
    grind
theorem det_alt [Lean.Grind.CommRing R] (n : Nat) : Alt n (fun A : Nat → Nat → R => det n A) := by
  refine ⟨fun v i x y c hi => ?_, fun v i hi e => det_rowadj n i v hi e⟩
  refine det_row n i _ _ _ c hi (fun t ht => ?_) (fun j => ?_)
  · rw [udt_ne ht, udt_ne ht, udt_ne ht]; exact ⟨rfl, rfl⟩
  · rw [udt_same, udt_same, udt_same]
theorem det_col [Lean.Grind.CommRing R] : ∀ (n j0 : Nat) (A X Y : Nat → Nat → R) (c : R), j0 < n → (∀ i j, j ≠ j0 → A i j = X i j ∧ A i j = Y i j) → (∀ i, A i j0 = X i j0 + c * Y i j0) → det n A = det n X + c * det n Y := by
  intro n
  induction n with
  | zero => intro j0 A X Y c h; omega
  | succ n ih =>
    intro j0 A X Y c hj0 h h0
    show sm _ (n + 1) = sm _ (n + 1) + c * sm _ (n + 1)
    rw [← sm_mul, ← sm_add]
    apply sm_congr
    intro i hi
    by_cases e : j0 = 0
    · subst e
      have e1 : det n (fun r c => A (sk i r) (c + 1)) = det n (fun r c => X (sk i r) (c + 1)) := det_congr n _ _ (fun r c _ _ => (h _ (c + 1) (by omega)).1)
      have e2 : det n (fun r c => A (sk i r) (c + 1)) = det n (fun r c => Y (sk i r) (c + 1)) := det_congr n _ _ (fun r c _ _ => (h _ (c + 1) (by omega)).2)
      rw [← e1, ← e2, h0]; grind
    · rw [ih (j0 - 1) (fun r c => A (sk i r) (c + 1)) (fun r c => X (sk i r) (c + 1)) (fun r c => Y (sk i r) (c + 1)) c (by omega) (fun r t ht => h _ (t + 1) (by omega)) (fun r => ?_), ← (h i 0 (by omega)).1, ← (h i 0 (by omega)).2]
      · grind
      · simp only [show j0 - 1 + 1 = j0 by omega]; exact h0 _
theorem asum [Lean.Grind.CommRing R] (H : Nat → Nat → R) : ∀ n, (∀ i j, i < n → j < n → H i j = - H j i) → (∀ i, i < n → H i i = 0) → sm (fun i => sm (fun j => H i j) n) n = 0 := by
  intro n
  induction n with
  | zero => intros; rfl
  | succ n ih =>
    intro h1 h2
    show sm (fun i => sm (fun j => H i j) n + H i n) n + (sm (fun j => H n j) n + H n n) = 0
    rw [sm_add, ih (fun i j hi hj => h1 i j (by omega) (by omega)) (fun i hi => h2 i (by omega)), h2 n (by omega)]
    have : sm (fun j => H n j) n = - sm (fun i => H i n) n := by
      rw [← sm_neg]
      exact sm_congr (fun j hj => h1 n j (by omega) (by omega))
    rw [this]; grind
theorem sgn_sq [Lean.Grind.CommRing R] (i : Nat) : (sgn i : R) * sgn i = 1 := by
  induction i with
  | zero => show (1 : R) * 1 = 1; grind
  | succ i ih => show (- sgn i : R) * (- sgn i) = 1; rw [← ih]; grind
theorem det_col01 [Lean.Grind.CommRing R] (n : Nat) (A : Nat → Nat → R) (h : ∀ i, A i 0 = A i 1) : det (n + 2) A = 0 := by
  have hD : ∀ i j, i < j → (fun r c => A (sk i (sk (j - 1) r)) (c + 2)) = fun r c => A (sk j (sk i r)) (c + 2) := by
    intro i j hij
    funext r c
    congr 1
    unfold sk
    by_cases h1 : r < i
    · rw [if_pos h1, if_pos (show r < j - 1 by omega), if_pos h1, if_pos (by omega)]
    · rw [if_neg h1]
      by_cases h2 : r < j - 1
      · rw [if_pos h2, if_neg h1, if_pos (by omega)]
      · rw [if_neg h2, if_neg (by omega), if_neg (by omega)]
  obtain ⟨T, hT⟩ : ∃ T : Nat → Nat → R, ∀ i j, T i j = (if i < j then - (sgn i * sgn j * A i 0 * A j 0 * det n (fun r c => A (sk j (sk i r)) (c + 2))) else if j < i then sgn i * sgn j * A i 0 * A j 0 * det n (fun r c => A (sk i (sk j r)) (c + 2)) else 0) := ⟨_, fun _ _ => rfl⟩
  have e : det (n + 2) A = sm (fun i => sm (fun j => T i j) (n + 2)) (n + 2) := by
    show sm (fun i => sgn i * A i 0 * sm (fun k => sgn k * A (sk i k) 1 * det n (fun r c => A (sk i (sk k r)) (c + 2))) (n + 1)) (n + 2) = _
    apply sm_congr
    intro i hi
    have hs := sm_skip (fun j => T i j) i (n + 1) (by omega)
    rw [hs, hT i i, if_neg (by omega), if_neg (by omega), ← sm_mul]
    have : ∀ a b : R, a = b → a = b + 0 := by intros; grind
    apply this
    apply sm_congr
    intro k hk
    show _ = T i (sk i k)
    rw [hT, ← h]
    by_cases h1 : k < i
    · have e1 : sk i k = k := by unfold sk; rw [if_pos h1]
      rw [e1, if_neg (by omega), if_pos h1]; grind
    · have e1 : sk i k = k + 1 := by unfold sk; rw [if_neg h1]
      rw [e1, if_pos (by omega), ← hD i (k + 1) (by omega), show k + 1 - 1 = k by omega]
      show _ = - (sgn i * (- sgn k) * A i 0 * A (k + 1) 0 * _)
      grind
  rw [e]
  refine asum T (n + 2) (fun i j _ _ => ?_) (fun i _ => by rw [hT, if_neg (by omega), if_neg (by omega)])
  rw [hT, hT]
  by_cases h1 : i < j
  · rw [if_pos h1, if_neg (by omega), if_pos h1]; grind
  · by_cases h2 : j < i
    · rw [if_neg h1, if_pos h2, if_pos h2]; grind
    · rw [if_neg h1, if_neg h2, if_neg h2, if_neg h1]; grind
theorem det_coladj [Lean.Grind.CommRing R] : ∀ (n j0 : Nat) (A : Nat → Nat → R), j0 + 1 < n → (∀ i, A i j0 = A i (j0 + 1)) → det n A = 0 := by
  intro n
  induction n with
  | zero => intro j0 A h; omega
  | succ n ih =>
    intro j0 A hj0 h
    by_cases e : j0 = 0
    · subst e
      rw [show n + 1 = n - 1 + 2 by omega]
      exact det_col01 (n - 1) A h
    · apply sm_zero
      intro i hi
      rw [ih (j0 - 1) (fun r c => A (sk i r) (c + 1)) (by omega) (fun r => by
        simp only [show j0 - 1 + 1 = j0 by omega]; exact h _)]
      grind
theorem det_altc [Lean.Grind.CommRing R] (n : Nat) : Alt n (fun C : Nat → Nat → R => det n (fun i j => C j i)) := by
  refine ⟨fun v j x y c hj => ?_, fun v j hj e => det_coladj n j _ hj (fun i => by rw [e])⟩
  refine det_col n j _ _ _ c hj (fun i t ht => ?_) (fun i => ?_)
  · rw [udt_ne ht, udt_ne ht, udt_ne ht]; exact ⟨rfl, rfl⟩
  · rw [udt_same, udt_same, udt_same]
/-- integral rows that clear a matrix -/
theorem adj_ex [Lean.Grind.CommRing R] (n : Nat) (B : Nat → Nat → R) : ∃ T : Nat → Nat → R, ∀ j k, j < n → k < n → sm (fun i => T j i * B i k) n = if j = k then det n B else 0 := by
  cases n with
  | zero => exact ⟨fun _ _ => 0, fun j k h => by omega⟩
  | succ n =>
    have hex : ∀ j k, j < n + 1 → k < n + 1 → sm (fun i => (fun j i => if j = 0 then sgn i * det n (fun r c => B (sk i r) (c + 1)) else - (sgn i * det n (fun r c => udt (B (sk i r)) j (B (sk i r) 0) (c + 1)))) j i * B i k) (n + 1) = if j = k then det (n + 1) B else 0 := by
      intro j k hj hk
      by_cases e : j = 0
      · subst e
        have e1 : sm (fun i => (fun j i => if j = 0 then sgn i * det n (fun r c => B (sk i r) (c + 1)) else - (sgn i * det n (fun r c => udt (B (sk i r)) j (B (sk i r) 0) (c + 1)))) 0 i * B i k) (n + 1) = det (n + 1) (fun i c => udt (fun c => B i c) 0 (B i k) c) := by
          apply sm_congr
          intro i hi
          simp only [if_true]
          rw [udt_same]
          have : det n (fun r c => udt (fun c => B (sk i r) c) 0 (B (sk i r) k) (c + 1)) = det n (fun r c => B (sk i r) (c + 1)) := det_congr n _ _ (fun r c _ _ => by rw [udt_ne (by omega)])
          rw [this]; grind
        rw [e1]
        by_cases ek : 0 = k
        · rw [if_pos ek, ← ek]
          exact det_congr _ _ _ (fun i c _ _ => by rw [udt_self])
        · rw [if_neg ek]
          exact (det_altc (n + 1)).same (i := 0) (j := k) (by omega) hk ek (fun c i => udt (fun c => B i c) 0 (B i k) c) (funext fun i => by rw [udt_same, udt_ne (by omega)])
      · have e1 : sm (fun i => (fun j i => if j = 0 then sgn i * det n (fun r c => B (sk i r) (c + 1)) else - (sgn i * det n (fun r c => udt (B (sk i r)) j (B (sk i r) 0) (c + 1)))) j i * B i k) (n + 1) = - det (n + 1) (fun i c => udt (udt (B i) j (B i 0)) 0 (B i k) c) := by
          show _ = - sm _ (n + 1)
          rw [← sm_neg]
          apply sm_congr
          intro i hi
          simp only [if_neg e]
          rw [udt_same]
          have : det n (fun r c => udt (udt (B (sk i r)) j (B (sk i r) 0)) 0 (B (sk i r) k) (c + 1)) = det n (fun r c => udt (B (sk i r)) j (B (sk i r) 0) (c + 1)) := det_congr n _ _ (fun r c _ _ => by rw [udt_ne (by omega)])
          rw [this]; grind
        rw [e1]
        by_cases ek : j = k
        · rw [if_pos ek]
          subst ek
          have h2 := (det_altc (n + 1)).swap (i := 0) (j := j) (by omega) hj (Ne.symm e) (fun c i => B i c)
          have h3 : det (n + 1) (fun i c => udt (udt (B i) j (B i 0)) 0 (B i j) c) = det (n + 1) (fun i c => udt (udt (fun c i => B i c) 0 (fun i => B i j)) j (fun i => B i 0) c i) := det_congr _ _ _ (fun i c _ _ => by
            unfold udt
            by_cases q1 : c = 0
            · rw [if_pos q1, if_neg (by omega), if_pos q1]
            · rw [if_neg q1]
              by_cases q2 : c = j
              · rw [if_pos q2, if_pos q2]
              · rw [if_neg q2, if_neg q2, if_neg q1])
          rw [h3]
          have h4 : det (n + 1) (fun i c => udt (udt (fun c i => B i c) 0 (fun i => B i j)) j (fun i => B i 0) c i) = - det (n + 1) B := h2
          rw [h4]; grind
        · rw [if_neg ek]
          have h2 : det (n + 1) (fun i c => udt (udt (B i) j (B i 0)) 0 (B i k) c) = 0 := by
            by_cases k0 : k = 0
            · exact (det_altc (n + 1)).same (i := 0) (j := j) (by omega) hj (Ne.symm e) (fun c i => udt (udt (B i) j (B i 0)) 0 (B i k) c) (funext fun i => by rw [udt_same, udt_ne e, udt_same, k0])
            · exact (det_altc (n + 1)).same (i := 0) (j := k) (by omega) hk (Ne.symm k0) (fun c i => udt (udt (B i) j (B i 0)) 0 (B i k) c) (funext fun i => by rw [udt_same, udt_ne k0, udt_ne (Ne.symm ek)])
          rw [h2]; grind
    exact ⟨_, hex⟩
/-- a last row that is 0 but for its end -/
theorem det_last [Lean.Grind.CommRing R] : ∀ (n : Nat) (A : Nat → Nat → R), (∀ j, j < n → A n j = 0) → det (n + 1) A = det n A * A n n := by
  intro n
  induction n with
  | zero =>
    intro A h
    show sm (fun i => sgn i * A i 0 * 1) 1 = 1 * A 0 0
    simp only [sm, sgn]; grind
  | succ n ih =>
    intro A h
    show sm (fun i => sgn i * A i 0 * det (n + 1) (fun r c => A (sk i r) (c + 1))) (n + 1) + sgn (n + 1) * A (n + 1) 0 * det (n + 1) (fun r c => A (sk (n + 1) r) (c + 1)) = sm (fun i => sgn i * A i 0 * det n (fun r c => A (sk i r) (c + 1))) (n + 1) * A (n + 1) (n + 1)
    rw [h 0 (by omega), ← sm_mul']
    have : ∀ a b c d : R, a = d → a + b * 0 * c = d := by intros; grind
    apply this
    apply sm_congr
    intro i hi
    have e : sk i n = n + 1 := by unfold sk; rw [if_neg (by omega)]
    rw [ih (fun r c => A (sk i r) (c + 1)) (fun j hj => by simp only [e]; exact h _ (by omega))]
    simp only [e]; grind
/-- upper triangles -/
theorem det_tri [Lean.Grind.CommRing R] : ∀ (n : Nat) (A : Nat → Nat → R), (∀ i j, i < n → j < i → A i j = 0) → ∀ (P : Nat → R), P 0 = 1 → (∀ k, k < n → P (k + 1) = P k * A k k) → det n A = P n := by
  intro n
  induction n with
  | zero => intro A _ P h0 _; exact h0.symm
  | succ n ih =>
    intro A h P h0 hs
    rw [det_last n A (fun j hj => h n j (by omega) hj), ih A (fun i j hi hj => h i j (by omega) hj) P h0 (fun k hk => hs k (by omega)), hs n (by omega)]
theorem det_hom [Lean.Grind.CommRing R] {S : Type} [Lean.Grind.CommRing S] {φ : R → S} (h : Hm φ) : ∀ (n : Nat) (A : Nat → Nat → R), φ (det n A) = det n (fun i j => φ (A i j)) := by
  intro n
  induction n with
  | zero => intro A; exact h.2.2
  | succ n ih =>
    intro A
    show φ (sm _ (n + 1)) = sm _ (n + 1)
    rw [h.sum]
    apply sm_congr
    intro i _
    have hsg : ∀ i, φ (sgn i) = sgn i := by
      intro i
      induction i with
      | zero => exact h.2.2
      | succ i ih2 => show φ (- sgn i) = - sgn i; rw [h.neg, ih2]
    rw [h.2.1, h.2.1, hsg, ih]
end
