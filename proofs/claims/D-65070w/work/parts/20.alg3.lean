set_option maxRecDepth 100000
/-! ALGEBRA 3: sizes, leading coefficients, no divisors of 0, division, values -/
section
variable {R : Type}
theorem least_ex {P : Nat → Prop} (h : ∃ k, P k) : ∃ k, P k ∧ ∀ j, j < k → ¬ P j := by
  obtain ⟨k, hk⟩ := h
  induction k using Nat.strongRecOn with
  | _ k ih =>
    by_cases hx : ∃ j, j < k ∧ P j
    · obtain ⟨j, h1, h2⟩ := hx
      exact ih j h1 h2
    · exact ⟨k, hk, fun j hj hp => hx ⟨j, hj, hp⟩⟩
noncomputable def sz [Lean.Grind.CommRing R] (p : Pl R) : Nat := Classical.choose (least_ex (szle_ex p))
theorem sz_le [Lean.Grind.CommRing R] (p : Pl R) : szle p (sz p) := (Classical.choose_spec (least_ex (szle_ex p))).1
theorem sz_min [Lean.Grind.CommRing R] {p : Pl R} {n : Nat} (h : szle p n) : sz p ≤ n := Nat.not_lt.mp fun q => (Classical.choose_spec (least_ex (szle_ex p))).2 n q h
theorem sz_co [Lean.Grind.CommRing R] {p : Pl R} {i : Nat} (h : co p i ≠ 0) : i < sz p := Nat.not_le.mp fun q => h (sz_le p i q)
theorem sz_top [Lean.Grind.CommRing R] {p : Pl R} {n : Nat} (h : sz p = n + 1) : co p n ≠ 0 := by
  intro e
  have : szle p n := by
    intro i hi
    by_cases q : i = n
    · rw [q]; exact e
    · exact sz_le p i (by omega)
  have := sz_min this
  omega
theorem sz_eq [Lean.Grind.CommRing R] {p : Pl R} {n : Nat} (h : szle p (n + 1)) (h1 : co p n ≠ 0) : sz p = n + 1 := by
  have := sz_min h
  have := sz_co h1
  omega
def pz [Lean.Grind.CommRing R] : Pl R := pC 0
theorem co_z [Lean.Grind.CommRing R] (i : Nat) : co (pz : Pl R) i = 0 := by
  show (if i = 0 then (0 : R) else 0) = 0
  split <;> rfl
theorem sz_z [Lean.Grind.CommRing R] : sz (pz : Pl R) = 0 := Nat.le_zero.mp (sz_min fun i _ => co_z i)
theorem sz_0 [Lean.Grind.CommRing R] {p : Pl R} (h : sz p = 0) : p = pz := pl_ext fun i => by rw [co_z, sz_le p i (by omega)]
theorem sz_pos [Lean.Grind.CommRing R] {p : Pl R} (h : p ≠ pz) : 0 < sz p := by
  rcases Nat.eq_zero_or_pos (sz p) with e | e
  · exact absurd (sz_0 e) h
  · exact e
noncomputable def hd [Lean.Grind.CommRing R] (p : Pl R) : R := co p (sz p - 1)
theorem hd_ne [Lean.Grind.CommRing R] {p : Pl R} (h : p ≠ pz) : hd p ≠ 0 := by
  have := sz_pos h
  exact sz_top (p := p) (n := sz p - 1) (by omega)
theorem hd_z [Lean.Grind.CommRing R] : hd (pz : Pl R) = 0 := co_z _
theorem szle_add [Lean.Grind.CommRing R] {p q : Pl R} {n : Nat} (h1 : szle p n) (h2 : szle q n) : szle (padd p q) n := fun i hi => by rw [co_add, h1 i hi, h2 i hi]; grind
theorem szle_sub [Lean.Grind.CommRing R] {p q : Pl R} {n : Nat} (h1 : szle p n) (h2 : szle q n) : szle (psub p q) n := fun i hi => by rw [co_sub, h1 i hi, h2 i hi]; grind
theorem szle_mul [Lean.Grind.CommRing R] {p q : Pl R} {n m : Nat} (h1 : szle p n) (h2 : szle q m) : szle (pmul p q) (n + m - 1) := cmul_szle h1 h2
theorem co_mul_top [Lean.Grind.CommRing R] {p q : Pl R} {a b : Nat} (h1 : szle p (a + 1)) (h2 : szle q (b + 1)) : co (pmul p q) (a + b) = co p a * co q b := by
  rw [co_mul, sm_one (k := a) (by omega)]
  · rw [show a + b - a = b by omega]
  · intro j hj hne
    by_cases h : a < j
    · rw [h1 j (by omega)]; grind
    · rw [h2 (a + b - j) (by omega)]; grind
theorem sz_mul [Lean.Grind.CommRing R] (hD : Dom R) {p q : Pl R} (hp : p ≠ pz) (hq : q ≠ pz) : sz (pmul p q) = sz p + sz q - 1 ∧ hd (pmul p q) = hd p * hd q := by
  have h1 := sz_pos hp
  have h2 := sz_pos hq
  have e1 : szle p (sz p - 1 + 1) := by rw [show sz p - 1 + 1 = sz p by omega]; exact sz_le p
  have e2 : szle q (sz q - 1 + 1) := by rw [show sz q - 1 + 1 = sz q by omega]; exact sz_le q
  have ht := co_mul_top e1 e2
  have hne : co (pmul p q) (sz p - 1 + (sz q - 1)) ≠ 0 := by
    rw [ht]
    exact dom_mul_ne hD (hd_ne hp) (hd_ne hq)
  have hs : sz (pmul p q) = (sz p - 1 + (sz q - 1)) + 1 := sz_eq (szle_mono (szle_mul e1 e2) (by omega)) hne
  refine ⟨by omega, ?_⟩
  unfold hd
  rw [hs, Nat.add_sub_cancel]
  exact ht
theorem pl_dom [Lean.Grind.CommRing R] (hD : Dom R) : @Dom (Pl R) (plRing R) := by
  refine ⟨fun p q h => ?_, fun h => ?_⟩
  · by_cases hp : p = pz
    · exact Or.inl hp
    · by_cases hq : q = pz
      · exact Or.inr hq
      · have := (sz_mul hD hp hq).1
        have h1 := sz_pos hp
        have h2 := sz_pos hq
        rw [show pmul p q = pz from h, sz_z] at this
        omega
  · have : co (pC 1 : Pl R) 0 = co (pC 0 : Pl R) 0 := by rw [show (pC 1 : Pl R) = pC 0 from h]
    exact hD.2 this
theorem pC_ne [Lean.Grind.CommRing R] {c : R} (h : c ≠ 0) : (pC c : Pl R) ≠ pz := by
  intro e
  have h1 : co (pC c : Pl R) 0 = co (pz : Pl R) 0 := by rw [e]
  rw [co_z] at h1
  exact h h1
theorem sz_C [Lean.Grind.CommRing R] {c : R} (h : c ≠ 0) : sz (pC c : Pl R) = 1 := sz_eq (n := 0) (fun i hi => if_neg (by omega)) h
theorem hd_C [Lean.Grind.CommRing R] (c : R) : hd (pC c : Pl R) = c := by
  by_cases h : c = 0
  · rw [h]; exact hd_z
  · unfold hd; rw [sz_C h]; rfl
theorem sz_1C [Lean.Grind.CommRing R] {p : Pl R} (h : sz p ≤ 1) : p = pC (co p 0) := pl_ext fun i => by
  by_cases e : i = 0
  · rw [e]; rfl
  · rw [co_C, if_neg e]; exact sz_le p i (by omega)
/-- c x^k p -/
theorem co_Xmul [Lean.Grind.CommRing R] (k : Nat) (p : Pl R) (i : Nat) : co (pmul (pX k) p) i = if k ≤ i then co p (i - k) else 0 := by
  rw [co_mul]
  by_cases h : k ≤ i
  · rw [if_pos h, sm_one (k := k) (by omega)]
    · rw [co_X, if_pos rfl]; grind
    · intro j h1 h2
      rw [co_X, if_neg h2]; grind
  · rw [if_neg h]
    apply sm_zero
    intro j hj
    rw [co_X, if_neg (by omega)]; grind
/-- division by one whose head has an inverse -/
theorem pdivmod [Lean.Grind.CommRing R] {q : Pl R} (hq : q ≠ pz) {v : R} (hv : hd q * v = 1) : ∀ (n : Nat) (p : Pl R), sz p ≤ n → ∃ s r, p = padd (pmul q s) r ∧ sz r < sz q := by
  intro n
  induction n with
  | zero =>
    intro p hp
    exact ⟨pz, p, pl_ext fun i => by rw [co_add, pmul_comm]; show co p i = co (pmul (pC 0) q) i + co p i; rw [pC_mul]; grind, by have := sz_pos hq; omega⟩
  | succ n ih =>
    intro p hp
    by_cases hlt : sz p < sz q
    · exact ⟨pz, p, pl_ext fun i => by rw [co_add, pmul_comm]; show co p i = co (pmul (pC 0) q) i + co p i; rw [pC_mul]; grind, hlt⟩
    · have hq0 := sz_pos hq
      obtain ⟨m, hm⟩ : ∃ m, m = pmul (pC (hd p * v)) (pX (sz p - sz q)) := ⟨_, rfl⟩
      have hco : ∀ i, co (pmul m q) i = if sz p - sz q ≤ i then hd p * v * co q (i - (sz p - sz q)) else 0 := by
        intro i
        rw [hm, pmul_assoc, pC_mul, co_Xmul]
        split <;> grind
      have hsz : sz (psub p (pmul m q)) ≤ n := by
        apply sz_min
        intro i hi
        rw [co_sub, hco]
        by_cases e : i = sz p - 1
        · rw [if_pos (by omega), show i - (sz p - sz q) = sz q - 1 by omega]
          have : co p i = hd p := by rw [e]; rfl
          rw [this]
          have h2 : co q (sz q - 1) = hd q := rfl
          rw [h2]
          have : hd p * v * hd q = hd p * (hd q * v) := by grind
          rw [this, hv]; grind
        · rw [sz_le p i (by omega)]
          split
          · rw [sz_le q (i - (sz p - sz q)) (by omega)]; grind
          · grind
      obtain ⟨s, r, h1, h2⟩ := ih _ hsz
      refine ⟨padd m s, r, ?_, h2⟩
      apply pl_ext
      intro i
      have h3 : co p i = co (psub p (pmul m q)) i + co (pmul m q) i := by rw [co_sub]; grind
      rw [h3, h1, co_add, co_add]
      have h4 : pmul q (padd m s) = padd (pmul q m) (pmul q s) := (plRing R).left_distrib q m s
      rw [h4, co_add, pmul_comm q m]
      grind
/-- values -/
def evn [Lean.Grind.CommRing R] (f : Nat → R) (x : R) (n : Nat) : R := sm (fun i => f i * x ^ i) n
noncomputable def ev [Lean.Grind.CommRing R] (p : Pl R) (x : R) : R := evn (co p) x (sz p)
theorem ev_n [Lean.Grind.CommRing R] {p : Pl R} {n : Nat} (h : szle p n) (x : R) : ev p x = evn (co p) x n := by
  unfold ev evn
  exact (sm_ext (sz_min h) (fun i h1 _ => by rw [sz_le p i h1]; grind)).symm
theorem ev_add [Lean.Grind.CommRing R] (p q : Pl R) (x : R) : ev (padd p q) x = ev p x + ev q x := by
  have h1 : szle p (sz p + sz q) := szle_mono (sz_le p) (by omega)
  have h2 : szle q (sz p + sz q) := szle_mono (sz_le q) (by omega)
  rw [ev_n (szle_add h1 h2), ev_n h1, ev_n h2]
  unfold evn
  rw [← sm_add]
  apply sm_congr
  intro i _
  rw [co_add]; grind
theorem ev_sub [Lean.Grind.CommRing R] (p q : Pl R) (x : R) : ev (psub p q) x = ev p x - ev q x := by
  have h1 : szle p (sz p + sz q) := szle_mono (sz_le p) (by omega)
  have h2 : szle q (sz p + sz q) := szle_mono (sz_le q) (by omega)
  rw [ev_n (szle_sub h1 h2), ev_n h1, ev_n h2]
  unfold evn
  have : sm (fun i => co (psub p q) i * x ^ i) (sz p + sz q) = sm (fun i => co p i * x ^ i + - (co q i * x ^ i)) (sz p + sz q) := sm_congr fun i _ => by rw [co_sub]; grind
  rw [this, sm_add, sm_neg]; grind
theorem ev_C [Lean.Grind.CommRing R] (c x : R) : ev (pC c) x = c := by
  have hz : szle (pC c) 1 := fun i hi => if_neg (by omega)
  rw [ev_n hz]
  unfold evn
  simp only [sm]
  rw [co_C, if_pos rfl]; grind
theorem ev_z [Lean.Grind.CommRing R] (x : R) : ev (pz : Pl R) x = 0 := ev_C 0 x
theorem ev_X1 [Lean.Grind.CommRing R] (x : R) : ev (pX 1) x = x := by
  have hz : szle (pX 1 : Pl R) 2 := fun i hi => if_neg (by omega)
  rw [ev_n hz]
  unfold evn
  simp only [sm, co_X]
  grind
theorem pow_add' [Lean.Grind.CommRing R] (x : R) (a b : Nat) : x ^ (a + b) = x ^ a * x ^ b := by
  induction b with
  | zero => grind
  | succ b ih => rw [← Nat.add_assoc, Lean.Grind.Semiring.pow_succ, ih, Lean.Grind.Semiring.pow_succ]; grind
theorem ev_mul [Lean.Grind.CommRing R] (p q : Pl R) (x : R) : ev (pmul p q) x = ev p x * ev q x := by
  have h1 : szle p (sz p + sz q) := szle_mono (sz_le p) (by omega)
  have h2 : szle (pmul p q) (sz p + sz q) := szle_mono (szle_mul (sz_le p) (sz_le q)) (by omega)
  rw [ev_n h2]
  unfold evn
  have e1 : sm (fun i => co (pmul p q) i * x ^ i) (sz p + sz q) = sm (fun j => sm (fun l => (fun l m => co p l * x ^ l * (co q m * x ^ m)) l (j - l)) (j + 1)) (sz p + sz q) := by
    apply sm_congr
    intro i _
    rw [co_mul, ← sm_mul']
    apply sm_congr
    intro j hj
    simp only
    have : x ^ i = x ^ j * x ^ (i - j) := by rw [← pow_add', show j + (i - j) = i by omega]
    rw [this]; grind
  rw [e1.trans (sm_tri (fun l m => co p l * x ^ l * (co q m * x ^ m)) (sz p + sz q))]
  have e2 : sm (fun l => sm (fun m => co p l * x ^ l * (co q m * x ^ m)) (sz p + sz q - l)) (sz p + sz q) = sm (fun l => co p l * x ^ l * ev q x) (sz p + sz q) := by
    apply sm_congr
    intro l _
    rw [sm_mul]
    by_cases hl : l < sz p
    · rw [ev_n (szle_mono (sz_le q) (show sz q ≤ sz p + sz q - l by omega))]; rfl
    · rw [sz_le p l (by omega)]; grind
  rw [e2, sm_mul', ev_n h1]; rfl
end
