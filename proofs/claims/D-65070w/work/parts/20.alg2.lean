set_option maxRecDepth 100000
/-! ALGEBRA 2: sums; polynomials as finite rows of coefficients, a commutative ring -/
def sm {R : Type} [Lean.Grind.CommRing R] (f : Nat → R) : Nat → R
  | 0 => 0
  | n + 1 => sm f n + f n
section
variable {R : Type}
theorem sm_congr [Lean.Grind.CommRing R] {f g : Nat → R} {n : Nat} (h : ∀ i, i < n → f i = g i) : sm f n = sm g n := by
  induction n with
  | zero => rfl
  | succ n ih =>
    simp only [sm]
    rw [ih (fun i hi => h i (by omega)), h n (by omega)]
theorem sm_zero [Lean.Grind.CommRing R] {f : Nat → R} {n : Nat} (h : ∀ i, i < n → f i = 0) : sm f n = 0 := by
  induction n with
  | zero => rfl
  | succ n ih =>
    simp only [sm]
    rw [ih (fun i hi => h i (by omega)), h n (by omega)]
    grind
theorem sm_add [Lean.Grind.CommRing R] (f g : Nat → R) (n : Nat) : sm (fun i => f i + g i) n = sm f n + sm g n := by
  induction n with
  | zero => simp only [sm]; grind
  | succ n ih => simp only [sm]; rw [ih]; grind
theorem sm_mul [Lean.Grind.CommRing R] (c : R) (f : Nat → R) (n : Nat) : sm (fun i => c * f i) n = c * sm f n := by
  induction n with
  | zero => simp only [sm]; grind
  | succ n ih => simp only [sm]; rw [ih]; grind
theorem sm_mul' [Lean.Grind.CommRing R] (c : R) (f : Nat → R) (n : Nat) : sm (fun i => f i * c) n = sm f n * c := by
  induction n with
  | zero => simp only [sm]; grind
  | succ n ih => simp only [sm]; rw [ih]; grind
theorem sm_neg [Lean.Grind.CommRing R] (f : Nat → R) (n : Nat) : sm (fun i => - f i) n = - sm f n := by
  induction n with
  | zero => simp only [sm]; grind
  | succ n ih => simp only [sm]; rw [ih]; grind
theorem sm_succ' [Lean.Grind.CommRing R] (f : Nat → R) (n : Nat) : sm f (n + 1) = f 0 + sm (fun i => f (i + 1)) n := by
  induction n with
  | zero => simp only [sm]; grind
  | succ n ih => rw [sm, ih]; simp only [sm]; grind
theorem sm_ext [Lean.Grind.CommRing R] {f : Nat → R} {n m : Nat} (hn : n ≤ m) (h : ∀ i, n ≤ i → i < m → f i = 0) : sm f m = sm f n := by
  induction m with
  | zero => rw [Nat.le_zero.mp hn]
  | succ m ih =>
    by_cases e : n = m + 1
    · rw [e]
    · simp only [sm]
      rw [ih (by omega) (fun i h1 h2 => h i h1 (by omega)), h m (by omega) (by omega)]
      grind
theorem sm_one [Lean.Grind.CommRing R] {f : Nat → R} {n k : Nat} (hk : k < n) (h : ∀ i, i < n → i ≠ k → f i = 0) : sm f n = f k := by
  induction n with
  | zero => omega
  | succ n ih =>
    simp only [sm]
    by_cases e : k = n
    · subst e
      rw [sm_zero (fun i hi => h i (by omega) (by omega))]
      grind
    · rw [ih (by omega) (fun i h1 h2 => h i (by omega) h2), h n (by omega) (by omega)]
      grind
/-- the triangle, by rows or by columns -/
theorem sm_tri [Lean.Grind.CommRing R] (F : Nat → Nat → R) (n : Nat) : sm (fun j => sm (fun l => F l (j - l)) (j + 1)) n = sm (fun l => sm (fun m => F l m) (n - l)) n := by
  induction n with
  | zero => rfl
  | succ n ih =>
    have hL : sm (fun j => sm (fun l => F l (j - l)) (j + 1)) (n + 1) = sm (fun j => sm (fun l => F l (j - l)) (j + 1)) n + (sm (fun l => F l (n - l)) n + F n (n - n)) := rfl
    have hR : sm (fun l => sm (fun m => F l m) (n + 1 - l)) (n + 1) = sm (fun l => sm (fun m => F l m) (n + 1 - l)) n + sm (fun m => F n m) (n + 1 - n) := rfl
    have h1 : sm (fun l => sm (fun m => F l m) (n + 1 - l)) n = sm (fun l => sm (fun m => F l m) (n - l) + F l (n - l)) n := by
      apply sm_congr
      intro i hi
      rw [show n + 1 - i = (n - i) + 1 by omega]
      rfl
    have h2 : sm (fun m => F n m) (n + 1 - n) = 0 + F n 0 := by rw [show n + 1 - n = 1 by omega]; rfl
    rw [hL, hR, ih, h1, sm_add, h2, Nat.sub_self]
    grind
/-- turned round -/
theorem sm_rev [Lean.Grind.CommRing R] (f : Nat → R) (n : Nat) : sm (fun i => f (n - 1 - i)) n = sm f n := by
  induction n with
  | zero => rfl
  | succ n ih =>
    rw [sm_succ']
    have : sm (fun i => f (n + 1 - 1 - (i + 1))) n = sm (fun i => f (n - 1 - i)) n := sm_congr (fun i hi => by rw [show n + 1 - 1 - (i + 1) = n - 1 - i by omega])
    rw [this, ih]
    simp only [sm, Nat.add_sub_cancel, Nat.sub_zero]
    grind
theorem sm_swap [Lean.Grind.CommRing R] (F : Nat → Nat → R) (n m : Nat) : sm (fun i => sm (fun j => F i j) m) n = sm (fun j => sm (fun i => F i j) n) m := by
  induction n with
  | zero => simp only [sm]; rw [sm_zero (fun _ _ => rfl)]
  | succ n ih => simp only [sm]; rw [ih, sm_add]
end
def Pl (R : Type) [Lean.Grind.CommRing R] : Type := { f : Nat → R // ∃ n, ∀ i, n ≤ i → f i = 0 }
section
variable {R : Type}
def co [Lean.Grind.CommRing R] (p : Pl R) (i : Nat) : R := p.1 i
theorem pl_ext [Lean.Grind.CommRing R] {p q : Pl R} (h : ∀ i, co p i = co q i) : p = q := Subtype.ext (funext h)
/-- of size at most n: nothing from n on -/
def szle [Lean.Grind.CommRing R] (p : Pl R) (n : Nat) : Prop := ∀ i, n ≤ i → co p i = 0
theorem szle_ex [Lean.Grind.CommRing R] (p : Pl R) : ∃ n, szle p n := p.2
theorem szle_mono [Lean.Grind.CommRing R] {p : Pl R} {n m : Nat} (h : szle p n) (hnm : n ≤ m) : szle p m := fun i hi => h i (by omega)
def mkP [Lean.Grind.CommRing R] (f : Nat → R) (n : Nat) : Pl R := ⟨fun i => if i < n then f i else 0, n, fun i hi => if_neg (by omega)⟩
theorem co_mkP [Lean.Grind.CommRing R] (f : Nat → R) (n i : Nat) : co (mkP f n) i = if i < n then f i else 0 := rfl
theorem szle_mkP [Lean.Grind.CommRing R] (f : Nat → R) (n : Nat) : szle (mkP f n) n := fun i hi => if_neg (by omega)
def padd [Lean.Grind.CommRing R] (p q : Pl R) : Pl R := ⟨fun i => co p i + co q i, by
  obtain ⟨n, hn⟩ := p.2
  obtain ⟨m, hm⟩ := q.2
  exact ⟨n + m, fun i hi => by show p.1 i + q.1 i = 0; rw [hn i (by omega), hm i (by omega)]; grind⟩⟩
def pneg [Lean.Grind.CommRing R] (p : Pl R) : Pl R := ⟨fun i => - co p i, by
  obtain ⟨n, hn⟩ := p.2
  exact ⟨n, fun i hi => by show - p.1 i = 0; rw [hn i hi]; grind⟩⟩
def psub [Lean.Grind.CommRing R] (p q : Pl R) : Pl R := ⟨fun i => co p i - co q i, by
  obtain ⟨n, hn⟩ := p.2
  obtain ⟨m, hm⟩ := q.2
  exact ⟨n + m, fun i hi => by show p.1 i - q.1 i = 0; rw [hn i (by omega), hm i (by omega)]; grind⟩⟩
def cmul [Lean.Grind.CommRing R] (p q : Nat → R) (i : Nat) : R := sm (fun j => p j * q (i - j)) (i + 1)
theorem cmul_szle [Lean.Grind.CommRing R] {p q : Nat → R} {n m : Nat} (hn : ∀ i, n ≤ i → p i = 0) (hm : ∀ i, m ≤ i → q i = 0) : ∀ i, n + m - 1 ≤ i → cmul p q i = 0 := by
  intro i hi
  apply sm_zero
  intro j hj
  by_cases h : n ≤ j
  · rw [hn j h]; grind
  · rw [hm (i - j) (by omega)]; grind
def pmul [Lean.Grind.CommRing R] (p q : Pl R) : Pl R := ⟨fun i => cmul p.1 q.1 i, by
  obtain ⟨n, hn⟩ := p.2
  obtain ⟨m, hm⟩ := q.2
  exact ⟨n + m - 1, cmul_szle hn hm⟩⟩
def pC [Lean.Grind.CommRing R] (c : R) : Pl R := ⟨fun i => if i = 0 then c else 0, 1, fun i hi => if_neg (by omega)⟩
/-- x to a power -/
def pX [Lean.Grind.CommRing R] (k : Nat) : Pl R := ⟨fun i => if i = k then 1 else 0, k + 1, fun i hi => if_neg (by omega)⟩
theorem co_add [Lean.Grind.CommRing R] (p q : Pl R) (i : Nat) : co (padd p q) i = co p i + co q i := rfl
theorem co_neg [Lean.Grind.CommRing R] (p : Pl R) (i : Nat) : co (pneg p) i = - co p i := rfl
theorem co_sub [Lean.Grind.CommRing R] (p q : Pl R) (i : Nat) : co (psub p q) i = co p i - co q i := rfl
theorem co_mul [Lean.Grind.CommRing R] (p q : Pl R) (i : Nat) : co (pmul p q) i = sm (fun j => co p j * co q (i - j)) (i + 1) := rfl
theorem co_C [Lean.Grind.CommRing R] (c : R) (i : Nat) : co (pC c) i = if i = 0 then c else 0 := rfl
theorem co_X [Lean.Grind.CommRing R] (k i : Nat) : co (pX k : Pl R) i = if i = k then 1 else 0 := rfl
theorem pmul_comm [Lean.Grind.CommRing R] (p q : Pl R) : pmul p q = pmul q p := by
  apply pl_ext
  intro i
  rw [co_mul, co_mul, ← sm_rev]
  apply sm_congr
  intro j hj
  rw [show i + 1 - 1 - j = i - j by omega, show i - (i - j) = j by omega]
  grind
theorem pmul_assoc [Lean.Grind.CommRing R] (p q r : Pl R) : pmul (pmul p q) r = pmul p (pmul q r) := by
  apply pl_ext
  intro i
  rw [co_mul, co_mul]
  have h1 : sm (fun j => co (pmul p q) j * co r (i - j)) (i + 1) = sm (fun j => sm (fun l => (fun l m => co p l * co q m * co r (i - (l + m))) l (j - l)) (j + 1)) (i + 1) := by
    apply sm_congr
    intro j hj
    rw [co_mul, ← sm_mul']
    apply sm_congr
    intro l hl
    simp only
    rw [show l + (j - l) = j by omega]
  refine h1.trans ((sm_tri (fun l m => co p l * co q m * co r (i - (l + m))) (i + 1)).trans ?_)
  apply sm_congr
  intro l hl
  rw [co_mul, ← sm_mul, show i + 1 - l = i - l + 1 by omega]
  apply sm_congr
  intro m hm
  rw [show i - (l + m) = i - l - m by omega]
  grind
theorem pC_mul [Lean.Grind.CommRing R] (c : R) (p : Pl R) (i : Nat) : co (pmul (pC c) p) i = c * co p i := by
  rw [co_mul, sm_one (k := 0) (by omega)]
  · rw [co_C, if_pos rfl, Nat.sub_zero]
  · intro j h1 h2
    rw [co_C, if_neg h2]
    grind
def icR [Lean.Grind.CommRing R] (i : Int) : R := @Int.cast R Lean.Grind.Ring.intCast i
def ppow [Lean.Grind.CommRing R] (p : Pl R) : Nat → Pl R
  | 0 => pC 1
  | n + 1 => pmul (ppow p n) p
/-- the ring of polynomials -/
def plRing (R : Type) [Lean.Grind.CommRing R] : Lean.Grind.CommRing (Pl R) where
  add := padd
  mul := pmul
  natCast := ⟨fun n => pC (OfNat.ofNat n)⟩
  ofNat := fun n => ⟨pC (OfNat.ofNat n)⟩
  nsmul := ⟨fun n p => pmul (pC (OfNat.ofNat n)) p⟩
  npow := ⟨ppow⟩
  neg := pneg
  sub := psub
  intCast := ⟨fun i => pC (icR i)⟩
  zsmul := ⟨fun i p => pmul (pC (icR i)) p⟩
  add_zero := fun p => pl_ext fun i => by
    show co p i + (if i = 0 then (0 : R) else 0) = co p i
    split <;> grind
  add_comm := fun p q => pl_ext fun i => by show co p i + co q i = co q i + co p i; grind
  add_assoc := fun p q r => pl_ext fun i => by show co p i + co q i + co r i = co p i + (co q i + co r i); grind
  mul_assoc := pmul_assoc
  mul_comm := pmul_comm
  mul_one := fun p => pl_ext fun i => by
    show co (pmul p (pC 1)) i = co p i
    rw [pmul_comm, pC_mul]; grind
  one_mul := fun p => pl_ext fun i => by
    show co (pmul (pC 1) p) i = co p i
    rw [pC_mul]; grind
  left_distrib := fun p q r => pl_ext fun i => by
    show co (pmul p (padd q r)) i = co (pmul p q) i + co (pmul p r) i
    rw [co_mul, co_mul, co_mul, ← sm_add]
    apply sm_congr
    intro j hj
    rw [co_add]; grind
  right_distrib := fun p q r => pl_ext fun i => by
    show co (pmul (padd p q) r) i = co (pmul p r) i + co (pmul q r) i
    rw [co_mul, co_mul, co_mul, ← sm_add]
    apply sm_congr
    intro j hj
    rw [co_add]; grind
  zero_mul := fun p => pl_ext fun i => by
    show co (pmul (pC 0) p) i = (if i = 0 then (0 : R) else 0)
    rw [pC_mul]; split <;> grind
  mul_zero := fun p => pl_ext fun i => by
    show co (pmul p (pC 0)) i = (if i = 0 then (0 : R) else 0)
    rw [pmul_comm, pC_mul]; split <;> grind
  pow_zero := fun p => rfl
  pow_succ := fun p n => rfl
  ofNat_succ := fun n => pl_ext fun i => by
    show (if i = 0 then (OfNat.ofNat (n + 1) : R) else 0) = (if i = 0 then (OfNat.ofNat n : R) else 0) + (if i = 0 then (1 : R) else 0)
    split
    · exact Lean.Grind.Semiring.ofNat_succ n
    · grind
  ofNat_eq_natCast := fun n => rfl
  nsmul_eq_natCast_mul := fun n p => rfl
  neg_add_cancel := fun p => pl_ext fun i => by
    show - co p i + co p i = (if i = 0 then (0 : R) else 0)
    split <;> grind
  sub_eq_add_neg := fun p q => pl_ext fun i => by show co p i - co q i = co p i + - co q i; grind
  neg_zsmul := fun k p => pl_ext fun i => by
    show co (pmul (pC (icR (-k))) p) i = - co (pmul (pC (icR k)) p) i
    rw [pC_mul, pC_mul, show (icR (-k) : R) = - icR k from Lean.Grind.Ring.intCast_neg k]; grind
  zsmul_natCast_eq_nsmul := fun n p => by
    show pmul (pC (icR (n : Int))) p = pmul (pC (OfNat.ofNat n)) p
    rw [show (icR (n : Int) : R) = OfNat.ofNat n from Lean.Grind.Ring.intCast_ofNat n]
  intCast_ofNat := fun n => pl_ext fun i => by
    show (if i = 0 then (icR (OfNat.ofNat n : Int) : R) else 0) = (if i = 0 then (OfNat.ofNat n : R) else 0)
    rw [show (icR (OfNat.ofNat n : Int) : R) = OfNat.ofNat n from Lean.Grind.Ring.intCast_ofNat n]
  intCast_neg := fun k => pl_ext fun i => by
    show (if i = 0 then (icR (-k) : R) else 0) = - (if i = 0 then (icR k : R) else 0)
    rw [show (icR (-k) : R) = - icR k from Lean.Grind.Ring.intCast_neg k]
    split <;> grind
end
