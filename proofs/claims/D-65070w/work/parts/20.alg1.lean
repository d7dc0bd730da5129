set_option maxRecDepth 100000
/-! ALGEBRA 1: commutative rings without divisors of 0: divisors, common divisors, what has none in common -/
def dv {K : Type} [Lean.Grind.CommRing K] (a b : K) : Prop := ∃ c, b = a * c
def Dom (K : Type) [Lean.Grind.CommRing K] : Prop := (∀ a b : K, a * b = 0 → a = 0 ∨ b = 0) ∧ (1 : K) ≠ 0
def isGcd {K : Type} [Lean.Grind.CommRing K] (g a b : K) : Prop := dv g a ∧ dv g b ∧ ∀ c, dv c a → dv c b → dv c g
def copr {K : Type} [Lean.Grind.CommRing K] (a b : K) : Prop := ∀ c, dv c a → dv c b → dv c 1
def GcdD (K : Type) [Lean.Grind.CommRing K] : Prop := ∀ a b : K, ∃ g, isGcd g a b
section
variable {K : Type}
theorem dv_refl [Lean.Grind.CommRing K] (a : K) : dv a a := ⟨1, by grind⟩
theorem dv_zero [Lean.Grind.CommRing K] (a : K) : dv a 0 := ⟨0, by grind⟩
theorem dv_one [Lean.Grind.CommRing K] (a : K) : dv 1 a := ⟨a, by grind⟩
theorem dv_trans [Lean.Grind.CommRing K] {a b c : K} (h1 : dv a b) (h2 : dv b c) : dv a c := by
  obtain ⟨x, hx⟩ := h1
  obtain ⟨y, hy⟩ := h2
  exact ⟨x * y, by rw [hy, hx]; grind⟩
theorem dv_mul [Lean.Grind.CommRing K] {a b : K} (c : K) (h : dv a b) : dv a (b * c) := by
  obtain ⟨x, hx⟩ := h
  exact ⟨x * c, by rw [hx]; grind⟩
theorem dv_mul' [Lean.Grind.CommRing K] {a b : K} (c : K) (h : dv a b) : dv a (c * b) := by
  obtain ⟨x, hx⟩ := h
  exact ⟨x * c, by rw [hx]; grind⟩
theorem dv_self_mul [Lean.Grind.CommRing K] (a c : K) : dv a (a * c) := ⟨c, rfl⟩
theorem dv_self_mul' [Lean.Grind.CommRing K] (a c : K) : dv a (c * a) := ⟨c, by grind⟩
theorem dv_add [Lean.Grind.CommRing K] {a b c : K} (h1 : dv a b) (h2 : dv a c) : dv a (b + c) := by
  obtain ⟨x, hx⟩ := h1
  obtain ⟨y, hy⟩ := h2
  exact ⟨x + y, by rw [hx, hy]; grind⟩
theorem dv_sub [Lean.Grind.CommRing K] {a b c : K} (h1 : dv a b) (h2 : dv a c) : dv a (b - c) := by
  obtain ⟨x, hx⟩ := h1
  obtain ⟨y, hy⟩ := h2
  exact ⟨x - y, by rw [hx, hy]; grind⟩
theorem dv_neg [Lean.Grind.CommRing K] {a b : K} (h1 : dv a b) : dv a (-b) := by
  obtain ⟨x, hx⟩ := h1
  exact ⟨-x, by rw [hx]; grind⟩
theorem dv_mulmul [Lean.Grind.CommRing K] {a b : K} (c : K) (h : dv a b) : dv (c * a) (c * b) := by
  obtain ⟨x, hx⟩ := h
  exact ⟨x, by rw [hx]; grind⟩
theorem dv_mul2 [Lean.Grind.CommRing K] {a b c d : K} (h1 : dv a b) (h2 : dv c d) : dv (a * c) (b * d) := by
  obtain ⟨x, hx⟩ := h1
  obtain ⟨y, hy⟩ := h2
  exact ⟨x * y, by rw [hx, hy]; grind⟩
theorem dom_cancel [Lean.Grind.CommRing K] (hD : Dom K) {a b c : K} (hc : c ≠ 0) (h : c * a = c * b) : a = b := by
  have h1 : c * (a - b) = 0 := by grind
  rcases hD.1 _ _ h1 with e | e
  · exact absurd e hc
  · grind
theorem dv_cancel [Lean.Grind.CommRing K] (hD : Dom K) {a b c : K} (hc : c ≠ 0) (h : dv (c * a) (c * b)) : dv a b := by
  obtain ⟨x, hx⟩ := h
  exact ⟨x, dom_cancel hD hc (by rw [hx]; grind)⟩
theorem dom_mul_ne [Lean.Grind.CommRing K] (hD : Dom K) {a b : K} (ha : a ≠ 0) (hb : b ≠ 0) : a * b ≠ 0 := fun h => (hD.1 a b h).elim ha hb
theorem unit_ne [Lean.Grind.CommRing K] (hD : Dom K) {u : K} (h : dv u 1) : u ≠ 0 := by
  obtain ⟨x, hx⟩ := h
  intro e
  rw [e] at hx
  exact hD.2 (by grind)
theorem copr_symm [Lean.Grind.CommRing K] {a b : K} (h : copr a b) : copr b a := fun c h1 h2 => h c h2 h1
theorem copr_dv [Lean.Grind.CommRing K] {a b c d : K} (h : copr a b) (h1 : dv c a) (h2 : dv d b) : copr c d := fun e e1 e2 => h e (dv_trans e1 h1) (dv_trans e2 h2)
theorem copr_one [Lean.Grind.CommRing K] (a : K) : copr 1 a := fun _ h _ => h
theorem dvs_one_mul [Lean.Grind.CommRing K] {a b : K} (h1 : dv a 1) (h2 : dv b 1) : dv (a * b) 1 := by
  have := dv_mul2 h1 h2
  have e : (1 : K) * 1 = 1 := by grind
  rwa [e] at this
/-- two that divide each other differ by a unit -/
theorem dv_anti [Lean.Grind.CommRing K] (hD : Dom K) {a b : K} (h1 : dv a b) (h2 : dv b a) : ∃ u, dv u 1 ∧ b = a * u := by
  obtain ⟨x, hx⟩ := h1
  obtain ⟨y, hy⟩ := h2
  by_cases ha : a = 0
  · exact ⟨1, dv_refl 1, by rw [hx, ha]; grind⟩
  · refine ⟨x, ⟨y, ?_⟩, hx⟩
    apply dom_cancel hD ha
    have : a = a * x * y := by rw [← hx]; exact hy
    grind
theorem gcd_scale [Lean.Grind.CommRing K] (hD : Dom K) (hG : GcdD K) {a b c : K} (hco : copr a b) (hc : c ≠ 0) {g : K} (hg : isGcd g (c * a) (c * b)) : dv g c := by
  obtain ⟨e, he⟩ := hg.2.2 c (dv_self_mul c a) (dv_self_mul c b)
  have h1 : dv e a := dv_cancel hD hc (by rw [← he]; exact hg.1)
  have h2 : dv e b := dv_cancel hD hc (by rw [← he]; exact hg.2.1)
  obtain ⟨f, hf⟩ := hco e h1 h2
  exact ⟨f, by rw [he]; grind⟩
/-- what is apart from one factor divides the other -/
theorem euclid [Lean.Grind.CommRing K] (hD : Dom K) (hG : GcdD K) {a b c : K} (hco : copr a b) (h : dv a (b * c)) : dv a c := by
  by_cases hc : c = 0
  · rw [hc]; exact dv_zero a
  · obtain ⟨g, hg⟩ := hG (c * a) (c * b)
    exact dv_trans (hg.2.2 a (dv_self_mul' a c) (by rw [show c * b = b * c by grind]; exact h)) (gcd_scale hD hG hco hc hg)
theorem copr_mul [Lean.Grind.CommRing K] (hD : Dom K) (hG : GcdD K) {a b c : K} (h1 : copr a b) (h2 : copr a c) : copr a (b * c) := by
  intro d d1 d2
  exact h2 d d1 (euclid hD hG (copr_dv h1 d1 (dv_refl b)) d2)
theorem copr_mul' [Lean.Grind.CommRing K] (hD : Dom K) (hG : GcdD K) {a b c : K} (h1 : copr a c) (h2 : copr b c) : copr (a * b) c := copr_symm (copr_mul hD hG (copr_symm h1) (copr_symm h2))
/-- two fractions in lowest terms with the same value -/
theorem frac_uniq [Lean.Grind.CommRing K] (hD : Dom K) (hG : GcdD K) {a b c d : K} (hab : copr a b) (hcd : copr c d) (hb : b ≠ 0) (h : a * d = c * b) : ∃ u, dv u 1 ∧ c = a * u ∧ d = b * u := by
  have h1 : dv b d := euclid hD hG (copr_symm hab) ⟨c, by rw [h]; grind⟩
  have h2 : dv d b := euclid hD hG (copr_symm hcd) ⟨a, by rw [← h]; grind⟩
  obtain ⟨u, hu, e⟩ := dv_anti hD h1 h2
  refine ⟨u, hu, ?_, e⟩
  apply dom_cancel hD hb
  rw [e] at h
  grind
theorem gcd_uniq [Lean.Grind.CommRing K] (hD : Dom K) {g g' a b : K} (h : isGcd g a b) (h' : isGcd g' a b) : ∃ u, dv u 1 ∧ g' = g * u := dv_anti hD (h'.2.2 g h.1 h.2.1) (h.2.2 g' h'.1 h'.2.1)
theorem gcd_copr [Lean.Grind.CommRing K] (hD : Dom K) {g a b x y : K} (h : isGcd g a b) (hg : g ≠ 0) (hx : a = g * x) (hy : b = g * y) : copr x y := by
  intro c h1 h2
  have h3 : dv (g * c) g := h.2.2 (g * c) (by rw [hx]; exact dv_mulmul g h1) (by rw [hy]; exact dv_mulmul g h2)
  obtain ⟨z, hz⟩ := h3
  exact ⟨z, dom_cancel hD hg (by rw [← show g * c * z = g * (c * z) by grind, ← hz]; grind)⟩
theorem copr_gcd_one [Lean.Grind.CommRing K] {a b : K} (h : copr a b) : isGcd 1 a b := ⟨dv_one a, dv_one b, h⟩
end
