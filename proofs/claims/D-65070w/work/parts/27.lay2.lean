set_option maxRecDepth 100000
/-! MORE of the layout: ratios, items, slots -/
def patOkT (T : Nat → List (Nat × Nat × Nat × Nat × Nat)) (p : List CT) : Bool := (List.range p.length).all (fun i => match p.getD i (9, 0, 0) with
  | (0, ci, _) => (T ci).all (fun q => decide (i + q.2.1 < p.length) && lcmp1 (p.getD (i + q.2.1) (9, 0, 0)) q)
  | _ => true)
theorem seg_relT {T : Nat → List (Nat × Nat × Nat × Nat × Nat)} {ci nf : Nat} {q : Nat × Nat × Nat × Nat × Nat} (hq : q ∈ T ci) : ∀ (l : List (Nat × List CT)), l.all (fun s => patOkT T s.2) = true → ∀ a, a < segTot l → layGo l a = (0, ci, nf) → a + q.2.1 < segTot l ∧ lcmp1 (layGo l (a + q.2.1)) q = true
  | [], _, a, h, _ => absurd h (Nat.not_lt_zero a)
  | (t, p) :: r, hl, a, ha, hT => by
    simp only [List.all_cons, Bool.and_eq_true] at hl
    simp only [layGo] at hT ⊢
    simp only [segTot] at ha ⊢
    by_cases hc : a < t * p.length
    · rw [if_pos hc] at hT
      have hp0 : 0 < p.length := by
        rcases Nat.eq_zero_or_pos p.length with e | e
        · rw [e, Nat.mul_zero] at hc; exact absurd hc (Nat.not_lt_zero a)
        · exact e
      have hm : a % p.length < p.length := Nat.mod_lt _ hp0
      have h1 := List.all_eq_true.mp hl.1 (a % p.length) (List.mem_range.mpr hm)
      rw [hT] at h1
      have h2 := List.all_eq_true.mp h1 q hq
      simp only [Bool.and_eq_true, decide_eq_true_eq] at h2
      have hdiv : a / p.length < t := Nat.div_lt_of_lt_mul (by rw [Nat.mul_comm]; exact hc)
      have hsum : a + q.2.1 < t * p.length := by
        have e1 := Nat.div_add_mod a p.length
        have e2 : p.length * (a / p.length) + p.length ≤ t * p.length := by
          rw [← Nat.mul_succ, Nat.mul_comm]
          exact Nat.mul_le_mul_right _ hdiv
        omega
      have hmod : (a + q.2.1) % p.length = a % p.length + q.2.1 := by
        have e1 := Nat.div_add_mod a p.length
        have e3 : a + q.2.1 = p.length * (a / p.length) + (a % p.length + q.2.1) := by omega
        rw [e3, Nat.mul_add_mod, Nat.mod_eq_of_lt h2.1]
      rw [if_pos hsum, hmod]
      exact ⟨by omega, h2.2⟩
    · rw [if_neg hc] at hT
      obtain ⟨e1, e2⟩ := seg_relT hq r hl.2 (a - t * p.length) (by omega) hT
      rw [if_neg (by omega), show a + q.2.1 - t * p.length = a - t * p.length + q.2.1 by omega]
      exact ⟨by omega, e2⟩
def ltab2 (ci : Nat) : List (Nat × Nat × Nat × Nat × Nat) := match ci with
  | 5 => [(0, 2, 0, 4, 4), (0, 3, 1, 325, 0), (0, 4, 0, 4, 4), (0, 5, 1, 325, 0)]
  | 6 => [(0, 2, 1, 325, 0), (0, 4, 1, 325, 0)]
  | 9 => [(0, 2, 0, 6, 2), (0, 3, 0, 4, 4), (0, 4, 1, 325, 0), (0, 5, 0, 4, 4), (0, 6, 1, 325, 0), (0, 7, 1, 60, 0), (0, 8, 1, 60, 0), (0, 9, 1, 60, 0), (0, 10, 1, 60, 0), (0, 14, 1, 50, 0), (0, 16, 1, 50, 0), (0, 18, 1, 50, 0), (0, 20, 1, 50, 0), (0, 22, 1, 50, 0), (0, 24, 1, 50, 0), (0, 26, 1, 50, 0)]
  | _ => []
theorem patOk2_all : laySegs.all (fun s => patOkT ltab2 s.2) = true := by decide +kernel
theorem l_exact2 {a ci nf k off kd x y : Nat} (t : lay a = (0, ci, nf)) (hq : (k, off, kd, x, y) ∈ ltab2 ci) (hk : kd ≠ 3) : lay (a + off) = (kd, x, y) := by
  have ha := lay_ltA t
  unfold lay at t
  rw [if_pos ha] at t
  obtain ⟨e1, e2⟩ := seg_relT hq laySegs patOk2_all a (by rw [segTot_N0]; exact ha) t
  rw [segTot_N0] at e1
  unfold lay
  rw [if_pos e1]
  simp only [lcmp1, if_neg hk, decide_eq_true_eq] at e2
  exact e2
theorem lo_chk : (List.range 47).all (fun a => decide (lay a ≠ (0, 6, 2)) && decide (lay a ≠ (0, 5, 8)) && decide (lay a ≠ (0, 9, 8))) = true := by decide +kernel
theorem lo_get {a : Nat} (h : a ≤ 46) : lay a ≠ (0, 6, 2) ∧ lay a ≠ (0, 5, 8) ∧ lay a ≠ (0, 9, 8) := by
  have := List.all_eq_true.mp lo_chk a (List.mem_range.mpr (by omega))
  simp only [Bool.and_eq_true, decide_eq_true_eq] at this
  exact ⟨this.1.1, this.1.2, this.2⟩
section
variable {a b : Nat}
theorem rt_lo (t : lay a = (0, 6, 2)) : 46 < a := Nat.not_le.mp fun h => (lo_get h).1 t
theorem it_lo (t : lay a = (0, 5, 8)) : 46 < a := Nat.not_le.mp fun h => (lo_get h).2.1 t
theorem sl_lo (t : lay a = (0, 9, 8)) : 46 < a := Nat.not_le.mp fun h => (lo_get h).2.2 t
theorem rt_2 (t : lay a = (0, 6, 2)) : lay (a + 2) = (1, 325, 0) := l_exact2 (ci := 6) (k := 0) t (List.mem_of_getElem? (i := 0) rfl) (by decide)
theorem rt_4 (t : lay a = (0, 6, 2)) : lay (a + 4) = (1, 325, 0) := l_exact2 (ci := 6) (k := 0) t (List.mem_of_getElem? (i := 1) rfl) (by decide)
theorem rt_w (t : lay a = (0, 6, 2)) : wd (a + 1) = 25 ∧ hg (a + 1) = 13 ∧ wd (a + 3) = 25 ∧ hg (a + 3) = 13 := by
  have h1 : rm (a + 1 + 1) = 325 := by unfold rm; rw [show a + 1 + 1 = a + 2 from rfl, rt_2 t]
  have h2 : rm (a + 3 + 1) = 325 := by unfold rm; rw [show a + 3 + 1 = a + 4 from rfl, rt_4 t]
  unfold wd hg
  rw [h1, h2]
  exact ⟨rfl, rfl, rfl, rfl⟩
theorem ct_ne {x : Nat} {u v : CT} (h1 : lay x = u) (h2 : lay x = v) (h : u ≠ v) : False := h (h1.symm.trans h2)
theorem rt_far (ta : lay a = (0, 6, 2)) (tb : lay b = (0, 6, 2)) (h : a ≠ b) : a + 5 ≤ b ∨ b + 5 ≤ a := by
  have go : ∀ {a b : Nat}, lay a = (0, 6, 2) → lay b = (0, 6, 2) → a < b → a + 5 ≤ b := by
    intro a b ta tb hlt
    apply Nat.not_lt.mp
    intro hc
    rcases (show b = a + 1 ∨ b = a + 2 ∨ b = a + 3 ∨ b = a + 4 by omega) with e | e | e | e <;> subst e
    · exact ct_ne tb (lf_6_0 ta) (by decide)
    · exact ct_ne tb (rt_2 ta) (by decide)
    · exact ct_ne tb (lf_6_1 ta) (by decide)
    · exact ct_ne tb (rt_4 ta) (by decide)
  rcases Nat.lt_or_gt_of_ne h with h | h
  · exact Or.inl (go ta tb h)
  · exact Or.inr (go tb ta h)
theorem it_1 (t : lay a = (0, 5, 8)) : lay (a + 1) = (0, 6, 2) := lf_5_0 t
theorem it_2 (t : lay a = (0, 5, 8)) : lay (a + 2) = (0, 4, 4) := l_exact2 (ci := 5) (k := 0) t (List.mem_of_getElem? (i := 0) rfl) (by decide)
theorem it_3 (t : lay a = (0, 5, 8)) : lay (a + 3) = (1, 325, 0) := l_exact2 (ci := 5) (k := 0) t (List.mem_of_getElem? (i := 1) rfl) (by decide)
theorem it_4 (t : lay a = (0, 5, 8)) : lay (a + 4) = (0, 4, 4) := l_exact2 (ci := 5) (k := 0) t (List.mem_of_getElem? (i := 2) rfl) (by decide)
theorem it_5 (t : lay a = (0, 5, 8)) : lay (a + 5) = (1, 325, 0) := l_exact2 (ci := 5) (k := 0) t (List.mem_of_getElem? (i := 3) rfl) (by decide)
theorem it_far (ta : lay a = (0, 5, 8)) (tb : lay b = (0, 5, 8)) (h : a ≠ b) : a + 10 ≤ b ∨ b + 10 ≤ a := by
  have go : ∀ {a b : Nat}, lay a = (0, 5, 8) → lay b = (0, 5, 8) → a < b → a + 10 ≤ b := by
    intro a b ta tb hlt
    apply Nat.not_lt.mp
    intro hc
    rcases (show b = a + 1 ∨ b = a + 2 ∨ b = a + 3 ∨ b = a + 4 ∨ b = a + 5 ∨ b = a + 6 ∨ b = a + 7 ∨ b = a + 8 ∨ b = a + 9 by omega) with e | e | e | e | e | e | e | e | e <;> subst e
    · exact ct_ne tb (it_1 ta) (by decide)
    · exact ct_ne tb (it_2 ta) (by decide)
    · exact ct_ne tb (it_3 ta) (by decide)
    · exact ct_ne tb (it_4 ta) (by decide)
    · exact ct_ne tb (it_5 ta) (by decide)
    · exact ct_ne tb (lf_5_4 ta) (by decide)
    · exact ct_ne tb (lf_5_5 ta) (by decide)
    · exact ct_ne tb (lf_5_6 ta) (by decide)
    · exact ct_ne tb (lf_5_7 ta) (by decide)
  rcases Nat.lt_or_gt_of_ne h with h | h
  · exact Or.inl (go ta tb h)
  · exact Or.inr (go tb ta h)
end
