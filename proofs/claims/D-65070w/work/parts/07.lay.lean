set_option maxRecDepth 100000
/-! facts of the layout -/
def rm (a : Nat) : Nat := (lay a).2.1
theorem nar01 {v : Int32} (h : v = 0 ∨ v = 1) : narrow .boolean (.int v) = .int v := by rcases h with rfl | rfl <;> rfl
theorem vp_lt {i : Int32} {L : Nat} (h : vp_in i L) : i.toNatClampNeg < L := Nat.not_le.mp fun q => h (Or.inr q)
def ltab (ci : Nat) : List (Nat × Nat × Nat × Nat × Nat) := match ci with
  | 2 => [(0, 1, 0, 3, 2), (1, 3, 0, 3, 2), (2, 5, 0, 3, 2)]
  | 3 => [(0, 1, 3, 0, 0)]
  | 4 => [(1, 1, 3, 0, 0)]
  | 5 => [(0, 1, 0, 6, 2), (4, 6, 1, 60, 0), (5, 7, 1, 60, 0), (6, 8, 1, 60, 0), (7, 9, 1, 60, 0)]
  | 6 => [(0, 1, 0, 4, 4), (1, 3, 0, 4, 4)]
  | 9 => [(1, 1, 0, 5, 8), (2, 11, 2, 7, 3), (6, 12, 1, 301, 0), (100, 13, 0, 3, 2), (101, 15, 0, 3, 2), (102, 17, 0, 3, 2), (103, 19, 0, 3, 2), (104, 21, 0, 3, 2), (105, 23, 0, 3, 2), (106, 25, 0, 3, 2), (99, 10, 1, 60, 0)]
  | 11 => [(1, 1, 1, 325, 0), (2, 2, 1, 325, 0), (6, 3, 1, 13, 0), (7, 4, 1, 13, 0), (8, 5, 1, 13, 0), (9, 6, 1, 13, 0), (11, 7, 1, 175, 0), (14, 8, 1, 361, 0)]
  | 13 => [(0, 1, 3, 0, 0)]
  | 14 => [(0, 1, 2, 64, 10), (100, 2, 0, 13, 2), (101, 4, 0, 13, 2), (102, 6, 0, 13, 2), (103, 8, 0, 13, 2), (104, 10, 0, 13, 2), (105, 12, 0, 13, 2), (106, 14, 0, 13, 2), (107, 16, 0, 13, 2), (108, 18, 0, 13, 2), (109, 20, 0, 13, 2), (110, 22, 0, 13, 2), (111, 24, 0, 13, 2), (112, 26, 0, 13, 2), (113, 28, 0, 13, 2), (114, 30, 0, 13, 2), (115, 32, 0, 13, 2), (116, 34, 0, 13, 2), (117, 36, 0, 13, 2), (118, 38, 0, 13, 2), (119, 40, 0, 13, 2), (120, 42, 0, 13, 2), (121, 44, 0, 13, 2), (122, 46, 0, 13, 2), (123, 48, 0, 13, 2), (124, 50, 0, 13, 2), (125, 52, 0, 13, 2), (126, 54, 0, 13, 2), (127, 56, 0, 13, 2), (128, 58, 0, 13, 2), (129, 60, 0, 13, 2), (130, 62, 0, 13, 2), (131, 64, 0, 13, 2), (132, 66, 0, 13, 2), (133, 68, 0, 13, 2), (134, 70, 0, 13, 2), (135, 72, 0, 13, 2), (136, 74, 0, 13, 2), (137, 76, 0, 13, 2), (138, 78, 0, 13, 2), (139, 80, 0, 13, 2), (140, 82, 0, 13, 2), (141, 84, 0, 13, 2), (142, 86, 0, 13, 2), (143, 88, 0, 13, 2), (144, 90, 0, 13, 2), (145, 92, 0, 13, 2), (146, 94, 0, 13, 2), (147, 96, 0, 13, 2), (148, 98, 0, 13, 2), (149, 100, 0, 13, 2), (150, 102, 0, 13, 2), (151, 104, 0, 13, 2), (152, 106, 0, 13, 2), (153, 108, 0, 13, 2), (154, 110, 0, 13, 2), (155, 112, 0, 13, 2), (156, 114, 0, 13, 2), (157, 116, 0, 13, 2), (158, 118, 0, 13, 2), (159, 120, 0, 13, 2), (160, 122, 0, 13, 2), (161, 124, 0, 13, 2), (162, 126, 0, 13, 2), (163, 128, 0, 13, 2)]
  | _ => []
def lcmp1 (w : CT) (q : Nat × Nat × Nat × Nat × Nat) : Bool := if q.2.2.1 = 3 then decide (w.1 = 1) && decide (w.2.2 = q.2.2.2.2) else decide (w = (q.2.2.1, q.2.2.2.1, q.2.2.2.2))
def patOk (p : List CT) : Bool := (List.range p.length).all (fun i => match p.getD i (9, 0, 0) with
  | (0, ci, _) => (ltab ci).all (fun q => decide (i + q.2.1 < p.length) && lcmp1 (p.getD (i + q.2.1) (9, 0, 0)) q)
  | _ => true)
theorem patOk_all : laySegs.all (fun s => patOk s.2) = true := by decide +kernel
def segTot : List (Nat × List CT) → Nat
  | [] => 0
  | (t, p) :: r => t * p.length + segTot r
theorem segTot_N0 : segTot laySegs = N0 := by decide +kernel
theorem seg_rel {ci nf : Nat} {q : Nat × Nat × Nat × Nat × Nat} (hq : q ∈ ltab ci) : ∀ (l : List (Nat × List CT)), l.all (fun s => patOk s.2) = true → ∀ a, a < segTot l → layGo l a = (0, ci, nf) → a + q.2.1 < segTot l ∧ lcmp1 (layGo l (a + q.2.1)) q = true
  | [], _, a, h, _ => absurd h (Nat.not_lt_zero a)
  | (t, p) :: r, hl, a, ha, hT => by
    simp only [List.all_cons, Bool.and_eq_true] at hl
    simp only [layGo] at hT ⊢
    simp only [segTot] at ha ⊢
    by_cases hc : a < t * p.length
    · rw [if_pos hc] at hT
      have hp0 : 0 < p.length := by
        rcases Nat.eq_zero_or_pos p.length with e | e
        · rw [e, Nat.mul_zero] at hc; exact absurd hc (Nat.not_lt_zero a)
        · exact e
      have hm : a % p.length < p.length := Nat.mod_lt _ hp0
      have h1 := List.all_eq_true.mp hl.1 (a % p.length) (List.mem_range.mpr hm)
      rw [hT] at h1
      have h2 := List.all_eq_true.mp h1 q hq
      simp only [Bool.and_eq_true, decide_eq_true_eq] at h2
      have hdiv : a / p.length < t := Nat.div_lt_of_lt_mul (by rw [Nat.mul_comm]; exact hc)
      have hsum : a + q.2.1 < t * p.length := by
        have e1 := Nat.div_add_mod a p.length
        have e2 : p.length * (a / p.length) + p.length ≤ t * p.length := by
          rw [← Nat.mul_succ, Nat.mul_comm]
          exact Nat.mul_le_mul_right _ hdiv
        omega
      have hmod : (a + q.2.1) % p.length = a % p.length + q.2.1 := by
        have e1 := Nat.div_add_mod a p.length
        have e3 : a + q.2.1 = p.length * (a / p.length) + (a % p.length + q.2.1) := by omega
        rw [e3, Nat.mul_add_mod, Nat.mod_eq_of_lt h2.1]
      rw [if_pos hsum, hmod]
      exact ⟨by omega, h2.2⟩
    · rw [if_neg hc] at hT
      obtain ⟨e1, e2⟩ := seg_rel hq r hl.2 (a - t * p.length) (by omega) hT
      rw [if_neg (by omega), show a + q.2.1 - t * p.length = a - t * p.length + q.2.1 by omega]
      exact ⟨by omega, e2⟩
theorem lget {a ci nf : Nat} (t : lay a = (0, ci, nf)) {q : Nat × Nat × Nat × Nat × Nat} (hq : q ∈ ltab ci) : a + q.2.1 < N0 ∧ lcmp1 (lay (a + q.2.1)) q = true := by
  have ha := lay_ltA t
  unfold lay at t ⊢
  rw [if_pos ha] at t
  obtain ⟨e1, e2⟩ := seg_rel hq laySegs patOk_all a (by rw [segTot_N0]; exact ha) t
  rw [segTot_N0] at e1
  rw [if_pos e1]
  exact ⟨e1, e2⟩
theorem l_exact {a ci nf k off kd x y : Nat} (t : lay a = (0, ci, nf)) (hq : (k, off, kd, x, y) ∈ ltab ci) (hk : kd ≠ 3) : lay (a + off) = (kd, x, y) := by
  have h1 := (lget t hq).2
  simp only [lcmp1, if_neg hk, decide_eq_true_eq] at h1
  exact h1
theorem l_any {a ci nf k off x y : Nat} (t : lay a = (0, ci, nf)) (hq : (k, off, 3, x, y) ∈ ltab ci) : lay (a + off) = (1, rm (a + off), y) := by
  have h1 := (lget t hq).2
  simp only [lcmp1, if_true, Bool.and_eq_true, decide_eq_true_eq] at h1
  unfold rm
  generalize lay (a + off) = w at h1 ⊢
  obtain ⟨w1, w2, w3⟩ := w
  simp only at h1
  rw [h1.1, h1.2]
theorem l_lt {a ci nf k off kd x y : Nat} (t : lay a = (0, ci, nf)) (hq : (k, off, kd, x, y) ∈ ltab ci) : a + off < N0 := (lget t hq).1
theorem lf_2_0 {a : Nat} (t : lay a = (0, 2, 3)) : lay (a + 1) = (0, 3, 2) := l_exact (ci := 2) (k := 0) t (List.mem_of_getElem? (i := 0) rfl) (by decide)
theorem ff_2_0 {a : Nat} (t : lay a = (0, 2, 3)) : fin a 0 = some (a + 1) := by simp only [fin, t]; rfl
theorem lf_2_1 {a : Nat} (t : lay a = (0, 2, 3)) : lay (a + 3) = (0, 3, 2) := l_exact (ci := 2) (k := 1) t (List.mem_of_getElem? (i := 1) rfl) (by decide)
theorem ff_2_1 {a : Nat} (t : lay a = (0, 2, 3)) : fin a 1 = some (a + 3) := by simp only [fin, t]; rfl
theorem lf_2_2 {a : Nat} (t : lay a = (0, 2, 3)) : lay (a + 5) = (0, 3, 2) := l_exact (ci := 2) (k := 2) t (List.mem_of_getElem? (i := 2) rfl) (by decide)
theorem ff_2_2 {a : Nat} (t : lay a = (0, 2, 3)) : fin a 2 = some (a + 5) := by simp only [fin, t]; rfl
theorem lf_3_0 {a : Nat} (t : lay a = (0, 3, 2)) : lay (a + 1) = (1, rm (a + 1), 0) := l_any (ci := 3) (k := 0) (x := 0) t (List.mem_of_getElem? (i := 0) rfl)
theorem ff_3_0 {a : Nat} (t : lay a = (0, 3, 2)) : fin a 0 = some (a + 1) := by simp only [fin, t]; rfl
theorem lf_4_1 {a : Nat} (t : lay a = (0, 4, 4)) : lay (a + 1) = (1, rm (a + 1), 0) := l_any (ci := 4) (k := 1) (x := 0) t (List.mem_of_getElem? (i := 0) rfl)
theorem ff_4_1 {a : Nat} (t : lay a = (0, 4, 4)) : fin a 1 = some (a + 1) := by simp only [fin, t]; rfl
theorem lf_5_0 {a : Nat} (t : lay a = (0, 5, 8)) : lay (a + 1) = (0, 6, 2) := l_exact (ci := 5) (k := 0) t (List.mem_of_getElem? (i := 0) rfl) (by decide)
theorem ff_5_0 {a : Nat} (t : lay a = (0, 5, 8)) : fin a 0 = some (a + 1) := by simp only [fin, t]; rfl
theorem lf_5_4 {a : Nat} (t : lay a = (0, 5, 8)) : lay (a + 6) = (1, 60, 0) := l_exact (ci := 5) (k := 4) t (List.mem_of_getElem? (i := 1) rfl) (by decide)
theorem ff_5_4 {a : Nat} (t : lay a = (0, 5, 8)) : fin a 4 = some (a + 6) := by simp only [fin, t]; rfl
theorem lf_5_5 {a : Nat} (t : lay a = (0, 5, 8)) : lay (a + 7) = (1, 60, 0) := l_exact (ci := 5) (k := 5) t (List.mem_of_getElem? (i := 2) rfl) (by decide)
theorem ff_5_5 {a : Nat} (t : lay a = (0, 5, 8)) : fin a 5 = some (a + 7) := by simp only [fin, t]; rfl
theorem lf_5_6 {a : Nat} (t : lay a = (0, 5, 8)) : lay (a + 8) = (1, 60, 0) := l_exact (ci := 5) (k := 6) t (List.mem_of_getElem? (i := 3) rfl) (by decide)
theorem ff_5_6 {a : Nat} (t : lay a = (0, 5, 8)) : fin a 6 = some (a + 8) := by simp only [fin, t]; rfl
theorem lf_5_7 {a : Nat} (t : lay a = (0, 5, 8)) : lay (a + 9) = (1, 60, 0) := l_exact (ci := 5) (k := 7) t (List.mem_of_getElem? (i := 4) rfl) (by decide)
theorem ff_5_7 {a : Nat} (t : lay a = (0, 5, 8)) : fin a 7 = some (a + 9) := by simp only [fin, t]; rfl
theorem lf_6_0 {a : Nat} (t : lay a = (0, 6, 2)) : lay (a + 1) = (0, 4, 4) := l_exact (ci := 6) (k := 0) t (List.mem_of_getElem? (i := 0) rfl) (by decide)
theorem ff_6_0 {a : Nat} (t : lay a = (0, 6, 2)) : fin a 0 = some (a + 1) := by simp only [fin, t]; rfl
theorem lf_6_1 {a : Nat} (t : lay a = (0, 6, 2)) : lay (a + 3) = (0, 4, 4) := l_exact (ci := 6) (k := 1) t (List.mem_of_getElem? (i := 1) rfl) (by decide)
theorem ff_6_1 {a : Nat} (t : lay a = (0, 6, 2)) : fin a 1 = some (a + 3) := by simp only [fin, t]; rfl
theorem lf_9_1 {a : Nat} (t : lay a = (0, 9, 8)) : lay (a + 1) = (0, 5, 8) := l_exact (ci := 9) (k := 1) t (List.mem_of_getElem? (i := 0) rfl) (by decide)
theorem ff_9_1 {a : Nat} (t : lay a = (0, 9, 8)) : fin a 1 = some (a + 1) := by simp only [fin, t]; rfl
theorem lf_9_2 {a : Nat} (t : lay a = (0, 9, 8)) : lay (a + 11) = (2, 7, 3) := l_exact (ci := 9) (k := 2) t (List.mem_of_getElem? (i := 1) rfl) (by decide)
theorem lu_9_2 {a : Nat} (t : lay a = (0, 9, 8)) : a + 11 < N0 := l_lt (ci := 9) (k := 2) (kd := 2) (x := 7) (y := 3) t (List.mem_of_getElem? (i := 1) rfl)
theorem ff_9_2 {a : Nat} (t : lay a = (0, 9, 8)) : fin a 2 = some (a + 11) := by simp only [fin, t]; rfl
theorem lf_9_6 {a : Nat} (t : lay a = (0, 9, 8)) : lay (a + 12) = (1, 301, 0) := l_exact (ci := 9) (k := 6) t (List.mem_of_getElem? (i := 2) rfl) (by decide)
theorem ff_9_6 {a : Nat} (t : lay a = (0, 9, 8)) : fin a 6 = some (a + 12) := by simp only [fin, t]; rfl
theorem lf_11_1 {a : Nat} (t : lay a = (0, 11, 15)) : lay (a + 1) = (1, 325, 0) := l_exact (ci := 11) (k := 1) t (List.mem_of_getElem? (i := 0) rfl) (by decide)
theorem ff_11_1 {a : Nat} (t : lay a = (0, 11, 15)) : fin a 1 = some (a + 1) := by simp only [fin, t]; rfl
theorem lf_11_2 {a : Nat} (t : lay a = (0, 11, 15)) : lay (a + 2) = (1, 325, 0) := l_exact (ci := 11) (k := 2) t (List.mem_of_getElem? (i := 1) rfl) (by decide)
theorem ff_11_2 {a : Nat} (t : lay a = (0, 11, 15)) : fin a 2 = some (a + 2) := by simp only [fin, t]; rfl
theorem lf_11_6 {a : Nat} (t : lay a = (0, 11, 15)) : lay (a + 3) = (1, 13, 0) := l_exact (ci := 11) (k := 6) t (List.mem_of_getElem? (i := 2) rfl) (by decide)
theorem ff_11_6 {a : Nat} (t : lay a = (0, 11, 15)) : fin a 6 = some (a + 3) := by simp only [fin, t]; rfl
theorem lf_11_7 {a : Nat} (t : lay a = (0, 11, 15)) : lay (a + 4) = (1, 13, 0) := l_exact (ci := 11) (k := 7) t (List.mem_of_getElem? (i := 3) rfl) (by decide)
theorem ff_11_7 {a : Nat} (t : lay a = (0, 11, 15)) : fin a 7 = some (a + 4) := by simp only [fin, t]; rfl
theorem lf_11_8 {a : Nat} (t : lay a = (0, 11, 15)) : lay (a + 5) = (1, 13, 0) := l_exact (ci := 11) (k := 8) t (List.mem_of_getElem? (i := 4) rfl) (by decide)
theorem ff_11_8 {a : Nat} (t : lay a = (0, 11, 15)) : fin a 8 = some (a + 5) := by simp only [fin, t]; rfl
theorem lf_11_9 {a : Nat} (t : lay a = (0, 11, 15)) : lay (a + 6) = (1, 13, 0) := l_exact (ci := 11) (k := 9) t (List.mem_of_getElem? (i := 5) rfl) (by decide)
theorem ff_11_9 {a : Nat} (t : lay a = (0, 11, 15)) : fin a 9 = some (a + 6) := by simp only [fin, t]; rfl
theorem lf_11_11 {a : Nat} (t : lay a = (0, 11, 15)) : lay (a + 7) = (1, 175, 0) := l_exact (ci := 11) (k := 11) t (List.mem_of_getElem? (i := 6) rfl) (by decide)
theorem ff_11_11 {a : Nat} (t : lay a = (0, 11, 15)) : fin a 11 = some (a + 7) := by simp only [fin, t]; rfl
theorem lf_11_14 {a : Nat} (t : lay a = (0, 11, 15)) : lay (a + 8) = (1, 361, 0) := l_exact (ci := 11) (k := 14) t (List.mem_of_getElem? (i := 7) rfl) (by decide)
theorem ff_11_14 {a : Nat} (t : lay a = (0, 11, 15)) : fin a 14 = some (a + 8) := by simp only [fin, t]; rfl
theorem lf_13_0 {a : Nat} (t : lay a = (0, 13, 2)) : lay (a + 1) = (1, rm (a + 1), 0) := l_any (ci := 13) (k := 0) (x := 0) t (List.mem_of_getElem? (i := 0) rfl)
theorem ff_13_0 {a : Nat} (t : lay a = (0, 13, 2)) : fin a 0 = some (a + 1) := by simp only [fin, t]; rfl
theorem lf_14_0 {a : Nat} (t : lay a = (0, 14, 2)) : lay (a + 1) = (2, 64, 10) := l_exact (ci := 14) (k := 0) t (List.mem_of_getElem? (i := 0) rfl) (by decide)
theorem lu_14_0 {a : Nat} (t : lay a = (0, 14, 2)) : a + 1 < N0 := l_lt (ci := 14) (k := 0) (kd := 2) (x := 64) (y := 10) t (List.mem_of_getElem? (i := 0) rfl)
theorem ff_14_0 {a : Nat} (t : lay a = (0, 14, 2)) : fin a 0 = some (a + 1) := by simp only [fin, t]; rfl
def isSh (a : Nat) : Prop := a = 856 ∨ a = 983
theorem lsh {a : Nat} (t : isSh a) : lay a = (0, 8, 7) := by rcases t with rfl | rfl <;> decide +kernel
theorem lf_0_0 (_t : lay 0 = (0, 0, 80)) : lay 1 = (0, 1, 20) := by decide +kernel
theorem ff_0_0 (_t : lay 0 = (0, 0, 80)) : fin 0 0 = some 1 := by decide +kernel
theorem lf_0_1 (_t : lay 0 = (0, 0, 80)) : lay 39 = (0, 4, 4) := by decide +kernel
theorem ff_0_1 (_t : lay 0 = (0, 0, 80)) : fin 0 1 = some 39 := by decide +kernel
theorem lf_0_2 (_t : lay 0 = (0, 0, 80)) : lay 41 = (0, 4, 4) := by decide +kernel
theorem ff_0_2 (_t : lay 0 = (0, 0, 80)) : fin 0 2 = some 41 := by decide +kernel
theorem lf_0_3 (_t : lay 0 = (0, 0, 80)) : lay 43 = (0, 4, 4) := by decide +kernel
theorem ff_0_3 (_t : lay 0 = (0, 0, 80)) : fin 0 3 = some 43 := by decide +kernel
theorem lf_0_4 (_t : lay 0 = (0, 0, 80)) : lay 45 = (0, 4, 4) := by decide +kernel
theorem ff_0_4 (_t : lay 0 = (0, 0, 80)) : fin 0 4 = some 45 := by decide +kernel
theorem lf_0_5 (_t : lay 0 = (0, 0, 80)) : lay 47 = (0, 5, 8) := by decide +kernel
theorem ff_0_5 (_t : lay 0 = (0, 0, 80)) : fin 0 5 = some 47 := by decide +kernel
theorem lf_0_6 (_t : lay 0 = (0, 0, 80)) : lay 57 = (0, 5, 8) := by decide +kernel
theorem ff_0_6 (_t : lay 0 = (0, 0, 80)) : fin 0 6 = some 57 := by decide +kernel
theorem lf_0_7 (_t : lay 0 = (0, 0, 80)) : lay 67 = (0, 5, 8) := by decide +kernel
theorem ff_0_7 (_t : lay 0 = (0, 0, 80)) : fin 0 7 = some 67 := by decide +kernel
theorem lf_0_11 (_t : lay 0 = (0, 0, 80)) : lay 77 = (1, 400, 1) := by decide +kernel
theorem ff_0_11 (_t : lay 0 = (0, 0, 80)) : fin 0 11 = some 77 := by decide +kernel
theorem lf_0_18 (_t : lay 0 = (0, 0, 80)) : lay 78 = (2, 100, 4) := by decide +kernel
theorem lu_0_18 (_t : lay 0 = (0, 0, 80)) : 78 < N0 := by decide +kernel
theorem ff_0_18 (_t : lay 0 = (0, 0, 80)) : fin 0 18 = some 78 := by decide +kernel
theorem lf_0_20 (_t : lay 0 = (0, 0, 80)) : lay 79 = (2, 12, 5) := by decide +kernel
theorem lu_0_20 (_t : lay 0 = (0, 0, 80)) : 79 < N0 := by decide +kernel
theorem ff_0_20 (_t : lay 0 = (0, 0, 80)) : fin 0 20 = some 79 := by decide +kernel
theorem lf_0_21 (_t : lay 0 = (0, 0, 80)) : lay 80 = (0, 5, 8) := by decide +kernel
theorem ff_0_21 (_t : lay 0 = (0, 0, 80)) : fin 0 21 = some 80 := by decide +kernel
theorem lf_0_22 (_t : lay 0 = (0, 0, 80)) : lay 90 = (1, 4000, 1) := by decide +kernel
theorem ff_0_22 (_t : lay 0 = (0, 0, 80)) : fin 0 22 = some 90 := by decide +kernel
theorem lf_0_24 (_t : lay 0 = (0, 0, 80)) : lay 91 = (1, 4000, 1) := by decide +kernel
theorem ff_0_24 (_t : lay 0 = (0, 0, 80)) : fin 0 24 = some 91 := by decide +kernel
theorem lf_0_26 (_t : lay 0 = (0, 0, 80)) : lay 92 = (1, 3200, 0) := by decide +kernel
theorem ff_0_26 (_t : lay 0 = (0, 0, 80)) : fin 0 26 = some 92 := by decide +kernel
theorem lf_0_27 (_t : lay 0 = (0, 0, 80)) : lay 93 = (0, 4, 4) := by decide +kernel
theorem ff_0_27 (_t : lay 0 = (0, 0, 80)) : fin 0 27 = some 93 := by decide +kernel
theorem lf_0_28 (_t : lay 0 = (0, 0, 80)) : lay 95 = (0, 4, 4) := by decide +kernel
theorem ff_0_28 (_t : lay 0 = (0, 0, 80)) : fin 0 28 = some 95 := by decide +kernel
theorem lf_0_29 (_t : lay 0 = (0, 0, 80)) : lay 97 = (0, 4, 4) := by decide +kernel
theorem ff_0_29 (_t : lay 0 = (0, 0, 80)) : fin 0 29 = some 97 := by decide +kernel
theorem lf_0_30 (_t : lay 0 = (0, 0, 80)) : lay 99 = (0, 4, 4) := by decide +kernel
theorem ff_0_30 (_t : lay 0 = (0, 0, 80)) : fin 0 30 = some 99 := by decide +kernel
theorem lf_0_31 (_t : lay 0 = (0, 0, 80)) : lay 101 = (0, 4, 4) := by decide +kernel
theorem ff_0_31 (_t : lay 0 = (0, 0, 80)) : fin 0 31 = some 101 := by decide +kernel
theorem lf_0_32 (_t : lay 0 = (0, 0, 80)) : lay 103 = (0, 3, 2) := by decide +kernel
theorem ff_0_32 (_t : lay 0 = (0, 0, 80)) : fin 0 32 = some 103 := by decide +kernel
theorem lf_0_33 (_t : lay 0 = (0, 0, 80)) : lay 105 = (0, 3, 2) := by decide +kernel
theorem ff_0_33 (_t : lay 0 = (0, 0, 80)) : fin 0 33 = some 105 := by decide +kernel
theorem lf_0_34 (_t : lay 0 = (0, 0, 80)) : lay 107 = (0, 3, 2) := by decide +kernel
theorem ff_0_34 (_t : lay 0 = (0, 0, 80)) : fin 0 34 = some 107 := by decide +kernel
theorem lf_0_35 (_t : lay 0 = (0, 0, 80)) : lay 109 = (0, 3, 2) := by decide +kernel
theorem ff_0_35 (_t : lay 0 = (0, 0, 80)) : fin 0 35 = some 109 := by decide +kernel
theorem lf_0_36 (_t : lay 0 = (0, 0, 80)) : lay 111 = (0, 3, 2) := by decide +kernel
theorem ff_0_36 (_t : lay 0 = (0, 0, 80)) : fin 0 36 = some 111 := by decide +kernel
theorem lf_0_37 (_t : lay 0 = (0, 0, 80)) : lay 113 = (0, 7, 9) := by decide +kernel
theorem ff_0_37 (_t : lay 0 = (0, 0, 80)) : fin 0 37 = some 113 := by decide +kernel
theorem lf_0_38 (_t : lay 0 = (0, 0, 80)) : lay 818 = (2, 4, 6) := by decide +kernel
theorem lu_0_38 (_t : lay 0 = (0, 0, 80)) : 818 < N0 := by decide +kernel
theorem ff_0_38 (_t : lay 0 = (0, 0, 80)) : fin 0 38 = some 818 := by decide +kernel
theorem lf_0_39 (_t : lay 0 = (0, 0, 80)) : lay 819 = (0, 4, 4) := by decide +kernel
theorem ff_0_39 (_t : lay 0 = (0, 0, 80)) : fin 0 39 = some 819 := by decide +kernel
theorem lf_0_40 (_t : lay 0 = (0, 0, 80)) : lay 821 = (0, 4, 4) := by decide +kernel
theorem ff_0_40 (_t : lay 0 = (0, 0, 80)) : fin 0 40 = some 821 := by decide +kernel
theorem lf_0_41 (_t : lay 0 = (0, 0, 80)) : lay 823 = (0, 4, 4) := by decide +kernel
theorem ff_0_41 (_t : lay 0 = (0, 0, 80)) : fin 0 41 = some 823 := by decide +kernel
theorem lf_0_42 (_t : lay 0 = (0, 0, 80)) : lay 825 = (0, 4, 4) := by decide +kernel
theorem ff_0_42 (_t : lay 0 = (0, 0, 80)) : fin 0 42 = some 825 := by decide +kernel
theorem lf_0_43 (_t : lay 0 = (0, 0, 80)) : lay 827 = (2, 4, 3) := by decide +kernel
theorem lu_0_43 (_t : lay 0 = (0, 0, 80)) : 827 < N0 := by decide +kernel
theorem ff_0_43 (_t : lay 0 = (0, 0, 80)) : fin 0 43 = some 827 := by decide +kernel
theorem lf_0_44 (_t : lay 0 = (0, 0, 80)) : lay 828 = (0, 3, 2) := by decide +kernel
theorem ff_0_44 (_t : lay 0 = (0, 0, 80)) : fin 0 44 = some 828 := by decide +kernel
theorem lf_0_45 (_t : lay 0 = (0, 0, 80)) : lay 830 = (0, 3, 2) := by decide +kernel
theorem ff_0_45 (_t : lay 0 = (0, 0, 80)) : fin 0 45 = some 830 := by decide +kernel
theorem lf_0_46 (_t : lay 0 = (0, 0, 80)) : lay 832 = (0, 3, 2) := by decide +kernel
theorem ff_0_46 (_t : lay 0 = (0, 0, 80)) : fin 0 46 = some 832 := by decide +kernel
theorem lf_0_48 (_t : lay 0 = (0, 0, 80)) : lay 834 = (0, 3, 2) := by decide +kernel
theorem ff_0_48 (_t : lay 0 = (0, 0, 80)) : fin 0 48 = some 834 := by decide +kernel
theorem lf_0_49 (_t : lay 0 = (0, 0, 80)) : lay 836 = (0, 4, 4) := by decide +kernel
theorem ff_0_49 (_t : lay 0 = (0, 0, 80)) : fin 0 49 = some 836 := by decide +kernel
theorem lf_0_50 (_t : lay 0 = (0, 0, 80)) : lay 838 = (2, 4, 7) := by decide +kernel
theorem lu_0_50 (_t : lay 0 = (0, 0, 80)) : 838 < N0 := by decide +kernel
theorem ff_0_50 (_t : lay 0 = (0, 0, 80)) : fin 0 50 = some 838 := by decide +kernel
theorem lf_0_51 (_t : lay 0 = (0, 0, 80)) : lay 839 = (0, 6, 2) := by decide +kernel
theorem ff_0_51 (_t : lay 0 = (0, 0, 80)) : fin 0 51 = some 839 := by decide +kernel
theorem lf_0_52 (_t : lay 0 = (0, 0, 80)) : lay 844 = (0, 4, 4) := by decide +kernel
theorem ff_0_52 (_t : lay 0 = (0, 0, 80)) : fin 0 52 = some 844 := by decide +kernel
theorem lf_0_53 (_t : lay 0 = (0, 0, 80)) : lay 846 = (2, 4, 3) := by decide +kernel
theorem lu_0_53 (_t : lay 0 = (0, 0, 80)) : 846 < N0 := by decide +kernel
theorem ff_0_53 (_t : lay 0 = (0, 0, 80)) : fin 0 53 = some 846 := by decide +kernel
theorem lf_0_54 (_t : lay 0 = (0, 0, 80)) : lay 847 = (0, 3, 2) := by decide +kernel
theorem ff_0_54 (_t : lay 0 = (0, 0, 80)) : fin 0 54 = some 847 := by decide +kernel
theorem lf_0_55 (_t : lay 0 = (0, 0, 80)) : lay 849 = (2, 6, 6) := by decide +kernel
theorem lu_0_55 (_t : lay 0 = (0, 0, 80)) : 849 < N0 := by decide +kernel
theorem ff_0_55 (_t : lay 0 = (0, 0, 80)) : fin 0 55 = some 849 := by decide +kernel
theorem lf_0_56 (_t : lay 0 = (0, 0, 80)) : lay 850 = (2, 6, 6) := by decide +kernel
theorem lu_0_56 (_t : lay 0 = (0, 0, 80)) : 850 < N0 := by decide +kernel
theorem ff_0_56 (_t : lay 0 = (0, 0, 80)) : fin 0 56 = some 850 := by decide +kernel
theorem lf_0_57 (_t : lay 0 = (0, 0, 80)) : lay 851 = (2, 6, 3) := by decide +kernel
theorem lu_0_57 (_t : lay 0 = (0, 0, 80)) : 851 < N0 := by decide +kernel
theorem ff_0_57 (_t : lay 0 = (0, 0, 80)) : fin 0 57 = some 851 := by decide +kernel
theorem lf_0_58 (_t : lay 0 = (0, 0, 80)) : lay 852 = (2, 6, 3) := by decide +kernel
theorem lu_0_58 (_t : lay 0 = (0, 0, 80)) : 852 < N0 := by decide +kernel
theorem ff_0_58 (_t : lay 0 = (0, 0, 80)) : fin 0 58 = some 852 := by decide +kernel
theorem lf_0_59 (_t : lay 0 = (0, 0, 80)) : lay 853 = (1, 6, 0) := by decide +kernel
theorem ff_0_59 (_t : lay 0 = (0, 0, 80)) : fin 0 59 = some 853 := by decide +kernel
theorem lf_0_60 (_t : lay 0 = (0, 0, 80)) : lay 854 = (1, 6, 0) := by decide +kernel
theorem ff_0_60 (_t : lay 0 = (0, 0, 80)) : fin 0 60 = some 854 := by decide +kernel
theorem lf_0_61 (_t : lay 0 = (0, 0, 80)) : lay 855 = (2, 8, 3) := by decide +kernel
theorem lu_0_61 (_t : lay 0 = (0, 0, 80)) : 855 < N0 := by decide +kernel
theorem ff_0_61 (_t : lay 0 = (0, 0, 80)) : fin 0 61 = some 855 := by decide +kernel
theorem lf_0_63 (_t : lay 0 = (0, 0, 80)) : lay 856 = (0, 8, 7) := by decide +kernel
theorem ff_0_63 (_t : lay 0 = (0, 0, 80)) : fin 0 63 = some 856 := by decide +kernel
theorem lf_0_64 (_t : lay 0 = (0, 0, 80)) : lay 983 = (0, 8, 7) := by decide +kernel
theorem ff_0_64 (_t : lay 0 = (0, 0, 80)) : fin 0 64 = some 983 := by decide +kernel
theorem lf_0_65 (_t : lay 0 = (0, 0, 80)) : lay 1110 = (2, 7, 3) := by decide +kernel
theorem lu_0_65 (_t : lay 0 = (0, 0, 80)) : 1110 < N0 := by decide +kernel
theorem ff_0_65 (_t : lay 0 = (0, 0, 80)) : fin 0 65 = some 1110 := by decide +kernel
theorem lf_0_66 (_t : lay 0 = (0, 0, 80)) : lay 1111 = (1, 60, 0) := by decide +kernel
theorem ff_0_66 (_t : lay 0 = (0, 0, 80)) : fin 0 66 = some 1111 := by decide +kernel
theorem lf_0_67 (_t : lay 0 = (0, 0, 80)) : lay 1112 = (0, 3, 2) := by decide +kernel
theorem ff_0_67 (_t : lay 0 = (0, 0, 80)) : fin 0 67 = some 1112 := by decide +kernel
theorem lf_0_68 (_t : lay 0 = (0, 0, 80)) : lay 1114 = (1, 60, 0) := by decide +kernel
theorem ff_0_68 (_t : lay 0 = (0, 0, 80)) : fin 0 68 = some 1114 := by decide +kernel
theorem lf_0_70 (_t : lay 0 = (0, 0, 80)) : lay 1115 = (2, 60, 8) := by decide +kernel
theorem lu_0_70 (_t : lay 0 = (0, 0, 80)) : 1115 < N0 := by decide +kernel
theorem ff_0_70 (_t : lay 0 = (0, 0, 80)) : fin 0 70 = some 1115 := by decide +kernel
theorem lf_0_71 (_t : lay 0 = (0, 0, 80)) : lay 1176 = (1, 45, 0) := by decide +kernel
theorem ff_0_71 (_t : lay 0 = (0, 0, 80)) : fin 0 71 = some 1176 := by decide +kernel
theorem lf_0_72 (_t : lay 0 = (0, 0, 80)) : lay 1177 = (1, 24, 0) := by decide +kernel
theorem ff_0_72 (_t : lay 0 = (0, 0, 80)) : fin 0 72 = some 1177 := by decide +kernel
theorem lf_0_74 (_t : lay 0 = (0, 0, 80)) : lay 1178 = (0, 3, 2) := by decide +kernel
theorem ff_0_74 (_t : lay 0 = (0, 0, 80)) : fin 0 74 = some 1178 := by decide +kernel
theorem lf_0_75 (_t : lay 0 = (0, 0, 80)) : lay 1180 = (0, 3, 2) := by decide +kernel
theorem ff_0_75 (_t : lay 0 = (0, 0, 80)) : fin 0 75 = some 1180 := by decide +kernel
theorem lf_0_76 (_t : lay 0 = (0, 0, 80)) : lay 1182 = (2, 64, 3) := by decide +kernel
theorem lu_0_76 (_t : lay 0 = (0, 0, 80)) : 1182 < N0 := by decide +kernel
theorem ff_0_76 (_t : lay 0 = (0, 0, 80)) : fin 0 76 = some 1182 := by decide +kernel
theorem lf_0_78 (_t : lay 0 = (0, 0, 80)) : lay 1183 = (1, 2000, 0) := by decide +kernel
theorem ff_0_78 (_t : lay 0 = (0, 0, 80)) : fin 0 78 = some 1183 := by decide +kernel
theorem lf_0_79 (_t : lay 0 = (0, 0, 80)) : lay 1184 = (1, 2000, 0) := by decide +kernel
theorem ff_0_79 (_t : lay 0 = (0, 0, 80)) : fin 0 79 = some 1184 := by decide +kernel
theorem lf_1_0 (_t : lay 1 = (0, 1, 20)) : lay 2 = (0, 2, 3) := by decide +kernel
theorem ff_1_0 (_t : lay 1 = (0, 1, 20)) : fin 1 0 = some 2 := by decide +kernel
theorem lf_1_1 (_t : lay 1 = (0, 1, 20)) : lay 9 = (0, 3, 2) := by decide +kernel
theorem ff_1_1 (_t : lay 1 = (0, 1, 20)) : fin 1 1 = some 9 := by decide +kernel
theorem lf_1_2 (_t : lay 1 = (0, 1, 20)) : lay 11 = (0, 3, 2) := by decide +kernel
theorem ff_1_2 (_t : lay 1 = (0, 1, 20)) : fin 1 2 = some 11 := by decide +kernel
theorem lf_1_3 (_t : lay 1 = (0, 1, 20)) : lay 13 = (0, 3, 2) := by decide +kernel
theorem ff_1_3 (_t : lay 1 = (0, 1, 20)) : fin 1 3 = some 13 := by decide +kernel
theorem lf_1_4 (_t : lay 1 = (0, 1, 20)) : lay 15 = (0, 3, 2) := by decide +kernel
theorem ff_1_4 (_t : lay 1 = (0, 1, 20)) : fin 1 4 = some 15 := by decide +kernel
theorem lf_1_5 (_t : lay 1 = (0, 1, 20)) : lay 17 = (0, 3, 2) := by decide +kernel
theorem ff_1_5 (_t : lay 1 = (0, 1, 20)) : fin 1 5 = some 17 := by decide +kernel
theorem lf_1_6 (_t : lay 1 = (0, 1, 20)) : lay 19 = (0, 3, 2) := by decide +kernel
theorem ff_1_6 (_t : lay 1 = (0, 1, 20)) : fin 1 6 = some 19 := by decide +kernel
theorem lf_1_7 (_t : lay 1 = (0, 1, 20)) : lay 21 = (0, 3, 2) := by decide +kernel
theorem ff_1_7 (_t : lay 1 = (0, 1, 20)) : fin 1 7 = some 21 := by decide +kernel
theorem lf_1_8 (_t : lay 1 = (0, 1, 20)) : lay 23 = (0, 4, 4) := by decide +kernel
theorem ff_1_8 (_t : lay 1 = (0, 1, 20)) : fin 1 8 = some 23 := by decide +kernel
theorem lf_1_9 (_t : lay 1 = (0, 1, 20)) : lay 25 = (0, 4, 4) := by decide +kernel
theorem ff_1_9 (_t : lay 1 = (0, 1, 20)) : fin 1 9 = some 25 := by decide +kernel
theorem lf_1_10 (_t : lay 1 = (0, 1, 20)) : lay 27 = (0, 4, 4) := by decide +kernel
theorem ff_1_10 (_t : lay 1 = (0, 1, 20)) : fin 1 10 = some 27 := by decide +kernel
theorem lf_1_11 (_t : lay 1 = (0, 1, 20)) : lay 29 = (0, 4, 4) := by decide +kernel
theorem ff_1_11 (_t : lay 1 = (0, 1, 20)) : fin 1 11 = some 29 := by decide +kernel
theorem lf_1_12 (_t : lay 1 = (0, 1, 20)) : lay 31 = (0, 4, 4) := by decide +kernel
theorem ff_1_12 (_t : lay 1 = (0, 1, 20)) : fin 1 12 = some 31 := by decide +kernel
theorem lf_1_13 (_t : lay 1 = (0, 1, 20)) : lay 33 = (0, 4, 4) := by decide +kernel
theorem ff_1_13 (_t : lay 1 = (0, 1, 20)) : fin 1 13 = some 33 := by decide +kernel
theorem lf_1_14 (_t : lay 1 = (0, 1, 20)) : lay 35 = (1, 2000, 0) := by decide +kernel
theorem ff_1_14 (_t : lay 1 = (0, 1, 20)) : fin 1 14 = some 35 := by decide +kernel
theorem lf_1_15 (_t : lay 1 = (0, 1, 20)) : lay 36 = (1, 300000, 0) := by decide +kernel
theorem ff_1_15 (_t : lay 1 = (0, 1, 20)) : fin 1 15 = some 36 := by decide +kernel
theorem lf_1_16 (_t : lay 1 = (0, 1, 20)) : lay 37 = (1, 2000, 0) := by decide +kernel
theorem ff_1_16 (_t : lay 1 = (0, 1, 20)) : fin 1 16 = some 37 := by decide +kernel
theorem lf_1_17 (_t : lay 1 = (0, 1, 20)) : lay 38 = (1, 2000, 0) := by decide +kernel
theorem ff_1_17 (_t : lay 1 = (0, 1, 20)) : fin 1 17 = some 38 := by decide +kernel
theorem lf_7_1 (_t : lay 113 = (0, 7, 9)) : lay 114 = (2, 24, 9) := by decide +kernel
theorem lu_7_1 (_t : lay 113 = (0, 7, 9)) : 114 < N0 := by decide +kernel
theorem ff_7_1 (_t : lay 113 = (0, 7, 9)) : fin 113 1 = some 114 := by decide +kernel
theorem lf_7_2 (_t : lay 113 = (0, 7, 9)) : lay 139 = (0, 3, 2) := by decide +kernel
theorem ff_7_2 (_t : lay 113 = (0, 7, 9)) : fin 113 2 = some 139 := by decide +kernel
theorem lf_7_3 (_t : lay 113 = (0, 7, 9)) : lay 141 = (0, 3, 2) := by decide +kernel
theorem ff_7_3 (_t : lay 113 = (0, 7, 9)) : fin 113 3 = some 141 := by decide +kernel
theorem lf_7_4 (_t : lay 113 = (0, 7, 9)) : lay 143 = (0, 3, 2) := by decide +kernel
theorem ff_7_4 (_t : lay 113 = (0, 7, 9)) : fin 113 4 = some 143 := by decide +kernel
theorem lf_7_7 (_t : lay 113 = (0, 7, 9)) : lay 145 = (1, 14, 0) := by decide +kernel
theorem ff_7_7 (_t : lay 113 = (0, 7, 9)) : fin 113 7 = some 145 := by decide +kernel
theorem lf_8_0 {a : Nat} (t : isSh a) : lay (a + 1) = (2, 7, 9) := by rcases t with rfl | rfl <;> decide +kernel
theorem lu_8_0 {a : Nat} (t : isSh a) : (a + 1) < N0 := by rcases t with rfl | rfl <;> decide +kernel
theorem ff_8_0 {a : Nat} (t : isSh a) : fin a 0 = some (a + 1) := by rcases t with rfl | rfl <;> decide +kernel
theorem lf_8_1 {a : Nat} (t : isSh a) : lay (a + 9) = (2, 7, 3) := by rcases t with rfl | rfl <;> decide +kernel
theorem lu_8_1 {a : Nat} (t : isSh a) : (a + 9) < N0 := by rcases t with rfl | rfl <;> decide +kernel
theorem ff_8_1 {a : Nat} (t : isSh a) : fin a 1 = some (a + 9) := by rcases t with rfl | rfl <;> decide +kernel
theorem lf_8_2 {a : Nat} (t : isSh a) : lay (a + 10) = (2, 7, 3) := by rcases t with rfl | rfl <;> decide +kernel
theorem lu_8_2 {a : Nat} (t : isSh a) : (a + 10) < N0 := by rcases t with rfl | rfl <;> decide +kernel
theorem ff_8_2 {a : Nat} (t : isSh a) : fin a 2 = some (a + 10) := by rcases t with rfl | rfl <;> decide +kernel
theorem lf_8_3 {a : Nat} (t : isSh a) : lay (a + 11) = (0, 3, 2) := by rcases t with rfl | rfl <;> decide +kernel
theorem ff_8_3 {a : Nat} (t : isSh a) : fin a 3 = some (a + 11) := by rcases t with rfl | rfl <;> decide +kernel
theorem lf_8_5 {a : Nat} (t : isSh a) : lay (a + 13) = (0, 3, 2) := by rcases t with rfl | rfl <;> decide +kernel
theorem ff_8_5 {a : Nat} (t : isSh a) : fin a 5 = some (a + 13) := by rcases t with rfl | rfl <;> decide +kernel
theorem lf_10_0 (_t : lay 2759 = (0, 10, 65)) : lay 2760 = (2, 160, 10) := by decide +kernel
theorem lu_10_0 (_t : lay 2759 = (0, 10, 65)) : 2760 < N0 := by decide +kernel
theorem ff_10_0 (_t : lay 2759 = (0, 10, 65)) : fin 2759 0 = some 2760 := by decide +kernel
theorem lf_10_2 (_t : lay 2759 = (0, 10, 65)) : lay 2761 = (2, 44, 11) := by decide +kernel
theorem lu_10_2 (_t : lay 2759 = (0, 10, 65)) : 2761 < N0 := by decide +kernel
theorem ff_10_2 (_t : lay 2759 = (0, 10, 65)) : fin 2759 2 = some 2761 := by decide +kernel
theorem lf_10_4 (_t : lay 2759 = (0, 10, 65)) : lay 2762 = (1, 700, 0) := by decide +kernel
theorem ff_10_4 (_t : lay 2759 = (0, 10, 65)) : fin 2759 4 = some 2762 := by decide +kernel
theorem lf_10_5 (_t : lay 2759 = (0, 10, 65)) : lay 2763 = (2, 64, 8) := by decide +kernel
theorem lu_10_5 (_t : lay 2759 = (0, 10, 65)) : 2763 < N0 := by decide +kernel
theorem ff_10_5 (_t : lay 2759 = (0, 10, 65)) : fin 2759 5 = some 2763 := by decide +kernel
theorem lf_10_6 (_t : lay 2759 = (0, 10, 65)) : lay 2828 = (0, 11, 15) := by decide +kernel
theorem ff_10_6 (_t : lay 2759 = (0, 10, 65)) : fin 2759 6 = some 2828 := by decide +kernel
theorem lf_10_7 (_t : lay 2759 = (0, 10, 65)) : lay 2837 = (1, 13, 2) := by decide +kernel
theorem ff_10_7 (_t : lay 2759 = (0, 10, 65)) : fin 2759 7 = some 2837 := by decide +kernel
theorem lf_10_8 (_t : lay 2759 = (0, 10, 65)) : lay 2838 = (0, 12, 6) := by decide +kernel
theorem ff_10_8 (_t : lay 2759 = (0, 10, 65)) : fin 2759 8 = some 2838 := by decide +kernel
theorem lf_10_11 (_t : lay 2759 = (0, 10, 65)) : lay 2839 = (1, 400, 1) := by decide +kernel
theorem ff_10_11 (_t : lay 2759 = (0, 10, 65)) : fin 2759 11 = some 2839 := by decide +kernel
theorem lf_10_15 (_t : lay 2759 = (0, 10, 65)) : lay 2840 = (2, 130, 12) := by decide +kernel
theorem lu_10_15 (_t : lay 2759 = (0, 10, 65)) : 2840 < N0 := by decide +kernel
theorem ff_10_15 (_t : lay 2759 = (0, 10, 65)) : fin 2759 15 = some 2840 := by decide +kernel
theorem lf_10_20 (_t : lay 2759 = (0, 10, 65)) : lay 2841 = (2, 12, 12) := by decide +kernel
theorem lu_10_20 (_t : lay 2759 = (0, 10, 65)) : 2841 < N0 := by decide +kernel
theorem ff_10_20 (_t : lay 2759 = (0, 10, 65)) : fin 2759 20 = some 2841 := by decide +kernel
theorem lf_10_21 (_t : lay 2759 = (0, 10, 65)) : lay 2842 = (0, 11, 15) := by decide +kernel
theorem ff_10_21 (_t : lay 2759 = (0, 10, 65)) : fin 2759 21 = some 2842 := by decide +kernel
theorem lf_10_23 (_t : lay 2759 = (0, 10, 65)) : lay 2851 = (1, 4000, 1) := by decide +kernel
theorem ff_10_23 (_t : lay 2759 = (0, 10, 65)) : fin 2759 23 = some 2851 := by decide +kernel
theorem lf_10_26 (_t : lay 2759 = (0, 10, 65)) : lay 2852 = (1, 4000, 1) := by decide +kernel
theorem ff_10_26 (_t : lay 2759 = (0, 10, 65)) : fin 2759 26 = some 2852 := by decide +kernel
theorem lf_10_28 (_t : lay 2759 = (0, 10, 65)) : lay 2853 = (1, 60, 0) := by decide +kernel
theorem ff_10_28 (_t : lay 2759 = (0, 10, 65)) : fin 2759 28 = some 2853 := by decide +kernel
theorem lf_10_30 (_t : lay 2759 = (0, 10, 65)) : lay 2854 = (1, 30, 0) := by decide +kernel
theorem ff_10_30 (_t : lay 2759 = (0, 10, 65)) : fin 2759 30 = some 2854 := by decide +kernel
theorem lf_10_32 (_t : lay 2759 = (0, 10, 65)) : lay 2855 = (1, 120, 0) := by decide +kernel
theorem ff_10_32 (_t : lay 2759 = (0, 10, 65)) : fin 2759 32 = some 2855 := by decide +kernel
theorem lf_10_33 (_t : lay 2759 = (0, 10, 65)) : lay 2856 = (1, 120, 0) := by decide +kernel
theorem ff_10_33 (_t : lay 2759 = (0, 10, 65)) : fin 2759 33 = some 2856 := by decide +kernel
theorem lf_10_34 (_t : lay 2759 = (0, 10, 65)) : lay 2857 = (1, 120, 0) := by decide +kernel
theorem ff_10_34 (_t : lay 2759 = (0, 10, 65)) : fin 2759 34 = some 2857 := by decide +kernel
theorem lf_10_35 (_t : lay 2759 = (0, 10, 65)) : lay 2858 = (1, 120, 0) := by decide +kernel
theorem ff_10_35 (_t : lay 2759 = (0, 10, 65)) : fin 2759 35 = some 2858 := by decide +kernel
theorem lf_10_38 (_t : lay 2759 = (0, 10, 65)) : lay 2859 = (2, 48, 8) := by decide +kernel
theorem lu_10_38 (_t : lay 2759 = (0, 10, 65)) : 2859 < N0 := by decide +kernel
theorem ff_10_38 (_t : lay 2759 = (0, 10, 65)) : fin 2759 38 = some 2859 := by decide +kernel
theorem lf_10_44 (_t : lay 2759 = (0, 10, 65)) : lay 2908 = (2, 26, 13) := by decide +kernel
theorem lu_10_44 (_t : lay 2759 = (0, 10, 65)) : 2908 < N0 := by decide +kernel
theorem ff_10_44 (_t : lay 2759 = (0, 10, 65)) : fin 2759 44 = some 2908 := by decide +kernel
theorem lf_10_45 (_t : lay 2759 = (0, 10, 65)) : lay 2935 = (2, 14, 10) := by decide +kernel
theorem lu_10_45 (_t : lay 2759 = (0, 10, 65)) : 2935 < N0 := by decide +kernel
theorem ff_10_45 (_t : lay 2759 = (0, 10, 65)) : fin 2759 45 = some 2935 := by decide +kernel
theorem lf_10_46 (_t : lay 2759 = (0, 10, 65)) : lay 2936 = (1, 14, 2) := by decide +kernel
theorem ff_10_46 (_t : lay 2759 = (0, 10, 65)) : fin 2759 46 = some 2936 := by decide +kernel
theorem lf_10_47 (_t : lay 2759 = (0, 10, 65)) : lay 2937 = (1, 14, 0) := by decide +kernel
theorem ff_10_47 (_t : lay 2759 = (0, 10, 65)) : fin 2759 47 = some 2937 := by decide +kernel
theorem lf_10_49 (_t : lay 2759 = (0, 10, 65)) : lay 2938 = (2, 4, 11) := by decide +kernel
theorem lu_10_49 (_t : lay 2759 = (0, 10, 65)) : 2938 < N0 := by decide +kernel
theorem ff_10_49 (_t : lay 2759 = (0, 10, 65)) : fin 2759 49 = some 2938 := by decide +kernel
theorem lf_10_50 (_t : lay 2759 = (0, 10, 65)) : lay 2939 = (2, 4, 10) := by decide +kernel
theorem lu_10_50 (_t : lay 2759 = (0, 10, 65)) : 2939 < N0 := by decide +kernel
theorem ff_10_50 (_t : lay 2759 = (0, 10, 65)) : fin 2759 50 = some 2939 := by decide +kernel
theorem lf_10_51 (_t : lay 2759 = (0, 10, 65)) : lay 2940 = (2, 4, 8) := by decide +kernel
theorem lu_10_51 (_t : lay 2759 = (0, 10, 65)) : 2940 < N0 := by decide +kernel
theorem ff_10_51 (_t : lay 2759 = (0, 10, 65)) : fin 2759 51 = some 2940 := by decide +kernel
theorem lf_10_52 (_t : lay 2759 = (0, 10, 65)) : lay 2945 = (2, 4, 8) := by decide +kernel
theorem lu_10_52 (_t : lay 2759 = (0, 10, 65)) : 2945 < N0 := by decide +kernel
theorem ff_10_52 (_t : lay 2759 = (0, 10, 65)) : fin 2759 52 = some 2945 := by decide +kernel
theorem lf_10_53 (_t : lay 2759 = (0, 10, 65)) : lay 2950 = (2, 4, 11) := by decide +kernel
theorem lu_10_53 (_t : lay 2759 = (0, 10, 65)) : 2950 < N0 := by decide +kernel
theorem ff_10_53 (_t : lay 2759 = (0, 10, 65)) : fin 2759 53 = some 2950 := by decide +kernel
theorem lf_10_54 (_t : lay 2759 = (0, 10, 65)) : lay 2951 = (2, 4, 11) := by decide +kernel
theorem lu_10_54 (_t : lay 2759 = (0, 10, 65)) : 2951 < N0 := by decide +kernel
theorem ff_10_54 (_t : lay 2759 = (0, 10, 65)) : fin 2759 54 = some 2951 := by decide +kernel
theorem lf_10_55 (_t : lay 2759 = (0, 10, 65)) : lay 2952 = (2, 8, 10) := by decide +kernel
theorem lu_10_55 (_t : lay 2759 = (0, 10, 65)) : 2952 < N0 := by decide +kernel
theorem ff_10_55 (_t : lay 2759 = (0, 10, 65)) : fin 2759 55 = some 2952 := by decide +kernel
theorem lf_10_56 (_t : lay 2759 = (0, 10, 65)) : lay 2953 = (2, 7, 13) := by decide +kernel
theorem lu_10_56 (_t : lay 2759 = (0, 10, 65)) : 2953 < N0 := by decide +kernel
theorem ff_10_56 (_t : lay 2759 = (0, 10, 65)) : fin 2759 56 = some 2953 := by decide +kernel
theorem lf_10_57 (_t : lay 2759 = (0, 10, 65)) : lay 2961 = (2, 7, 13) := by decide +kernel
theorem lu_10_57 (_t : lay 2759 = (0, 10, 65)) : 2961 < N0 := by decide +kernel
theorem ff_10_57 (_t : lay 2759 = (0, 10, 65)) : fin 2759 57 = some 2961 := by decide +kernel
theorem lf_10_58 (_t : lay 2759 = (0, 10, 65)) : lay 2969 = (2, 7, 10) := by decide +kernel
theorem lu_10_58 (_t : lay 2759 = (0, 10, 65)) : 2969 < N0 := by decide +kernel
theorem ff_10_58 (_t : lay 2759 = (0, 10, 65)) : fin 2759 58 = some 2969 := by decide +kernel
theorem lf_10_59 (_t : lay 2759 = (0, 10, 65)) : lay 2970 = (2, 7, 10) := by decide +kernel
theorem lu_10_59 (_t : lay 2759 = (0, 10, 65)) : 2970 < N0 := by decide +kernel
theorem ff_10_59 (_t : lay 2759 = (0, 10, 65)) : fin 2759 59 = some 2970 := by decide +kernel
theorem lf_10_60 (_t : lay 2759 = (0, 10, 65)) : lay 2971 = (2, 60, 8) := by decide +kernel
theorem lu_10_60 (_t : lay 2759 = (0, 10, 65)) : 2971 < N0 := by decide +kernel
theorem ff_10_60 (_t : lay 2759 = (0, 10, 65)) : fin 2759 60 = some 2971 := by decide +kernel
theorem lf_10_61 (_t : lay 2759 = (0, 10, 65)) : lay 3032 = (1, 46, 0) := by decide +kernel
theorem ff_10_61 (_t : lay 2759 = (0, 10, 65)) : fin 2759 61 = some 3032 := by decide +kernel
theorem lf_10_62 (_t : lay 2759 = (0, 10, 65)) : lay 3033 = (1, 30, 0) := by decide +kernel
theorem ff_10_62 (_t : lay 2759 = (0, 10, 65)) : fin 2759 62 = some 3033 := by decide +kernel
theorem lf_10_64 (_t : lay 2759 = (0, 10, 65)) : lay 3034 = (1, 101, 0) := by decide +kernel
theorem ff_10_64 (_t : lay 2759 = (0, 10, 65)) : fin 2759 64 = some 3034 := by decide +kernel
theorem lf_7_0 (_t : lay 113 = (0, 7, 9)) : lay 1 = (0, 1, 20) := by decide +kernel
theorem ff_7_0 (_t : lay 113 = (0, 7, 9)) : fin 113 0 = some 1 := by decide +kernel
theorem lf_8_6 {a : Nat} (t : isSh a) : lay 0 = (0, 0, 80) := by rcases t with rfl | rfl <;> decide +kernel
theorem ff_8_6 {a : Nat} (t : isSh a) : fin a 6 = some 0 := by rcases t with rfl | rfl <;> decide +kernel
theorem fo_10_39 {a : Nat} (t : lay a = (0, 10, 65)) : fin a 39 = none := by simp only [fin, t]; rfl
theorem fo_10_40 {a : Nat} (t : lay a = (0, 10, 65)) : fin a 40 = none := by simp only [fin, t]; rfl
theorem fo_10_41 {a : Nat} (t : lay a = (0, 10, 65)) : fin a 41 = none := by simp only [fin, t]; rfl
theorem fo_10_42 {a : Nat} (t : lay a = (0, 10, 65)) : fin a 42 = none := by simp only [fin, t]; rfl
theorem fo_10_43 {a : Nat} (t : lay a = (0, 10, 65)) : fin a 43 = none := by simp only [fin, t]; rfl
theorem ly_0 : lay 0 = (0, 0, 80) := by decide +kernel
theorem ly_1 : lay 1 = (0, 1, 20) := by decide +kernel
theorem ly_7 : lay 113 = (0, 7, 9) := by decide +kernel
theorem ly_10 : lay 2759 = (0, 10, 65) := by decide +kernel
theorem fc_78 : (List.range 100).all (fun k => decide (fin 78 k = some (1509 + 10 * k)) && decide (lay (1509 + 10 * k) = (0, 5, 8)) && decide (1509 + 10 * k < N0)) = true := by decide +kernel
theorem fa_78 {i : Int32} {v : Nat} (hi : vp_in i 100) (e : v = 1509 + 10 * i.toNatClampNeg) : fin 78 i.toNatClampNeg = some v := by
  have h1 := List.all_eq_true.mp fc_78 _ (List.mem_range.mpr (vp_lt hi))
  simp only [Bool.and_eq_true, decide_eq_true_eq] at h1
  rw [e]; exact h1.1.1
theorem la_78 {i : Int32} {v : Nat} (hi : vp_in i 100) (e : v = 1509 + 10 * i.toNatClampNeg) : lay v = (0, 5, 8) := by
  have h1 := List.all_eq_true.mp fc_78 _ (List.mem_range.mpr (vp_lt hi))
  simp only [Bool.and_eq_true, decide_eq_true_eq] at h1
  rw [e]; exact h1.1.2
theorem lau_78 {i : Int32} {v : Nat} (hi : vp_in i 100) (e : v = 1509 + 10 * i.toNatClampNeg) : v < N0 := by
  have h1 := List.all_eq_true.mp fc_78 _ (List.mem_range.mpr (vp_lt hi))
  simp only [Bool.and_eq_true, decide_eq_true_eq] at h1
  rw [e]; exact h1.2
theorem fc_79 : (List.range 12).all (fun k => decide (fin 79 k = some (1185 + 27 * k)) && decide (lay (1185 + 27 * k) = (0, 9, 8)) && decide (1185 + 27 * k < N0)) = true := by decide +kernel
theorem fa_79 {i : Int32} {v : Nat} (hi : vp_in i 12) (e : v = 1185 + 27 * i.toNatClampNeg) : fin 79 i.toNatClampNeg = some v := by
  have h1 := List.all_eq_true.mp fc_79 _ (List.mem_range.mpr (vp_lt hi))
  simp only [Bool.and_eq_true, decide_eq_true_eq] at h1
  rw [e]; exact h1.1.1
theorem la_79 {i : Int32} {v : Nat} (hi : vp_in i 12) (e : v = 1185 + 27 * i.toNatClampNeg) : lay v = (0, 9, 8) := by
  have h1 := List.all_eq_true.mp fc_79 _ (List.mem_range.mpr (vp_lt hi))
  simp only [Bool.and_eq_true, decide_eq_true_eq] at h1
  rw [e]; exact h1.1.2
theorem lau_79 {i : Int32} {v : Nat} (hi : vp_in i 12) (e : v = 1185 + 27 * i.toNatClampNeg) : v < N0 := by
  have h1 := List.all_eq_true.mp fc_79 _ (List.mem_range.mpr (vp_lt hi))
  simp only [Bool.and_eq_true, decide_eq_true_eq] at h1
  rw [e]; exact h1.2
theorem fc_818 : (List.range 4).all (fun k => decide (fin 818 k = some (2509 + 11 * k)) && decide (lay (2509 + 11 * k) = (0, 4, 4)) && decide (2509 + 11 * k < N0)) = true := by decide +kernel
theorem fa_818 {i : Int32} {v : Nat} (hi : vp_in i 4) (e : v = 2509 + 11 * i.toNatClampNeg) : fin 818 i.toNatClampNeg = some v := by
  have h1 := List.all_eq_true.mp fc_818 _ (List.mem_range.mpr (vp_lt hi))
  simp only [Bool.and_eq_true, decide_eq_true_eq] at h1
  rw [e]; exact h1.1.1
theorem la_818 {i : Int32} {v : Nat} (hi : vp_in i 4) (e : v = 2509 + 11 * i.toNatClampNeg) : lay v = (0, 4, 4) := by
  have h1 := List.all_eq_true.mp fc_818 _ (List.mem_range.mpr (vp_lt hi))
  simp only [Bool.and_eq_true, decide_eq_true_eq] at h1
  rw [e]; exact h1.1.2
theorem lau_818 {i : Int32} {v : Nat} (hi : vp_in i 4) (e : v = 2509 + 11 * i.toNatClampNeg) : v < N0 := by
  have h1 := List.all_eq_true.mp fc_818 _ (List.mem_range.mpr (vp_lt hi))
  simp only [Bool.and_eq_true, decide_eq_true_eq] at h1
  rw [e]; exact h1.2
theorem fc_827 : (List.range 4).all (fun k => decide (fin 827 k = some (2511 + 11 * k)) && decide (lay (2511 + 11 * k) = (0, 3, 2)) && decide (2511 + 11 * k < N0)) = true := by decide +kernel
theorem fa_827 {i : Int32} {v : Nat} (hi : vp_in i 4) (e : v = 2511 + 11 * i.toNatClampNeg) : fin 827 i.toNatClampNeg = some v := by
  have h1 := List.all_eq_true.mp fc_827 _ (List.mem_range.mpr (vp_lt hi))
  simp only [Bool.and_eq_true, decide_eq_true_eq] at h1
  rw [e]; exact h1.1.1
theorem la_827 {i : Int32} {v : Nat} (hi : vp_in i 4) (e : v = 2511 + 11 * i.toNatClampNeg) : lay v = (0, 3, 2) := by
  have h1 := List.all_eq_true.mp fc_827 _ (List.mem_range.mpr (vp_lt hi))
  simp only [Bool.and_eq_true, decide_eq_true_eq] at h1
  rw [e]; exact h1.1.2
theorem lau_827 {i : Int32} {v : Nat} (hi : vp_in i 4) (e : v = 2511 + 11 * i.toNatClampNeg) : v < N0 := by
  have h1 := List.all_eq_true.mp fc_827 _ (List.mem_range.mpr (vp_lt hi))
  simp only [Bool.and_eq_true, decide_eq_true_eq] at h1
  rw [e]; exact h1.2
theorem fc_838 : (List.range 4).all (fun k => decide (fin 838 k = some (2513 + 11 * k)) && decide (lay (2513 + 11 * k) = (0, 6, 2)) && decide (2513 + 11 * k < N0)) = true := by decide +kernel
theorem fa_838 {i : Int32} {v : Nat} (hi : vp_in i 4) (e : v = 2513 + 11 * i.toNatClampNeg) : fin 838 i.toNatClampNeg = some v := by
  have h1 := List.all_eq_true.mp fc_838 _ (List.mem_range.mpr (vp_lt hi))
  simp only [Bool.and_eq_true, decide_eq_true_eq] at h1
  rw [e]; exact h1.1.1
theorem la_838 {i : Int32} {v : Nat} (hi : vp_in i 4) (e : v = 2513 + 11 * i.toNatClampNeg) : lay v = (0, 6, 2) := by
  have h1 := List.all_eq_true.mp fc_838 _ (List.mem_range.mpr (vp_lt hi))
  simp only [Bool.and_eq_true, decide_eq_true_eq] at h1
  rw [e]; exact h1.1.2
theorem lau_838 {i : Int32} {v : Nat} (hi : vp_in i 4) (e : v = 2513 + 11 * i.toNatClampNeg) : v < N0 := by
  have h1 := List.all_eq_true.mp fc_838 _ (List.mem_range.mpr (vp_lt hi))
  simp only [Bool.and_eq_true, decide_eq_true_eq] at h1
  rw [e]; exact h1.2
theorem fc_846 : (List.range 4).all (fun k => decide (fin 846 k = some (2518 + 11 * k)) && decide (lay (2518 + 11 * k) = (0, 3, 2)) && decide (2518 + 11 * k < N0)) = true := by decide +kernel
theorem fa_846 {i : Int32} {v : Nat} (hi : vp_in i 4) (e : v = 2518 + 11 * i.toNatClampNeg) : fin 846 i.toNatClampNeg = some v := by
  have h1 := List.all_eq_true.mp fc_846 _ (List.mem_range.mpr (vp_lt hi))
  simp only [Bool.and_eq_true, decide_eq_true_eq] at h1
  rw [e]; exact h1.1.1
theorem la_846 {i : Int32} {v : Nat} (hi : vp_in i 4) (e : v = 2518 + 11 * i.toNatClampNeg) : lay v = (0, 3, 2) := by
  have h1 := List.all_eq_true.mp fc_846 _ (List.mem_range.mpr (vp_lt hi))
  simp only [Bool.and_eq_true, decide_eq_true_eq] at h1
  rw [e]; exact h1.1.2
theorem lau_846 {i : Int32} {v : Nat} (hi : vp_in i 4) (e : v = 2518 + 11 * i.toNatClampNeg) : v < N0 := by
  have h1 := List.all_eq_true.mp fc_846 _ (List.mem_range.mpr (vp_lt hi))
  simp only [Bool.and_eq_true, decide_eq_true_eq] at h1
  rw [e]; exact h1.2
theorem fc_849 : (List.range 6).all (fun k => decide (fin 849 k = some (2553 + 8 * k)) && decide (lay (2553 + 8 * k) = (0, 4, 4)) && decide (2553 + 8 * k < N0)) = true := by decide +kernel
theorem fa_849 {i : Int32} {v : Nat} (hi : vp_in i 6) (e : v = 2553 + 8 * i.toNatClampNeg) : fin 849 i.toNatClampNeg = some v := by
  have h1 := List.all_eq_true.mp fc_849 _ (List.mem_range.mpr (vp_lt hi))
  simp only [Bool.and_eq_true, decide_eq_true_eq] at h1
  rw [e]; exact h1.1.1
theorem la_849 {i : Int32} {v : Nat} (hi : vp_in i 6) (e : v = 2553 + 8 * i.toNatClampNeg) : lay v = (0, 4, 4) := by
  have h1 := List.all_eq_true.mp fc_849 _ (List.mem_range.mpr (vp_lt hi))
  simp only [Bool.and_eq_true, decide_eq_true_eq] at h1
  rw [e]; exact h1.1.2
theorem lau_849 {i : Int32} {v : Nat} (hi : vp_in i 6) (e : v = 2553 + 8 * i.toNatClampNeg) : v < N0 := by
  have h1 := List.all_eq_true.mp fc_849 _ (List.mem_range.mpr (vp_lt hi))
  simp only [Bool.and_eq_true, decide_eq_true_eq] at h1
  rw [e]; exact h1.2
theorem fc_850 : (List.range 6).all (fun k => decide (fin 850 k = some (2555 + 8 * k)) && decide (lay (2555 + 8 * k) = (0, 4, 4)) && decide (2555 + 8 * k < N0)) = true := by decide +kernel
theorem fa_850 {i : Int32} {v : Nat} (hi : vp_in i 6) (e : v = 2555 + 8 * i.toNatClampNeg) : fin 850 i.toNatClampNeg = some v := by
  have h1 := List.all_eq_true.mp fc_850 _ (List.mem_range.mpr (vp_lt hi))
  simp only [Bool.and_eq_true, decide_eq_true_eq] at h1
  rw [e]; exact h1.1.1
theorem la_850 {i : Int32} {v : Nat} (hi : vp_in i 6) (e : v = 2555 + 8 * i.toNatClampNeg) : lay v = (0, 4, 4) := by
  have h1 := List.all_eq_true.mp fc_850 _ (List.mem_range.mpr (vp_lt hi))
  simp only [Bool.and_eq_true, decide_eq_true_eq] at h1
  rw [e]; exact h1.1.2
theorem lau_850 {i : Int32} {v : Nat} (hi : vp_in i 6) (e : v = 2555 + 8 * i.toNatClampNeg) : v < N0 := by
  have h1 := List.all_eq_true.mp fc_850 _ (List.mem_range.mpr (vp_lt hi))
  simp only [Bool.and_eq_true, decide_eq_true_eq] at h1
  rw [e]; exact h1.2
theorem fc_851 : (List.range 6).all (fun k => decide (fin 851 k = some (2557 + 8 * k)) && decide (lay (2557 + 8 * k) = (0, 3, 2)) && decide (2557 + 8 * k < N0)) = true := by decide +kernel
theorem fa_851 {i : Int32} {v : Nat} (hi : vp_in i 6) (e : v = 2557 + 8 * i.toNatClampNeg) : fin 851 i.toNatClampNeg = some v := by
  have h1 := List.all_eq_true.mp fc_851 _ (List.mem_range.mpr (vp_lt hi))
  simp only [Bool.and_eq_true, decide_eq_true_eq] at h1
  rw [e]; exact h1.1.1
theorem la_851 {i : Int32} {v : Nat} (hi : vp_in i 6) (e : v = 2557 + 8 * i.toNatClampNeg) : lay v = (0, 3, 2) := by
  have h1 := List.all_eq_true.mp fc_851 _ (List.mem_range.mpr (vp_lt hi))
  simp only [Bool.and_eq_true, decide_eq_true_eq] at h1
  rw [e]; exact h1.1.2
theorem lau_851 {i : Int32} {v : Nat} (hi : vp_in i 6) (e : v = 2557 + 8 * i.toNatClampNeg) : v < N0 := by
  have h1 := List.all_eq_true.mp fc_851 _ (List.mem_range.mpr (vp_lt hi))
  simp only [Bool.and_eq_true, decide_eq_true_eq] at h1
  rw [e]; exact h1.2
theorem fc_852 : (List.range 6).all (fun k => decide (fin 852 k = some (2559 + 8 * k)) && decide (lay (2559 + 8 * k) = (0, 3, 2)) && decide (2559 + 8 * k < N0)) = true := by decide +kernel
theorem fa_852 {i : Int32} {v : Nat} (hi : vp_in i 6) (e : v = 2559 + 8 * i.toNatClampNeg) : fin 852 i.toNatClampNeg = some v := by
  have h1 := List.all_eq_true.mp fc_852 _ (List.mem_range.mpr (vp_lt hi))
  simp only [Bool.and_eq_true, decide_eq_true_eq] at h1
  rw [e]; exact h1.1.1
theorem la_852 {i : Int32} {v : Nat} (hi : vp_in i 6) (e : v = 2559 + 8 * i.toNatClampNeg) : lay v = (0, 3, 2) := by
  have h1 := List.all_eq_true.mp fc_852 _ (List.mem_range.mpr (vp_lt hi))
  simp only [Bool.and_eq_true, decide_eq_true_eq] at h1
  rw [e]; exact h1.1.2
theorem lau_852 {i : Int32} {v : Nat} (hi : vp_in i 6) (e : v = 2559 + 8 * i.toNatClampNeg) : v < N0 := by
  have h1 := List.all_eq_true.mp fc_852 _ (List.mem_range.mpr (vp_lt hi))
  simp only [Bool.and_eq_true, decide_eq_true_eq] at h1
  rw [e]; exact h1.2
theorem fc_855 : (List.range 8).all (fun k => decide (fin 855 k = some (2601 + 2 * k)) && decide (lay (2601 + 2 * k) = (0, 3, 2)) && decide (2601 + 2 * k < N0)) = true := by decide +kernel
theorem fa_855 {i : Int32} {v : Nat} (hi : vp_in i 8) (e : v = 2601 + 2 * i.toNatClampNeg) : fin 855 i.toNatClampNeg = some v := by
  have h1 := List.all_eq_true.mp fc_855 _ (List.mem_range.mpr (vp_lt hi))
  simp only [Bool.and_eq_true, decide_eq_true_eq] at h1
  rw [e]; exact h1.1.1
theorem la_855 {i : Int32} {v : Nat} (hi : vp_in i 8) (e : v = 2601 + 2 * i.toNatClampNeg) : lay v = (0, 3, 2) := by
  have h1 := List.all_eq_true.mp fc_855 _ (List.mem_range.mpr (vp_lt hi))
  simp only [Bool.and_eq_true, decide_eq_true_eq] at h1
  rw [e]; exact h1.1.2
theorem lau_855 {i : Int32} {v : Nat} (hi : vp_in i 8) (e : v = 2601 + 2 * i.toNatClampNeg) : v < N0 := by
  have h1 := List.all_eq_true.mp fc_855 _ (List.mem_range.mpr (vp_lt hi))
  simp only [Bool.and_eq_true, decide_eq_true_eq] at h1
  rw [e]; exact h1.2
theorem fc_857 : (List.range 7).all (fun k => decide (fin 857 k = some (858 + 1 * k)) && decide (lay (858 + 1 * k) = (2, 6, 3)) && decide (858 + 1 * k < N0)) = true := by decide +kernel
theorem fa_857 {i : Int32} {v : Nat} (hi : vp_in i 7) (e : v = 858 + 1 * i.toNatClampNeg) : fin 857 i.toNatClampNeg = some v := by
  have h1 := List.all_eq_true.mp fc_857 _ (List.mem_range.mpr (vp_lt hi))
  simp only [Bool.and_eq_true, decide_eq_true_eq] at h1
  rw [e]; exact h1.1.1
theorem la_857 {i : Int32} {v : Nat} (hi : vp_in i 7) (e : v = 858 + 1 * i.toNatClampNeg) : lay v = (2, 6, 3) := by
  have h1 := List.all_eq_true.mp fc_857 _ (List.mem_range.mpr (vp_lt hi))
  simp only [Bool.and_eq_true, decide_eq_true_eq] at h1
  rw [e]; exact h1.1.2
theorem lau_857 {i : Int32} {v : Nat} (hi : vp_in i 7) (e : v = 858 + 1 * i.toNatClampNeg) : v < N0 := by
  have h1 := List.all_eq_true.mp fc_857 _ (List.mem_range.mpr (vp_lt hi))
  simp only [Bool.and_eq_true, decide_eq_true_eq] at h1
  rw [e]; exact h1.2
theorem fc_865 : (List.range 7).all (fun k => decide (fin 865 k = some (871 + 16 * k)) && decide (lay (871 + 16 * k) = (0, 3, 2)) && decide (871 + 16 * k < N0)) = true := by decide +kernel
theorem fa_865 {i : Int32} {v : Nat} (hi : vp_in i 7) (e : v = 871 + 16 * i.toNatClampNeg) : fin 865 i.toNatClampNeg = some v := by
  have h1 := List.all_eq_true.mp fc_865 _ (List.mem_range.mpr (vp_lt hi))
  simp only [Bool.and_eq_true, decide_eq_true_eq] at h1
  rw [e]; exact h1.1.1
theorem la_865 {i : Int32} {v : Nat} (hi : vp_in i 7) (e : v = 871 + 16 * i.toNatClampNeg) : lay v = (0, 3, 2) := by
  have h1 := List.all_eq_true.mp fc_865 _ (List.mem_range.mpr (vp_lt hi))
  simp only [Bool.and_eq_true, decide_eq_true_eq] at h1
  rw [e]; exact h1.1.2
theorem lau_865 {i : Int32} {v : Nat} (hi : vp_in i 7) (e : v = 871 + 16 * i.toNatClampNeg) : v < N0 := by
  have h1 := List.all_eq_true.mp fc_865 _ (List.mem_range.mpr (vp_lt hi))
  simp only [Bool.and_eq_true, decide_eq_true_eq] at h1
  rw [e]; exact h1.2
theorem fc_866 : (List.range 7).all (fun k => decide (fin 866 k = some (873 + 16 * k)) && decide (lay (873 + 16 * k) = (0, 3, 2)) && decide (873 + 16 * k < N0)) = true := by decide +kernel
theorem fa_866 {i : Int32} {v : Nat} (hi : vp_in i 7) (e : v = 873 + 16 * i.toNatClampNeg) : fin 866 i.toNatClampNeg = some v := by
  have h1 := List.all_eq_true.mp fc_866 _ (List.mem_range.mpr (vp_lt hi))
  simp only [Bool.and_eq_true, decide_eq_true_eq] at h1
  rw [e]; exact h1.1.1
theorem la_866 {i : Int32} {v : Nat} (hi : vp_in i 7) (e : v = 873 + 16 * i.toNatClampNeg) : lay v = (0, 3, 2) := by
  have h1 := List.all_eq_true.mp fc_866 _ (List.mem_range.mpr (vp_lt hi))
  simp only [Bool.and_eq_true, decide_eq_true_eq] at h1
  rw [e]; exact h1.1.2
theorem lau_866 {i : Int32} {v : Nat} (hi : vp_in i 7) (e : v = 873 + 16 * i.toNatClampNeg) : v < N0 := by
  have h1 := List.all_eq_true.mp fc_866 _ (List.mem_range.mpr (vp_lt hi))
  simp only [Bool.and_eq_true, decide_eq_true_eq] at h1
  rw [e]; exact h1.2
theorem fc_984 : (List.range 7).all (fun k => decide (fin 984 k = some (985 + 1 * k)) && decide (lay (985 + 1 * k) = (2, 6, 3)) && decide (985 + 1 * k < N0)) = true := by decide +kernel
theorem fa_984 {i : Int32} {v : Nat} (hi : vp_in i 7) (e : v = 985 + 1 * i.toNatClampNeg) : fin 984 i.toNatClampNeg = some v := by
  have h1 := List.all_eq_true.mp fc_984 _ (List.mem_range.mpr (vp_lt hi))
  simp only [Bool.and_eq_true, decide_eq_true_eq] at h1
  rw [e]; exact h1.1.1
theorem la_984 {i : Int32} {v : Nat} (hi : vp_in i 7) (e : v = 985 + 1 * i.toNatClampNeg) : lay v = (2, 6, 3) := by
  have h1 := List.all_eq_true.mp fc_984 _ (List.mem_range.mpr (vp_lt hi))
  simp only [Bool.and_eq_true, decide_eq_true_eq] at h1
  rw [e]; exact h1.1.2
theorem lau_984 {i : Int32} {v : Nat} (hi : vp_in i 7) (e : v = 985 + 1 * i.toNatClampNeg) : v < N0 := by
  have h1 := List.all_eq_true.mp fc_984 _ (List.mem_range.mpr (vp_lt hi))
  simp only [Bool.and_eq_true, decide_eq_true_eq] at h1
  rw [e]; exact h1.2
theorem fc_992 : (List.range 7).all (fun k => decide (fin 992 k = some (998 + 16 * k)) && decide (lay (998 + 16 * k) = (0, 3, 2)) && decide (998 + 16 * k < N0)) = true := by decide +kernel
theorem fa_992 {i : Int32} {v : Nat} (hi : vp_in i 7) (e : v = 998 + 16 * i.toNatClampNeg) : fin 992 i.toNatClampNeg = some v := by
  have h1 := List.all_eq_true.mp fc_992 _ (List.mem_range.mpr (vp_lt hi))
  simp only [Bool.and_eq_true, decide_eq_true_eq] at h1
  rw [e]; exact h1.1.1
theorem la_992 {i : Int32} {v : Nat} (hi : vp_in i 7) (e : v = 998 + 16 * i.toNatClampNeg) : lay v = (0, 3, 2) := by
  have h1 := List.all_eq_true.mp fc_992 _ (List.mem_range.mpr (vp_lt hi))
  simp only [Bool.and_eq_true, decide_eq_true_eq] at h1
  rw [e]; exact h1.1.2
theorem lau_992 {i : Int32} {v : Nat} (hi : vp_in i 7) (e : v = 998 + 16 * i.toNatClampNeg) : v < N0 := by
  have h1 := List.all_eq_true.mp fc_992 _ (List.mem_range.mpr (vp_lt hi))
  simp only [Bool.and_eq_true, decide_eq_true_eq] at h1
  rw [e]; exact h1.2
theorem fc_993 : (List.range 7).all (fun k => decide (fin 993 k = some (1000 + 16 * k)) && decide (lay (1000 + 16 * k) = (0, 3, 2)) && decide (1000 + 16 * k < N0)) = true := by decide +kernel
theorem fa_993 {i : Int32} {v : Nat} (hi : vp_in i 7) (e : v = 1000 + 16 * i.toNatClampNeg) : fin 993 i.toNatClampNeg = some v := by
  have h1 := List.all_eq_true.mp fc_993 _ (List.mem_range.mpr (vp_lt hi))
  simp only [Bool.and_eq_true, decide_eq_true_eq] at h1
  rw [e]; exact h1.1.1
theorem la_993 {i : Int32} {v : Nat} (hi : vp_in i 7) (e : v = 1000 + 16 * i.toNatClampNeg) : lay v = (0, 3, 2) := by
  have h1 := List.all_eq_true.mp fc_993 _ (List.mem_range.mpr (vp_lt hi))
  simp only [Bool.and_eq_true, decide_eq_true_eq] at h1
  rw [e]; exact h1.1.2
theorem lau_993 {i : Int32} {v : Nat} (hi : vp_in i 7) (e : v = 1000 + 16 * i.toNatClampNeg) : v < N0 := by
  have h1 := List.all_eq_true.mp fc_993 _ (List.mem_range.mpr (vp_lt hi))
  simp only [Bool.and_eq_true, decide_eq_true_eq] at h1
  rw [e]; exact h1.2
theorem fc_1110 : (List.range 7).all (fun k => decide (fin 1110 k = some (2617 + 2 * k)) && decide (lay (2617 + 2 * k) = (0, 3, 2)) && decide (2617 + 2 * k < N0)) = true := by decide +kernel
theorem fa_1110 {i : Int32} {v : Nat} (hi : vp_in i 7) (e : v = 2617 + 2 * i.toNatClampNeg) : fin 1110 i.toNatClampNeg = some v := by
  have h1 := List.all_eq_true.mp fc_1110 _ (List.mem_range.mpr (vp_lt hi))
  simp only [Bool.and_eq_true, decide_eq_true_eq] at h1
  rw [e]; exact h1.1.1
theorem la_1110 {i : Int32} {v : Nat} (hi : vp_in i 7) (e : v = 2617 + 2 * i.toNatClampNeg) : lay v = (0, 3, 2) := by
  have h1 := List.all_eq_true.mp fc_1110 _ (List.mem_range.mpr (vp_lt hi))
  simp only [Bool.and_eq_true, decide_eq_true_eq] at h1
  rw [e]; exact h1.1.2
theorem lau_1110 {i : Int32} {v : Nat} (hi : vp_in i 7) (e : v = 2617 + 2 * i.toNatClampNeg) : v < N0 := by
  have h1 := List.all_eq_true.mp fc_1110 _ (List.mem_range.mpr (vp_lt hi))
  simp only [Bool.and_eq_true, decide_eq_true_eq] at h1
  rw [e]; exact h1.2
theorem fc_1182 : (List.range 64).all (fun k => decide (fin 1182 k = some (2631 + 2 * k)) && decide (lay (2631 + 2 * k) = (0, 3, 2)) && decide (2631 + 2 * k < N0)) = true := by decide +kernel
theorem fa_1182 {i : Int32} {v : Nat} (hi : vp_in i 64) (e : v = 2631 + 2 * i.toNatClampNeg) : fin 1182 i.toNatClampNeg = some v := by
  have h1 := List.all_eq_true.mp fc_1182 _ (List.mem_range.mpr (vp_lt hi))
  simp only [Bool.and_eq_true, decide_eq_true_eq] at h1
  rw [e]; exact h1.1.1
theorem la_1182 {i : Int32} {v : Nat} (hi : vp_in i 64) (e : v = 2631 + 2 * i.toNatClampNeg) : lay v = (0, 3, 2) := by
  have h1 := List.all_eq_true.mp fc_1182 _ (List.mem_range.mpr (vp_lt hi))
  simp only [Bool.and_eq_true, decide_eq_true_eq] at h1
  rw [e]; exact h1.1.2
theorem lau_1182 {i : Int32} {v : Nat} (hi : vp_in i 64) (e : v = 2631 + 2 * i.toNatClampNeg) : v < N0 := by
  have h1 := List.all_eq_true.mp fc_1182 _ (List.mem_range.mpr (vp_lt hi))
  simp only [Bool.and_eq_true, decide_eq_true_eq] at h1
  rw [e]; exact h1.2
theorem fc_2760 : (List.range 160).all (fun k => decide (fin 2760 k = some (3035 + 2 * k)) && decide (lay (3035 + 2 * k) = (0, 13, 2)) && decide (3035 + 2 * k < N0)) = true := by decide +kernel
theorem fa_2760 {i : Int32} {v : Nat} (hi : vp_in i 160) (e : v = 3035 + 2 * i.toNatClampNeg) : fin 2760 i.toNatClampNeg = some v := by
  have h1 := List.all_eq_true.mp fc_2760 _ (List.mem_range.mpr (vp_lt hi))
  simp only [Bool.and_eq_true, decide_eq_true_eq] at h1
  rw [e]; exact h1.1.1
theorem la_2760 {i : Int32} {v : Nat} (hi : vp_in i 160) (e : v = 3035 + 2 * i.toNatClampNeg) : lay v = (0, 13, 2) := by
  have h1 := List.all_eq_true.mp fc_2760 _ (List.mem_range.mpr (vp_lt hi))
  simp only [Bool.and_eq_true, decide_eq_true_eq] at h1
  rw [e]; exact h1.1.2
theorem lau_2760 {i : Int32} {v : Nat} (hi : vp_in i 160) (e : v = 3035 + 2 * i.toNatClampNeg) : v < N0 := by
  have h1 := List.all_eq_true.mp fc_2760 _ (List.mem_range.mpr (vp_lt hi))
  simp only [Bool.and_eq_true, decide_eq_true_eq] at h1
  rw [e]; exact h1.2
theorem fc_2761 : (List.range 44).all (fun k => decide (fin 2761 k = some (3355 + 130 * k)) && decide (lay (3355 + 130 * k) = (0, 14, 2)) && decide (3355 + 130 * k < N0)) = true := by decide +kernel
theorem fa_2761 {i : Int32} {v : Nat} (hi : vp_in i 44) (e : v = 3355 + 130 * i.toNatClampNeg) : fin 2761 i.toNatClampNeg = some v := by
  have h1 := List.all_eq_true.mp fc_2761 _ (List.mem_range.mpr (vp_lt hi))
  simp only [Bool.and_eq_true, decide_eq_true_eq] at h1
  rw [e]; exact h1.1.1
theorem la_2761 {i : Int32} {v : Nat} (hi : vp_in i 44) (e : v = 3355 + 130 * i.toNatClampNeg) : lay v = (0, 14, 2) := by
  have h1 := List.all_eq_true.mp fc_2761 _ (List.mem_range.mpr (vp_lt hi))
  simp only [Bool.and_eq_true, decide_eq_true_eq] at h1
  rw [e]; exact h1.1.2
theorem lau_2761 {i : Int32} {v : Nat} (hi : vp_in i 44) (e : v = 3355 + 130 * i.toNatClampNeg) : v < N0 := by
  have h1 := List.all_eq_true.mp fc_2761 _ (List.mem_range.mpr (vp_lt hi))
  simp only [Bool.and_eq_true, decide_eq_true_eq] at h1
  rw [e]; exact h1.2
theorem fc_2763 : (List.range 64).all (fun k => decide (fin 2763 k = some (2764 + 1 * k)) && decide (lay (2764 + 1 * k) = (1, 700, 0)) && decide (2764 + 1 * k < N0)) = true := by decide +kernel
theorem fa_2763 {i : Int32} {v : Nat} (hi : vp_in i 64) (e : v = 2764 + 1 * i.toNatClampNeg) : fin 2763 i.toNatClampNeg = some v := by
  have h1 := List.all_eq_true.mp fc_2763 _ (List.mem_range.mpr (vp_lt hi))
  simp only [Bool.and_eq_true, decide_eq_true_eq] at h1
  rw [e]; exact h1.1.1
theorem la_2763 {i : Int32} {v : Nat} (hi : vp_in i 64) (e : v = 2764 + 1 * i.toNatClampNeg) : lay v = (1, 700, 0) := by
  have h1 := List.all_eq_true.mp fc_2763 _ (List.mem_range.mpr (vp_lt hi))
  simp only [Bool.and_eq_true, decide_eq_true_eq] at h1
  rw [e]; exact h1.1.2
theorem lau_2763 {i : Int32} {v : Nat} (hi : vp_in i 64) (e : v = 2764 + 1 * i.toNatClampNeg) : v < N0 := by
  have h1 := List.all_eq_true.mp fc_2763 _ (List.mem_range.mpr (vp_lt hi))
  simp only [Bool.and_eq_true, decide_eq_true_eq] at h1
  rw [e]; exact h1.2
theorem fc_2840 : (List.range 130).all (fun k => decide (fin 2840 k = some (9075 + 9 * k)) && decide (lay (9075 + 9 * k) = (0, 11, 15)) && decide (9075 + 9 * k < N0)) = true := by decide +kernel
theorem fa_2840 {i : Int32} {v : Nat} (hi : vp_in i 130) (e : v = 9075 + 9 * i.toNatClampNeg) : fin 2840 i.toNatClampNeg = some v := by
  have h1 := List.all_eq_true.mp fc_2840 _ (List.mem_range.mpr (vp_lt hi))
  simp only [Bool.and_eq_true, decide_eq_true_eq] at h1
  rw [e]; exact h1.1.1
theorem la_2840 {i : Int32} {v : Nat} (hi : vp_in i 130) (e : v = 9075 + 9 * i.toNatClampNeg) : lay v = (0, 11, 15) := by
  have h1 := List.all_eq_true.mp fc_2840 _ (List.mem_range.mpr (vp_lt hi))
  simp only [Bool.and_eq_true, decide_eq_true_eq] at h1
  rw [e]; exact h1.1.2
theorem lau_2840 {i : Int32} {v : Nat} (hi : vp_in i 130) (e : v = 9075 + 9 * i.toNatClampNeg) : v < N0 := by
  have h1 := List.all_eq_true.mp fc_2840 _ (List.mem_range.mpr (vp_lt hi))
  simp only [Bool.and_eq_true, decide_eq_true_eq] at h1
  rw [e]; exact h1.2
theorem fc_2841 : (List.range 12).all (fun k => decide (fin 2841 k = some (10245 + 9 * k)) && decide (lay (10245 + 9 * k) = (0, 11, 15)) && decide (10245 + 9 * k < N0)) = true := by decide +kernel
theorem fa_2841 {i : Int32} {v : Nat} (hi : vp_in i 12) (e : v = 10245 + 9 * i.toNatClampNeg) : fin 2841 i.toNatClampNeg = some v := by
  have h1 := List.all_eq_true.mp fc_2841 _ (List.mem_range.mpr (vp_lt hi))
  simp only [Bool.and_eq_true, decide_eq_true_eq] at h1
  rw [e]; exact h1.1.1
theorem la_2841 {i : Int32} {v : Nat} (hi : vp_in i 12) (e : v = 10245 + 9 * i.toNatClampNeg) : lay v = (0, 11, 15) := by
  have h1 := List.all_eq_true.mp fc_2841 _ (List.mem_range.mpr (vp_lt hi))
  simp only [Bool.and_eq_true, decide_eq_true_eq] at h1
  rw [e]; exact h1.1.2
theorem lau_2841 {i : Int32} {v : Nat} (hi : vp_in i 12) (e : v = 10245 + 9 * i.toNatClampNeg) : v < N0 := by
  have h1 := List.all_eq_true.mp fc_2841 _ (List.mem_range.mpr (vp_lt hi))
  simp only [Bool.and_eq_true, decide_eq_true_eq] at h1
  rw [e]; exact h1.2
theorem fc_2940 : (List.range 4).all (fun k => decide (fin 2940 k = some (2941 + 1 * k)) && decide (lay (2941 + 1 * k) = (1, 325, 0)) && decide (2941 + 1 * k < N0)) = true := by decide +kernel
theorem fa_2940 {i : Int32} {v : Nat} (hi : vp_in i 4) (e : v = 2941 + 1 * i.toNatClampNeg) : fin 2940 i.toNatClampNeg = some v := by
  have h1 := List.all_eq_true.mp fc_2940 _ (List.mem_range.mpr (vp_lt hi))
  simp only [Bool.and_eq_true, decide_eq_true_eq] at h1
  rw [e]; exact h1.1.1
theorem la_2940 {i : Int32} {v : Nat} (hi : vp_in i 4) (e : v = 2941 + 1 * i.toNatClampNeg) : lay v = (1, 325, 0) := by
  have h1 := List.all_eq_true.mp fc_2940 _ (List.mem_range.mpr (vp_lt hi))
  simp only [Bool.and_eq_true, decide_eq_true_eq] at h1
  rw [e]; exact h1.1.2
theorem lau_2940 {i : Int32} {v : Nat} (hi : vp_in i 4) (e : v = 2941 + 1 * i.toNatClampNeg) : v < N0 := by
  have h1 := List.all_eq_true.mp fc_2940 _ (List.mem_range.mpr (vp_lt hi))
  simp only [Bool.and_eq_true, decide_eq_true_eq] at h1
  rw [e]; exact h1.2
theorem fc_2945 : (List.range 4).all (fun k => decide (fin 2945 k = some (2946 + 1 * k)) && decide (lay (2946 + 1 * k) = (1, 325, 0)) && decide (2946 + 1 * k < N0)) = true := by decide +kernel
theorem fa_2945 {i : Int32} {v : Nat} (hi : vp_in i 4) (e : v = 2946 + 1 * i.toNatClampNeg) : fin 2945 i.toNatClampNeg = some v := by
  have h1 := List.all_eq_true.mp fc_2945 _ (List.mem_range.mpr (vp_lt hi))
  simp only [Bool.and_eq_true, decide_eq_true_eq] at h1
  rw [e]; exact h1.1.1
theorem la_2945 {i : Int32} {v : Nat} (hi : vp_in i 4) (e : v = 2946 + 1 * i.toNatClampNeg) : lay v = (1, 325, 0) := by
  have h1 := List.all_eq_true.mp fc_2945 _ (List.mem_range.mpr (vp_lt hi))
  simp only [Bool.and_eq_true, decide_eq_true_eq] at h1
  rw [e]; exact h1.1.2
theorem lau_2945 {i : Int32} {v : Nat} (hi : vp_in i 4) (e : v = 2946 + 1 * i.toNatClampNeg) : v < N0 := by
  have h1 := List.all_eq_true.mp fc_2945 _ (List.mem_range.mpr (vp_lt hi))
  simp only [Bool.and_eq_true, decide_eq_true_eq] at h1
  rw [e]; exact h1.2
theorem fc_2953 : (List.range 7).all (fun k => decide (fin 2953 k = some (2954 + 1 * k)) && decide (lay (2954 + 1 * k) = (2, 6, 10)) && decide (2954 + 1 * k < N0)) = true := by decide +kernel
theorem fa_2953 {i : Int32} {v : Nat} (hi : vp_in i 7) (e : v = 2954 + 1 * i.toNatClampNeg) : fin 2953 i.toNatClampNeg = some v := by
  have h1 := List.all_eq_true.mp fc_2953 _ (List.mem_range.mpr (vp_lt hi))
  simp only [Bool.and_eq_true, decide_eq_true_eq] at h1
  rw [e]; exact h1.1.1
theorem la_2953 {i : Int32} {v : Nat} (hi : vp_in i 7) (e : v = 2954 + 1 * i.toNatClampNeg) : lay v = (2, 6, 10) := by
  have h1 := List.all_eq_true.mp fc_2953 _ (List.mem_range.mpr (vp_lt hi))
  simp only [Bool.and_eq_true, decide_eq_true_eq] at h1
  rw [e]; exact h1.1.2
theorem lau_2953 {i : Int32} {v : Nat} (hi : vp_in i 7) (e : v = 2954 + 1 * i.toNatClampNeg) : v < N0 := by
  have h1 := List.all_eq_true.mp fc_2953 _ (List.mem_range.mpr (vp_lt hi))
  simp only [Bool.and_eq_true, decide_eq_true_eq] at h1
  rw [e]; exact h1.2
theorem fc_2961 : (List.range 7).all (fun k => decide (fin 2961 k = some (2962 + 1 * k)) && decide (lay (2962 + 1 * k) = (2, 6, 10)) && decide (2962 + 1 * k < N0)) = true := by decide +kernel
theorem fa_2961 {i : Int32} {v : Nat} (hi : vp_in i 7) (e : v = 2962 + 1 * i.toNatClampNeg) : fin 2961 i.toNatClampNeg = some v := by
  have h1 := List.all_eq_true.mp fc_2961 _ (List.mem_range.mpr (vp_lt hi))
  simp only [Bool.and_eq_true, decide_eq_true_eq] at h1
  rw [e]; exact h1.1.1
theorem la_2961 {i : Int32} {v : Nat} (hi : vp_in i 7) (e : v = 2962 + 1 * i.toNatClampNeg) : lay v = (2, 6, 10) := by
  have h1 := List.all_eq_true.mp fc_2961 _ (List.mem_range.mpr (vp_lt hi))
  simp only [Bool.and_eq_true, decide_eq_true_eq] at h1
  rw [e]; exact h1.1.2
theorem lau_2961 {i : Int32} {v : Nat} (hi : vp_in i 7) (e : v = 2962 + 1 * i.toNatClampNeg) : v < N0 := by
  have h1 := List.all_eq_true.mp fc_2961 _ (List.mem_range.mpr (vp_lt hi))
  simp only [Bool.and_eq_true, decide_eq_true_eq] at h1
  rw [e]; exact h1.2
theorem fg_9 {o i : Nat} (t : lay o = (0, 9, 8)) (hi : i < 7) : fin (o + 11) i = some (o + 13 + 2 * i) ∧ lay (o + 13 + 2 * i) = (0, 3, 2) := by
  have h10 : lay (o + 10) = (1, 60, 0) := l_exact (ci := 9) (k := 99) t (List.mem_of_getElem? (i := 10) rfl) (by decide)
  refine ⟨?_, ?_⟩
  · simp only [fin, lf_9_2 t, show o + 11 - 1 = o + 10 from rfl, h10, if_true, if_pos hi]
  · have h : (List.range 7).all (fun i => decide ((ltab 9)[i + 3]? = some (100 + i, 13 + 2 * i, 0, 3, 2))) = true := by decide +kernel
    have hj := List.all_eq_true.mp h i (List.mem_range.mpr hi)
    simp only [decide_eq_true_eq] at hj
    rw [Nat.add_assoc]
    exact l_exact (ci := 9) (k := 100 + i) (off := 13 + 2 * i) t (List.mem_of_getElem? hj) (by decide)
theorem fg_14 {o i : Nat} (t : lay o = (0, 14, 2)) (hi : i < 64) : fin (o + 1) i = some (o + 2 + 2 * i) ∧ lay (o + 2 + 2 * i) = (0, 13, 2) := by
  refine ⟨?_, ?_⟩
  · simp only [fin, lf_14_0 t, if_pos hi]
  · have h : (List.range 64).all (fun i => decide ((ltab 14)[i + 1]? = some (100 + i, 2 + 2 * i, 0, 13, 2))) = true := by decide +kernel
    have hj := List.all_eq_true.mp h i (List.mem_range.mpr hi)
    simp only [decide_eq_true_eq] at hj
    rw [Nat.add_assoc]
    exact l_exact (ci := 14) (k := 100 + i) (off := 2 + 2 * i) t (List.mem_of_getElem? hj) (by decide)
theorem fe_9 {o v : Nat} {i : Int32} (t : lay o = (0, 9, 8)) (hi : vp_in i 7) (e : v = o + 13 + 2 * i.toNatClampNeg) : fin (o + 11) i.toNatClampNeg = some v := by rw [e]; exact (fg_9 t (vp_lt hi)).1
theorem le_9 {o v : Nat} {i : Int32} (t : lay o = (0, 9, 8)) (hi : vp_in i 7) (e : v = o + 13 + 2 * i.toNatClampNeg) : lay v = (0, 3, 2) := by rw [e]; exact (fg_9 t (vp_lt hi)).2
theorem fe_14 {o v : Nat} {i : Int32} (t : lay o = (0, 14, 2)) (hi : vp_in i 64) (e : v = o + 2 + 2 * i.toNatClampNeg) : fin (o + 1) i.toNatClampNeg = some v := by rw [e]; exact (fg_14 t (vp_lt hi)).1
theorem le_14 {o v : Nat} {i : Int32} (t : lay o = (0, 14, 2)) (hi : vp_in i 64) (e : v = o + 2 + 2 * i.toNatClampNeg) : lay v = (0, 13, 2) := by rw [e]; exact (fg_14 t (vp_lt hi)).2
