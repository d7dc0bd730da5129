set_option maxRecDepth 100000
/-! TEXTS WRITTEN: parts, polynomials, items -/
section
variable {g : GX} {d n : Nat} {h h' h1 h2 : Hp} {L : List Int32}
theorem powB (b : Bool) : (if b = true then (1 : Int32) else 0) = 0 ↔ b = false := by cases b <;> decide
theorem ok_sayPart (hp : g.2.2.2.2 = true) {v : Fp} {i j : Nat} (hi : i < 1000000) (hj : j < 1000000) {b : Bool} (D : DR h L) (hl : L.length + 100 ≤ 1000000000) {Q : Hp → Prop} (q : ∀ h', Fdr h h' → DR h' (L ++ partS v i j b) → Q h') : CallV g m_X0_sayPart (d + 3) [.ref 0, .int (toI v), .int (nI i), .int (nI j), .int (if b = true then 1 else 0)] n h Q := by
  have sb := sml_bd v
  have e0 : ∀ x : Nat, x < 1000000 → (nI x = (0 : Int32) ↔ x = 0) := fun x hx => by rw [show (0 : Int32) = nI 0 from rfl, nI_eq (by omega) (by omega)]
  have e1 : ∀ x : Nat, x < 1000000 → (nI x ≤ (0 : Int32) ↔ x = 0) := fun x hx => by rw [show (0 : Int32) = nI 0 from rfl, nI_leI (by omega) (by omega)]; omega
  unfold partS at q
  -- k's power
  have j111 : ∀ (M : List Int32) (h1 : Hp), M.length + 50 ≤ 1000000000 → Fdr h h1 → DR h1 M → (∀ h', Fdr h h' → DR h' (M ++ powS 107 j) → Q h') → W_X0_sayPart g (d + 2) [.ref 0, .int (toI v), .int (nI i), .int (nI j), .int (if b = true then 1 else 0)] (QV n Q) n 111 [some (.ref 0), none, none, some (.int (nI j)), none, none, none] [] h1 := by
    intro M h1 hM f1 D1 q1
    exact s_X0_sayPart_111 hp (ok_sayPower hp (by decide) (by omega) D1 (by omega) (fun h2 f2 D2 => qV (q1 h2 (f1.tr f2) D2)))
  have j92 : ∀ (M : List Int32) (h1 : Hp), M.length + 60 ≤ 1000000000 → Fdr h h1 → DR h1 M → (∀ h', Fdr h h' → DR h' (M ++ (if 0 < j then (if numB v i j = true ∨ 0 < i then [42] else []) ++ powS 107 j else [])) → Q h') → W_X0_sayPart g (d + 2) [.ref 0, .int (toI v), .int (nI i), .int (nI j), .int (if b = true then 1 else 0)] (QV n Q) n 92 [some (.ref 0), none, some (.int (nI i)), some (.int (nI j)), none, none, some (.int (if numB v i j = true then 1 else 0))] [] h1 := by
    intro M h1 hM f1 D1 q1
    have star : (numB v i j = true ∨ 0 < i) → 0 < j → W_X0_sayPart g (d + 2) [.ref 0, .int (toI v), .int (nI i), .int (nI j), .int (if b = true then 1 else 0)] (QV n Q) n 105 [some (.ref 0), none, none, some (.int (nI j)), none, none, none] [] h1 := by
      intro w wj
      rw [if_pos wj, if_pos w] at q1
      refine s_X0_sayPart_105 hp (ok_say hp D1 (by decide) (by omega) (fun h2 f2 D2 => j111 _ h2 (by simp; omega) (f1.tr f2) D2 (fun h' f' D' => q1 h' f' ?_)))
      rw [List.append_assoc] at D'; exact D'
    refine s_X0_sayPart_92 hp ?_
    rw [e1 j hj, e1 i hi, powB]
    refine ⟨fun c => ?_, fun c => ⟨fun c2 => star (Or.inl (by simpa using c2)) (by omega), fun c2 => ⟨fun c3 => ?_, fun c3 => star (Or.inr (by omega)) (by omega)⟩⟩⟩
    · rw [if_neg (by omega), List.append_nil] at q1
      exact qV (q1 h1 f1 D1)
    · refine j111 M h1 (by omega) f1 D1 (fun h' f' D' => q1 h' f' ?_)
      rw [if_pos (by omega), if_neg (by rw [c2]; simp; omega), List.nil_append]
      exact D'
  have j85 : ∀ (M : List Int32) (h1 : Hp), M.length + 80 ≤ 1000000000 → 0 < i → Fdr h h1 → DR h1 M → (∀ h', Fdr h h' → DR h' (M ++ (powS 110 i ++ (if 0 < j then (if numB v i j = true ∨ 0 < i then [42] else []) ++ powS 107 j else []))) → Q h') → W_X0_sayPart g (d + 2) [.ref 0, .int (toI v), .int (nI i), .int (nI j), .int (if b = true then 1 else 0)] (QV n Q) n 85 [some (.ref 0), none, some (.int (nI i)), some (.int (nI j)), none, none, some (.int (if numB v i j = true then 1 else 0))] [] h1 := by
    intro M h1 hM wi0 f1 D1 q1
    have pl := powS_len 110 i
    refine s_X0_sayPart_85 hp (ok_sayPower hp (by decide) (by omega) D1 (by omega) (fun h2 f2 D2 => j92 _ h2 (by simp; omega) (f1.tr f2) D2 (fun h' f' D' => q1 h' f' ?_)))
    rw [List.append_assoc] at D'; exact D'
  have j70 : ∀ (M : List Int32) (h1 : Hp), M.length + 85 ≤ 1000000000 → Fdr h h1 → DR h1 M → (∀ h', Fdr h h' → DR h' (M ++ ((if 0 < i then (if numB v i j = true then [42] else []) ++ powS 110 i else []) ++ (if 0 < j then (if numB v i j = true ∨ 0 < i then [42] else []) ++ powS 107 j else []))) → Q h') → W_X0_sayPart g (d + 2) [.ref 0, .int (toI v), .int (nI i), .int (nI j), .int (if b = true then 1 else 0)] (QV n Q) n 70 [some (.ref 0), none, some (.int (nI i)), some (.int (nI j)), none, none, some (.int (if numB v i j = true then 1 else 0))] [] h1 := by
    intro M h1 hM f1 D1 q1
    refine s_X0_sayPart_70 hp ?_
    rw [e1 i hi, powB]
    refine ⟨fun c => j92 M h1 (by omega) f1 D1 (fun h' f' D' => q1 h' f' ?_), fun c => ⟨fun c2 => j85 M h1 (by omega) (by omega) f1 D1 (fun h' f' D' => q1 h' f' ?_), fun c2 => ok_say hp D1 (by decide) (by omega) (fun h2 f2 D2 => j85 _ h2 (by simp; omega) (by omega) (f1.tr f2) D2 (fun h' f' D' => q1 h' f' ?_))⟩⟩
    · rw [if_neg (show ¬ 0 < i by omega), List.nil_append]; exact D'
    · rw [if_pos (show 0 < i by omega), if_neg (show ¬ numB v i j = true by rw [c2]; decide), List.nil_append]; exact D'
    · rw [if_pos (show 0 < i by omega), if_pos (show numB v i j = true by simpa using c2)]
      rw [List.append_assoc] at D'
      rw [List.append_assoc]; exact D'
  have j57 : ∀ (M : List Int32) (h1 : Hp), M.length + 98 ≤ 1000000000 → Fdr h h1 → DR h1 M → (∀ h', Fdr h h' → DR h' (M ++ ((if numB v i j = true then numS (sml v).natAbs else []) ++ ((if 0 < i then (if numB v i j = true then [42] else []) ++ powS 110 i else []) ++ (if 0 < j then (if numB v i j = true ∨ 0 < i then [42] else []) ++ powS 107 j else [])))) → Q h') → ∀ x : Int32, x = (if numB v i j = true then 1 else 0) → W_X0_sayPart g (d + 2) [.ref 0, .int (toI v), .int (nI i), .int (nI j), .int (if b = true then 1 else 0)] (QV n Q) n 57 [some (.ref 0), none, some (.int (nI i)), some (.int (nI j)), none, some (.int (nI (sml v).natAbs)), none] [.int x] h1 := by
    intro M h1 hM f1 D1 q1 x ex
    have nl := numS_len (sml v).natAbs
    subst ex
    refine s_X0_sayPart_57 hp ?_
    rw [powB]
    refine ⟨fun c => j70 M h1 (by omega) f1 D1 (fun h' f' D' => q1 h' f' ?_), fun c => ok_sayNumber hp (by omega) D1 (by omega) (fun h2 f2 D2 => j70 _ h2 (by simp; omega) (f1.tr f2) D2 (fun h' f' D' => q1 h' f' ?_))⟩
    · rw [c, if_neg (show ¬ false = true by decide), List.nil_append]
      rw [c] at D'; exact D'
    · have ct : numB v i j = true := by simpa using c
      rw [List.append_assoc] at D'
      rw [if_pos ct]; exact D'
  have j31 : ∀ (M : List Int32) (h1 : Hp), M.length + 98 ≤ 1000000000 → Fdr h h1 → DR h1 M → (∀ h', Fdr h h' → DR h' (M ++ ((if numB v i j = true then numS (sml v).natAbs else []) ++ ((if 0 < i then (if numB v i j = true then [42] else []) ++ powS 110 i else []) ++ (if 0 < j then (if numB v i j = true ∨ 0 < i then [42] else []) ++ powS 107 j else [])))) → Q h') → W_X0_sayPart g (d + 2) [.ref 0, .int (toI v), .int (nI i), .int (nI j), .int (if b = true then 1 else 0)] (QV n Q) n 31 [some (.ref 0), none, some (.int (nI i)), some (.int (nI j)), none, some (.int (zI (sml v))), none] [] h1 := by
    intro M h1 hM f1 D1 q1
    have yes : ((sml v).natAbs ≠ 1 ∨ (i = 0 ∧ j = 0)) → W_X0_sayPart g (d + 2) [.ref 0, .int (toI v), .int (nI i), .int (nI j), .int (if b = true then 1 else 0)] (QV n Q) n 52 [some (.ref 0), none, some (.int (nI i)), some (.int (nI j)), none, some (.int (nI (sml v).natAbs)), none] [] h1 := fun w => s_X0_sayPart_52 hp (j57 M h1 hM f1 D1 q1 1 (by rw [if_pos (show numB v i j = true by unfold numB; exact decide_eq_true w)]))
    have no : ¬ ((sml v).natAbs ≠ 1 ∨ (i = 0 ∧ j = 0)) → W_X0_sayPart g (d + 2) [.ref 0, .int (toI v), .int (nI i), .int (nI j), .int (if b = true then 1 else 0)] (QV n Q) n 56 [some (.ref 0), none, some (.int (nI i)), some (.int (nI j)), none, some (.int (nI (sml v).natAbs)), none] [] h1 := fun w => s_X0_sayPart_56 hp (j57 M h1 hM f1 D1 q1 0 (by rw [if_neg (show ¬ numB v i j = true by unfold numB; rw [decide_eq_false w]; decide)]))
    refine s_X0_sayPart_31 hp (ok_abs hp (by omega) (by omega) ?_)
    rw [show (1 : Int32) = nI 1 from rfl, nI_eq (by omega) (by omega), e0 i hi, e0 j hj]
    exact ⟨fun c => yes (Or.inl c), fun c => ⟨fun c2 => no (by omega), fun c2 => ⟨fun c3 => no (by omega), fun c3 => yes (by omega)⟩⟩⟩
  refine okV 2 rfl rfl (s_X0_sayPart_0 hp (ok_small hp ?_))
  rw [show (0 : Int32) ≤ zI (sml v) ↔ 0 ≤ sml v by rw [z0, zI_le (by omega) (by omega) (by omega) (by omega)], powB]
  refine ⟨fun c => ⟨fun c2 => j31 L h (by omega) Fdr.rf D (fun h' f' D' => q h' f' ?_), fun c2 => ok_say hp D (by decide) (by omega) (fun h2 f2 D2 => j31 _ h2 (by simp; omega) f2 D2 (fun h' f' D' => q h' f' ?_))⟩, fun c => ok_say hp D (by decide) (by omega) (fun h2 f2 D2 => j31 _ h2 (by simp; omega) f2 D2 (fun h' f' D' => q h' f' ?_))⟩
  · rw [if_neg (show ¬ sml v < 0 by omega), if_pos (show b = true by simpa using c2), List.nil_append]; exact D'
  · rw [if_neg (show ¬ sml v < 0 by omega), if_neg (show ¬ b = true by rw [c2]; decide)]
    rw [List.append_assoc] at D'; exact D'
  · rw [if_pos (show sml v < 0 by omega)]
    rw [List.append_assoc] at D'; exact D'
end
/-- a row of a polynomial, all rows: what is said, and whether nothing was said yet -/
noncomputable def rowW (F : Bi) (j : Nat) : Nat → Bool → List Int32 × Bool
  | 0, b => ([], b)
  | i + 1, b => if cc F j i = 0 then rowW F j i b else (partS (cc F j i) i j b ++ (rowW F j i false).1, (rowW F j i false).2)
noncomputable def duoW (F : Bi) (N : Nat) : Nat → Bool → List Int32 × Bool
  | 0, b => ([], b)
  | j + 1, b => ((rowW F j N b).1 ++ (duoW F N j (rowW F j N b).2).1, (duoW F N j (rowW F j N b).2).2)
noncomputable def duoS (F : Bi) : List Int32 := (duoW F (bsn F) (bsz F) true).1 ++ (if (duoW F (bsn F) (bsz F) true).2 = true then [48] else [])
theorem rowW_ok (F : Bi) (j : Nat) : ∀ (i : Nat) (b : Bool), ascii (rowW F j i b).1 ∧ (rowW F j i b).1.length ≤ 60 * i
  | 0, b => ⟨ascii_nil, Nat.zero_le _⟩
  | i + 1, b => by
    show ascii (if cc F j i = 0 then rowW F j i b else _).1 ∧ (if cc F j i = 0 then rowW F j i b else _).1.length ≤ _
    split
    · have := rowW_ok F j i b
      exact ⟨this.1, by omega⟩
    · have h1 := rowW_ok F j i false
      have h2 := partS_len (cc F j i) i j b
      exact ⟨ascii_app (partS_ascii _ _ _ _) h1.1, by show (partS (cc F j i) i j b ++ (rowW F j i false).1).length ≤ _; rw [List.length_append]; omega⟩
theorem duoW_ok (F : Bi) (N : Nat) : ∀ (j : Nat) (b : Bool), ascii (duoW F N j b).1 ∧ (duoW F N j b).1.length ≤ 60 * N * j
  | 0, b => ⟨ascii_nil, Nat.zero_le _⟩
  | j + 1, b => by
    have h1 := rowW_ok F j N b
    have h2 := duoW_ok F N j (rowW F j N b).2
    refine ⟨ascii_app h1.1 h2.1, ?_⟩
    show ((rowW F j N b).1 ++ (duoW F N j (rowW F j N b).2).1).length ≤ _
    rw [List.length_append, Nat.mul_succ]; omega
theorem duoS_len {F : Bi} (h : fitB F) : (duoS F).length ≤ 20000 := by
  unfold duoS
  have h1 := (duoW_ok F (bsn F) (bsz F) true).2
  have h2 : 60 * bsn F * bsz F ≤ 60 * 25 * 13 := Nat.mul_le_mul (Nat.mul_le_mul_left _ h.1) h.2
  have h3 : (if (duoW F (bsn F) (bsz F) true).2 = true then [(48 : Int32)] else []).length ≤ 1 := len_ite (by simp) (by simp)
  rw [List.length_append]; omega
section
variable {g : GX} {d n : Nat} {h h' h1 h2 : Hp} {L : List Int32} {a : Nat}
theorem w_sd21 (hp : g.2.2.2.2 = true) (ta : lay a = (0, 4, 4)) (ha : a ≠ 0 ∧ a ≠ 90 ∧ a + 1 ≠ 90) {av : List Value} {F : Bi} {j : Nat} (hj : j < bsz F) {Q : QT} : ∀ (i : Nat) (b : Bool) (L : List Int32) (h : Hp), i ≤ bsn F → L.length + 60 * i + 100 ≤ 1000000000 → DI h a F → DR h L → (∀ h', Fdr h h' → DI h' a F → DR h' (L ++ (rowW F j i b).1) → W_X0_sayDuo g (d + 3) av Q n 9 [some (.ref 0), some (.ref a), some (.int (if (rowW F j i b).2 = true then 1 else 0)), some (.int (zI ((j : Int) - 1))), none] [] h') → W_X0_sayDuo g (d + 3) av Q n 21 [some (.ref 0), some (.ref a), some (.int (if b = true then 1 else 0)), some (.int (nI j)), some (.int (zI ((i : Int) - 1)))] [] h := by
  intro i
  induction i with
  | zero =>
    intro b L h hi hl H D q
    refine s_X0_sayDuo_21 hp ta ⟨fun _ => ?_, fun c => absurd ?_ c⟩
    · rw [show nI j + -1 = zI ((j : Int) - 1) by simp (disch := omega) only [nI_z, z0, z1, z2, zm1, zI_add, zI_sub, zI_neg, zI_mul, zI_le, zI_lt, zI_eq, zI_tN, zI_inI]; congr 1]
      refine q h Fdr.rf H ?_
      show DR h (L ++ [])
      rw [List.append_nil]; exact D
    · simp (disch := omega) only [nI_z, z0, z1, z2, zm1, zI_add, zI_sub, zI_neg, zI_mul, zI_le, zI_lt, zI_eq, zI_tN, zI_inI]; omega
  | succ i ih =>
    intro b L h hi hl H D q
    have lk := H.ltk
    have ln := H.ltn
    have e0 : zI (((i + 1 : Nat) : Int) - 1) = nI i := by rw [nI_z]; congr 1; omega
    have e1 : nI i + -1 = zI ((i : Int) - 1) := by simp (disch := omega) only [nI_z, z0, z1, z2, zm1, zI_add, zI_sub, zI_neg, zI_mul, zI_le, zI_lt, zI_eq, zI_tN, zI_inI]; congr 1
    rw [e0]
    refine s_X0_sayDuo_21 hp ta ⟨fun c => absurd c (nI_pos (by omega)), fun _ => ok_dget hp ta H ?_⟩
    rw [show ccI F (nI i) (nI j) = cc F j i by unfold ccI; rw [if_neg (by intro w; rcases w with w | w <;> exact nI_pos (by omega) w), nI_tN (by omega), nI_tN (by omega)], toI_eq0]
    refine ⟨fun c => s_X0_sayDuo_53 hp ta ?_, fun c => ok_dget hp ta H ?_⟩
    · rw [e1]
      have er : rowW F j (i + 1) b = rowW F j i b := by show (if cc F j i = 0 then _ else _) = _; rw [if_pos c]
      rw [er] at q
      exact ih b L h (by omega) (by omega) H D q
    · rw [show ccI F (nI i) (nI j) = cc F j i by unfold ccI; rw [if_neg (by intro w; rcases w with w | w <;> exact nI_pos (by omega) w), nI_tN (by omega), nI_tN (by omega)]]
      have er : rowW F j (i + 1) b = (partS (cc F j i) i j b ++ (rowW F j i false).1, (rowW F j i false).2) := by show (if cc F j i = 0 then _ else _) = _; rw [if_neg c]
      rw [er] at q
      have pl := partS_len (cc F j i) i j b
      refine ok_sayPart hp (by omega) (by omega) D (by omega) (fun h3 f3 D3 => s_X0_sayDuo_53 hp ta ?_)
      rw [e1]
      have H3 : DI h3 a F := H.fr f3.1 (by simp; omega) (by simp; omega)
      refine ih false _ h3 (by omega) (by simp; omega) H3 D3 (fun h' f' H' D' => q h' (f3.tr f') H' ?_)
      rw [List.append_assoc] at D'; exact D'
theorem w_sd9 (hp : g.2.2.2.2 = true) (ta : lay a = (0, 4, 4)) (ha : a ≠ 0 ∧ a ≠ 90 ∧ a + 1 ≠ 90) {av : List Value} {F : Bi} {Q : Hp → Prop} : ∀ (j : Nat) (b : Bool) (L : List Int32) (h : Hp), j ≤ bsz F → L.length + 60 * bsn F * j + 200 ≤ 1000000000 → DI h a F → DR h L → (∀ h', Fdr h h' → DR h' (L ++ ((duoW F (bsn F) j b).1 ++ (if (duoW F (bsn F) j b).2 = true then [48] else []))) → Q h') → W_X0_sayDuo g (d + 3) av (QV n Q) n 9 [some (.ref 0), some (.ref a), some (.int (if b = true then 1 else 0)), some (.int (zI ((j : Int) - 1))), none] [] h := by
  intro j
  induction j with
  | zero =>
    intro b L h hj hl H D q
    refine s_X0_sayDuo_9 hp ta ⟨fun _ => ?_, fun c => absurd ?_ c⟩
    · rw [powB]
      have q : ∀ h', Fdr h h' → DR h' (L ++ ([] ++ (if b = true then [48] else []))) → Q h' := q
      refine ⟨fun c => qV (q h Fdr.rf ?_), fun c => ok_say hp D (by decide) (by omega) (fun h2 f2 D2 => qV (q h2 f2 ?_))⟩
      · rw [if_neg (by rw [c]; decide), List.append_nil, List.append_nil]; exact D
      · rw [if_pos (by simpa using c), List.nil_append]; exact D2
    · simp (disch := omega) only [nI_z, z0, z1, z2, zm1, zI_add, zI_sub, zI_neg, zI_mul, zI_le, zI_lt, zI_eq, zI_tN, zI_inI]; omega
  | succ j ih =>
    intro b L h hj hl H D q
    have ln := H.ltn
    have lk := H.ltk
    have e0 : zI (((j + 1 : Nat) : Int) - 1) = nI j := by rw [nI_z]; congr 1; omega
    have rl := (rowW_ok F j (bsn F) b).2
    rw [Nat.mul_succ] at hl
    rw [e0]
    refine s_X0_sayDuo_9 hp ta ⟨fun c => absurd c (nI_pos (by omega)), fun _ => ?_⟩
    rw [H.n, show nI (bsn F) - 1 = zI (((bsn F : Nat) : Int) - 1) by simp (disch := omega) only [nI_z, z0, z1, z2, zm1, zI_add, zI_sub, zI_neg, zI_mul, zI_le, zI_lt, zI_eq, zI_tN, zI_inI]]
    refine w_sd21 hp ta ha (by omega) (bsn F) b L h (Nat.le_refl _) (by omega) H D (fun h1 f1 H1 D1 => ?_)
    refine ih (rowW F j (bsn F) b).2 _ h1 (by omega) (by rw [List.length_append]; omega) H1 D1 (fun h' f' D' => q h' (f1.tr f') ?_)
    rw [List.append_assoc] at D'
    show DR h' (L ++ (((rowW F j (bsn F) b).1 ++ (duoW F (bsn F) j (rowW F j (bsn F) b).2).1) ++ _))
    rw [List.append_assoc]; exact D'
theorem ok_sayDuo (hp : g.2.2.2.2 = true) (ta : lay a = (0, 4, 4)) (ha : a ≠ 0 ∧ a ≠ 90 ∧ a + 1 ≠ 90) {F : Bi} (hF : fitB F) (H : DI h a F) (D : DR h L) (hl : L.length + 30000 ≤ 1000000000) {Q : Hp → Prop} (q : ∀ h', Fdr h h' → DR h' (L ++ duoS F) → Q h') : CallV g m_X0_sayDuo (d + 4) [.ref 0, .ref a] n h Q := by
  refine okV 3 rfl rfl (s_X0_sayDuo_0 hp ta ?_)
  have h2 : 60 * bsn F * bsz F ≤ 60 * 25 * 13 := Nat.mul_le_mul (Nat.mul_le_mul_left _ hF.1) hF.2
  rw [H.k, show nI (bsz F) - 1 = zI (((bsz F : Nat) : Int) - 1) by simp (disch := omega) only [nI_z, z0, z1, z2, zm1, zI_add, zI_sub, zI_neg, zI_mul, zI_le, zI_lt, zI_eq, zI_tN, zI_inI]]
  exact w_sd9 hp ta ha (bsz F) true L h (Nat.le_refl _) (by omega) H D q
end
