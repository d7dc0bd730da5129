set_option maxRecDepth 100000
/-! ITEMS: one factorial more -/
section
variable {g : GX} {d n : Nat} {h h' : Hp} {a b c : Nat}
theorem ok_moveU (hp : g.2.2.2.2 = true) (ta : lay a = (0, 5, 8)) {len i : Nat} (Hc : ri h a 3 = nI len) (hi : i ≤ len) (hl : len + 1 ≤ 60) {Q : Hp → Prop} (q : ∀ h', Fr h h' [a + 6, a + 7, a + 8, a + 9] → (∀ c y, c = a + 6 ∨ c = a + 7 ∨ c = a + 8 ∨ c = a + 9 → ri h' c y = if i + 1 ≤ y ∧ y < len + 1 then ri h c (y - 1) else ri h c y) → Q h') : CallV g m_X5_move (d + 1) [.ref a, .int (nI i), .int 1] n h Q := by
  have o6 := fun k => okp_a (k := k) (lf_5_4 ta) (by decide)
  have o7 := fun k => okp_a (k := k) (lf_5_5 ta) (by decide)
  have o8 := fun k => okp_a (k := k) (lf_5_6 ta) (by decide)
  have o9 := fun k => okp_a (k := k) (lf_5_7 ta) (by decide)
  refine okV 0 rfl rfl (s_X5_move_0 hp ta ?_)
  rw [Hc, nI_1, pk_sub hi, nI_tN (by omega), nI_tN (by omega), nI_tN (by omega)]
  refine ⟨nI_pos (by omega), nI_pos (by omega), nI_pos (by omega), by omega, by omega, fun h1 e1 => ?_⟩
  have c1 : ri h1 a 3 = nI len := by rw [e1, ri_cpy, if_neg (by omega)]; exact Hc
  rw [c1, pk_sub hi, nI_tN (by omega)]
  refine ⟨nI_pos (by omega), nI_pos (by omega), nI_pos (by omega), by omega, by omega, fun h2 e2 => ?_⟩
  have c2 : ri h2 a 3 = nI len := by rw [e2, ri_cpy, if_neg (by omega)]; exact c1
  rw [c2, pk_sub hi, nI_tN (by omega)]
  refine ⟨nI_pos (by omega), nI_pos (by omega), nI_pos (by omega), by omega, by omega, fun h3 e3 => ?_⟩
  have c3 : ri h3 a 3 = nI len := by rw [e3, ri_cpy, if_neg (by omega)]; exact c2
  rw [c3, pk_sub hi, nI_tN (by omega)]
  refine ⟨nI_pos (by omega), nI_pos (by omega), nI_pos (by omega), by omega, by omega, fun h4 e4 => qV (q h4 ?_ (fun c y hc => ?_))⟩
  · rw [e4]
    exact Fr.cp (by rw [e3]; exact Fr.cp (by rw [e2]; exact Fr.cp (by rw [e1]; exact Fr.rf.cp (by simp) o6) (by simp) o7) (by simp) o8) (by simp) o9
  · rcases hc with rfl | rfl | rfl | rfl
    · rw [e4, ri_cpy, if_neg (by omega), e3, ri_cpy, if_neg (by omega), e2, ri_cpy, if_neg (by omega), e1, ri_cpy]
      by_cases z : i + 1 ≤ y ∧ y < len + 1
      · rw [if_pos ⟨rfl, by omega, by omega⟩, if_pos z, show i + (y - (i + 1)) = y - 1 by omega]
      · rw [if_neg (by omega), if_neg z]
    · rw [e4, ri_cpy, if_neg (by omega), e3, ri_cpy, if_neg (by omega), e2, ri_cpy]
      by_cases z : i + 1 ≤ y ∧ y < len + 1
      · rw [if_pos ⟨rfl, by omega, by omega⟩, if_pos z, show i + (y - (i + 1)) = y - 1 by omega, e1, ri_cpy, if_neg (by omega)]
      · rw [if_neg (by omega), if_neg z, e1, ri_cpy, if_neg (by omega)]
    · rw [e4, ri_cpy, if_neg (by omega), e3, ri_cpy]
      by_cases z : i + 1 ≤ y ∧ y < len + 1
      · rw [if_pos ⟨rfl, by omega, by omega⟩, if_pos z, show i + (y - (i + 1)) = y - 1 by omega, e2, ri_cpy, if_neg (by omega), e1, ri_cpy, if_neg (by omega)]
      · rw [if_neg (by omega), if_neg z, e2, ri_cpy, if_neg (by omega), e1, ri_cpy, if_neg (by omega)]
    · rw [e4, ri_cpy]
      by_cases z : i + 1 ≤ y ∧ y < len + 1
      · rw [if_pos ⟨rfl, by omega, by omega⟩, if_pos z, show i + (y - (i + 1)) = y - 1 by omega, e3, ri_cpy, if_neg (by omega), e2, ri_cpy, if_neg (by omega), e1, ri_cpy, if_neg (by omega)]
      · rw [if_neg (by omega), if_neg z, e3, ri_cpy, if_neg (by omega), e2, ri_cpy, if_neg (by omega), e1, ri_cpy, if_neg (by omega)]
theorem ok_moveD (hp : g.2.2.2.2 = true) (ta : lay a = (0, 5, 8)) {len i : Nat} (Hc : ri h a 3 = nI len) (hi : i + 1 ≤ len) (hl : len ≤ 60) {Q : Hp → Prop} (q : ∀ h', Fr h h' [a + 6, a + 7, a + 8, a + 9] → (∀ c y, c = a + 6 ∨ c = a + 7 ∨ c = a + 8 ∨ c = a + 9 → ri h' c y = if i ≤ y ∧ y < len - 1 then ri h c (y + 1) else ri h c y) → Q h') : CallV g m_X5_move (d + 1) [.ref a, .int (nI (i + 1)), .int (-1)] n h Q := by
  have o6 := fun k => okp_a (k := k) (lf_5_4 ta) (by decide)
  have o7 := fun k => okp_a (k := k) (lf_5_5 ta) (by decide)
  have o8 := fun k => okp_a (k := k) (lf_5_6 ta) (by decide)
  have o9 := fun k => okp_a (k := k) (lf_5_7 ta) (by decide)
  have em : nI (i + 1) + (-1 : Int32) = nI i := by simp (disch := omega) only [nI_z, z0, z1, z2, zm1, zI_add, zI_sub, zI_neg, zI_mul, zI_le, zI_lt, zI_eq, zI_tN, zI_inI]; congr 1; omega
  refine okV 0 rfl rfl (s_X5_move_0 hp ta ?_)
  rw [Hc, em, pk_sub hi, nI_tN (by omega), nI_tN (by omega), nI_tN (by omega)]
  refine ⟨nI_pos (by omega), nI_pos (by omega), nI_pos (by omega), by omega, by omega, fun h1 e1 => ?_⟩
  have c1 : ri h1 a 3 = nI len := by rw [e1, ri_cpy, if_neg (by omega)]; exact Hc
  rw [c1, pk_sub hi, nI_tN (by omega)]
  refine ⟨nI_pos (by omega), nI_pos (by omega), nI_pos (by omega), by omega, by omega, fun h2 e2 => ?_⟩
  have c2 : ri h2 a 3 = nI len := by rw [e2, ri_cpy, if_neg (by omega)]; exact c1
  rw [c2, pk_sub hi, nI_tN (by omega)]
  refine ⟨nI_pos (by omega), nI_pos (by omega), nI_pos (by omega), by omega, by omega, fun h3 e3 => ?_⟩
  have c3 : ri h3 a 3 = nI len := by rw [e3, ri_cpy, if_neg (by omega)]; exact c2
  rw [c3, pk_sub hi, nI_tN (by omega)]
  refine ⟨nI_pos (by omega), nI_pos (by omega), nI_pos (by omega), by omega, by omega, fun h4 e4 => qV (q h4 ?_ (fun c y hc => ?_))⟩
  · rw [e4]
    exact Fr.cp (by rw [e3]; exact Fr.cp (by rw [e2]; exact Fr.cp (by rw [e1]; exact Fr.rf.cp (by simp) o6) (by simp) o7) (by simp) o8) (by simp) o9
  · rcases hc with rfl | rfl | rfl | rfl
    · rw [e4, ri_cpy, if_neg (by omega), e3, ri_cpy, if_neg (by omega), e2, ri_cpy, if_neg (by omega), e1, ri_cpy]
      by_cases z : i ≤ y ∧ y < len - 1
      · rw [if_pos ⟨rfl, by omega, by omega⟩, if_pos z, show i + 1 + (y - i) = y + 1 by omega]
      · rw [if_neg (by omega), if_neg z]
    · rw [e4, ri_cpy, if_neg (by omega), e3, ri_cpy, if_neg (by omega), e2, ri_cpy]
      by_cases z : i ≤ y ∧ y < len - 1
      · rw [if_pos ⟨rfl, by omega, by omega⟩, if_pos z, show i + 1 + (y - i) = y + 1 by omega, e1, ri_cpy, if_neg (by omega)]
      · rw [if_neg (by omega), if_neg z, e1, ri_cpy, if_neg (by omega)]
    · rw [e4, ri_cpy, if_neg (by omega), e3, ri_cpy]
      by_cases z : i ≤ y ∧ y < len - 1
      · rw [if_pos ⟨rfl, by omega, by omega⟩, if_pos z, show i + 1 + (y - i) = y + 1 by omega, e2, ri_cpy, if_neg (by omega), e1, ri_cpy, if_neg (by omega)]
      · rw [if_neg (by omega), if_neg z, e2, ri_cpy, if_neg (by omega), e1, ri_cpy, if_neg (by omega)]
    · rw [e4, ri_cpy]
      by_cases z : i ≤ y ∧ y < len - 1
      · rw [if_pos ⟨rfl, by omega, by omega⟩, if_pos z, show i + 1 + (y - i) = y + 1 by omega, e3, ri_cpy, if_neg (by omega), e2, ri_cpy, if_neg (by omega), e1, ri_cpy, if_neg (by omega)]
      · rw [if_neg (by omega), if_neg z, e3, ri_cpy, if_neg (by omega), e2, ri_cpy, if_neg (by omega), e1, ri_cpy, if_neg (by omega)]
theorem bq_rg {q : Q4} (h : bq q) : (-2147483648 ≤ q.1 ∧ q.1 < 2147483648) ∧ (-2147483648 ≤ q.2.1 ∧ q.2.1 < 2147483648) ∧ (-2147483648 ≤ q.2.2.1 ∧ q.2.2.1 < 2147483648) ∧ (-2147483648 ≤ q.2.2.2 ∧ q.2.2.2 < 2147483648) := by
  obtain ⟨h1, h2, h3, h4⟩ := h
  refine ⟨?_, ?_, ?_, ?_⟩ <;> omega
theorem FA.lt {L : List Q4} {i : Nat} {r : Q4} (e : L[i]? = some r) : i < L.length := by
  apply Nat.not_le.mp
  intro z
  rw [List.getElem?_eq_none z] at e
  cases e
theorem FA.mem {L : List Q4} {i : Nat} {r : Q4} (e : L[i]? = some r) : r ∈ L := List.mem_of_getElem? e
/-- put in at a place -/
theorem w_iadd157 (hp : g.2.2.2.2 = true) (ta : lay a = (0, 5, 8)) {av : List Value} {L : List Q4} {q : Q4} {i : Nat} (hq : bq q) (HL : FA h a L) (hi : i ≤ L.length) (hl : L.length + 1 ≤ 60) {Q : Hp → Prop} (k : ∀ h', Fr h h' (Lcp a) → (∀ y, y ≠ 3 → ri h' a y = ri h a y) → FA h' a (L.insertIdx i q) → Q h') : W_X5_add g (d + 1) av (QV n Q) n 157 [some (.ref a), some (.int (zI q.1)), some (.int (zI q.2.1)), some (.int (zI q.2.2.1)), some (.int (zI q.2.2.2)), some (.int (nI i))] [] h := by
  have o6 := fun k => okp_a (k := k) (lf_5_4 ta) (by decide)
  have o7 := fun k => okp_a (k := k) (lf_5_5 ta) (by decide)
  have o8 := fun k => okp_a (k := k) (lf_5_6 ta) (by decide)
  have o9 := fun k => okp_a (k := k) (lf_5_7 ta) (by decide)
  have oa := fun k => okp_o (k := k) ta (Or.inr (by decide))
  refine s_X5_add_157 hp ta (ok_moveU hp ta HL.1 hi hl (fun h1 f1 m1 h2 e2 => ?_))
  have c1 : ri h1 a 3 = nI L.length := by rw [f1.gi (by simp)]; exact HL.1
  rw [c1, nI_1] at e2
  rw [nI_tN (by omega)]
  refine ⟨nI_inL (by omega) (by omega), fun h3 e3 => ⟨nI_inL (by omega) (by omega), fun h4 e4 => ⟨nI_inL (by omega) (by omega), fun h5 e5 => ⟨nI_inL (by omega) (by omega), fun h6 e6 => qV (k h6 ?_ (fun y hy => ?_) ⟨?_, ?_, fun r hr => ?_, fun j r er => ?_⟩)⟩⟩⟩⟩
  · rw [e6]
    exact Fr.put (by rw [e5]; exact Fr.put (by rw [e4]; exact Fr.put (by rw [e3]; exact Fr.put (by rw [e2]; exact (f1.mono (by simp)).put (by simp) (oa _)) (by simp) (o6 _)) (by simp) (o7 _)) (by simp) (o8 _)) (by simp) (o9 _)
  · rw [e6, ri_ne (by omega), e5, ri_ne (by omega), e4, ri_ne (by omega), e3, ri_ne (by omega), e2, ri_ne' hy, f1.gi (by simp)]
  · rw [e6, ri_ne (by omega), e5, ri_ne (by omega), e4, ri_ne (by omega), e3, ri_ne (by omega), e2, ri_same, List.length_insertIdx_of_le_length hi]
  · rw [List.length_insertIdx_of_le_length hi]; exact hl
  · rcases (List.mem_insertIdx hi).mp hr with e | e
    · rw [e]; exact hq
    · exact HL.2.2.1 r e
  · have g6 : ri h6 (a + 6) j = if j = i then zI q.1 else ri h1 (a + 6) j := by
      rw [e6, ri_ne (by omega), e5, ri_ne (by omega), e4, ri_ne (by omega), e3, ri_wi, e2, ri_ne (by omega)]
      by_cases z : j = i
      · rw [if_pos ⟨rfl, z⟩, if_pos z]
      · rw [if_neg (fun w => z w.2), if_neg z]
    have g7 : ri h6 (a + 7) j = if j = i then zI q.2.1 else ri h1 (a + 7) j := by
      rw [e6, ri_ne (by omega), e5, ri_ne (by omega), e4, ri_wi, e3, ri_ne (by omega), e2, ri_ne (by omega)]
      by_cases z : j = i
      · rw [if_pos ⟨rfl, z⟩, if_pos z]
      · rw [if_neg (fun w => z w.2), if_neg z]
    have g8 : ri h6 (a + 8) j = if j = i then zI q.2.2.1 else ri h1 (a + 8) j := by
      rw [e6, ri_ne (by omega), e5, ri_wi, e4, ri_ne (by omega), e3, ri_ne (by omega), e2, ri_ne (by omega)]
      by_cases z : j = i
      · rw [if_pos ⟨rfl, z⟩, if_pos z]
      · rw [if_neg (fun w => z w.2), if_neg z]
    have g9 : ri h6 (a + 9) j = if j = i then zI q.2.2.2 else ri h1 (a + 9) j := by
      rw [e6, ri_wi, e5, ri_ne (by omega), e4, ri_ne (by omega), e3, ri_ne (by omega), e2, ri_ne (by omega)]
      by_cases z : j = i
      · rw [if_pos ⟨rfl, z⟩, if_pos z]
      · rw [if_neg (fun w => z w.2), if_neg z]
    rw [g6, g7, g8, g9, m1 (a + 6) j (by simp), m1 (a + 7) j (by simp), m1 (a + 8) j (by simp), m1 (a + 9) j (by simp)]
    rw [List.getElem?_insertIdx] at er
    by_cases z1 : j < i
    · rw [if_pos z1] at er
      rw [if_neg (by omega), if_neg (by omega), if_neg (by omega), if_neg (by omega), if_neg (by omega), if_neg (by omega), if_neg (by omega), if_neg (by omega)]
      exact HL.2.2.2 j r er
    · rw [if_neg z1] at er
      by_cases z2 : j = i
      · rw [if_pos z2, if_pos (by omega)] at er
        injection er with er
        rw [if_pos z2, if_pos z2, if_pos z2, if_pos z2, er]
        exact ⟨rfl, rfl, rfl, rfl⟩
      · rw [if_neg z2] at er
        have hj := FA.lt er
        rw [if_neg z2, if_neg z2, if_neg z2, if_neg z2, if_pos (by omega), if_pos (by omega), if_pos (by omega), if_pos (by omega)]
        exact HL.2.2.2 (j - 1) r er
/-- at the place that was found -/
theorem w_iadd73 (hp : g.2.2.2.2 = true) (ta : lay a = (0, 5, 8)) {av : List Value} {L : List Q4} {q : Q4} (hq : bq q) (HL : FA h a L) (hl : L.length + 1 ≤ 60) (hE : ∀ r, r ∈ L → bq (r.1, r.2.1, r.2.2.1, r.2.2.2 + q.2.2.2)) (hi : fpos q L ≤ L.length) {Q : Hp → Prop} (k : ∀ h', Fr h h' (Lcp a) → (∀ y, y ≠ 3 → ri h' a y = ri h a y) → FA h' a (insF q L) → Q h') : W_X5_add g (d + 1) av (QV n Q) n 73 [some (.ref a), some (.int (zI q.1)), some (.int (zI q.2.1)), some (.int (zI q.2.2.1)), some (.int (zI q.2.2.2)), some (.int (nI (fpos q L)))] [] h := by
  have o9 := fun k => okp_a (k := k) (lf_5_7 ta) (by decide)
  have oa := fun k => okp_o (k := k) ta (Or.inr (by decide))
  have rq := bq_rg hq
  refine s_X5_add_73 hp ta ?_
  rw [HL.1, nI_leI (by omega) (by omega), nI_tN (by omega)]
  refine ⟨fun c => ?_, fun c => ?_⟩
  · refine w_iadd157 hp ta hq HL hi hl (fun h' k1 k2 k3 => k h' k1 k2 ?_)
    have e : insF q L = L.insertIdx (fpos q L) q := by
      unfold insF
      rw [List.getElem?_eq_none (by omega)]
    rw [e]; exact k3
  · have hlt : fpos q L < L.length := by omega
    obtain ⟨r, er⟩ : ∃ r, L[fpos q L]? = some r := ⟨_, List.getElem?_eq_getElem hlt⟩
    obtain ⟨r6, r7, r8, r9⟩ := HL.2.2.2 _ r er
    have rb := bq_rg (HL.2.2.1 r (FA.mem er))
    have re := bq_rg (hE r (FA.mem er))
    have hin : vp_in (nI (fpos q L)) 60 := nI_inL (by omega) (by omega)
    have ne : ¬ (r.1 = q.1 ∧ r.2.1 = q.2.1 ∧ r.2.2.1 = q.2.2.1) → W_X5_add g (d + 1) av (QV n Q) n 157 [some (.ref a), some (.int (zI q.1)), some (.int (zI q.2.1)), some (.int (zI q.2.2.1)), some (.int (zI q.2.2.2)), some (.int (nI (fpos q L)))] [] h := by
      intro hne
      refine w_iadd157 hp ta hq HL hi hl (fun h' k1 k2 k3 => k h' k1 k2 ?_)
      have e : insF q L = L.insertIdx (fpos q L) q := by
        unfold insF
        rw [er]
        show (if _ then _ else _) = _
        rw [if_neg hne]
      rw [e]; exact k3
    rw [r6, r7, r8, r9, zI_eq rb.1.1 rb.1.2 rq.1.1 rq.1.2, zI_eq rb.2.1.1 rb.2.1.2 rq.2.1.1 rq.2.1.2, zI_eq rb.2.2.1.1 rb.2.2.1.2 rq.2.2.1.1 rq.2.2.1.2, zI_add]
    refine ⟨hin, fun c1 => ne (fun z => c1 z.1), fun c1 => ⟨hin, fun c2 => ne (fun z => c2 z.2.1), fun c2 => ⟨hin, fun c3 => ne (fun z => c3 z.2.2), fun c3 => ⟨hin, hin, fun h1 e1 => ⟨hin, ?_⟩⟩⟩⟩⟩
    have e2 : ri h1 (a + 9) (fpos q L) = zI (r.2.2.2 + q.2.2.2) := by rw [e1, ri_same]
    have f1 : Fr h h1 (Lcp a) := by rw [e1]; exact Fr.rf.put (by simp) (o9 _)
    have ga : ∀ y, ri h1 a y = ri h a y := fun y => by rw [e1, ri_ne (by omega)]
    rw [e2, z0, zI_eq re.2.2.2.1 re.2.2.2.2 (by omega) (by omega), nI_1]
    refine ⟨fun c4 => qV (k h1 f1 (fun y _ => ga y) ?_), fun c4 => ?_⟩
    · have e : insF q L = L.set (fpos q L) (r.1, r.2.1, r.2.2.1, r.2.2.2 + q.2.2.2) := by
        unfold insF
        rw [er]
        show (if _ then _ else _) = _
        rw [if_pos ⟨c1, c2, c3⟩, if_neg c4]
      rw [e]
      refine ⟨by rw [ga, List.length_set]; exact HL.1, by rw [List.length_set]; omega, fun w hw => ?_, fun j w ew => ?_⟩
      · rcases List.mem_or_eq_of_mem_set hw with z | z
        · exact HL.2.2.1 w z
        · rw [z]; exact hE r (FA.mem er)
      · rw [List.getElem?_set] at ew
        by_cases z : fpos q L = j
        · rw [if_pos z, if_pos hlt] at ew
          injection ew with ew
          rw [← z, e1, ri_ne (by omega), ri_ne (by omega), ri_ne (by omega), ri_same, ← ew, r6, r7, r8]
          exact ⟨rfl, rfl, rfl, rfl⟩
        · rw [if_neg z] at ew
          rw [e1, ri_ne (by omega), ri_ne (by omega), ri_ne (by omega), ri_ne' (fun w => z w.symm)]
          exact HL.2.2.2 j w ew
    · have c1' : ri h1 a 3 = nI L.length := by rw [ga]; exact HL.1
      refine ok_moveD hp ta c1' (by omega) (by omega) (fun h2 f2 m2 h3 e3 => qV (k h3 ?_ (fun y hy => ?_) ?_))
      · rw [e3]; exact Fr.put (f1.tr (f2.mono (by simp))) (by simp) (oa _)
      · rw [e3, ri_ne' hy, f2.gi (by simp), ga]
      · have e : insF q L = L.eraseIdx (fpos q L) := by
          unfold insF
          rw [er]
          show (if _ then _ else _) = _
          rw [if_pos ⟨c1, c2, c3⟩, if_pos c4]
        rw [e]
        have c2' : ri h2 a 3 = nI L.length := by rw [f2.gi (by simp)]; exact c1'
        refine ⟨by rw [e3, ri_same, c2', nI_sub1 (by omega), List.length_eraseIdx_of_lt hlt], by rw [List.length_eraseIdx_of_lt hlt]; omega, fun w hw => HL.2.2.1 w (List.mem_of_mem_eraseIdx hw), fun j w ew => ?_⟩
        rw [e3, ri_ne (by omega), ri_ne (by omega), ri_ne (by omega), ri_ne (by omega), m2 (a + 6) j (by simp), m2 (a + 7) j (by simp), m2 (a + 8) j (by simp), m2 (a + 9) j (by simp), e1, ri_ne (by omega), ri_ne (by omega), ri_ne (by omega), ri_ne (by omega), ri_ne (by omega), ri_ne (by omega)]
        rw [List.getElem?_eraseIdx] at ew
        by_cases z : j < fpos q L
        · rw [if_pos z] at ew
          rw [if_neg (by omega), if_neg (by omega), if_neg (by omega), if_neg (by omega), ri_ne' (by omega)]
          exact HL.2.2.2 j w ew
        · rw [if_neg z] at ew
          have hj := FA.lt ew
          rw [if_pos (by omega), if_pos (by omega), if_pos (by omega), if_pos (by omega), ri_ne' (by omega)]
          exact HL.2.2.2 (j + 1) w ew
theorem w_iadd3 (hp : g.2.2.2.2 = true) (ta : lay a = (0, 5, 8)) {av : List Value} {L : List Q4} {q : Q4} (hq : bq q) (HL : FA h a L) (hl : L.length + 1 ≤ 60) (hE : ∀ r, r ∈ L → bq (r.1, r.2.1, r.2.2.1, r.2.2.2 + q.2.2.2)) {Q : Hp → Prop} (k : ∀ h', Fr h h' (Lcp a) → (∀ y, y ≠ 3 → ri h' a y = ri h a y) → FA h' a (insF q L) → Q h') : ∀ (m i : Nat), i + m = L.length → (∀ j r, j < i → L[j]? = some r → lexlt r q) → W_X5_add g (d + 1) av (QV n Q) n 3 [some (.ref a), some (.int (zI q.1)), some (.int (zI q.2.1)), some (.int (zI q.2.2.1)), some (.int (zI q.2.2.2)), some (.int (nI i))] [] h := by
  have rq := bq_rg hq
  have stop : ∀ i, i ≤ L.length → (∀ j r, j < i → L[j]? = some r → lexlt r q) → (∀ r, L[i]? = some r → ¬ lexlt r q) → W_X5_add g (d + 1) av (QV n Q) n 73 [some (.ref a), some (.int (zI q.1)), some (.int (zI q.2.1)), some (.int (zI q.2.2.1)), some (.int (zI q.2.2.2)), some (.int (nI i))] [] h := by
    intro i hi h1 h2
    have e := fpos_eq q L i hi h1 h2
    have := w_iadd73 (d := d) (av := av) (n := n) hp ta hq HL hl hE (by omega) k
    rw [e] at this
    exact this
  intro m
  induction m with
  | zero =>
    intro i hi hlt
    refine s_X5_add_3 hp ta ⟨fun _ => stop i (by omega) hlt (fun r er => absurd (FA.lt er) (by omega)), fun c => absurd ?_ c⟩
    rw [HL.1]; simp (disch := omega) only [nI_addz, nI_1, nI_leI, nI_ltI, nI_eq, nI_tN, nI_inI]; omega
  | succ m ih =>
    intro i hi hlt
    have hil : i < L.length := by omega
    obtain ⟨r, er⟩ : ∃ r, L[i]? = some r := ⟨_, List.getElem?_eq_getElem hil⟩
    obtain ⟨r6, r7, r8, r9⟩ := HL.2.2.2 _ r er
    have rb := bq_rg (HL.2.2.1 r (FA.mem er))
    have hin : vp_in (nI i) 60 := nI_inL (by omega) (by omega)
    have yes : lexlt r q → W_X5_add g (d + 1) av (QV n Q) n 67 [some (.ref a), some (.int (zI q.1)), some (.int (zI q.2.1)), some (.int (zI q.2.2.1)), some (.int (zI q.2.2.2)), some (.int (nI i))] [] h := by
      intro hlx
      refine s_X5_add_67 hp ta ?_
      rw [nI_1]
      refine ih (i + 1) (by omega) (fun j r' hj er' => ?_)
      by_cases e : j = i
      · rw [e, er] at er'
        injection er' with er'
        rw [← er']; exact hlx
      · exact hlt j r' (by omega) er'
    have no : ¬ lexlt r q → W_X5_add g (d + 1) av (QV n Q) n 73 [some (.ref a), some (.int (zI q.1)), some (.int (zI q.2.1)), some (.int (zI q.2.2.1)), some (.int (zI q.2.2.2)), some (.int (nI i))] [] h := fun hlx => stop i (by omega) hlt (fun r' er' => by
      rw [er] at er'
      injection er' with er'
      rw [← er']; exact hlx)
    refine s_X5_add_3 hp ta ⟨fun c => absurd c ?_, fun _ => ⟨hin, ?_⟩⟩
    · rw [HL.1]; simp (disch := omega) only [nI_addz, nI_1, nI_leI, nI_ltI, nI_eq, nI_tN, nI_inI]; omega
    · rw [nI_tN (by omega), r6, r7, r8, zI_eq rb.1.1 rb.1.2 rq.1.1 rq.1.2, zI_eq rb.2.1.1 rb.2.1.2 rq.2.1.1 rq.2.1.2, zI_lt rb.1.1 rb.1.2 rq.1.1 rq.1.2, zI_lt rb.2.1.1 rb.2.1.2 rq.2.1.1 rq.2.1.2, zI_le rq.2.2.1.1 rq.2.2.1.2 rb.2.2.1.1 rb.2.2.1.2]
      refine ⟨fun c1 => yes (Or.inl c1), fun c1 => ⟨hin, fun c2 => no ?_, fun c2 => ⟨hin, fun c3 => yes (Or.inr ⟨c2, Or.inl c3⟩), fun c3 => ⟨hin, fun c4 => no ?_, fun c4 => ⟨hin, fun c5 => no ?_, fun c5 => yes (Or.inr ⟨c2, Or.inr ⟨c4, by omega⟩⟩)⟩⟩⟩⟩⟩
      · unfold lexlt; omega
      · unfold lexlt; omega
      · unfold lexlt; omega
/-- one factorial more -/
theorem ok_iadd (hp : g.2.2.2.2 = true) (ta : lay a = (0, 5, 8)) {L : List Q4} {q : Q4} (hq : bq q) (HL : FA h a L) (hl : L.length + 1 ≤ 60) (hE : ∀ r, r ∈ L → bq (r.1, r.2.1, r.2.2.1, r.2.2.2 + q.2.2.2)) {Q : Hp → Prop} (k : ∀ h', Fr h h' (Lcp a) → (∀ y, y ≠ 3 → ri h' a y = ri h a y) → FA h' a (insF q L) → Q h') : CallV g m_X5_add (d + 2) [.ref a, .int (zI q.1), .int (zI q.2.1), .int (zI q.2.2.1), .int (zI q.2.2.2)] n h Q :=
  okV 1 rfl rfl (s_X5_add_0 hp ta (w_iadd3 hp ta hq HL hl hE k L.length 0 (by omega) (fun j r hj => absurd hj (Nat.not_lt_zero j))))
end
