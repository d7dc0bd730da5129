set_option maxRecDepth 100000
/-! TEXTS WRITTEN: ratios, factorials, the whole -/
def plyB (B : Bi) : Prop := bsn B = 1 ∧ bsz B = 1
noncomputable def ratioS (T B : Bi) : List Int32 := cite (plyB B) (duoS T) ([40] ++ (duoS T ++ ([41, 47, 40] ++ (duoS B ++ [41]))))
def baseS (v : Fp) (c : Int32) : List Int32 := if v = 1 then [] else [42] ++ (numS v.val ++ [94, c])
def lineS (v : Int) (i j : Nat) (first : Bool) : List Int32 := if v = 0 then [] else partS (fI (zI v)) i j first
def factS (q : Q4) : List Int32 := [if 0 < q.2.2.2 then 42 else 47, 40] ++ (lineS q.2.1 0 1 true ++ (lineS q.1 1 0 (decide (q.2.1 = 0)) ++ (lineS q.2.2.1 0 0 false ++ ([41, 33] ++ (if 1 < q.2.2.2.natAbs then 94 :: numS q.2.2.2.natAbs else [])))))
def factsS : List Q4 → List Int32
  | [] => []
  | q :: L => factS q ++ factsS L
noncomputable def itemS (i : Itm) : List Int32 := (cite (isT i.2.2.1 i.2.2.2.1 i.2.2.2.2) ([40] ++ (ratioS i.1 i.2.1 ++ [41])) (ratioS i.1 i.2.1)) ++ (baseS i.2.2.1 110 ++ (baseS i.2.2.2.1 107 ++ factsS i.2.2.2.2))
theorem ratioS_len {T B : Bi} (h1 : fitB T) (h2 : fitB B) : (ratioS T B).length ≤ 50000 := by
  have a := duoS_len h1
  have b := duoS_len h2
  unfold ratioS
  by_cases c : plyB B
  · rw [cite_pos c]; omega
  · rw [cite_neg c]; simp only [List.length_append, List.length_cons, List.length_nil]; omega
theorem baseS_len (v : Fp) (c : Int32) : (baseS v c).length ≤ 20 := by
  have := numS_len v.val
  unfold baseS
  split
  · simp
  · simp only [List.length_append, List.length_cons, List.length_nil]; omega
theorem lineS_len (v : Int) (i j : Nat) (b : Bool) : (lineS v i j b).length ≤ 60 := by
  unfold lineS
  split
  · simp
  · exact partS_len _ _ _ _
theorem factS_len (q : Q4) : (factS q).length ≤ 300 := by
  unfold factS
  have a := lineS_len q.2.1 0 1 true
  have b := lineS_len q.1 1 0 (decide (q.2.1 = 0))
  have c := lineS_len q.2.2.1 0 0 false
  have e := numS_len q.2.2.2.natAbs
  have f : (if 1 < q.2.2.2.natAbs then (94 : Int32) :: numS q.2.2.2.natAbs else []).length ≤ 12 := len_ite (by simp; omega) (by simp)
  simp only [List.length_append, List.length_cons, List.length_nil]; omega
section
variable {g : GX} {d n : Nat} {h h' h1 h2 : Hp} {L : List Int32} {a : Nat}
theorem RI.fd {T B : Bi} (H : RI h a T B) (f : Fdr h h') (ha : 90 < a) : RI h' a T B := H.fr f.1 (by simp; omega) (by simp; omega) (by simp; omega) (by simp; omega)
theorem IIt.fd {i : Itm} (H : IIt h a i) (f : Fdr h h') (ha : 90 < a) : IIt h' a i := H.fr2 f.1 (fun x h1 h2 => by simp; omega)
theorem ok_sayRatio (hp : g.2.2.2.2 = true) (ta : lay a = (0, 6, 2)) (ha : 90 < a) {T B : Bi} (hT : fitB T) (hB : fitB B) (H : RI h a T B) (D : DR h L) (hl : L.length + 100000 ≤ 1000000000) {Q : Hp → Prop} (q : ∀ h', Fdr h h' → DR h' (L ++ ratioS T B) → Q h') : CallV g m_X0_sayRatio (d + 5) [.ref 0, .ref a] n h Q := by
  have t1 := lf_6_0 ta
  have t3 := lf_6_1 ta
  have aT := duoS_len hT
  have aB := duoS_len hB
  unfold ratioS at q
  refine okV 0 rfl rfl (s_X0_sayRatio_0 hp ta (ok_isPoly hp ta H (fun e1 e2 => ⟨fun c => absurd c (by decide), fun _ => ?_⟩) (fun w => ⟨fun _ => ?_, fun c => absurd rfl c⟩)))
  · rw [cite_pos ⟨e1, e2⟩] at q
    exact ok_sayDuo hp t1 (by omega) hT H.1 D (by omega) (fun h1 f1 D1 => qV (q h1 f1 D1))
  · rw [cite_neg (show ¬ plyB B from w)] at q
    refine ok_say hp D (by decide) (by omega) (fun h2 f2 D2 => ok_sayDuo hp t1 (by omega) hT (H.fd f2 ha).1 D2 (by simp; omega) (fun h3 f3 D3 => ok_say hp D3 (by decide) (by simp; omega) (fun h4 f4 D4 => ok_say hp D4 (by decide) (by simp; omega) (fun h5 f5 D5 => ok_say hp D5 (by decide) (by simp; omega) (fun h6 f6 D6 => ?_)))))
    have F6 : Fdr h h6 := (((f2.tr f3).tr f4).tr f5).tr f6
    refine ok_sayDuo hp t3 (by omega) hB (H.fd F6 ha).2 D6 (by simp; omega) (fun h7 f7 D7 => ok_say hp D7 (by decide) (by simp; omega) (fun h8 f8 D8 => qV (q h8 ((F6.tr f7).tr f8) ?_)))
    simp only [List.append_assoc, List.cons_append, List.nil_append] at D8 ⊢
    exact D8
theorem ok_sayBase (hp : g.2.2.2.2 = true) {v : Fp} {c : Int32} (hc : 0 ≤ c.toInt ∧ c.toInt ≤ 127) (D : DR h L) (hl : L.length + 100 ≤ 1000000000) {Q : Hp → Prop} (q : ∀ h', Fdr h h' → DR h' (L ++ baseS v c) → Q h') : CallV g m_X0_sayBase (d + 2) [.ref 0, .int (toI v), .int c] n h Q := by
  unfold baseS at q
  have nl := numS_len v.val
  refine okV 0 rfl rfl (s_X0_sayBase_0 hp ?_)
  have e1 : toI v = (1 : Int32) ↔ v = 1 := by
    rw [← toI_1]; exact ⟨toI_inj, fun e => by rw [e]⟩
  rw [e1]
  refine ⟨fun c => ?_, fun c => ?_⟩
  · rw [if_pos c, List.append_nil] at q
    exact qV (q h Fdr.rf D)
  · rw [if_neg c] at q
    refine ok_say hp D (by decide) (by omega) (fun h1 f1 D1 => ok_sayNumber hp (v := v.val) (by have := toI_lt v; omega) D1 (by simp; omega) (fun h2 f2 D2 => ok_say hp D2 (by decide) (by simp; omega) (fun h3 f3 D3 => ok_say hp D3 hc (by simp; omega) (fun h4 f4 D4 => qV (q h4 (((f1.tr f2).tr f3).tr f4) ?_)))))
    simp only [List.append_assoc, List.cons_append, List.nil_append] at D4 ⊢
    exact D4
theorem fA_at (ta : lay a = (0, 5, 8)) {i : Itm} {j : Nat} {q : Q4} (H : IIt h a i) (er : i.2.2.2.2[j]? = some q) : (ri h (a + 6) j = zI q.1 ∧ ri h (a + 7) j = zI q.2.1 ∧ ri h (a + 8) j = zI q.2.2.1 ∧ ri h (a + 9) j = zI q.2.2.2) ∧ j < 60 ∧ bq q := by
  have l60 : i.2.2.2.2.length ≤ 60 := H.2.2.2.2.1
  have hj := FA.lt er
  exact ⟨H.2.2.2.2.2.2 j q er, by omega, H.2.2.2.2.2.1 q (FA.mem er)⟩
theorem lineS_0 {v : Int} {i j : Nat} {b : Bool} (h : v = 0) : lineS v i j b = [] := by unfold lineS; rw [if_pos h]
theorem lineS_1 {v : Int} {i j : Nat} {b : Bool} (h : v ≠ 0) : lineS v i j b = partS (fI (zI v)) i j b := by unfold lineS; rw [if_neg h]
theorem ok_sayFactorial (hp : g.2.2.2.2 = true) (ta : lay a = (0, 5, 8)) (ha : 90 < a) {i : Itm} {j : Nat} {q4 : Q4} (H : IIt h a i) (er : i.2.2.2.2[j]? = some q4) (D : DR h L) (hl : L.length + 1000 ≤ 1000000000) {Q : Hp → Prop} (q : ∀ h', Fdr h h' → DR h' (L ++ factS q4) → Q h') : CallV g m_X0_sayFactorial (d + 4) [.ref 0, .ref a, .int (nI j)] n h Q := by
  obtain ⟨F0, hj, bb⟩ := fA_at ta H er
  have rg := bq_rg bb
  have b4 := bb.2.2.2
  have At : ∀ h1, Fdr h h1 → ri h1 (a + 6) j = zI q4.1 ∧ ri h1 (a + 7) j = zI q4.2.1 ∧ ri h1 (a + 8) j = zI q4.2.2.1 ∧ ri h1 (a + 9) j = zI q4.2.2.2 := fun h1 f1 => (fA_at ta (H.fd f1 ha) er).1
  have ze : ∀ z : Int, -2147483648 ≤ z → z < 2147483648 → (zI z = (0 : Int32) ↔ z = 0) := fun z h1 h2 => by rw [z0, zI_eq h1 h2 (by omega) (by omega)]
  have eq : factS q4 = [if 0 < q4.2.2.2 then 42 else 47, 40] ++ (lineS q4.2.1 0 1 true ++ (lineS q4.1 1 0 (decide (q4.2.1 = 0)) ++ (lineS q4.2.2.1 0 0 false ++ ([41, 33] ++ (if 1 < q4.2.2.2.natAbs then 94 :: numS q4.2.2.2.natAbs else []))))) := by unfold factS; exact Eq.refl _
  rw [eq] at q
  have n1 := @lineS_0 q4.2.1 0 1 true
  have p1 := @lineS_1 q4.2.1 0 1 true
  have s1 := lineS_len q4.2.1 0 1 true
  have n2 := @lineS_0 q4.1 1 0 (decide (q4.2.1 = 0))
  have p2 := @lineS_1 q4.1 1 0 (decide (q4.2.1 = 0))
  have s2 := lineS_len q4.1 1 0 (decide (q4.2.1 = 0))
  have n3 := @lineS_0 q4.2.2.1 0 0 false
  have p3 := @lineS_1 q4.2.2.1 0 0 false
  have s3 := lineS_len q4.2.2.1 0 0 false
  generalize lineS q4.2.1 0 1 true = l1 at *
  generalize lineS q4.1 1 0 (decide (q4.2.1 = 0)) = l2 at *
  generalize lineS q4.2.2.1 0 0 false = l3 at *
  have k1 : 1 < q4.2.2.2.natAbs → (if 1 < q4.2.2.2.natAbs then (94 : Int32) :: numS q4.2.2.2.natAbs else []) = 94 :: numS q4.2.2.2.natAbs := fun c => if_pos c
  have k0 : ¬ 1 < q4.2.2.2.natAbs → (if 1 < q4.2.2.2.natAbs then (94 : Int32) :: numS q4.2.2.2.natAbs else []) = [] := fun c => if_neg c
  generalize (if 1 < q4.2.2.2.natAbs then (94 : Int32) :: numS q4.2.2.2.natAbs else []) = l4 at *
  clear eq
  have j105 : ∀ (M : List Int32) (h1 : Hp), M.length + 50 ≤ 1000000000 → Fdr h h1 → DR h1 M → (∀ h', Fdr h h' → DR h' (M ++ ([41, 33] ++ l4)) → Q h') → W_X0_sayFactorial g (d + 3) [.ref 0, .ref a, .int (nI j)] (QV n Q) n 105 [some (.ref 0), some (.ref a), some (.int (nI j)), none] [] h1 := by
    intro M h1 hM f1 D1 q1
    refine s_X0_sayFactorial_105 hp ta (ok_say hp D1 (by decide) (by omega) (fun h2 f2 D2 => ok_say hp D2 (by decide) (by simp; omega) (fun h3 f3 D3 => ⟨nI_inL hj (by omega), ?_⟩)))
    have F3 : Fdr h h3 := (f1.tr f2).tr f3
    rw [nI_tN (by omega), (At h3 F3).2.2.2]
    refine ok_abs hp (by omega) (by omega) ?_
    rw [show (1 : Int32) = nI 1 from rfl, nI_leI (by omega) (by omega)]
    refine ⟨fun c => ?_, fun c => ok_say hp D3 (by decide) (by simp; omega) (fun h4 f4 D4 => ⟨nI_inL hj (by omega), ?_⟩)⟩
    · rw [k0 (by omega)] at q1
      refine qV (q1 h3 F3 ?_)
      simp only [List.append_assoc, List.cons_append, List.nil_append] at D3 ⊢
      exact D3
    · rw [(At h4 (F3.tr f4)).2.2.2]
      rw [k1 (by omega)] at q1
      refine ok_abs hp (by omega) (by omega) (ok_sayNumber hp (by omega) D4 (by simp; omega) (fun h5 f5 D5 => qV (q1 h5 ((F3.tr f4).tr f5) ?_)))
      simp only [List.append_assoc, List.cons_append, List.nil_append] at D5 ⊢
      exact D5
  have j80 : ∀ (M : List Int32) (h1 : Hp), M.length + 200 ≤ 1000000000 → Fdr h h1 → DR h1 M → (∀ h', Fdr h h' → DR h' (M ++ (l3 ++ ([41, 33] ++ l4))) → Q h') → W_X0_sayFactorial g (d + 3) [.ref 0, .ref a, .int (nI j)] (QV n Q) n 80 [some (.ref 0), some (.ref a), some (.int (nI j)), none] [] h1 := by
    intro M h1 hM f1 D1 q1
    refine s_X0_sayFactorial_80 hp ta ⟨nI_inL hj (by omega), ?_⟩
    rw [nI_tN (by omega), (At h1 f1).2.2.1, ze _ rg.2.2.1.1 rg.2.2.1.2]
    refine ⟨fun c => j105 M h1 (by omega) f1 D1 (fun h' f' D' => q1 h' f' ?_), fun c => ⟨nI_inL hj (by omega), ok_rest hp (ok_sayPart (i := 0) (j := 0) (b := false) hp (by omega) (by omega) D1 (by omega) (fun h2 f2 D2 => ?_))⟩⟩
    · rw [n3 c, List.nil_append]; exact D'
    · rw [← p3 c] at D2
      refine j105 _ h2 (by rw [List.length_append]; omega) (f1.tr f2) D2 (fun h' f' D' => q1 h' f' ?_)
      rw [List.append_assoc] at D'; exact D'
  have j55 : ∀ (M : List Int32) (h1 : Hp), M.length + 300 ≤ 1000000000 → Fdr h h1 → DR h1 M → (∀ h', Fdr h h' → DR h' (M ++ (l2 ++ (l3 ++ ([41, 33] ++ l4)))) → Q h') → W_X0_sayFactorial g (d + 3) [.ref 0, .ref a, .int (nI j)] (QV n Q) n 55 [some (.ref 0), some (.ref a), some (.int (nI j)), some (.int (if decide (q4.2.1 = 0) = true then 1 else 0))] [] h1 := by
    intro M h1 hM f1 D1 q1
    refine s_X0_sayFactorial_55 hp ta ⟨nI_inL hj (by omega), ?_⟩
    rw [nI_tN (by omega), (At h1 f1).1, ze _ rg.1.1 rg.1.2]
    refine ⟨fun c => j80 M h1 (by omega) f1 D1 (fun h' f' D' => q1 h' f' ?_), fun c => ⟨nI_inL hj (by omega), ok_rest hp (ok_sayPart (i := 1) (j := 0) (b := decide (q4.2.1 = 0)) hp (by omega) (by omega) D1 (by omega) (fun h2 f2 D2 => ?_))⟩⟩
    · rw [n2 c, List.nil_append]; exact D'
    · rw [← p2 c] at D2
      refine j80 _ h2 (by rw [List.length_append]; omega) (f1.tr f2) D2 (fun h' f' D' => q1 h' f' ?_)
      rw [List.append_assoc] at D'; exact D'
  have j17 : ∀ c : Int32, c = (if 0 < q4.2.2.2 then 42 else 47) → W_X0_sayFactorial g (d + 3) [.ref 0, .ref a, .int (nI j)] (QV n Q) n 17 [some (.ref 0), some (.ref a), some (.int (nI j)), none] [.int c, .ref 0] h := by
    intro c ec
    have ha : 0 ≤ c.toInt ∧ c.toInt ≤ 127 := by rw [ec]; split <;> decide
    rw [← ec] at q
    refine s_X0_sayFactorial_17 hp ta l0 (ok_say hp D ha (by omega) (fun h1 f1 D1 => ok_say hp D1 (by decide) (by simp; omega) (fun h2 f2 D2 => ⟨nI_inL hj (by omega), ?_⟩)))
    have F2 : Fdr h h2 := f1.tr f2
    rw [nI_tN (by omega), (At h2 F2).2.1, ze _ rg.2.1.1 rg.2.1.2]
    rw [List.append_assoc] at D2
    refine ⟨fun c0 => ?_, fun c0 => ⟨nI_inL hj (by omega), ok_rest hp (ok_sayPart (i := 0) (j := 1) (b := true) hp (by omega) (by omega) D2 (by simp; omega) (fun h3 f3 D3 => ?_))⟩⟩
    · have W := j55 _ h2 (by simp; omega) F2 D2 (fun h' f' D' => q h' f' (by
        rw [n1 c0, List.nil_append]
        rw [List.append_assoc] at D'
        exact D'))
      rw [if_pos (decide_eq_true c0)] at W
      exact W
    · rw [← p1 c0] at D3
      have W := j55 _ h3 (by rw [List.length_append]; simp; omega) (F2.tr f3) D3 (fun h' f' D' => q h' f' (by
        rw [List.append_assoc, List.append_assoc] at D'
        exact D'))
      rw [if_neg (show ¬ decide (q4.2.1 = 0) = true by rw [decide_eq_false c0]; decide)] at W
      exact W
  refine okV 1 rfl rfl (s_X0_sayFactorial_0 hp ta ⟨nI_inL hj (by omega), ?_⟩)
  rw [nI_tN (by omega), F0.2.2.2, show zI q4.2.2.2 ≤ (0 : Int32) ↔ q4.2.2.2 ≤ 0 by rw [z0, zI_le (by omega) (by omega) (by omega) (by omega)]]
  exact ⟨fun c => j17 47 (by rw [if_neg (by omega)]), fun c => j17 42 (by rw [if_pos (by omega)])⟩
theorem factsS_app : ∀ (A B : List Q4), factsS (A ++ B) = factsS A ++ factsS B
  | [], B => rfl
  | q :: A, B => by show factS q ++ factsS (A ++ B) = (factS q ++ factsS A) ++ factsS B; rw [factsS_app A B, List.append_assoc]
end
def SS.txt (S : SS) (x : Nat → Int32) (xl : Nat) : SS := SS.mk S.t S.len S.pl x xl S.sl S.fd S.rt
noncomputable def S_write (S : SS) (x : Int32) : SS × Int32 := slS S x (fun s => match itmS (S.sl s) with
  | none => (S, -3)
  | some i => if (itemS i).length ≤ 4000 then (S.txt (fun k => (itemS i).getD k 0) (itemS i).length, nI (itemS i).length) else (S, -2))
section
variable {g : GX} {d n : Nat} {h h' h1 h2 : Hp} {L : List Int32} {a s : Nat} {S : SS}
theorem Fdr.wz (f : Fdr h h') : Wz h h' := ⟨fun x hx => f.1.2.1 x (by simp; unfold pubC at hx; omega), fun x _ => by rw [f.1.1], fun k hk => f.2 k (by unfold pubF at hk; omega), f.1.2.2, fun b => b.eq f.1.1, fun b => b.eq f.1.1⟩
theorem l91b : lay 91 = (1, 4000, 1) := l91
/-- the end: the draft becomes the text -/
theorem w_wr91 (hp : g.2.2.2.2 = true) {av : List Value} (ta : lay a = (0, 5, 8)) (ha : 91 < a) {i : Itm} (gi : gI i) {Q : Int32 → Hp → Prop} : ∀ (k j : Nat) (L : List Int32) (h : Hp), j + k = i.2.2.2.2.length → IIt h a i → DR h L → L.length + 1000 * k + 1000 ≤ 1000000000 → (∀ h1 h', Fdr h h1 → (L ++ factsS (i.2.2.2.2.drop j)).length ≤ 4000 → DR h1 (L ++ factsS (i.2.2.2.2.drop j)) → (∀ x, x ≠ 0 → x ≠ 91 → h'.1 x = h1.1 x) → (∀ k, k ≠ 25 → ri h' 0 k = ri h1 0 k) → h'.2 = h1.2 → (Kp h1 → Kp h') → ri h' 0 25 = nI (L ++ factsS (i.2.2.2.2.drop j)).length → (∀ y c, (L ++ factsS (i.2.2.2.2.drop j))[y]? = some c → ri h' 91 y = c) → Q (nI (L ++ factsS (i.2.2.2.2.drop j)).length) h') → (∀ h', Fdr h h' → ¬ (L ++ factsS (i.2.2.2.2.drop j)).length ≤ 4000 → Q (-2) h') → W_X0_write g (d + 4) av (QI n Q) n 91 [some (.ref 0), none, some (.ref a), some (.int (nI j))] [] h := by
  intro k
  induction k with
  | zero =>
    intro j L h hj H D hl q q0
    have l60 : i.2.2.2.2.length ≤ 60 := H.2.2.2.2.1
    have ed : factsS (i.2.2.2.2.drop j) = [] := by rw [List.drop_eq_nil_of_le (by omega)]; rfl
    rw [ed, List.append_nil] at q q0
    have e3 : ri h a 3 = nI i.2.2.2.2.length := H.2.2.2.1
    refine s_X0_write_91 hp ta ⟨fun _ => ?_, fun c => absurd ?_ c⟩
    · rw [D.1, show (4000 : Int32) = nI 4000 from rfl, nI_leI (by omega) (by omega), nI_tN (by omega), tN0]
      refine ⟨fun c => ⟨by decide, by decide, fun w => nI_pos (by omega) w, by omega, by omega, fun y hy => ?_, fun h1 e1 h2 e2 => ?_⟩, fun c => qI (q0 h Fdr.rf c)⟩
      · rw [Nat.zero_add]
        have er := List.getElem?_eq_getElem hy
        rw [D.2.2.2 y _ (by omega) er]
        have := D.2.2.1 _ (List.mem_of_getElem? er)
        exact fitsB (by omega)
      · have f1 : ∀ x, x ≠ 91 → h1.1 x = h.1 x := fun x hx => by
          rw [e1]; funext y
          show ri (cpy h 90 0 91 0 L.length) x y = ri h x y
          rw [ri_cpy, if_neg (fun w => hx w.1)]
        have x1 : ri h1 0 23 = nI L.length := by rw [gi1 (f1 0 (by omega))]; exact D.1
        rw [x1] at e2
        have r2 : ri h2 0 25 = nI L.length := by rw [e2, ri_same]
        rw [r2]
        refine qI (q h h2 Fdr.rf c D (fun x a b => ?_) (fun k hk => ?_) ?_ (fun K => ?_) r2 (fun y cc hy => ?_))
        · rw [e2, wi_ne1 a]; exact f1 x b
        · rw [e2, ri_ne' hk, gi1 (f1 0 (by omega))]
        · rw [e2, e1]; rfl
        · rw [e2, e1]; exact (K.cp (fun k => okp_a l91 (by decide))).put (okp_o l0 (Or.inr (by decide)))
        · have hy' := (List.getElem?_eq_some_iff.mp hy).1
          rw [e2, ri_ne (by omega), e1, ri_cpy, if_pos (by omega), Nat.zero_add, Nat.sub_zero]
          exact D.2.2.2 y cc (by omega) hy
    · rw [e3, nI_leI (by omega) (by omega)]; omega
  | succ k ih =>
    intro j L h hj H D hl q q0
    have l60 : i.2.2.2.2.length ≤ 60 := H.2.2.2.2.1
    have e3 : ri h a 3 = nI i.2.2.2.2.length := H.2.2.2.1
    have er := List.getElem?_eq_getElem (l := i.2.2.2.2) (i := j) (by omega)
    have ed : i.2.2.2.2.drop j = i.2.2.2.2[j] :: i.2.2.2.2.drop (j + 1) := List.drop_eq_getElem_cons (by omega)
    rw [ed] at q q0
    generalize i.2.2.2.2[j] = q4 at er q q0
    have fl := factS_len q4
    refine s_X0_write_91 hp ta ⟨fun c => absurd c ?_, fun _ => ok_sayFactorial hp ta (by omega) H er D (by omega) (fun h3 f3 D3 => ?_)⟩
    · rw [e3, nI_leI (by omega) (by omega)]; omega
    · rw [show (1 : Int32) = nI 1 from rfl, nI_addz]
      have ea : L ++ factsS (q4 :: i.2.2.2.2.drop (j + 1)) = (L ++ factS q4) ++ factsS (i.2.2.2.2.drop (j + 1)) := by rw [List.append_assoc]; rfl
      rw [ea] at q q0
      exact ih (j + 1) _ h3 (by omega) (H.fd f3 (by omega)) D3 (by rw [List.length_append]; omega) (fun h1 h' f1 => q h1 h' (f3.tr f1)) (fun h' f' => q0 h' (f3.tr f'))
/-- a new text -/
theorem SI.text (I : SI h S) {x : Nat → Int32} {xl : Nat} (e : ∀ x, x ≠ 0 → x ≠ 91 → h1.1 x = h.1 x) (e0 : ∀ k, k ≠ 25 → ri h1 0 k = ri h 0 k) (er : h1.2 = h.2) (K : Kp h1) (l1 : ri h1 0 25 = nI xl) (l2 : ∀ i, i < xl → ri h1 91 i = x i) (hl : xl ≤ 4000) (hb : ∀ i, i < xl → 0 ≤ (x i).toInt ∧ (x i).toInt ≤ 127) : SI h1 (S.txt x xl) := by
  have g : ∀ x k, x ≠ 0 → x ≠ 91 → ri h1 x k = ri h x k := fun x k a b => gi1 (e x a b) k
  refine ⟨K, I.bp.eq er, I.lp.eq er, ⟨by rw [e0 12 (by omega)]; exact I.tp.1, I.tp.2.1, fun i hi => by rw [g 77 _ (by omega) (by omega)]; exact I.tp.2.2 i hi⟩, by rw [e0 17 (by omega)]; exact I.pl, l1, l2, fun s hs => ?_, fun s hs => ?_, by rw [e0 69 (by omega)]; exact I.fs, fun i hi => by rw [g 1114 _ (by omega) (by omega)]; exact I.fd i hi, by rw [e0 73 (by omega)]; exact I.rs, fun i hi => by rw [g 1177 _ (by omega) (by omega)]; exact I.rt i hi, I.gd.1, I.gd.2.1, hl, hb, I.gd.2.2.2.2⟩
  · have hsc : slc s = 1185 + 27 * s := rfl
    rw [g _ _ (by omega) (by omega)]; exact I.kd s hs
  · have hsc : slc s = 1185 + 27 * s := rfl
    exact (I.sl s hs).c (I.gd.2.2.2.2.1 s hs) (fun x h1 h2 k => g _ _ (by omega) (by omega))
theorem ok_S_write (hp : g.2.2.2.2 = true) (I : SI h S) {x : Int32} {Q : Int32 → Hp → Prop} (q : Pub h (S_write S x) Q) : CallI g m_X0_write (d + 6) [.ref 0, .int x] n h Q := by
  unfold S_write at q
  refine okI 2 rfl rfl (s_X0_write_0 hp (ok_isSlot hp (fun s hs e => ⟨fun _ => ?_, fun c => absurd c (by decide)⟩) (fun e => ⟨fun c => absurd rfl c, fun _ => ?_⟩)))
  · subst e
    rw [slS_n hs] at q
    have hsc : slc s = 1185 + 27 * s := rfl
    refine ok_hasItem hp I hs (fun i e H gi k => ⟨fun _ => ⟨nI_inL hs (by omega), fun r3 e3 h4 e4 => ?_⟩, fun c => absurd c (by decide)⟩) (fun e k => ⟨fun c => absurd rfl c, fun _ => ?_⟩)
    · rw [nI_tN (by omega)] at e3; subst e3
      rw [e] at q
      have q : Pub h (if (itemS i).length ≤ 4000 then (S.txt (fun k => (itemS i).getD k 0) (itemS i).length, nI (itemS i).length) else (S, -2)) Q := q
      have tI := lf_9_1 (slc_lay hs)
      have F4 : Fdr h h4 := ⟨by rw [e4]; exact Fr.rf.put (by simp) (okp_o l0 (Or.inr (by decide))), fun k hk => by rw [e4, ri_ne' hk]⟩
      have D4 : DR h4 [] := ⟨by rw [e4, ri_same]; rfl, by simp, ascii_nil, fun i c _ hc => by simp at hc⟩
      have bx := baseS_len i.2.2.1 110
      have by' := baseS_len i.2.2.2.1 107
      have rl := ratioS_len gi.2.2.1 gi.2.2.2.1
      -- behind the ratio
      have j69 : ∀ (M : List Int32) (h1 : Hp), M.length ≤ 60000 → itemS i = M ++ (baseS i.2.2.1 110 ++ (baseS i.2.2.2.1 107 ++ factsS i.2.2.2.2)) → Fdr h h1 → DR h1 M → W_X0_write g (d + 5) [.ref 0, .int (nI s)] (QI n Q) n 69 [some (.ref 0), none, some (.ref (1185 + 27 * s + 1)), none] [] h1 := by
        intro M h1 hM eM f1 D1
        have H1 := H.fd f1 (by omega)
        refine s_X0_write_69 hp tI ?_
        rw [show ri h1 (1185 + 27 * s + 1) 1 = toI i.2.2.1 from H1.2.1]
        refine ok_sayBase hp (by decide) D1 (by omega) (fun h2 f2 D2 => ?_)
        have H2 := H1.fd f2 (by omega)
        rw [show ri h2 (1185 + 27 * s + 1) 2 = toI i.2.2.2.1 from H2.2.2.1]
        refine ok_sayBase hp (by decide) D2 (by rw [List.length_append]; omega) (fun h3 f3 D3 => ?_)
        have F3 : Fdr h h3 := (f1.tr f2).tr f3
        have eL : (M ++ baseS i.2.2.1 110 ++ baseS i.2.2.2.1 107) ++ factsS (i.2.2.2.2.drop 0) = itemS i := by
          rw [List.drop_zero, eM]; simp only [List.append_assoc]
        have l60 : i.2.2.2.2.length ≤ 60 := H.2.2.2.2.1
        refine w_wr91 hp tI (by omega) gi i.2.2.2.2.length 0 _ h3 (by omega) (H2.fd f3 (by omega)) D3 (by simp only [List.length_append]; omega) (fun h5 h' f5 c D5 a b r K e25 e91 => ?_) (fun h' f' c => ?_)
        · rw [eL] at c D5 e25 e91 ⊢
          rw [if_pos c] at q
          have w5 : Wz h h5 := (F3.tr f5).wz
          refine q h' (w5.cz.tr ⟨fun x hx => a x (by omega) (by omega), fun x _ => by rw [r]⟩) ((I.wz w5).text a b r (K (w5.k I.kp)) e25 (fun y hy => ?_) c (fun y hy => ?_))
          · refine e91 y _ ?_
            rw [List.getElem?_eq_getElem hy]; simp [List.getD, hy]
          · show 0 ≤ ((itemS i).getD y 0).toInt ∧ ((itemS i).getD y 0).toInt ≤ 127
            rw [show (itemS i).getD y 0 = (itemS i)[y] by simp [List.getD, hy]]
            exact D5.2.2.1 _ (List.getElem_mem hy)
        · rw [eL] at c
          rw [if_neg c] at q
          have w5 : Wz h h' := (F3.tr f').wz
          exact q h' w5.cz (I.wz w5)
      have j48 : ∀ (M : List Int32) (h1 : Hp), M = cite (isT i.2.2.1 i.2.2.2.1 i.2.2.2.2) [40] [] → Fdr h h1 → DR h1 M → W_X0_write g (d + 5) [.ref 0, .int (nI s)] (QI n Q) n 48 [some (.ref 0), none, some (.ref (1185 + 27 * s + 1)), none] [] h1 := by
        intro M h1 eM f1 D1
        have hM : M.length ≤ 1 := by
          rw [eM]
          by_cases ht : isT i.2.2.1 i.2.2.2.1 i.2.2.2.2
          · rw [cite_pos ht]; simp
          · rw [cite_neg ht]; simp
        have H1 := H.fd f1 (by omega)
        refine s_X0_write_48 hp tI (ok_sayRatio hp (it_1 tI) (by omega) gi.2.2.1 gi.2.2.2.1 H1.1 D1 (by omega) (fun h2 f2 D2 => ?_))
        have H2 := H1.fd f2 (by omega)
        refine ok_isTerm hp tI H2.2.1 H2.2.2.1 H2.2.2.2 (fun ht => ⟨fun c => absurd c (by decide), fun _ => ok_say hp D2 (by decide) (by rw [List.length_append]; omega) (fun h3 f3 D3 => ?_)⟩) (fun ht => ⟨fun _ => ?_, fun c => absurd rfl c⟩)
        · rw [cite_pos ht] at eM
          subst eM
          refine j69 _ h3 (by simp only [List.length_append, List.length_cons, List.length_nil]; omega) ?_ ((f1.tr f2).tr f3) D3
          unfold itemS; rw [cite_pos ht]; simp only [List.append_assoc]
        · rw [cite_neg ht] at eM
          subst eM
          refine j69 _ h2 (by simp only [List.length_append, List.length_nil]; omega) ?_ (f1.tr f2) D2
          unfold itemS; rw [cite_neg ht, List.nil_append]
      have H4 := H.fd F4 (by omega)
      refine ok_isTerm hp tI H4.2.1 H4.2.2.1 H4.2.2.2 (fun ht => ⟨fun c => absurd c (by decide), fun _ => ok_say hp D4 (by decide) (by simp) (fun h5 f5 D5 => ?_)⟩) (fun ht => ⟨fun _ => ?_, fun c => absurd rfl c⟩)
      · exact j48 _ h5 (by rw [cite_pos ht]; rfl) (F4.tr f5) D5
      · exact j48 _ h4 (by rw [cite_neg ht]) F4 D4
    · rw [e] at q
      exact qI (q.same I)
  · rw [slS_no e] at q
    exact qI (q.same I)
end
