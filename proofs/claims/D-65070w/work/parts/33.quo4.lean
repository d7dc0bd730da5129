set_option maxRecDepth 100000
/-! QUOTIENTS: the whole -/
theorem szF_app (L M : List Q4) : szF (L ++ M) = szF L + szF M := by
  simp [szF, List.map_append, List.sum_append]
theorem szF_take {L : List Q4} {j : Nat} {q : Q4} (er : L[j]? = some q) : szF (L.take (j + 1)) = szF (L.take j) + q.2.2.2.natAbs ∧ szF (L.take (j + 1)) ≤ szF L := by
  have e1 : L.take (j + 1) = L.take j ++ [q] := by rw [List.take_add_one, er]; rfl
  have e2 : szF L = szF (L.take (j + 1)) + szF (L.drop (j + 1)) := by rw [← szF_app, List.take_append_drop]
  refine ⟨?_, by omega⟩
  rw [e1, szF_app]
  simp [szF]
section
variable {g : GX} {d n : Nat} {h h' : Hp} {a c : Nat}
theorem w_q166 (hp : g.2.2.2.2 = true) (ta : lay a = (0, 5, 8)) (tc : lay c = (0, 6, 2)) {av : List Value} {i : Itm} (gi : gI i) {way : Nat} (hw : way < 2) {v : Int} (hv : 0 ≤ v ∧ v ≤ 3) {FG0 : Bi × Bi} {Q : Int32 → Hp → Prop} : ∀ (k j : Nat) (FG : Bi × Bi) (h : Hp), j + k = i.2.2.2.2.length → FG = (i.2.2.2.2.take j).foldl (qst way v) FG0 → FG.2 ≠ bz → (bsn FG.1 ≤ 49 + 9 * szF (i.2.2.2.2.take j) ∧ bsz FG.1 ≤ 25 + 9 * szF (i.2.2.2.2.take j)) → (bsn FG.2 ≤ 49 + 9 * szF (i.2.2.2.2.take j) ∧ bsz FG.2 ≤ 25 + 9 * szF (i.2.2.2.2.take j)) → Kp h → IIt h a i → DI h 39 FG.1 → DI h 41 FG.2 → (∀ FG', FG' = i.2.2.2.2.foldl (qst way v) FG0 → fitB (lowT FG'.1 FG'.2) → fitB (lowB FG'.1 FG'.2) → ∀ h', Fr h h' (Lgv c) → RI h' c (lowT FG'.1 FG'.2) (lowB FG'.1 FG'.2) → Q 1 h') → (∀ FG', FG' = i.2.2.2.2.foldl (qst way v) FG0 → ¬ (fitB (lowT FG'.1 FG'.2) ∧ fitB (lowB FG'.1 FG'.2)) → ∀ h', Fr h h' Lrd → Q 0 h') → W_X0_quotientOf g (d + 10) av (QI n Q) n 166 [some (.ref 0), some (.ref a), some (.int (nI way)), some (.int (zI v)), some (.ref c), some (.int (nI j)), none, none, none] [] h := by
  have la := it_lo ta
  have be2 := gi.2.2.2.2.2.2.2.1
  intro k
  induction k with
  | zero =>
    intro j FG h hj eFG hne s1 s2 K Ha H39 H41 q1 q0
    have l60 := Ha.2.2.2.2.1
    have etk : i.2.2.2.2.take j = i.2.2.2.2 := List.take_of_length_le (by omega)
    rw [etk] at eFG s1 s2
    have p1 := ppB_bsn FG.1
    refine s_X0_quotientOf_166 hp ta tc ⟨fun _ => ok_give hp tc K hne H39 H41 (by omega) (fun x1 x2 h1 f1 H1 => ⟨Or.inr rfl, qI (q1 FG eFG x1 x2 h1 f1 H1)⟩) (fun z h1 f1 => ⟨Or.inl rfl, qI (q0 FG eFG z h1 f1)⟩), fun w => absurd ?_ w⟩
    rw [Ha.2.2.2.1]; simp (disch := omega) only [nI_addz, nI_1, nI_leI, nI_ltI, nI_eq, nI_tN, nI_inI]; omega
  | succ k ih =>
    intro j FG h hj eFG hne s1 s2 K Ha H39 H41 q1 q0
    have l60 := Ha.2.2.2.2.1
    have hlt : j < i.2.2.2.2.length := by omega
    obtain ⟨q, er⟩ : ∃ q, i.2.2.2.2[j]? = some q := ⟨_, List.getElem?_eq_getElem hlt⟩
    obtain ⟨r6, r7, r8, r9⟩ := Ha.2.2.2.2.2.2 j q er
    have gq' := gi.2.2.2.2.2.2.1 q (FA.mem er)
    have be := szF_mem (FA.mem er)
    have st := szF_take er
    have hin : vp_in (nI j) 60 := nI_inL (by omega) (by omega)
    obtain ⟨b1, b2', b3⟩ := gq'.1
    have hst := stepQ_bd (way := way) hv gq'.1
    have lsz := lineP_sz (way := way) hv gq'.1
    have lne := lineP_ne way v gq'.1
    have etk : (i.2.2.2.2.take (j + 1)).foldl (qst way v) FG0 = qst way v FG q := by
      rw [List.take_add_one, er, List.foldl_append, ← eFG]; rfl
    have nxt : ∀ (h2 : Hp) (FG2 : Bi × Bi), Fr h h2 Lqo → FG2 = qst way v FG q → FG2.2 ≠ bz → (bsn FG2.1 ≤ 49 + 9 * szF (i.2.2.2.2.take (j + 1)) ∧ bsz FG2.1 ≤ 25 + 9 * szF (i.2.2.2.2.take (j + 1))) → (bsn FG2.2 ≤ 49 + 9 * szF (i.2.2.2.2.take (j + 1)) ∧ bsz FG2.2 ≤ 25 + 9 * szF (i.2.2.2.2.take (j + 1))) → DI h2 39 FG2.1 → DI h2 41 FG2.2 → W_X0_quotientOf g (d + 10) av (QI n Q) n 166 [some (.ref 0), some (.ref a), some (.int (nI way)), some (.int (zI v)), some (.ref c), some (.int (nI (j + 1))), none, none, none] [] h2 := by
      intro h2 FG2 f2 e2 n2 t1 t2 D1 D2
      refine ih (j + 1) FG2 h2 (by omega) (by rw [e2, etk]) n2 t1 t2 (f2.kp K) (Ha.fr2 f2 (fun x h1 _ => by simp; omega)) D1 D2 (fun FG' e x1 x2 h' f' => q1 FG' e x1 x2 h' ((f2.mono (fun x hx => ?_)).tr f')) (fun FG' e z h' f' => q0 FG' e z h' ((f2.mono (fun x hx => ?_)).tr f'))
      · simp only [Lqo, Lgv, Lrd, List.mem_cons, List.not_mem_nil, or_false] at hx ⊢; omega
      · simp only [Lqo, Lrd, List.mem_cons, List.not_mem_nil, or_false] at hx ⊢; omega
    have m1 := mulM_sz lsz.1 lsz.2 FG.1 q.2.2.2.natAbs
    have m2 := mulM_sz lsz.1 lsz.2 FG.2 q.2.2.2.natAbs
    -- into over, into under
    have j239o : decide (0 < q.2.2.2) = decide (0 < stepQ way v q) → W_X0_quotientOf g (d + 10) av (QI n Q) n 239 [some (.ref 0), some (.ref a), some (.int (nI way)), some (.int (zI v)), some (.ref c), some (.int (nI j)), some (.int (zI (stepQ way v q))), none, none] [.ref 39] h := by
      intro hd
      refine s_X0_quotientOf_239 hp ta tc t39 (w_q244 (d := d + 1) hp ta tc gi hv (Or.inl ⟨rfl, rfl⟩) er (by omega) (by omega) q.2.2.2.natAbs 0 h (by omega) K Ha H39 H41 (fun h2 f2 D1 D2 => nxt h2 (mulM (lineP way v q) q.2.2.2.natAbs FG.1, FG.2) f2 (by unfold qst; rw [if_pos hd]) hne ?_ ?_ D1 D2))
      · show bsn (mulM (lineP way v q) q.2.2.2.natAbs FG.1) ≤ _ ∧ bsz (mulM (lineP way v q) q.2.2.2.natAbs FG.1) ≤ _
        omega
      · show bsn FG.2 ≤ _ ∧ bsz FG.2 ≤ _
        omega
    have j239u : ¬ decide (0 < q.2.2.2) = decide (0 < stepQ way v q) → W_X0_quotientOf g (d + 10) av (QI n Q) n 239 [some (.ref 0), some (.ref a), some (.int (nI way)), some (.int (zI v)), some (.ref c), some (.int (nI j)), some (.int (zI (stepQ way v q))), none, none] [.ref 41] h := by
      intro hd
      refine s_X0_quotientOf_239 hp ta tc t41 (w_q244 (d := d + 1) hp ta tc gi hv (Or.inr ⟨rfl, rfl⟩) er (by omega) (by omega) q.2.2.2.natAbs 0 h (by omega) K Ha H41 H39 (fun h2 f2 D1 D2 => nxt h2 (FG.1, mulM (lineP way v q) q.2.2.2.natAbs FG.2) f2 (by unfold qst; rw [if_neg hd]) (mulM_ne lne hne _) ?_ ?_ D2 D1))
      · show bsn FG.1 ≤ _ ∧ bsz FG.1 ≤ _
        omega
      · show bsn (mulM (lineP way v q) q.2.2.2.natAbs FG.2) ≤ _ ∧ bsz (mulM (lineP way v q) q.2.2.2.natAbs FG.2) ≤ _
        omega
    have j196 : ∀ co : Int, co = (if way = 0 then q.1 else q.2.1) → W_X0_quotientOf g (d + 10) av (QI n Q) n 196 [some (.ref 0), some (.ref a), some (.int (nI way)), some (.int (zI v)), some (.ref c), some (.int (nI j)), none, none, none] [.int (zI co)] h := by
      intro co ec
      have es : zI co * zI v = zI (stepQ way v q) := by rw [zI_mul, ec]; rfl
      have g5 : ∀ (f1 : Bool), f1 = decide (0 < q.2.2.2) → W_X0_quotientOf g (d + 10) av (QI n Q) n 215 [some (.ref 0), some (.ref a), some (.int (nI way)), some (.int (zI v)), some (.ref c), some (.int (nI j)), some (.int (zI (stepQ way v q))), none, none] [.int (if f1 = true then 1 else 0)] h := by
        intro f1 ef1
        have g6 : ∀ (f2 : Bool), f2 = decide (0 < stepQ way v q) → W_X0_quotientOf g (d + 10) av (QI n Q) n 225 [some (.ref 0), some (.ref a), some (.int (nI way)), some (.int (zI v)), some (.ref c), some (.int (nI j)), some (.int (zI (stepQ way v q))), none, none] [.int (if f2 = true then 1 else 0), .int (if f1 = true then 1 else 0)] h := by
          intro f2 ef2
          refine s_X0_quotientOf_225 hp ta tc ⟨fun w => j239u (fun z => w ?_), fun w => j239o ?_⟩
          · rw [← ef1, ← ef2] at z; rw [z]
          · rw [← ef1, ← ef2]
            cases f1 <;> cases f2 <;> first | rfl | exact absurd w (by decide)
        refine s_X0_quotientOf_215 hp ta tc ?_
        rw [z0, zI_le (by omega) (by omega) (by omega) (by omega)]
        exact ⟨fun w => g6 false (by symm; exact decide_eq_false (by omega)), fun w => g6 true (by symm; exact decide_eq_true (by omega))⟩
      refine s_X0_quotientOf_196 hp ta tc ⟨hin, ?_⟩
      rw [nI_tN (by omega), r9, es, z0, zI_le (by omega) (by omega) (by omega) (by omega)]
      exact ⟨fun w => g5 false (by symm; exact decide_eq_false (by omega)), fun w => g5 true (by symm; exact decide_eq_true (by omega))⟩
    refine s_X0_quotientOf_166 hp ta tc ⟨fun w => absurd w ?_, fun _ => ?_⟩
    · rw [Ha.2.2.2.1]; simp (disch := omega) only [nI_addz, nI_1, nI_leI, nI_ltI, nI_eq, nI_tN, nI_inI]; omega
    · rw [nI_tN (by omega), r6, r7]
      have ew : nI way = (0 : Int32) ↔ way = 0 := by simp (disch := omega) only [nI_z, z0, z1, z2, zm1, zI_add, zI_sub, zI_neg, zI_mul, zI_le, zI_lt, zI_eq, zI_tN, zI_inI]; omega
      rw [ew]
      exact ⟨fun w => ⟨hin, j196 q.2.1 (by rw [if_neg w])⟩, fun w => ⟨hin, j196 q.1 (by rw [if_pos w])⟩⟩
end
