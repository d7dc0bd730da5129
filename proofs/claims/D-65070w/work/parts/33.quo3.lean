set_option maxRecDepth 100000
/-! QUOTIENTS: the walk -/
abbrev Lqo : List Nat := [39, 40, 41, 42, 43, 44, 45, 46]
section
variable {g : GX} {d n : Nat} {h h' : Hp} {a c : Nat}
theorem w_q244 (hp : g.2.2.2.2 = true) (ta : lay a = (0, 5, 8)) (tc : lay c = (0, 6, 2)) {av : List Value} {i : Itm} (gi : gI i) {way : Nat} {v : Int} (hv : 0 ≤ v ∧ v ≤ 3) {j a7 o7 : Nat} {q : Q4} (hc : (a7 = 39 ∧ o7 = 41) ∨ (a7 = 41 ∧ o7 = 39)) (er : i.2.2.2.2[j]? = some q) {X Y : Bi} (hN : bsn X + 9 * q.2.2.2.natAbs ≤ 900) (hK : bsz X + 9 * q.2.2.2.natAbs ≤ 150) {x2 x3 : Int32} {Q : Int32 → Hp → Prop} : ∀ (k m : Nat) (h : Hp), m + k = q.2.2.2.natAbs → Kp h → IIt h a i → DI h a7 (mulM (lineP way v q) m X) → DI h o7 Y → (∀ h', Fr h h' Lqo → DI h' a7 (mulM (lineP way v q) q.2.2.2.natAbs X) → DI h' o7 Y → W_X0_quotientOf g (d + 9) av (QI n Q) n 166 [some (.ref 0), some (.ref a), some (.int x2), some (.int x3), some (.ref c), some (.int (nI (j + 1))), none, none, none] [] h') → W_X0_quotientOf g (d + 9) av (QI n Q) n 244 [some (.ref 0), some (.ref a), some (.int x2), some (.int x3), some (.ref c), some (.int (nI j)), some (.int (zI (stepQ way v q))), some (.ref a7), some (.int (nI m))] [] h := by
  have la := it_lo ta
  have t7 : lay a7 = (0, 4, 4) := by rcases hc with ⟨e, _⟩ | ⟨e, _⟩ <;> rw [e]; exact t39; exact t41
  have gq' := gi.2.2.2.2.2.2.1 q (FA.mem er)
  have hst := stepQ_bd (way := way) hv gq'.1
  have be := szF_mem (FA.mem er)
  have be2 := gi.2.2.2.2.2.2.2.1
  have lsz := lineP_sz (way := way) hv gq'.1
  intro k
  induction k with
  | zero =>
    intro m h hm K Ha H7 Ho k'
    have l60 := Ha.2.2.2.2.1
    have hj := FA.lt er
    obtain ⟨r6, r7, r8, r9⟩ := Ha.2.2.2.2.2.2 j q er
    refine s_X0_quotientOf_244 hp ta tc t7 ⟨nI_inL (by omega) (by omega), ?_⟩
    rw [nI_tN (by omega), r9]
    refine ok_abs hp (by omega) (by omega) ⟨fun _ => ?_, fun w => absurd ?_ w⟩
    · rw [nI_1]
      exact k' h Fr.rf (by rw [show q.2.2.2.natAbs = m by omega]; exact H7) Ho
    · simp (disch := omega) only [nI_addz, nI_1, nI_leI, nI_ltI, nI_eq, nI_tN, nI_inI]; omega
  | succ k ih =>
    intro m h hm K Ha H7 Ho k'
    have l60 := Ha.2.2.2.2.1
    have hj := FA.lt er
    obtain ⟨r6, r7, r8, r9⟩ := Ha.2.2.2.2.2.2 j q er
    have hin : vp_in (nI j) 60 := nI_inL (by omega) (by omega)
    have nxt : ∀ h2, Fr h h2 Lqo → DI h2 a7 (mulM (lineP way v q) (m + 1) X) → DI h2 o7 Y → W_X0_quotientOf g (d + 9) av (QI n Q) n 334 [some (.ref 0), some (.ref a), some (.int x2), some (.int x3), some (.ref c), some (.int (nI j)), some (.int (zI (stepQ way v q))), some (.ref a7), some (.int (nI m))] [] h2 := by
      intro h2 f2 H2 Ho2
      refine s_X0_quotientOf_334 hp ta tc t7 ?_
      rw [nI_1]
      exact ih (m + 1) h2 (by omega) (f2.kp K) (Ha.fr2 f2 (fun x h1 _ => by simp; omega)) H2 Ho2 (fun h' f' => k' h' (f2.tr f'))
    have ms := mulM_sz lsz.1 lsz.2 X m
    have hmm : 9 * m + 9 ≤ 9 * q.2.2.2.natAbs := by omega
    have fo : ∀ h2, Fr h h2 [a7, a7 + 1, 43, 44, 45, 46] → Fr h h2 Lqo ∧ DI h2 o7 Y := by
      intro h2 f2
      rcases hc with ⟨e1, e2⟩ | ⟨e1, e2⟩ <;> subst e1 e2
      · exact ⟨f2.mono (by simp), Ho.fr f2 (by decide) (by decide)⟩
      · exact ⟨f2.mono (by simp), Ho.fr f2 (by decide) (by decide)⟩
    refine s_X0_quotientOf_244 hp ta tc t7 ⟨hin, ?_⟩
    rw [nI_tN (by omega), r9]
    refine ok_abs hp (by omega) (by omega) ⟨fun w => absurd w ?_, fun _ => ?_⟩
    · simp (disch := omega) only [nI_addz, nI_1, nI_leI, nI_ltI, nI_eq, nI_tN, nI_inI]; omega
    · rw [r6, r7, r8, z0, zI_le (by omega) (by omega) (by omega) (by omega), zI_le (by omega) (by omega) (by omega) (by omega)]
      refine ⟨fun w => ⟨fun w2 => ?_, fun w2 => ⟨hin, hin, hin, ?_⟩⟩, fun w => ⟨hin, hin, hin, ?_⟩⟩
      · refine nxt h Fr.rf ?_ Ho
        have hz : stepQ way v q = 0 := by omega
        have eP : lineP way v q = bC (pC 1) := by unfold lineP; rw [if_neg (by omega), hz]; rfl
        show DI h a7 (bmul (mulM (lineP way v q) m X) (lineP way v q))
        have e2 : bmul (mulM (lineP way v q) m X) (lineP way v q) = mulM (lineP way v q) m X := by
          conv => lhs; rw [eP]
          rw [b_mulc, b_mul1]
          rw [eP]
        rw [e2]; exact H7
      · have eP : lineP way v q = tlP q.1 q.2.1 q.2.2.1 (stepQ way v q + 1) (-stepQ way v q).toNat := by unfold lineP; rw [if_neg (by omega)]
        have e1 : zI (stepQ way v q) + 1 = zI (stepQ way v q + 1) := by rw [z1, zI_add]
        have e0 : (zI 0 : Int32) = zI (stepQ way v q + 1 + ((-stepQ way v q).toNat : Nat) - 1) := by congr 1; omega
        rw [e1, e0]
        refine ok_timesLines hp t7 (by omega) K (by omega) H7 (by omega) (by omega) (fun h2 f2 H2 => nxt h2 (fo h2 f2).1 ?_ (fo h2 f2).2)
        rw [← eP] at H2; exact H2
      · have eP : lineP way v q = tlP q.1 q.2.1 q.2.2.1 1 (stepQ way v q).toNat := by unfold lineP; rw [if_pos (by omega)]
        have e0 : zI (stepQ way v q) = zI (1 + ((stepQ way v q).toNat : Nat) - 1) := by congr 1; omega
        rw [show (1 : Int32) = zI 1 from rfl, e0]
        refine ok_timesLines hp t7 (by omega) K (by omega) H7 (by omega) (by omega) (fun h2 f2 H2 => ?_)
        rw [← e0]
        refine nxt h2 (fo h2 f2).1 ?_ (fo h2 f2).2
        rw [← eP] at H2; exact H2
end
