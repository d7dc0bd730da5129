set_option maxRecDepth 100000
/-! OPERATIONS of the house: told, factorials, values, sums, quotients, first numbers, counts -/
section
variable {g : GX} {d n : Nat} {h h' h1 : Hp} {S : SS} {s : Nat}
/-- told -/
noncomputable def tldI (i : Itm) (z : Int) : Int32 := if z = 0 then toI i.2.2.1 else if z = 1 then toI i.2.2.2.1 else nI i.2.2.2.2.length
noncomputable def tldS (v : SV) (z : Int) : Int32 := if z < 0 ∨ 4 < z then -1 else if z ≤ 2 then (match itmS v with
    | none => -3
    | some i => cite (isT i.2.2.1 i.2.2.2.1 i.2.2.2.2) (tldI i z) (-3)) else if z = 3 then (match recS v with
    | none => -3
    | some a => nI (a.length - 1)) else (match v with
    | some (Sum.inr (Sum.inr (_, m, _))) => nI m
    | _ => -3)
noncomputable def S_told (S : SS) (x y : Int32) : SS × Int32 := slS S x (fun s => (S, tldS (S.sl s) y.toInt))
theorem kdI_T {i : Itm} : kdI i = 2 ↔ isT i.2.2.1 i.2.2.2.1 i.2.2.2.2 := by
  unfold kdI
  by_cases h : isT i.2.2.1 i.2.2.2.1 i.2.2.2.2
  · rw [cite_pos h]; exact ⟨fun _ => h, fun _ => rfl⟩
  · rw [cite_neg h]; exact ⟨fun w => by omega, fun w => absurd w h⟩
theorem ok_S_told (hp : g.2.2.2.2 = true) (I : SI h S) {x y : Int32} {Q : Int32 → Hp → Prop} (q : Pub h (S_told S x y) Q) : CallI g m_X0_told (d + 1) [.ref 0, .int x, .int y] n h Q := by
  unfold S_told at q
  refine okI 1 rfl rfl (s_X0_told_0 hp (ok_isSlot hp (fun s hs e => ⟨fun _ => ⟨by rw [e]; exact nI_inL hs (by omega), fun r2 e2 => ?_⟩, fun c => absurd c (by decide)⟩) (fun e => ⟨fun c => absurd rfl c, fun _ => ?_⟩)))
  · subst e
    rw [nI_tN (by omega)] at e2; subst e2
    rw [slS_n hs] at q
    have q := q.same I
    generalize y.toInt = z at q ⊢
    have Qe : ∀ v, tldS (S.sl s) z = v → Q v h := fun v e => e ▸ q
    rcases I.slot hs with ⟨e, k⟩ | ⟨i, e, H, gi, k, kk⟩ | ⟨T, B, a, e, H, H2, _, ga, k⟩ | ⟨a, m, f, e, H, gs, k⟩
    · rw [show ri h (1185 + 27 * s) 0 = nI 0 from k]
      rw [e] at Qe
      refine ⟨fun w => ⟨fun c => absurd c (by decide), fun _ => qI (Qe _ ?_)⟩, fun w => ⟨fun c => absurd c (by decide), fun _ => qI (Qe _ ?_)⟩, fun w => ⟨fun c => absurd c (by decide), fun _ => qI (Qe _ ?_)⟩, fun w => ⟨fun c => absurd c (by decide), fun _ => qI (Qe _ ?_)⟩, fun w => ⟨fun c => absurd c (by decide), fun _ => qI (Qe _ ?_)⟩, fun w => qI (Qe _ ?_)⟩
      all_goals first | (subst w; rfl) | (unfold tldS; rw [if_pos w])
    · rw [show ri h (1185 + 27 * s) 0 = nI (kdI i) from k]
      rw [e] at Qe
      have e2 : nI (kdI i) = (2 : Int32) ↔ isT i.2.2.1 i.2.2.2.1 i.2.2.2.2 := by
        rw [show (2 : Int32) = nI 2 from rfl, nI_eq (by omega) (by omega)]; exact kdI_T
      have e3 : ¬ (3 : Int32) ≤ nI (kdI i) := by rw [show (3 : Int32) = nI 3 from rfl, nI_leI (by omega) (by omega)]; omega
      have e4 : ¬ nI (kdI i) = (4 : Int32) := by rw [show (4 : Int32) = nI 4 from rfl, nI_eq (by omega) (by omega)]; omega
      have T2 : ∀ z : Int, 0 ≤ z → z ≤ 2 → ∀ v, tldI i z = v → (isT i.2.2.1 i.2.2.2.1 i.2.2.2.2 → tldS (svI i) z = v) ∧ (¬ isT i.2.2.1 i.2.2.2.1 i.2.2.2.2 → tldS (svI i) z = -3) := by
        intro z h0 h2 v ev
        have : tldS (svI i) z = cite (isT i.2.2.1 i.2.2.2.1 i.2.2.2.2) (tldI i z) (-3) := by
          unfold tldS; rw [if_neg (by omega), if_pos h2]; rfl
        rw [this]
        exact ⟨fun w => by rw [cite_pos w]; exact ev, fun w => by rw [cite_neg w]⟩
      rw [e2, show ri h (1185 + 27 * s + 1) 1 = toI i.2.2.1 from H.2.1, show ri h (1185 + 27 * s + 1) 2 = toI i.2.2.2.1 from H.2.2.1, show ri h (1185 + 27 * s + 1) 3 = nI i.2.2.2.2.length from H.2.2.2.1]
      refine ⟨fun w => ⟨fun c => qI (Qe _ ?_), fun c => qI (Qe _ ?_)⟩, fun w => ⟨fun c => qI (Qe _ ?_), fun c => qI (Qe _ ?_)⟩, fun w => ⟨fun c => qI (Qe _ ?_), fun c => qI (Qe _ ?_)⟩, fun w => ⟨fun c => absurd c e3, fun _ => qI (Qe _ ?_)⟩, fun w => ⟨fun c => absurd c e4, fun _ => qI (Qe _ ?_)⟩, fun w => qI (Qe _ ?_)⟩
      · subst w; exact (T2 0 (by omega) (by omega) _ rfl).1 c
      · subst w; exact (T2 0 (by omega) (by omega) _ rfl).2 c
      · subst w; exact (T2 1 (by omega) (by omega) _ rfl).1 c
      · subst w; exact (T2 1 (by omega) (by omega) _ rfl).2 c
      · subst w; exact (T2 2 (by omega) (by omega) _ rfl).1 c
      · subst w; exact (T2 2 (by omega) (by omega) _ rfl).2 c
      · subst w; rfl
      · subst w; rfl
      · unfold tldS; rw [if_pos w]
    · rw [show ri h (1185 + 27 * s) 0 = nI 3 from k, show ri h (1185 + 27 * s) 3 = nI (a.length - 1) from H2.1]
      rw [e] at Qe
      refine ⟨fun w => ⟨fun c => absurd c (by decide), fun _ => qI (Qe _ ?_)⟩, fun w => ⟨fun c => absurd c (by decide), fun _ => qI (Qe _ ?_)⟩, fun w => ⟨fun c => absurd c (by decide), fun _ => qI (Qe _ ?_)⟩, fun w => ⟨fun _ => qI (Qe _ ?_), fun c => absurd (by decide) c⟩, fun w => ⟨fun c => absurd c (by decide), fun _ => qI (Qe _ ?_)⟩, fun w => qI (Qe _ ?_)⟩
      all_goals first | (subst w; rfl) | (unfold tldS; rw [if_pos w])
    · rw [show ri h (1185 + 27 * s) 0 = nI 4 from k, show ri h (1185 + 27 * s) 3 = nI (a.length - 1) from H.1.1, show ri h (1185 + 27 * s) 4 = nI m from H.2.1]
      rw [e] at Qe
      refine ⟨fun w => ⟨fun c => absurd c (by decide), fun _ => qI (Qe _ ?_)⟩, fun w => ⟨fun c => absurd c (by decide), fun _ => qI (Qe _ ?_)⟩, fun w => ⟨fun c => absurd c (by decide), fun _ => qI (Qe _ ?_)⟩, fun w => ⟨fun _ => qI (Qe _ ?_), fun c => absurd (by decide) c⟩, fun w => ⟨fun _ => qI (Qe _ ?_), fun c => absurd rfl c⟩, fun w => qI (Qe _ ?_)⟩
      all_goals first | (subst w; rfl) | (unfold tldS; rw [if_pos w])
  · rw [slS_no e] at q
    exact qI (q.same I)
/-- one number of a factorial -/
def q4at (q : Q4) (z : Int) : Int := if z = 0 then q.1 else if z = 1 then q.2.1 else if z = 2 then q.2.2.1 else if z = 3 then q.2.2.2 else 0
noncomputable def facS (v : SV) (i z : Int) : Int32 := match itmS v with
  | none => 0
  | some t => if i < 0 then 0 else (match t.2.2.2.2[i.toNat]? with
    | none => 0
    | some q => zI (q4at q z))
noncomputable def S_factorial (S : SS) (x y z : Int32) : SS × Int32 := slS S x (fun s => (S, facS (S.sl s) y.toInt z.toInt))
theorem ok_S_factorial (hp : g.2.2.2.2 = true) (I : SI h S) {x y z : Int32} {Q : Int32 → Hp → Prop} (q : Pub h (S_factorial S x y z) Q) : CallI g m_X0_factorial_2 (d + 1) [.ref 0, .int x, .int y, .int z] n h Q := by
  unfold S_factorial at q
  refine okI 1 rfl rfl (s_X0_factorial_2_0 hp (ok_isSlot hp (fun s hs e => ⟨fun _ => ⟨by rw [e]; exact nI_inL hs (by omega), fun r2 e2 => ?_⟩, fun c => absurd c (by decide)⟩) (fun e => ⟨fun c => absurd rfl c, fun _ => ?_⟩)))
  · subst e
    rw [nI_tN (by omega)] at e2; subst e2
    rw [slS_n hs] at q
    have q := q.same I
    have Qe : ∀ v, facS (S.sl s) y.toInt z.toInt = v → Q v h := fun v e => e ▸ q
    clear q
    have no : itmS (S.sl s) = none → Q 0 h := fun e => Qe 0 (by unfold facS; rw [e])
    rcases I.slot hs with ⟨e, k⟩ | ⟨i, e, H, gi, k, kk⟩ | ⟨T, B, a, e, H, H2, _, ga, k⟩ | ⟨a, m, f, e, H, gs, k⟩
    · rw [show ri h (1185 + 27 * s) 0 = nI 0 from k]
      exact ⟨fun c => absurd c (by decide), fun _ => qI (no (by rw [e]; rfl))⟩
    · rw [show ri h (1185 + 27 * s) 0 = nI (kdI i) from k]
      rw [e] at Qe
      have Qe : ∀ v, (if y.toInt < 0 then 0 else (match i.2.2.2.2[y.toInt.toNat]? with
        | none => 0
        | some q => zI (q4at q z.toInt))) = v → Q v h := Qe
      have e2 : nI (kdI i) = (2 : Int32) ↔ isT i.2.2.1 i.2.2.2.1 i.2.2.2.2 := by
        rw [show (2 : Int32) = nI 2 from rfl, nI_eq (by omega) (by omega)]; exact kdI_T
      rw [e2]
      have hl : i.2.2.2.2.length ≤ 60 := H.2.2.2.2.1
      refine ⟨fun ht => ⟨nI_inL hs (by omega), fun r3 e3 => ⟨fun c => qI (Qe _ (by rw [if_pos (I32_neg c)])), fun c => ?_⟩⟩, fun ht => ?_⟩
      · rw [nI_tN (by omega)] at e3; subst e3
        obtain ⟨j, hj, rfl⟩ := I32_nn c
        have tj := nI_toInt hj
        rw [tj] at Qe
        have Qe : ∀ v, (match i.2.2.2.2[j]? with
          | none => 0
          | some q => zI (q4at q z.toInt)) = v → Q v h := fun v ev => Qe v (by rw [if_neg (by omega)]; exact ev)
        rw [show ri h (1185 + 27 * s + 1) 3 = nI i.2.2.2.2.length from H.2.2.2.1, nI_ltI hj (by omega), nI_tN hj]
        refine ⟨fun c2 => ?_, fun c2 => qI (Qe 0 (by rw [List.getElem?_eq_none (by omega)]))⟩
        have eq := List.getElem?_eq_getElem c2
        generalize i.2.2.2.2[j] = qq at eq
        have F := H.2.2.2.2.2.2 j qq eq
        have Qe : ∀ v, zI (q4at qq z.toInt) = v → Q v h := fun v ev => Qe v (by rw [eq]; exact ev)
        rw [show ri h (1185 + 27 * s + 7) j = zI qq.1 from F.1, show ri h (1185 + 27 * s + 8) j = zI qq.2.1 from F.2.1, show ri h (1185 + 27 * s + 9) j = zI qq.2.2.1 from F.2.2.1, show ri h (1185 + 27 * s + 10) j = zI qq.2.2.2 from F.2.2.2]
        rw [show (0 : Int32) = zI 0 from rfl, show (1 : Int32) = zI 1 from rfl, show (2 : Int32) = zI 2 from rfl, show (3 : Int32) = zI 3 from rfl, I32_eqz (by omega) (by omega), I32_eqz (by omega) (by omega), I32_eqz (by omega) (by omega), I32_eqz (by omega) (by omega)]
        unfold q4at at Qe
        refine ⟨fun a0 => ⟨fun a1 => ⟨fun a2 => ⟨fun a3 => qI (Qe _ ?_), fun a3 => ⟨nI_inL (by omega) (by omega), qI (Qe _ ?_)⟩⟩, fun a2 => ⟨nI_inL (by omega) (by omega), qI (Qe _ ?_)⟩⟩, fun a1 => ⟨nI_inL (by omega) (by omega), qI (Qe _ ?_)⟩⟩, fun a0 => ⟨nI_inL (by omega) (by omega), qI (Qe _ ?_)⟩⟩
        · rw [if_neg a0, if_neg a1, if_neg a2, if_neg a3]
        · rw [if_neg a0, if_neg a1, if_neg a2, if_pos a3]
        · rw [if_neg a0, if_neg a1, if_pos a2]
        · rw [if_neg a0, if_pos a1]
        · rw [if_pos a0]
      · have el : i.2.2.2.2 = [] := Classical.byContradiction fun w => ht (Or.inr (Or.inr w))
        exact qI (Qe 0 (by rw [el]; split <;> simp))
    · rw [show ri h (1185 + 27 * s) 0 = nI 3 from k]
      exact ⟨fun c => absurd c (by decide), fun _ => qI (no (by rw [e]; rfl))⟩
    · rw [show ri h (1185 + 27 * s) 0 = nI 4 from k]
      exact ⟨fun c => absurd c (by decide), fun _ => qI (no (by rw [e]; rfl))⟩
  · rw [slS_no e] at q
    exact qI (q.same I)
/-- what values change: the table of factorials alone -/
theorem Wz.f92 (f : Fr h h' [92]) : Wz h h' := Wz.of_fr f (fun x hx => by simp at hx; subst hx; unfold pubC; omega)
/-- value -/
noncomputable def S_value (S : SS) (x y z : Int32) : SS × Int32 := slS S x (fun s => (S, match itmS (S.sl s) with
  | none => -3
  | some i => oI (valI i y z)))
theorem ok_S_value (hp : g.2.2.2.2 = true) (I : SI h S) {x y z : Int32} {Q : Int32 → Hp → Prop} (q : Pub h (S_value S x y z) Q) : CallI g m_X0_value (d + 5) [.ref 0, .int x, .int y, .int z] n h Q := by
  unfold S_value at q
  refine okI 0 rfl rfl (s_X0_value_0 hp (ok_isSlot hp (fun s hs e => ⟨fun _ => ?_, fun c => absurd c (by decide)⟩) (fun e => ⟨fun c => absurd rfl c, fun _ => ?_⟩)))
  · subst e
    rw [slS_n hs] at q
    have hsc : slc s = 1185 + 27 * s := rfl
    refine ok_hasItem hp I hs (fun i e H gi k => ⟨fun _ => ⟨nI_inL hs (by omega), fun r3 e3 => ?_⟩, fun c => absurd c (by decide)⟩) (fun e k => ⟨fun c => absurd rfl c, fun _ => ?_⟩)
    · rw [nI_tN (by omega)] at e3; subst e3
      rw [e] at q
      exact ok_valueOf hp (lf_9_1 (slc_lay hs)) (Or.inr (by omega)) I.kp gi H (fun h' f => qI (q h' (Wz.f92 f).cz (I.wz (Wz.f92 f))))
    · rw [e] at q
      exact qI (q.same I)
  · rw [slS_no e] at q
    exact qI (q.same I)
/-- sum -/
def pl5 (z : Int) : Prop := 0 ≤ z ∧ z ≤ 500
noncomputable def S_sum (S : SS) (x y lo hi : Int32) : SS × Int32 := slS S x (fun s => (S, match itmS (S.sl s) with
  | none => -3
  | some i => cite (pl5 y.toInt ∧ pl5 lo.toInt ∧ pl5 hi.toInt) (oI (sumV i y lo.toInt.toNat (hi.toInt.toNat + 1 - lo.toInt.toNat))) (-1)))
theorem ok_arePlaces (hp : g.2.2.2.2 = true) {x y z : Int32} {Q : Int32 → Hp → Prop} (q1 : pl5 x.toInt → pl5 y.toInt → pl5 z.toInt → Q 1 h) (q0 : ¬ (pl5 x.toInt ∧ pl5 y.toInt ∧ pl5 z.toInt) → Q 0 h) : CallI g m_X0_arePlaces (d + 1) [.int x, .int y, .int z] n h Q := by
  refine okI 0 rfl rfl (s_X0_arePlaces_0 hp ?_)
  rw [show (0 : Int32) = zI 0 from rfl, show (500 : Int32) = zI 500 from rfl]
  refine ok_withinX hp (by omega) (by omega) (by omega) (by omega) (fun a b => ⟨fun c => absurd c (by decide), fun _ => ?_⟩) (fun w => ⟨fun _ => qI (q0 (fun u => w u.1)), fun c => absurd rfl c⟩)
  refine ok_withinX hp (by omega) (by omega) (by omega) (by omega) (fun a' b' => ⟨fun c => absurd c (by decide), fun _ => ?_⟩) (fun w => ⟨fun _ => qI (q0 (fun u => w u.2.1)), fun c => absurd rfl c⟩)
  exact ok_withinX hp (by omega) (by omega) (by omega) (by omega) (fun a'' b'' => ⟨fun c => absurd c (by decide), fun _ => qI (q1 ⟨a, b⟩ ⟨a', b'⟩ ⟨a'', b''⟩)⟩) (fun w => ⟨fun _ => qI (q0 (fun u => w u.2.2)), fun c => absurd rfl c⟩)
theorem I32_nat {x : Int32} (h : 0 ≤ x.toInt) : x = nI x.toInt.toNat := by
  rw [nI_z, show ((x.toInt.toNat : Nat) : Int) = x.toInt by omega]; exact I32_z x
theorem ok_S_sum (hp : g.2.2.2.2 = true) (I : SI h S) {x y lo hi : Int32} {Q : Int32 → Hp → Prop} (q : Pub h (S_sum S x y lo hi) Q) : CallI g m_X0_sum_2 (d + 6) [.ref 0, .int x, .int y, .int lo, .int hi] n h Q := by
  unfold S_sum at q
  refine okI 0 rfl rfl (s_X0_sum_2_0 hp (ok_isSlot hp (fun s hs e => ⟨fun _ => ?_, fun c => absurd c (by decide)⟩) (fun e => ⟨fun c => absurd rfl c, fun _ => ?_⟩)))
  · subst e
    rw [slS_n hs] at q
    have hsc : slc s = 1185 + 27 * s := rfl
    refine ok_hasItem hp I hs (fun i e H gi k => ⟨fun _ => ?_, fun c => absurd c (by decide)⟩) (fun e k => ⟨fun c => absurd rfl c, fun _ => ?_⟩)
    · rw [e] at q
      have q : Pub h (S, cite (pl5 y.toInt ∧ pl5 lo.toInt ∧ pl5 hi.toInt) (oI (sumV i y lo.toInt.toNat (hi.toInt.toNat + 1 - lo.toInt.toNat))) (-1)) Q := q
      refine ok_arePlaces hp (fun a b c => ⟨fun c => absurd c (by decide), fun _ => ⟨nI_inL hs (by omega), fun r3 e3 => ?_⟩⟩) (fun w => ⟨fun _ => ?_, fun c => absurd rfl c⟩)
      · rw [nI_tN (by omega)] at e3; subst e3
        rw [cite_pos ⟨a, b, c⟩] at q
        have b1 := b.1; have b2 := b.2; have c1 := c.1; have c2 := c.2
        rw [I32_nat b1, I32_nat c1]
        exact ok_sumOf hp (lf_9_1 (slc_lay hs)) (Or.inr (by omega)) I.kp gi H (by omega) (by omega) (fun h' f => qI (q h' (Wz.f92 f).cz (I.wz (Wz.f92 f))))
      · rw [cite_neg w] at q
        exact qI (q.same I)
    · rw [e] at q
      exact qI (q.same I)
  · rw [slS_no e] at q
    exact qI (q.same I)
end
