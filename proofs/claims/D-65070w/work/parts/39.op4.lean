set_option maxRecDepth 100000
/-! OPERATIONS of the house: quotients, read, first numbers, counts -/
section
variable {g : GX} {d n : Nat} {h h' h1 : Hp} {S : SS} {s : Nat}
/-- a ratio goes into a slot -/
noncomputable def putR (S : SS) (t : Nat) (T B : Bi) : SS × Int32 := (S.put t (svI (T, B, 1, 1, [])), 1)
theorem gI_ratio {T B : Bi} (h1 : bcop T B) (h2 : hB B = 1) (h3 : fitB T) (h4 : fitB B) : gI (T, B, 1, 1, []) := by
  have o : (1 : Fp) ≠ 0 := by decide
  refine ⟨h1, h2, h3, h4, o, o, fun r hr => ?_, Nat.zero_le _, fun _ w => ?_⟩
  · cases hr
  · rcases w with w | w | w
    · exact w rfl
    · exact w rfl
    · exact w rfl
theorem low_good {F G : Bi} (hG : G ≠ bz) : bcop (lowT F G) (lowB F G) ∧ hB (lowB F G) = 1 := ⟨(low_is F hG).2.1, (low_is F hG).2.2⟩
/-- the cells of working out and of the result -/
theorem Wz.lgv (f : Fr h h' (Lgv 81)) : Wz h h' := Wz.of_fr f (fun x hx => by simp only [Lgv, Lrd, List.mem_cons, List.not_mem_nil, or_false] at hx; unfold pubC; omega)
theorem Wz.lrd (f : Fr h h' Lrd) : Wz h h' := Wz.of_fr f (fun x hx => by simp only [Lrd, List.mem_cons, List.not_mem_nil, or_false] at hx; unfold pubC; omega)
theorem kdI_R (T B : Bi) : kdI (T, B, 1, 1, []) = 1 := by unfold kdI; rw [cite_neg (by simp [isT])]
/-- a ratio that was worked out goes into a slot -/
theorem ok_keepRS (hp : g.2.2.2.2 = true) (I : SI h S) (hs : s < 12) {T B : Bi} (H : RI h 81 T B) (gi : gI (T, B, 1, 1, [])) {Q : Int32 → Hp → Prop} (q : Pub h (putR S s T B) Q) : CallI g m_X0_keepResult (d + 5) [.ref 0, .int (nI s)] n h Q := by
  have hsc : slc s = 1185 + 27 * s := rfl
  refine ok_keepResult hp hs I.kp H (fun h' f A e => ?_)
  have w : Wq s h h' := Wq.of_fr f (fun x hx => by
    rcases List.mem_cons.mp hx with c | c
    · unfold pubC; omega
    · have := Lsl_in c; omega)
  exact q h' w.cz (I.putI hs w gi A (by rw [kdI_R]; exact e))
/-- an item goes into a slot -/
noncomputable def putI (S : SS) (t : Nat) (i : Itm) : SS × Int32 := (S.put t (svI i), nI (kdI i))
theorem ok_keepIS (hp : g.2.2.2.2 = true) (I : SI h S) (hs : s < 12) {a : Nat} (ta : lay a = (0, 5, 8)) (hne : a ≠ slc s + 1) {i : Itm} (H : IIt h a i) (gi : gI i) {Q : Int32 → Hp → Prop} (q : Pub h (putI S s i) Q) : CallI g m_X0_keep (d + 4) [.ref 0, .ref a, .int (nI s)] n h Q :=
  ok_ikeep hp ta hs hne I.kp H (fun h' f A e => q h' (Wq.lsl hs f).cz (I.putI hs (Wq.lsl hs f) gi A e))
theorem Pub.wz {r : SS × Int32} {Q : Int32 → Hp → Prop} (q : Pub h r Q) (w : Wz h h1) : Pub h1 r Q := fun h' c I => q h' (w.cz.tr c) I
/-- quotient -/
noncomputable def S_quotient (S : SS) (x y z : Int32) : SS × Int32 := slS S x (fun s => slS S z (fun t => match itmS (S.sl s) with
  | none => (S, -3)
  | some i => cite (b01 y ∧ i.1 ≠ bz) (cite (fitB (lowT (qND y.toInt.toNat 1 i).1 (qND y.toInt.toNat 1 i).2) ∧ fitB (lowB (qND y.toInt.toNat 1 i).1 (qND y.toInt.toNat 1 i).2)) (putR S t (lowT (qND y.toInt.toNat 1 i).1 (qND y.toInt.toNat 1 i).2) (lowB (qND y.toInt.toNat 1 i).1 (qND y.toInt.toNat 1 i).2)) (S, -2)) (S, -1)))
theorem slS_no2 {S : SS} {k : Nat → Nat → SS × Int32} {x z : Int32} (h : ∀ s : Nat, s < 12 → z ≠ nI s) : slS S x (fun s => slS S z (k s)) = (S, -1) := by
  have e : (fun s => slS S z (k s)) = fun _ => (S, -1) := funext fun s => slS_no h
  rw [e]; unfold slS; split <;> rfl
theorem qND_ne (way : Nat) (v : Int) {i : Itm} (gi : gI i) (hT : i.1 ≠ bz) : (qND way v i).2 ≠ bz := by
  unfold qND
  have key : ∀ (L : List Q4), gL L → ∀ FG : Bi × Bi, FG.2 ≠ bz → (L.foldl (qst way v) FG).2 ≠ bz := by
    intro L
    induction L with
    | nil => intro _ FG h; exact h
    | cons r L ih =>
      intro g FG h
      rw [List.foldl_cons]
      refine ih (fun r hr => g r (List.mem_cons_of_mem _ hr)) _ ?_
      unfold qst
      split
      · exact h
      · exact mulM_ne (lineP_ne way v (g r List.mem_cons_self).1) h _
  exact key _ gi.2.2.2.2.2.2.1 _ (b_mulne (bsh_ne way _ gi.b) hT)
theorem t81 : lay 81 = (0, 6, 2) := by decide +kernel
theorem ok_S_quotient (hp : g.2.2.2.2 = true) (I : SI h S) {x y z : Int32} {Q : Int32 → Hp → Prop} (q : Pub h (S_quotient S x y z) Q) : CallI g m_X0_quotient (d + 12) [.ref 0, .int x, .int y, .int z] n h Q := by
  unfold S_quotient at q
  refine okI 0 rfl rfl (s_X0_quotient_0 hp (ok_isSlot hp (fun s hs e => ⟨fun c => absurd c (by decide), fun _ => ?_⟩) (fun e => ⟨fun _ => ?_, fun c => absurd rfl c⟩)))
  · subst e
    refine ok_isSlot hp (fun t ht e => ⟨fun _ => ?_, fun c => absurd c (by decide)⟩) (fun e => ⟨fun c => absurd rfl c, fun _ => ?_⟩)
    · subst e
      rw [slS_n hs, slS_n ht] at q
      have hsc : slc s = 1185 + 27 * s := rfl
      refine ok_hasItem hp I hs (fun i e H gi k => ⟨fun _ => ?_, fun c => absurd c (by decide)⟩) (fun e k => ⟨fun c => absurd rfl c, fun _ => ?_⟩)
      · rw [e] at q
        have q : Pub h (cite (b01 y ∧ i.1 ≠ bz) (cite (fitB (lowT (qND y.toInt.toNat 1 i).1 (qND y.toInt.toNat 1 i).2) ∧ fitB (lowB (qND y.toInt.toNat 1 i).1 (qND y.toInt.toNat 1 i).2)) (putR S t (lowT (qND y.toInt.toNat 1 i).1 (qND y.toInt.toNat 1 i).2) (lowB (qND y.toInt.toNat 1 i).1 (qND y.toInt.toNat 1 i).2)) (S, -2)) (S, -1)) Q := q
        rw [show (0 : Int32) = zI 0 from rfl, show (1 : Int32) = zI 1 from rfl]
        refine ok_withinX hp (by omega) (by omega) (by omega) (by omega) (fun a b => ⟨fun c => absurd c (by decide), fun _ => ⟨nI_inL hs (by omega), fun r5 e5 => ?_⟩⟩) (fun w => ⟨fun _ => ?_, fun c => absurd rfl c⟩)
        · rw [nI_tN (by omega)] at e5; subst e5
          have tI := lf_9_1 (slc_lay hs)
          refine ok_risZero hp (it_1 tI) H.1 (fun z => ⟨fun c => absurd c (by decide), fun _ => ?_⟩) (fun z => ⟨fun _ => ⟨nI_inL hs (by omega), fun r7 e7 => ?_⟩, fun c => absurd rfl c⟩)
          · rw [cite_neg (fun w => w.2 z)] at q
            exact qI (q.same I)
          · rw [nI_tN (by omega)] at e7; subst e7
            have y01 : b01 y := by unfold b01; omega
            rw [cite_pos ⟨y01, z⟩] at q
            rw [I32_nat a]
            have nz := qND_ne y.toInt.toNat 1 gi z
            have gd := low_good (F := (qND y.toInt.toNat 1 i).1) nz
            refine ok_quotientOf hp tI t81 I.kp gi z H (by omega) (by omega) (fun f1 f2 h8 f8 R8 => ⟨fun _ => ?_, fun c => absurd c (by decide)⟩) (fun w h8 f8 => ⟨fun c => absurd rfl c, fun _ => ?_⟩)
            · rw [cite_pos ⟨f1, f2⟩] at q
              exact ok_keepRS hp (I.wz (Wz.lgv f8)) ht R8 (gI_ratio gd.1 gd.2 f1 f2) (fun h' c' I' => qI (q h' ((Wz.lgv f8).cz.tr c') I'))
            · rw [cite_neg w] at q
              exact qI (q h8 (Wz.lrd f8).cz (I.wz (Wz.lrd f8)))
        · rw [cite_neg (fun u => w (by have := u.1; unfold b01 at this; omega))] at q
          exact qI (q.same I)
      · rw [e] at q
        exact qI (q.same I)
    · rw [slS_no2 e] at q
      exact qI (q.same I)
  · rw [slS_no e] at q
    exact qI (q.same I)
end
