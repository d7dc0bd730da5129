set_option maxRecDepth 100000
/-! OPERATIONS: change -/
noncomputable def chgI (S : SS) (t : Nat) (op : Int) (i : Itm) (v : Int32) : SS × Int32 := cite (isT i.2.2.1 i.2.2.2.1 i.2.2.2.2 ∧ (2 ≤ op ∧ op ≤ 8)) (S, -3) (cite (¬ isT i.2.2.1 i.2.2.2.1 i.2.2.2.2 ∧ op = 11) (S, -3) (cite (¬ (0 ≤ op ∧ op ≤ 11)) (S, -1) (cite (op = 9) (cite ((-12 ≤ v.toInt ∧ v.toInt ≤ 12) ∧ ¬ (v.toInt < 0 ∧ i.1 = bz)) (match powI (decide (v.toInt < 0)) i v.toInt.natAbs with
    | some r => putI S t r
    | none => (S, -2)) (S, -1)) (cite (op = 11) (putR S t i.1 i.2.1) (cite (isT i.2.2.1 i.2.2.2.1 i.2.2.2.2) (match mvI (decide (op = 1)) (fI v) i with
    | some r => putI S t r
    | none => (S, -2)) (cite (chD op.toNat i.1 i.2.1 (fI v) = bz) (S, -1) (cite (fitB (lowT (chN op.toNat i.1 i.2.1 (fI v)) (chD op.toNat i.1 i.2.1 (fI v))) ∧ fitB (lowB (chN op.toNat i.1 i.2.1 (fI v)) (chD op.toNat i.1 i.2.1 (fI v)))) (putR S t (lowT (chN op.toNat i.1 i.2.1 (fI v)) (chD op.toNat i.1 i.2.1 (fI v))) (lowB (chN op.toNat i.1 i.2.1 (fI v)) (chD op.toNat i.1 i.2.1 (fI v)))) (S, -2))))))))
noncomputable def S_change (S : SS) (op x v z : Int32) : SS × Int32 := slS S x (fun s => slS S z (fun t => if op.toInt = 10 then putI S t (numI (fI v)) else match itmS (S.sl s) with
  | none => (S, -3)
  | some i => chgI S t op.toInt i v))
section
variable {g : GX} {d n : Nat} {h h' : Hp} {S : SS} {s : Nat}
theorem Wz.lit80 (f : Fr h h' (Lit 80)) : Wz h h' := Wz.of_fr f (fun x hx => by simp only [Lit, List.mem_cons, List.not_mem_nil, or_false] at hx; unfold pubC; omega)
theorem Wz.lmt (f : Fr h h' Lmt) : Wz h h' := Wz.of_fr f (fun x hx => by simp only [Lmt, List.mem_cons, List.not_mem_nil, or_false] at hx; unfold pubC; omega)
theorem Wz.llc (f : Fr h h' Llc) : Wz h h' := Wz.of_fr f (fun x hx => by simp only [Llc, List.mem_cons, List.not_mem_nil, or_false] at hx; unfold pubC; omega)
theorem Wz.lrs80 (f : Fr h h' (Lrs 80)) : Wz h h' := Wz.of_fr f (fun x hx => by simp only [Lrs, Lit, Lrd, List.cons_append, List.nil_append, List.mem_cons, List.not_mem_nil, or_false] at hx; unfold pubC; omega)
/-- what was worked out goes into a slot; behind working -/
theorem ok_keep80 (hp : g.2.2.2.2 = true) {h0 : Hp} (I : SI h0 S) (w : Wz h0 h) (hs : s < 12) {i : Itm} (H : IIt h 80 i) (gi : gI i) {Q : Int32 → Hp → Prop} (q : Pub h0 (putI S s i) Q) : CallI g m_X0_keep (d + 4) [.ref 0, .ref 80, .int (nI s)] n h Q :=
  ok_keepIS hp (I.wz w) hs t80 (by have : slc s = 1185 + 27 * s := rfl; omega) H gi (q.wz w)
theorem ok_S_change (hp : g.2.2.2.2 = true) (I : SI h S) {op x v z : Int32} {Q : Int32 → Hp → Prop} (q : Pub h (S_change S op x v z) Q) : CallI g m_X0_change (d + 15) [.ref 0, .int op, .int x, .int v, .int z] n h Q := by
  unfold S_change at q
  refine okI 3 rfl rfl (s_X0_change_0 hp (ok_isSlot hp (fun s hs e => ⟨fun c => absurd c (by decide), fun _ => ?_⟩) (fun e => ⟨fun _ => ?_, fun c => absurd rfl c⟩)))
  · subst e
    refine ok_isSlot hp (fun t ht e => ⟨fun _ => ?_, fun c => absurd c (by decide)⟩) (fun e => ⟨fun c => absurd rfl c, fun _ => ?_⟩)
    · subst e
      rw [slS_n hs, slS_n ht] at q
      have hsc : slc s = 1185 + 27 * s := rfl
      have e10 : op = (10 : Int32) ↔ op.toInt = 10 := I32_eqz (z := 10) (by omega) (by omega)
      rw [e10]
      refine ⟨fun c10 => ⟨nI_inL hs (by omega), fun r3 e3 => ?_⟩, fun c10 => ok_rest hp (ok_iset hp t80 I.kp (fun h5 f5 H5 => ?_))⟩
      · rw [nI_tN (by omega)] at e3; subst e3
        rw [if_neg c10] at q
        -- what all ways come to
        have j82 : ∀ b : Int32, (b ≠ 0 ↔ (op.toInt = 0 ∨ op.toInt = 1 ∨ op.toInt = 9 ∨ op.toInt = 11)) → W_X0_change g (d + 14) [.ref 0, .int op, .int (nI s), .int v, .int (nI t)] (QI n Q) n 82 [some (.ref 0), some (.int op), some (.int (nI s)), some (.int v), some (.int (nI t)), some (.int (ri h (1185 + 27 * s) 0)), none, none] [.int b] h := by
          intro b hb
          refine s_X0_change_82 hp (ok_hasItem hp I hs (fun i e H gi k => ⟨fun c => absurd c (by decide), fun _ => ?_⟩) (fun e k => ⟨fun _ => ?_, fun c => absurd rfl c⟩))
          · rw [e] at q
            have q : Pub h (chgI S t op.toInt i v) Q := q
            unfold chgI at q
            have kk := kdI_12 i
            have tI := lf_9_1 (slc_lay hs)
            rw [show ri h (1185 + 27 * s) 0 = nI (kdI i) from k]
            have e2 : nI (kdI i) = (2 : Int32) ↔ isT i.2.2.1 i.2.2.2.1 i.2.2.2.2 := by
              rw [show (2 : Int32) = nI 2 from rfl, nI_eq (by omega) (by omega)]; exact kdI_T
            have e1 : nI (kdI i) = (1 : Int32) ↔ ¬ isT i.2.2.1 i.2.2.2.1 i.2.2.2.2 := by
              rw [show (1 : Int32) = nI 1 from rfl, nI_eq (by omega) (by omega), ← kdI_T]; omega
            have e9 : op = (9 : Int32) ↔ op.toInt = 9 := I32_eqz (z := 9) (by omega) (by omega)
            have e11 : op = (11 : Int32) ↔ op.toInt = 11 := I32_eqz (z := 11) (by omega) (by omega)
            have eo1 : op = (1 : Int32) ↔ op.toInt = 1 := I32_eqz (z := 1) (by omega) (by omega)
            have j108 : ¬ (isT i.2.2.1 i.2.2.2.1 i.2.2.2.2 ∧ (2 ≤ op.toInt ∧ op.toInt ≤ 8)) → W_X0_change g (d + 14) [.ref 0, .int op, .int (nI s), .int v, .int (nI t)] (QI n Q) n 108 [some (.ref 0), some (.int op), some (.int (nI s)), some (.int v), some (.int (nI t)), some (.int (nI (kdI i))), some (.int b), none] [] h := by
              intro c1
              rw [cite_neg c1] at q
              have j123 : ¬ (¬ isT i.2.2.1 i.2.2.2.1 i.2.2.2.2 ∧ op.toInt = 11) → W_X0_change g (d + 14) [.ref 0, .int op, .int (nI s), .int v, .int (nI t)] (QI n Q) n 123 [some (.ref 0), some (.int op), some (.int (nI s)), some (.int v), some (.int (nI t)), some (.int (nI (kdI i))), some (.int b), none] [] h := by
                intro c2
                rw [cite_neg c2] at q
                refine s_X0_change_123 hp ⟨nI_inL hs (by omega), fun r1 er => ?_⟩
                rw [nI_tN (by omega)] at er; subst er
                rw [show (0 : Int32) = zI 0 from rfl, show (11 : Int32) = zI 11 from rfl]
                refine ok_withinX hp (by omega) (by omega) (by omega) (by omega) (fun a1 a2 => ⟨fun c => absurd c (by decide), fun _ => ?_⟩) (fun w => ⟨fun _ => ?_, fun c => absurd rfl c⟩)
                · rw [cite_neg (show ¬ ¬ (0 ≤ op.toInt ∧ op.toInt ≤ 11) from fun w => w ⟨a1, a2⟩)] at q
                  have j157 : W_X0_change g (d + 14) [.ref 0, .int op, .int (nI s), .int v, .int (nI t)] (QI n Q) n 157 [some (.ref 0), some (.int op), none, some (.int v), some (.int (nI t)), some (.int (nI (kdI i))), none, some (.ref (1185 + 27 * s + 1))] [] h := by
                    refine s_X0_change_157 hp tI ?_
                    rw [e9, e11, e2, eo1]
                    refine ⟨fun n9 => ⟨fun n11 => ⟨fun nt => ?_, fun it => ?_⟩, fun i11 => ok_plain hp t80 (fun h5 f5 p1 p2 p3 => ?_)⟩, fun i9 => ?_⟩
                    · -- a ratio
                      rw [cite_neg n9, cite_neg n11, cite_neg nt] at q
                      rw [show op = nI op.toInt.toNat from I32_nat a1]
                      have hop : op.toInt.toNat < 9 := by omega
                      have sN := chN_sz (op := op.toInt.toNat) (v := fI v) gi.2.2.1 gi.2.2.2.1
                      have sD := chD_sz (op := op.toInt.toNat) (T := i.1) (v := fI v) gi.2.2.2.1
                      have pN := ppB_bsn (chN op.toInt.toNat i.1 i.2.1 (fI v))
                      refine ok_rest hp (ok_layChange hp (it_1 tI) (by omega) I.kp hop gi.2.2.1 gi.2.2.2.1 H.1 (fun nz h2 f2 A2 B2 => ⟨fun _ => ?_, fun c => absurd c (by decide)⟩) (fun z h2 f2 => ⟨fun c => absurd rfl c, fun _ => ?_⟩))
                      · rw [cite_neg nz] at q
                        have w2 := Wz.llc f2
                        have gd := low_good (F := chN op.toInt.toNat i.1 i.2.1 (fI v)) nz
                        refine ok_give hp t81 (w2.k I.kp) nz A2 B2 (by omega) (fun f1' f2' h3 f3 R3 => ⟨fun c => absurd c (by decide), fun _ => ?_⟩) (fun w h3 f3 => ⟨fun _ => ?_, fun c => absurd rfl c⟩)
                        · rw [cite_pos ⟨f1', f2'⟩] at q
                          have w3 := w2.tr (Wz.lgv f3)
                          exact ok_keepRS hp (I.wz w3) ht R3 (gI_ratio gd.1 gd.2 f1' f2') (fun h' c' I' => qI (q.wz w3 h' c' I'))
                        · rw [cite_neg w] at q
                          have w3 := w2.tr (Wz.lrd f3)
                          exact qI (q h3 w3.cz (I.wz w3))
                      · rw [cite_pos z] at q
                        exact qI (q h2 (Wz.llc f2).cz (I.wz (Wz.llc f2)))
                    · -- a term
                      rw [cite_neg n9, cite_neg n11, cite_pos it] at q
                      have hT : i.1 ≠ bz := fun w => gi.2.2.2.2.2.2.2.2 w it
                      have j279 : ∀ x : Int32, x = (if decide (op.toInt = 1) = true then 1 else 0) → W_X0_change g (d + 14) [.ref 0, .int op, .int (nI s), .int v, .int (nI t)] (QI n Q) n 279 [some (.ref 0), none, none, some (.int v), some (.int (nI t)), none, none, none] [.int x, .ref (1185 + 27 * s + 1), .ref 0] h := by
                        intro x ex
                        subst ex
                        refine s_X0_change_279 hp tI l0 (ok_rest hp (ok_moveTerm hp tI (by omega) I.kp gi H (fun r er h2 f2 H2 => ⟨fun c => absurd c (by decide), fun _ => ?_⟩) (fun er h2 f2 => ⟨fun _ => ?_, fun c => absurd rfl c⟩)))
                        · rw [er] at q
                          exact ok_keep80 hp I (Wz.lmt f2) ht H2 (gI_mv gi hT er) (fun h' c' I' => qI (q h' c' I'))
                        · rw [er] at q
                          exact qI (q h2 (Wz.lmt f2).cz (I.wz (Wz.lmt f2)))
                      exact ⟨fun c => j279 0 (by rw [if_neg (by simpa using c)]), fun c => j279 1 (by rw [if_pos (by simpa using c)])⟩
                    · rw [cite_neg n9, cite_pos i11] at q
                      have h1' : 1185 + 27 * s + 1 + 1 = 1185 + 27 * s + 2 := rfl
                      have H5 : IIt h5 (slc s + 1) i := H.fr2 f5 (fun x h1 h2 => by simp; omega)
                      refine ok_rcopy hp t81 (it_1 tI) (by omega) (f5.kp I.kp) H5.1 (fun h6 f6 R6 => ?_)
                      have w6 : Wz h h6 := (Wz.of_fr f5 (fun x hx => by simp at hx; unfold pubC; omega)).tr (Wz.of_fr f6 (fun x hx => by simp only [Lra, List.mem_cons, List.not_mem_nil, or_false] at hx; unfold pubC; omega))
                      have n6 : ∀ x k, x ∉ Lra 81 → ri h6 x k = ri h5 x k := fun x k hx => f6.gi hx k
                      have gr : gI (i.1, i.2.1, 1, 1, []) := gI_ratio gi.1 gi.2.1 gi.2.2.1 gi.2.2.2.1
                      have q' : Pub h (putI S t (i.1, i.2.1, 1, 1, [])) Q := by
                        unfold putI; rw [kdI_R]; exact q
                      refine ok_keep80 hp I w6 ht (i := (i.1, i.2.1, 1, 1, [])) ⟨R6, ?_, ?_, ?_⟩ gr (fun h' c' I' => qI (q' h' c' I'))
                      · rw [n6 80 1 (by decide)]; exact p1
                      · rw [n6 80 2 (by decide)]; exact p2
                      · exact p3.fr f6 (fun x hx => by simp at hx ⊢; omega)
                    · -- powers
                      rw [cite_pos i9] at q
                      rw [show (-12 : Int32) = zI (-12) from rfl, show (12 : Int32) = zI 12 from rfl]
                      refine ok_withinX hp (by omega) (by omega) (by omega) (by omega) (fun b1 b2 => ⟨fun c => absurd c (by decide), fun _ => ?_⟩) (fun w => ⟨fun _ => ?_, fun c => absurd rfl c⟩)
                      · rw [show (0 : Int32) ≤ v ↔ 0 ≤ v.toInt from I32_gez (z := 0) (by omega) (by omega)]
                        have j191 : ¬ (v.toInt < 0 ∧ i.1 = bz) → W_X0_change g (d + 14) [.ref 0, .int op, .int (nI s), .int v, .int (nI t)] (QI n Q) n 191 [some (.ref 0), none, none, some (.int v), some (.int (nI t)), none, none, some (.ref (1185 + 27 * s + 1))] [] h := by
                          intro w
                          rw [cite_pos ⟨⟨b1, b2⟩, w⟩] at q
                          refine s_X0_change_191 hp tI ?_
                          conv => rw [I32_z v]
                          refine ok_raise (e := v.toInt) hp tI t80 (by omega) (by decide) (by decide) I.kp (by omega) H gi (fun z e => w ⟨z, e⟩) (fun r er gr h1 f1 H1 => ⟨fun c => absurd c (by decide), fun _ => ?_⟩) (fun er h1 f1 => ⟨fun _ => ?_, fun c => absurd rfl c⟩)
                          · rw [er] at q
                            exact ok_keep80 hp I (Wz.lrs80 f1) ht H1 gr (fun h' c' I' => qI (q h' c' I'))
                          · rw [er] at q
                            exact qI (q h1 (Wz.lrs80 f1).cz (I.wz (Wz.lrs80 f1)))
                        refine ⟨fun c => j191 (by omega), fun c => ok_risZero hp (it_1 tI) H.1 (fun z => ⟨fun c => absurd c (by decide), fun _ => ?_⟩) (fun z => ⟨fun _ => j191 (fun w => z w.2), fun c => absurd rfl c⟩)⟩
                        rw [cite_neg (fun w => w.2 ⟨by omega, z⟩)] at q
                        exact qI (q.same I)
                      · rw [cite_neg (fun u => w u.1)] at q
                        exact qI (q.same I)
                  rw [e2]
                  refine ⟨fun _ => j157, fun it => ⟨fun _ => j157, fun cb => absurd cb ?_⟩⟩
                  refine hb.mpr ?_
                  have h28 : ¬ (2 ≤ op.toInt ∧ op.toInt ≤ 8) := fun w => c1 ⟨it, w⟩
                  omega
                · rw [cite_pos w] at q
                  exact qI (q.same I)
              refine s_X0_change_108 hp ?_
              rw [e1, e11]
              refine ⟨fun w => j123 (fun u => w u.1), fun w => ⟨fun w2 => j123 (fun u => w2 u.2), fun w2 => ?_⟩⟩
              rw [cite_pos ⟨w, w2⟩] at q
              exact qI (q.same I)
            rw [e2]
            refine ⟨fun w => j108 (fun u => w u.1), fun w => ?_⟩
            rw [show (2 : Int32) = zI 2 from rfl, show (8 : Int32) = zI 8 from rfl]
            refine ok_withinX hp (by omega) (by omega) (by omega) (by omega) (fun a1 a2 => ⟨fun _ => ?_, fun c => absurd c (by decide)⟩) (fun w2 => ⟨fun c => absurd rfl c, fun _ => j108 (fun u => w2 u.2)⟩)
            rw [cite_pos ⟨w, a1, a2⟩] at q
            exact qI (q.same I)
          · rw [e] at q
            exact qI (q.same I)
        have j77 : (op.toInt = 0 ∨ op.toInt = 1 ∨ op.toInt = 9 ∨ op.toInt = 11) → W_X0_change g (d + 14) [.ref 0, .int op, .int (nI s), .int v, .int (nI t)] (QI n Q) n 77 [some (.ref 0), some (.int op), some (.int (nI s)), some (.int v), some (.int (nI t)), some (.int (ri h (1185 + 27 * s) 0)), none, none] [] h := fun w => s_X0_change_77 hp (j82 1 ⟨fun _ => w, fun _ => by decide⟩)
        rw [show (op = (0 : Int32)) ↔ op.toInt = 0 from I32_eqz (z := 0) (by omega) (by omega), show (op = (1 : Int32)) ↔ op.toInt = 1 from I32_eqz (z := 1) (by omega) (by omega), show (op = (9 : Int32)) ↔ op.toInt = 9 from I32_eqz (z := 9) (by omega) (by omega), show (op = (11 : Int32)) ↔ op.toInt = 11 from I32_eqz (z := 11) (by omega) (by omega)]
        exact ⟨fun w => j77 (by omega), fun w => ⟨fun w1 => j77 (by omega), fun w1 => ⟨fun w2 => j77 (by omega), fun w2 => ⟨fun w3 => j82 0 ⟨fun c => absurd rfl c, fun c => by omega⟩, fun w3 => j77 (by omega)⟩⟩⟩⟩
      · rw [if_pos c10] at q
        exact ok_keep80 (i := numI (fI v)) hp I (Wz.lit80 f5) ht H5 (gI_num _) (fun h' c' I' => qI (q h' c' I'))
    · rw [slS_no2 e] at q
      exact qI (q.same I)
  · rw [slS_no e] at q
    exact qI (q.same I)
end
