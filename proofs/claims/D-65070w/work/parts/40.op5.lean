set_option maxRecDepth 100000
/-! OPERATIONS of the house: read, first numbers, counts -/
section
variable {g : GX} {d n : Nat} {h h' h1 : Hp} {S : SS} {s : Nat}
/-- read -/
def SS.rd (S : SS) (p : Int32) : SS := SS.mk S.t 0 p S.x S.xl S.sl S.fd S.rt
noncomputable def S_read (S : SS) (x : Int32) : SS × Int32 := slS S x (fun s => match rdT S.t S.len with
  | Sum.inl (_, i) => putI (S.rd (-1)) s i
  | Sum.inr (c, p) => (S.rd (nI p), -10 - nI c))
theorem SI.rz (I : SI h S) (w : Rz h h1) {p : Int32} (l12 : ri h1 0 12 = 0) (l17 : ri h1 0 17 = p) : SI h1 (S.rd p) := by
  have g : ∀ x k, ¬ Sv 0 x → ri h1 x k = ri h x k := fun x k hx => gi1 (w.2.1 x hx) k
  have f := w.2.2.2
  refine ⟨w.2.2.1 I.kp, I.bp.eq w.1, I.lp.eq w.1, ⟨l12, by show 0 ≤ 400; omega, fun i hi => absurd hi (Nat.not_lt_zero _)⟩, l17, by rw [f 25 (by omega)]; exact I.xs, fun i hi => by rw [g 91 _ (by unfold Sv; omega)]; exact I.xt i hi, fun s hs => ?_, fun s hs => ?_, by rw [f 69 (by omega)]; exact I.fs, fun i hi => by rw [g 1114 _ (by unfold Sv; omega)]; exact I.fd i hi, by rw [f 73 (by omega)]; exact I.rs, fun i hi => by rw [g 1177 _ (by unfold Sv; omega)]; exact I.rt i hi, Nat.zero_le _, fun i hi => absurd hi (Nat.not_lt_zero _), I.gd.2.2⟩
  · have hsc : slc s = 1185 + 27 * s := rfl
    rw [g _ _ (by unfold Sv; omega)]; exact I.kd s hs
  · have hsc : slc s = 1185 + 27 * s := rfl
    exact (I.sl s hs).c (I.gd.2.2.2.2.1 s hs) (fun x h1 h2 k => g _ _ (by unfold Sv; omega))
theorem Rz.cz (w : Rz h h1) : Cz h h1 := ⟨fun x hx => w.2.1 x (by unfold Sv; omega), fun x _ => by rw [w.1]⟩
theorem ok_S_read (hp : g.2.2.2.2 = true) (I : SI h S) {x : Int32} {Q : Int32 → Hp → Prop} (q : Pub h (S_read S x) Q) : CallI g m_X0_read (d + 140) [.ref 0, .int x] n h Q := by
  unfold S_read at q
  by_cases hx : ∃ s : Nat, s < 12 ∧ x = nI s
  · obtain ⟨s, hs, rfl⟩ := hx
    rw [slS_n hs] at q
    refine ok_read hp I.kp hs I.tp I.gd.2.1 (fun p i e gi h1 h' w a b f A k => ?_) (fun c p e h' w a b => ?_)
    · rw [e] at q
      have I1 := I.rz w a b
      exact q h' (w.cz.tr (Wq.lsl hs f).cz) (I1.putI hs (Wq.lsl hs f) gi A k)
    · rw [e] at q
      exact q h' w.cz (I.rz w a b)
  · have e : ∀ s : Nat, s < 12 → x ≠ nI s := fun s hs e => hx ⟨s, hs, e⟩
    rw [slS_no e] at q
    refine okI 0 rfl rfl (s_X0_read_0 hp (ok_isSlot hp (fun s hs e' => absurd e' (e s hs)) (fun _ => ?_)))
    exact ⟨fun c => absurd rfl c, fun _ => qI (q.same I)⟩
/-- first -/
def S_first (S : SS) (x y : Int32) : SS × Int32 := slS S x (fun s => match S.sl s with
  | some (Sum.inr (Sum.inr (a, m, f))) => if f.length = m then (S, -1) else (S.put s (svW a m (f ++ [fI y])), nI (f.length + 1))
  | _ => (S, -3))
theorem ok_S_first (hp : g.2.2.2.2 = true) (I : SI h S) {x y : Int32} {Q : Int32 → Hp → Prop} (q : Pub h (S_first S x y) Q) : CallI g m_X0_first (d + 2) [.ref 0, .int x, .int y] n h Q := by
  unfold S_first at q
  refine okI 1 rfl rfl (s_X0_first_0 hp (ok_isSlot hp (fun s hs e => ⟨fun _ => ⟨by rw [e]; exact nI_inL hs (by omega), fun r2 e2 => ?_⟩, fun c => absurd c (by decide)⟩) (fun e => ⟨fun c => absurd rfl c, fun _ => ?_⟩)))
  · subst e
    rw [nI_tN (by omega)] at e2; subst e2
    rw [slS_n hs] at q
    have hsc : slc s = 1185 + 27 * s := rfl
    have ts := slc_lay hs
    rcases I.slot hs with ⟨e, k⟩ | ⟨i, e, H, gi, k, kk⟩ | ⟨T, B, a, e, H, H2, _, ga, k⟩ | ⟨a, m, f, e, H, gs, k⟩
    · rw [show ri h (1185 + 27 * s) 0 = nI 0 from k]
      rw [e] at q
      exact ⟨fun c => absurd c (by decide), fun _ => qI (q.same I)⟩
    · rw [show ri h (1185 + 27 * s) 0 = nI (kdI i) from k]
      rw [e] at q
      refine ⟨fun c => absurd c ?_, fun _ => qI (q.same I)⟩
      rcases kk with w | w <;> rw [w] <;> decide
    · rw [show ri h (1185 + 27 * s) 0 = nI 3 from k]
      rw [e] at q
      exact ⟨fun c => absurd c (by decide), fun _ => qI (q.same I)⟩
    · rw [show ri h (1185 + 27 * s) 0 = nI 4 from k]
      rw [e] at q
      have q : Pub h (if f.length = m then (S, -1) else (S.put s (svW a m (f ++ [fI y])), nI (f.length + 1))) Q := q
      obtain ⟨k0, k1, k2, k3, k4⟩ := H.2.2.2
      have g2 : 2 ≤ a.length ∧ a.length ≤ m + 1 ∧ m ≤ 60 ∧ f.length ≤ m := gs.2
      have h4 : ri h (1185 + 27 * s) 4 = nI m := H.2.1
      have h5 : ri h (1185 + 27 * s) 5 = nI f.length := H.2.2.1
      have h7 : ri h (1185 + 27 * s) 7 = nI (f.length + k0) := k1
      rw [h4, h5, nI_eq (by omega) (by omega)]
      refine ⟨fun _ => ⟨fun c h3 e3 => ok_rest hp ⟨nI_inL (by omega) (by omega), fun h5' e5 h6 e6 => ?_⟩, fun c => ?_⟩, fun c => absurd rfl c⟩
      · rw [if_neg c] at q
        rw [nI_tN (by omega)] at e5
        rw [show (1 : Int32) = nI 1 from rfl, nI_addz] at e3
        have hk0 : k0 = 0 := k3 (by omega)
        subst hk0
        have x5 : ri h5' (1185 + 27 * s) 5 = nI (f.length + 1) := by rw [e5, ri_ne (by omega), e3, ri_same]
        rw [x5] at e6
        have w3 : Wq s h h3 := by rw [e3]; exact Wq.put hs (by omega) (okp_o ts (Or.inr (by decide)))
        have w5 : Wq s h h5' := w3.tr (by rw [e5]; exact Wq.put hs (by omega) (okp_a (lf_9_6 ts) (by decide)))
        have w6 : Wq s h h6 := w5.tr (by rw [e6]; exact Wq.put hs (by omega) (okp_o ts (Or.inr (by decide))))
        have x6 : ri h6 (1185 + 27 * s) 5 = nI (f.length + 1) := by rw [e6, ri_ne' (by omega)]; exact x5
        rw [x6]
        have same : ∀ x k, (x ≠ slc s ∨ (k ≠ 5 ∧ k ≠ 7)) → x ≠ slc s + 12 → ri h6 x k = ri h x k := by
          intro x k c1 c2
          rw [e6, ri_wi, if_neg (by omega), e5, ri_ne c2, e3, ri_wi, if_neg (by omega)]
        refine qI (q h6 w6.cz (I.put hs w6 ⟨gs.1, by omega, by omega, by omega, by simp; omega⟩ ?_ ?_))
        · rw [same _ _ (by omega) (by omega), k]; rfl
        · refine ⟨⟨?_, fun j hj => ?_⟩, ?_, ?_, 0, ?_, by simp; omega, fun _ => rfl, fun i hi => ?_⟩
          · rw [same _ _ (by omega) (by omega)]; exact H.1.1
          · have l7 := gs.1.2.1
            exact (H.1.2 j hj).c (fun k => same _ _ (by omega) (by omega)) (fun k => same _ _ (by omega) (by omega))
          · rw [same _ _ (by omega) (by omega)]; exact h4
          · show ri h6 (1185 + 27 * s) 5 = _
            rw [x6]; simp
          · show ri h6 (1185 + 27 * s) 7 = _
            rw [e6, ri_same]; simp
          · have hi' : i < f.length + 1 := by simpa using hi
            rw [rwU_old a (by simpa using hi'), e6, ri_ne (by omega)]
            by_cases c2 : i = f.length
            · subst c2
              rw [e5, ri_same, getD_app_r]
            · rw [e5, ri_ne' c2, e3, ri_ne (by omega), getD_app_l (by omega), k4 i (by omega), rwU_old a (by omega)]
      · rw [if_pos c] at q
        exact qI (q.same I)
  · rw [slS_no e] at q
    exact qI (q.same I)
/-- count -/
def kcn (f : Nat → Bool) : Nat → Nat
  | 0 => 0
  | k + 1 => kcn f k + (if f k = true then 1 else 0)
theorem kcn_le (f : Nat → Bool) : ∀ k, kcn f k ≤ k
  | 0 => Nat.le_refl _
  | k + 1 => by
    show kcn f k + _ ≤ k + 1
    have := kcn_le f k
    split <;> omega
noncomputable def S_count (S : SS) (x : Int32) : SS × Int32 := (S, if x.toInt = 0 then nI S.len else if x.toInt = 1 then nI S.xl else if x.toInt = 2 then nI S.fd.length else if x.toInt = 3 then nI S.rt.length else if x.toInt = 4 then nI (kcn (fun s => decide (0 < kdS (S.sl s))) 12) else if x.toInt = 5 then nI (kcn (fun s => decide (kdS (S.sl s) = 3)) 12) else -1)
theorem w_count (hp : g.2.2.2.2 = true) {av : List Value} (I : SI h S) {x : Int32} {Q : Int32 → Hp → Prop} (q : Q (S_count S x).2 h) : ∀ (k j : Nat), j + k = 12 → W_X0_count g d av (QI n Q) n 7 [some (.ref 0), some (.int x), some (.int (nI (kcn (fun s => decide (0 < kdS (S.sl s))) j))), some (.int (nI (kcn (fun s => decide (kdS (S.sl s) = 3)) j))), some (.int (nI j))] [] h := by
  intro k
  induction k with
  | zero =>
    intro j hj
    have ej : j = 12 := by omega
    subst ej
    unfold S_count at q
    refine s_X0_count_7 hp ⟨fun _ => ?_, fun c => absurd (by decide) c⟩
    rw [I.tp.1, I.xs, I.fs, I.rs]
    refine ⟨fun w => ?_, fun w => ?_, fun w => ?_, fun w => ?_, fun w => ?_, fun w => ?_, fun w => ?_⟩
    · rw [if_pos w] at q; exact qI q
    · rw [if_neg (by omega), if_pos w] at q; exact qI q
    · rw [if_neg (by omega), if_neg (by omega), if_pos w] at q; exact qI q
    · rw [if_neg (by omega), if_neg (by omega), if_neg (by omega), if_pos w] at q; exact qI q
    · rw [if_neg (by omega), if_neg (by omega), if_neg (by omega), if_neg (by omega), if_pos w] at q; exact qI q
    · rw [if_neg (by omega), if_neg (by omega), if_neg (by omega), if_neg (by omega), if_neg (by omega), if_pos w] at q; exact qI q
    · rw [if_neg (by omega), if_neg (by omega), if_neg (by omega), if_neg (by omega), if_neg (by omega), if_neg (by omega)] at q; exact qI q
  | succ k ih =>
    intro j hj
    have l1 := kcn_le (fun s => decide (0 < kdS (S.sl s))) j
    have l2 := kcn_le (fun s => decide (kdS (S.sl s) = 3)) j
    have kl := kdS_lt (S.sl j)
    have ek : ri h (1185 + 27 * j) 0 = nI (kdS (S.sl j)) := I.kd j (by omega)
    have j55 : ∀ v w : Nat, v = kcn (fun s => decide (0 < kdS (S.sl s))) (j + 1) → kcn (fun s => decide (kdS (S.sl s) = 3)) (j + 1) = kcn (fun s => decide (kdS (S.sl s) = 3)) j + w → W_X0_count g d av (QI n Q) n 55 [some (.ref 0), some (.int x), some (.int (nI v)), none, some (.int (nI j))] [.int (nI w), .int (nI (kcn (fun s => decide (kdS (S.sl s) = 3)) j))] h := by
      intro v w e1 e2
      refine s_X0_count_55 hp ?_
      rw [nI_addz, show (1 : Int32) = nI 1 from rfl, nI_addz, ← e2, e1]
      exact ih (j + 1) (by omega)
    have j33 : ∀ v : Nat, kcn (fun s => decide (0 < kdS (S.sl s))) (j + 1) = kcn (fun s => decide (0 < kdS (S.sl s))) j + v → W_X0_count g d av (QI n Q) n 33 [some (.ref 0), some (.int x), none, some (.int (nI (kcn (fun s => decide (kdS (S.sl s) = 3)) j))), some (.int (nI j))] [.int (nI v), .int (nI (kcn (fun s => decide (0 < kdS (S.sl s))) j))] h := by
      intro v e1
      refine s_X0_count_33 hp ⟨nI_inL (by omega) (by omega), fun r1 er => ?_⟩
      rw [nI_tN (by omega)] at er; subst er
      rw [ek, nI_addz, ← e1, show (3 : Int32) = nI 3 from rfl, nI_eq (by omega) (by omega)]
      refine ⟨fun c => j55 _ 0 rfl ?_, fun c => j55 _ 1 rfl ?_⟩
      · show kcn _ j + (if decide (kdS (S.sl j) = 3) = true then 1 else 0) = _
        rw [if_neg (by simpa using c)]
      · show kcn _ j + (if decide (kdS (S.sl j) = 3) = true then 1 else 0) = _
        rw [if_pos (by simpa using c)]
    refine s_X0_count_7 hp ⟨fun c => absurd c ?_, fun _ => ⟨nI_inL (by omega) (by omega), fun r1 er => ?_⟩⟩
    · rw [show (12 : Int32) = nI 12 from rfl, nI_leI (by omega) (by omega)]; omega
    · rw [nI_tN (by omega)] at er; subst er
      rw [ek, show (0 : Int32) = nI 0 from rfl, nI_leI (by omega) (by omega)]
      refine ⟨fun c => j33 0 ?_, fun c => j33 1 ?_⟩
      · show kcn _ j + (if decide (0 < kdS (S.sl j)) = true then 1 else 0) = _
        rw [if_neg (by simp; omega)]
      · show kcn _ j + (if decide (0 < kdS (S.sl j)) = true then 1 else 0) = _
        rw [if_pos (by simp; omega)]
theorem ok_S_count (hp : g.2.2.2.2 = true) (I : SI h S) {x : Int32} {Q : Int32 → Hp → Prop} (q : Pub h (S_count S x) Q) : CallI g m_X0_count (d + 1) [.ref 0, .int x] n h Q :=
  okI 3 rfl rfl (s_X0_count_0 hp (w_count hp I (q.same I) 12 0 (by omega)))
end
