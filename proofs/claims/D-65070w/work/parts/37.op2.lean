set_option maxRecDepth 100000
/-! OPERATIONS of the house: what slots have -/
def b01 (x : Int32) : Prop := x.toInt = 0 ∨ x.toInt = 1
theorem I32_eqz {x : Int32} {z : Int} (h1 : -2147483648 ≤ z) (h2 : z < 2147483648) : x = zI z ↔ x.toInt = z := by
  constructor
  · intro e; rw [e, zI_toInt h1 h2]
  · intro e; rw [← e]; exact I32_z x
theorem I32_ltz {x : Int32} {z : Int} (h1 : -2147483648 ≤ z) (h2 : z < 2147483648) : x < zI z ↔ x.toInt < z := by
  rw [Int32.lt_iff_toInt_lt, zI_toInt h1 h2]
theorem I32_gtz {x : Int32} {z : Int} (h1 : -2147483648 ≤ z) (h2 : z < 2147483648) : zI z < x ↔ z < x.toInt := by
  rw [Int32.lt_iff_toInt_lt, zI_toInt h1 h2]
theorem I32_lez {x : Int32} {z : Int} (h1 : -2147483648 ≤ z) (h2 : z < 2147483648) : x ≤ zI z ↔ x.toInt ≤ z := by
  rw [Int32.le_iff_toInt_le, zI_toInt h1 h2]
theorem I32_gez {x : Int32} {z : Int} (h1 : -2147483648 ≤ z) (h2 : z < 2147483648) : zI z ≤ x ↔ z ≤ x.toInt := by
  rw [Int32.le_iff_toInt_le, zI_toInt h1 h2]
section
variable {g : GX} {d n : Nat} {h h' h1 : Hp} {S : SS} {s : Nat}
/-- any int between two whole numbers -/
theorem ok_withinX (hp : g.2.2.2.2 = true) {x : Int32} {lo hi : Int} (h3 : -2147483648 ≤ lo) (h4 : lo < 2147483648) (h5 : -2147483648 ≤ hi) (h6 : hi < 2147483648) {Q : Int32 → Hp → Prop} (q1 : lo ≤ x.toInt → x.toInt ≤ hi → Q 1 h) (q0 : ¬ (lo ≤ x.toInt ∧ x.toInt ≤ hi) → Q 0 h) : CallI g m_X0_within d [.int x, .int (zI lo), .int (zI hi)] n h Q := by
  refine ok_within hp (fun a b => q1 ?_ ?_) (fun w => q0 ?_)
  · rw [I32_ltz h3 h4] at a; omega
  · rw [I32_gtz h5 h6] at b; omega
  · rw [I32_ltz h3 h4, I32_gtz h5 h6] at w; omega
/-- degree -/
noncomputable def dgN (T B : Bi) (x y : Int32) : Nat := if x.toInt = 0 then (if y.toInt = 0 then bsn T - 1 else bsz T - 1) else (if y.toInt = 0 then bsn B - 1 else bsz B - 1)
noncomputable def S_degree (S : SS) (x y z : Int32) : SS × Int32 := slS S x (fun s => match ratS (S.sl s) with
  | none => (S, -3)
  | some (T, B) => (S, cite (b01 y ∧ b01 z) (nI (dgN T B y z)) (-1)))
theorem w_degree33 (hp : g.2.2.2.2 = true) {av : List Value} (hs : s < 12) {T B : Bi} (H : RI h (slc s + 2) T B) {y z : Int32} {Q : Int32 → Hp → Prop} (q : Q (cite (b01 y ∧ b01 z) (nI (dgN T B y z)) (-1)) h) : W_X0_degree g d av (QI n Q) n 33 [some (.ref 0), some (.int (nI s)), some (.int y), some (.int z), none] [] h := by
  have ts := slc_lay hs
  have tI := lf_9_1 ts
  have bad : ¬ (b01 y ∧ b01 z) → Q (-1) h := fun w => by rw [cite_neg w] at q; exact q
  have last : ∀ (c : Nat) (F : Bi), lay c = (0, 4, 4) → DI h c F → b01 y → b01 z → (∀ k : Nat, k = (if z.toInt = 0 then bsn F - 1 else bsz F - 1) → Q (nI k) h) → W_X0_degree g d av (QI n Q) n 90 [none, none, none, some (.int z), none] [.ref c] h := by
    intro c F tc HF y1 z1' k
    refine s_X0_degree_90 hp tc ⟨fun c1 => ok_degreeK hp tc HF (qI (k _ ?_)), fun c1 => ok_degreeN hp tc HF (qI (k _ ?_))⟩
    · rw [z0, I32_eqz (by omega) (by omega)] at c1; rw [if_neg c1]
    · rw [z0, I32_eqz (by omega) (by omega)] at c1; rw [if_pos c1]
  refine s_X0_degree_33 hp ?_
  rw [show (0 : Int32) = zI 0 from rfl, show (1 : Int32) = zI 1 from rfl]
  refine ok_withinX hp (by omega) (by omega) (by omega) (by omega) (fun a b => ⟨fun c => absurd c (by decide), fun _ => ok_withinX hp (by omega) (by omega) (by omega) (by omega) (fun a' b' => ⟨fun _ => ⟨fun c => ⟨nI_inL hs (by omega), fun r e => ?_⟩, fun c => ⟨nI_inL hs (by omega), fun r e => ?_⟩⟩, fun c => absurd c (by decide)⟩) (fun w => ⟨fun c => absurd rfl c, fun _ => qI (bad (by unfold b01; omega))⟩)⟩) (fun w => ⟨fun _ => qI (bad (by unfold b01; omega)), fun c => absurd rfl c⟩)
  · rw [nI_tN (by omega)] at e; subst e
    rw [I32_eqz (by omega) (by omega)] at c
    refine last _ B (it_4 tI) H.2 (by unfold b01; omega) (by unfold b01; omega) (fun k ek => ?_)
    rw [cite_pos ⟨by unfold b01; omega, by unfold b01; omega⟩] at q
    unfold dgN at q
    rw [if_neg c, ← ek] at q; exact q
  · rw [nI_tN (by omega)] at e; subst e
    rw [I32_eqz (by omega) (by omega)] at c
    refine last _ T (it_2 tI) H.1 (by unfold b01; omega) (by unfold b01; omega) (fun k ek => ?_)
    rw [cite_pos ⟨by unfold b01; omega, by unfold b01; omega⟩] at q
    unfold dgN at q
    rw [if_pos c, ← ek] at q; exact q
theorem ok_S_degree (hp : g.2.2.2.2 = true) (I : SI h S) {x y z : Int32} {Q : Int32 → Hp → Prop} (q : Pub h (S_degree S x y z) Q) : CallI g m_X0_degree (d + 1) [.ref 0, .int x, .int y, .int z] n h Q := by
  unfold S_degree at q
  refine okI 1 rfl rfl (s_X0_degree_0 hp (ok_isSlot hp (fun s hs e => ⟨fun _ => ?_, fun c => absurd c (by decide)⟩) (fun e => ⟨fun c => absurd rfl c, fun _ => ?_⟩)))
  · subst e
    rw [slS_n hs] at q
    refine ok_hasItem hp I hs (fun i e H gi k => ⟨fun _ => ?_, fun c => absurd c (by decide)⟩) (fun e k => ⟨fun c => absurd rfl c, fun _ => ⟨nI_inL hs (by omega), fun r3 e3 => ?_⟩⟩)
    · rw [e] at q
      exact w_degree33 hp hs H.1 (q.same I)
    · rw [nI_tN (by omega)] at e3; subst e3
      rcases I.slot hs with ⟨e, k⟩ | ⟨i, e', _⟩ | ⟨T, B, a, e, H, H2, _, _, k⟩ | ⟨a, m, f, e, H, gs, k⟩
      · rw [e] at q
        rw [show ri h (1185 + 27 * s) 0 = nI 0 from k]
        exact ⟨fun c => absurd c (by decide), fun _ => qI (q.same I)⟩
      · rw [e'] at e; cases e
      · rw [e] at q
        rw [show ri h (1185 + 27 * s) 0 = nI 3 from k]
        exact ⟨fun _ => w_degree33 hp hs H (q.same I), fun c => absurd rfl c⟩
      · rw [e] at q
        rw [show ri h (1185 + 27 * s) 0 = nI 4 from k]
        exact ⟨fun c => absurd c (by decide), fun _ => qI (q.same I)⟩
  · rw [slS_no e] at q
    exact qI (q.same I)
/-- number -/
noncomputable def S_number (S : SS) (x y i j : Int32) : SS × Int32 := slS S x (fun s => (S, if y.toInt = 0 ∨ y.toInt = 1 then (match ratS (S.sl s) with
    | none => -3
    | some (T, B) => toI (ccI (if y.toInt = 0 then T else B) i j)) else (match recS (S.sl s) with
    | none => if (S.sl s).isNone = true then -3 else if y.toInt < 0 then -1 else -3
    | some a => if 2 ≤ y.toInt ∧ y.toInt ≤ 2 + ((a.length : Int) - 1) then (if j.toInt = 0 then (if i.toInt < 0 then 0 else toI (co (a.getD (y.toInt - 2).toNat pz) i.toInt.toNat)) else 0) else -1)))
theorem ok_getX (hp : g.2.2.2.2 = true) {a : Nat} (t : lay a = (0, 3, 2)) {p : Pl Fp} (H : PI h a p) {x : Int32} {Q : Int32 → Hp → Prop} (q : Q (if x.toInt < 0 then 0 else toI (co p x.toInt.toNat)) h) : CallI g m_X3_get d [.ref a, .int x] n h Q := by
  rcases I32_cases x with c | ⟨k, hk, rfl⟩
  · rw [if_pos (I32_neg c)] at q
    exact ok_getN hp t c q
  · rw [if_neg (by rw [nI_toInt hk]; omega), nI_toInt hk] at q
    exact ok_get hp t H hk q
theorem lay_sa_all : (List.range 12).all (fun s => (List.range 7).all (fun j => decide (lay (1185 + 27 * s + 13 + 2 * j) = (0, 3, 2)) && decide (lay (1185 + 27 * s + 14 + 2 * j) = (1, 50, 0)))) = true := by decide +kernel
theorem lay_sa {j : Nat} (hs : s < 12) (hj : j < 7) : lay (slc s + 13 + 2 * j) = (0, 3, 2) := by
  have := List.all_eq_true.mp (List.all_eq_true.mp lay_sa_all s (List.mem_range.mpr hs)) j (List.mem_range.mpr hj)
  simp only [Bool.and_eq_true, decide_eq_true_eq] at this
  exact this.1
theorem rm_sa {j : Nat} (hs : s < 12) (hj : j < 7) : rm (slc s + 13 + 2 * j + 1) = 50 := by
  have := List.all_eq_true.mp (List.all_eq_true.mp lay_sa_all s (List.mem_range.mpr hs)) j (List.mem_range.mpr hj)
  simp only [Bool.and_eq_true, decide_eq_true_eq] at this
  unfold rm
  rw [show slc s + 13 + 2 * j + 1 = 1185 + 27 * s + 14 + 2 * j by have : slc s = 1185 + 27 * s := rfl; omega, this.2]
theorem w_number46 (hp : g.2.2.2.2 = true) {av : List Value} (I : SI h S) (hs : s < 12) (hk : ¬ ((S.sl s) = none)) {y i j : Int32} (hrow : ∀ a m f, S.sl s = svW a m f → ¬ (y.toInt = 0 ∨ y.toInt = 1)) {Q : Int32 → Hp → Prop} (q : Pub h (S_number S (nI s) y i j) Q) : W_X0_number g d av (QI n Q) n 46 [none, none, some (.int y), some (.int i), some (.int j), some (.ref (slc s))] [] h := by
  have ts := slc_lay hs
  have tI := lf_9_1 ts
  unfold S_number at q
  rw [slS_n hs] at q
  refine s_X0_number_46 hp ts ?_
  rw [show (0 : Int32) = zI 0 from rfl, show (1 : Int32) = zI 1 from rfl, show (2 : Int32) = zI 2 from rfl]
  refine ok_withinX hp (by omega) (by omega) (by omega) (by omega) (fun a b => ⟨fun c => absurd c (by decide), fun _ => ?_⟩) (fun w => ⟨fun _ => ?_, fun c => absurd rfl c⟩)
  · have y01 : y.toInt = 0 ∨ y.toInt = 1 := by omega
    rw [if_pos y01] at q
    have hr : ∃ T B, ratS (S.sl s) = some (T, B) ∧ RI h (slc s + 2) T B := by
      rcases I.slot hs with ⟨e, k⟩ | ⟨i, e, H, _⟩ | ⟨T, B, a, e, H, H2, _, _, k⟩ | ⟨a, m, f, e, H, gs, k⟩
      · exact absurd e hk
      · exact ⟨i.1, i.2.1, by rw [e]; rfl, H.1⟩
      · exact ⟨T, B, by rw [e]; rfl, H⟩
      · exact absurd y01 (hrow a m f e)
    obtain ⟨T, B, e, H⟩ := hr
    rw [e] at q
    have q : Pub h (S, toI (ccI (if y.toInt = 0 then T else B) i j)) Q := q
    rw [I32_eqz (by omega) (by omega)]
    refine ⟨fun c => s_X0_number_84 hp (it_4 tI) (ok_dget hp (it_4 tI) H.2 (qI ?_)), fun c => s_X0_number_84 hp (it_2 tI) (ok_dget hp (it_2 tI) H.1 (qI ?_))⟩
    · rw [if_neg c] at q; exact q.same I
    · rw [if_pos c] at q; exact q.same I
  · have y01 : ¬ (y.toInt = 0 ∨ y.toInt = 1) := by omega
    rw [if_neg y01] at q
    have low : ∀ k : Nat, k < 3 → ri h (slc s) 0 = nI k → recS (S.sl s) = none → (((3 : Int32) ≤ ri h (slc s) 0 → CallI g m_X0_within d [.int y, .int (zI 2), .int (zI 2 + ri h (slc s) 3)] n h (fun v2 h2 => (((¬ v2 = zI 0) → (((¬ j = zI 0) → (QI n Q (some (.int (zI 0))) n h2)) ∧ ((j = zI 0) → (vp_in (y - zI 2) 7 ∧ ∀ r3, r3 = (slc s + 13) + 2 * ((y - zI 2)).toNatClampNeg → (CallI g m_X3_get d [.ref r3, .int i] n h2 (fun v4 h4 => (QI n Q (some (.int v4)) n h4))))))) ∧ ((v2 = zI 0) → (QI n Q (some (.int (-1))) n h2))))) ∧ ((¬ (3 : Int32) ≤ ri h (slc s) 0) → (((zI 0 ≤ y) → (QI n Q (some (.int (-3))) n h)) ∧ ((¬ zI 0 ≤ y) → (QI n Q (some (.int (-1))) n h))))) := by
      intro k hk3 ek er
      rw [er] at q
      rw [ek, show (3 : Int32) = nI 3 from rfl, nI_leI (by omega) (by omega)]
      refine ⟨fun c => absurd c (by omega), fun _ => ?_⟩
      have nn : (S.sl s).isNone = false := by cases e : S.sl s with
        | none => exact absurd e hk
        | some v => rfl
      rw [nn, if_neg (by decide)] at q
      rw [I32_gez (by omega) (by omega)]
      refine ⟨fun c => ?_, fun c => ?_⟩
      · rw [if_neg (by omega)] at q; exact qI (q.same I)
      · rw [if_pos (by omega)] at q; exact qI (q.same I)
    have high : ∀ (a : List Un) (N : Nat), N ≤ 7 → gA a N → LA h (slc s) a → recS (S.sl s) = some a → (ri h (slc s) 0 = nI 3 ∨ ri h (slc s) 0 = nI 4) → (((3 : Int32) ≤ ri h (slc s) 0 → CallI g m_X0_within d [.int y, .int (zI 2), .int (zI 2 + ri h (slc s) 3)] n h (fun v2 h2 => (((¬ v2 = zI 0) → (((¬ j = zI 0) → (QI n Q (some (.int (zI 0))) n h2)) ∧ ((j = zI 0) → (vp_in (y - zI 2) 7 ∧ ∀ r3, r3 = (slc s + 13) + 2 * ((y - zI 2)).toNatClampNeg → (CallI g m_X3_get d [.ref r3, .int i] n h2 (fun v4 h4 => (QI n Q (some (.int v4)) n h4))))))) ∧ ((v2 = zI 0) → (QI n Q (some (.int (-1))) n h2))))) ∧ ((¬ (3 : Int32) ≤ ri h (slc s) 0) → (((zI 0 ≤ y) → (QI n Q (some (.int (-3))) n h)) ∧ ((¬ zI 0 ≤ y) → (QI n Q (some (.int (-1))) n h))))) := by
      intro a N hN ga H er ek
      rw [er] at q
      have q : Pub h (S, if 2 ≤ y.toInt ∧ y.toInt ≤ 2 + ((a.length : Int) - 1) then (if j.toInt = 0 then (if i.toInt < 0 then 0 else toI (co (a.getD (y.toInt - 2).toNat pz) i.toInt.toNat)) else 0) else -1) Q := q
      have l1 := ga.1
      have l2 := ga.2.1
      have k3 : (3 : Int32) ≤ ri h (slc s) 0 := by rcases ek with e | e <;> rw [e] <;> decide
      refine ⟨fun _ => ?_, fun c => absurd k3 c⟩
      rw [H.1, nI_z, zI_add, show (2 : Int) + ((a.length - 1 : Nat) : Int) = 2 + ((a.length : Int) - 1) by omega]
      refine ok_withinX hp (by omega) (by omega) (by omega) (by omega) (fun c1 c2 => ⟨fun _ => ?_, fun c => absurd c (by decide)⟩) (fun w => ⟨fun c => absurd rfl c, fun _ => ?_⟩)
      · rw [if_pos ⟨c1, c2⟩] at q
        rw [I32_eqz (by omega) (by omega)]
        refine ⟨fun c => ?_, fun c => ?_⟩
        · rw [if_neg c] at q; exact qI (q.same I)
        · rw [if_pos c] at q
          have ey : y - zI 2 = nI (y.toInt - 2).toNat := by
            conv => lhs; rw [I32_z y]
            rw [zI_sub, nI_z]; congr 1; omega
          rw [ey]
          refine ⟨nI_inL (by omega) (by omega), fun r3 e3 => ?_⟩
          rw [nI_tN (by omega)] at e3; subst e3
          exact ok_getX hp (lay_sa hs (by omega)) (H.2 _ (by omega)) (qI (q.same I))
      · rw [if_neg w] at q; exact qI (q.same I)
    rcases I.slot hs with ⟨e, k⟩ | ⟨i', e, H, _, k, kk⟩ | ⟨T, B, a, e, H, H2, _, ga, k⟩ | ⟨a, m, f, e, H, gs, k⟩
    · exact absurd e hk
    · rcases kk with w | w
      · exact low 1 (by omega) (by rw [k, w]) (by rw [e]; rfl)
      · exact low 2 (by omega) (by rw [k, w]) (by rw [e]; rfl)
    · exact high a 4 (by omega) ga H2 (by rw [e]; rfl) (Or.inl k)
    · exact high a 7 (by omega) gs.1 H.1 (by rw [e]; rfl) (Or.inr k)
theorem ok_S_number (hp : g.2.2.2.2 = true) (I : SI h S) {x y i j : Int32} {Q : Int32 → Hp → Prop} (q : Pub h (S_number S x y i j) Q) : CallI g m_X0_number (d + 1) [.ref 0, .int x, .int y, .int i, .int j] n h Q := by
  refine okI 1 rfl rfl (s_X0_number_0 hp (ok_isSlot hp (fun s hs e => ⟨fun _ => ⟨by rw [e]; exact nI_inL hs (by omega), fun r2 e2 => ?_⟩, fun c => absurd c (by decide)⟩) (fun e => ⟨fun c => absurd rfl c, fun _ => ?_⟩)))
  · subst e
    rw [nI_tN (by omega)] at e2; subst e2
    rcases I.slot hs with ⟨e, k⟩ | ⟨i', e, H, _, k, kk⟩ | ⟨T, B, a, e, H, H2, _, ga, k⟩ | ⟨a, m, f, e, H, gs, k⟩
    · rw [show ri h (1185 + 27 * s) 0 = nI 0 from k]
      refine ⟨fun _ => ?_, fun c => absurd rfl c⟩
      unfold S_number at q
      rw [slS_n hs, e] at q
      have e3 : (if y.toInt = 0 ∨ y.toInt = 1 then (match ratS none with
        | none => (-3 : Int32)
        | some (T, B) => toI (ccI (if y.toInt = 0 then T else B) i j)) else (match recS none with
        | none => if (none : SV).isNone = true then (-3 : Int32) else if y.toInt < 0 then -1 else -3
        | some a => if 2 ≤ y.toInt ∧ y.toInt ≤ 2 + ((a.length : Int) - 1) then (if j.toInt = 0 then (if i.toInt < 0 then 0 else toI (co (a.getD (y.toInt - 2).toNat pz) i.toInt.toNat)) else 0) else -1)) = -3 := by
        split <;> rfl
      rw [e3] at q
      exact qI (q.same I)
    · rw [show ri h (1185 + 27 * s) 0 = nI (kdI i') from k]
      refine ⟨fun c => absurd c ?_, fun _ => ⟨fun _ => w_number46 hp I hs (by rw [e]; exact fun w => by cases w) (fun a m f ea => by rw [e] at ea; cases ea) q, fun c => absurd c ?_⟩⟩
      · rcases kk with w | w <;> rw [w] <;> decide
      · rcases kk with w | w <;> rw [w] <;> decide
    · rw [show ri h (1185 + 27 * s) 0 = nI 3 from k]
      exact ⟨fun c => absurd c (by decide), fun _ => ⟨fun _ => w_number46 hp I hs (by rw [e]; exact fun w => by cases w) (fun a m f ea => by rw [e] at ea; cases ea) q, fun c => absurd c (by decide)⟩⟩
    · rw [show ri h (1185 + 27 * s) 0 = nI 4 from k]
      refine ⟨fun c => absurd c (by decide), fun _ => ⟨fun c => absurd rfl c, fun _ => ?_⟩⟩
      rw [show (0 : Int32) = zI 0 from rfl, show (1 : Int32) = zI 1 from rfl]
      refine ok_withinX hp (by omega) (by omega) (by omega) (by omega) (fun a b => ⟨fun c => absurd c (by decide), fun _ => ?_⟩) (fun w => ⟨fun _ => w_number46 hp I hs (by rw [e]; exact fun w => by cases w) (fun a m f ea => by omega) q, fun c => absurd rfl c⟩)
      unfold S_number at q
      rw [slS_n hs, if_pos (by omega), e] at q
      exact qI (q.same I)
  · unfold S_number at q
    rw [slS_no e] at q
    exact qI (q.same I)
end
