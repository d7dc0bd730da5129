set_option maxRecDepth 100000
/-! TEXTS: lines, factorials and powers of items -/
def rgL (a b c : Int) : Prop := (-3 ≤ a ∧ a ≤ 3) ∧ (-3 ≤ b ∧ b ≤ 3) ∧ (-50 ≤ c ∧ c ≤ 50)
/-- an item is the polynomial a n + b k + c -/
def isLn (i : Itm) (a b c : Int) : Prop := ¬ isT i.2.2.1 i.2.2.2.1 i.2.2.2.2 ∧ (bsn i.2.1 = 1 ∧ bsz i.2.1 = 1) ∧ (bsn i.1 ≤ 2 ∧ bsz i.1 ≤ 2 ∧ cc i.1 1 1 = 0) ∧ a = sml (cc i.1 0 1) ∧ b = sml (cc i.1 1 0) ∧ c = sml (cc i.1 0 0)
/-- places 8 to 10, 13 to 16 and 19 of the house, and cells L -/
def Fy (h h' : Hp) (L : List Nat) : Prop := Fr h h' (0 :: L) ∧ (0 ∉ L → ∀ k, k < 8 ∨ (10 < k ∧ k < 13) ∨ (16 < k ∧ k ≠ 19) → ri h' 0 k = ri h 0 k)
section
variable {g : GX} {d n : Nat} {h h' : Hp} {a b c : Nat}
theorem zIn {x lo hi : Int} (h1 : -2147483648 ≤ x) (h2 : x < 2147483648) (h3 : -2147483648 ≤ lo) (h4 : lo < 2147483648) (h5 : -2147483648 ≤ hi) (h6 : hi < 2147483648) : (zI x < zI lo ↔ x < lo) ∧ (zI hi < zI x ↔ hi < x) := ⟨zI_lt h1 h2 h3 h4, zI_lt h5 h6 h1 h2⟩
theorem ok_withinZ (hp : g.2.2.2.2 = true) {x lo hi : Int} (h1 : -2147483648 ≤ x) (h2 : x < 2147483648) (h3 : -2147483648 ≤ lo) (h4 : lo < 2147483648) (h5 : -2147483648 ≤ hi) (h6 : hi < 2147483648) {Q : Int32 → Hp → Prop} (q1 : lo ≤ x → x ≤ hi → Q 1 h) (q0 : ¬ (lo ≤ x ∧ x ≤ hi) → Q 0 h) : CallI g m_X0_within d [.int (zI x), .int (zI lo), .int (zI hi)] n h Q := by
  have e := zIn h1 h2 h3 h4 h5 h6
  refine ok_within hp (fun c1 c2 => ?_) (fun c => ?_)
  · rw [e.1] at c1
    rw [e.2] at c2
    exact q1 (by omega) (by omega)
  · rw [e.1, e.2] at c
    exact q0 (by omega)
theorem ok_isLine2 (hp : g.2.2.2.2 = true) {x y z : Int} (h1 : -2147483648 ≤ x ∧ x < 2147483648) (h2 : -2147483648 ≤ y ∧ y < 2147483648) (h3 : -2147483648 ≤ z ∧ z < 2147483648) {Q : Int32 → Hp → Prop} (q1 : rgL x y z → Q 1 h) (q0 : ¬ rgL x y z → Q 0 h) : CallI g m_X0_isLine_2 (d + 1) [.int (zI x), .int (zI y), .int (zI z)] n h Q := by
  refine okI 0 rfl rfl (s_X0_isLine_2_0 hp ?_)
  rw [show (-3 : Int32) = zI (-3) from rfl, show (3 : Int32) = zI 3 from rfl, show (-50 : Int32) = zI (-50) from rfl, show (50 : Int32) = zI 50 from rfl]
  refine (ok_withinZ (lo := -3) (hi := 3) hp h1.1 h1.2 (by omega) (by omega) (by omega) (by omega) (fun a1 a2 => ⟨fun w => absurd w (by decide), fun _ => ?_⟩) (fun w => ⟨fun _ => qI (q0 (fun z => w z.1)), fun w => absurd rfl w⟩))
  refine ok_withinZ (lo := -3) (hi := 3) hp h2.1 h2.2 (by omega) (by omega) (by omega) (by omega) (fun b1 b2 => ⟨fun w => absurd w (by decide), fun _ => ?_⟩) (fun w => ⟨fun _ => qI (q0 (fun z => w z.2.1)), fun w => absurd rfl w⟩)
  refine ok_withinZ (lo := -50) (hi := 50) hp h3.1 h3.2 (by omega) (by omega) (by omega) (by omega) (fun c1 c2 => ⟨fun w => absurd w (by decide), fun _ => qI (q1 ⟨⟨a1, a2⟩, ⟨b1, b2⟩, ⟨c1, c2⟩⟩)⟩) (fun w => ⟨fun _ => qI (q0 (fun z => w z.2.2)), fun w => absurd rfl w⟩)
/-- only places 8 to 10 of the house changed -/
def Fl (h h' : Hp) : Prop := Fr h h' [0] ∧ ∀ k, k < 8 ∨ 10 < k → ri h' 0 k = ri h 0 k
theorem Fl.rf {h : Hp} : Fl h h := ⟨Fr.rf, fun _ _ => rfl⟩
theorem Fl.put {h h1 : Hp} (f : Fl h h1) {k : Nat} {v : Int32} (h1' : 8 ≤ k) (h2 : k ≤ 10) : Fl h (wi h1 0 k v) := ⟨f.1.put (by simp) (okp_o l0 (Or.inr (by decide))), fun j hj => by rw [ri_ne' (by omega)]; exact f.2 j hj⟩
theorem ccI_n (F : Bi) (i j : Nat) (hi : i < 100) (hj : j < 100) : ccI F (nI i) (nI j) = cc F j i := by
  unfold ccI
  rw [if_neg (fun z => z.elim (nI_pos (by omega)) (nI_pos (by omega))), nI_tN (by omega), nI_tN (by omega)]
theorem ok_isLine (hp : g.2.2.2.2 = true) (ta : lay a = (0, 5, 8)) {i : Itm} (Ha : IIt h a i) {Q : Int32 → Hp → Prop} (q1 : ∀ x y z, isLn i x y z → rgL x y z → ∀ h', Fl h h' → ri h' 0 8 = zI x → ri h' 0 9 = zI y → ri h' 0 10 = zI z → Q 1 h') (q0 : ¬ (∃ x y z, isLn i x y z ∧ rgL x y z) → ∀ h', Fl h h' → Q 0 h') : CallI g m_X0_isLine (d + 2) [.ref 0, .ref a] n h Q := by
  have la := it_lo ta
  have t2 := it_2 ta
  have hT : DI h (a + 2) i.1 := Ha.1.1
  have ln := hT.ltn
  have lk := hT.ltk
  have lne : a + 2 ∉ [0] ∧ a + 2 + 1 ∉ [0] := by simp
  refine okI 1 rfl rfl (s_X0_isLine_0 hp ta (ok_isTerm hp ta Ha.2.1 Ha.2.2.1 Ha.2.2.2 (fun z => ⟨fun _ => qI (q0 (fun ⟨x, y, w, hl, _⟩ => hl.1 z) h Fl.rf), fun w => absurd w (by decide)⟩) (fun z => ⟨fun w => absurd rfl w, fun _ => ?_⟩)))
  refine ok_isPoly hp (it_1 ta) Ha.1 (fun p1 p2 => ⟨fun w => absurd w (by decide), fun _ => ?_⟩) (fun w => ⟨fun _ => qI (q0 (fun ⟨x, y, u, hl, _⟩ => w hl.2.1) h Fl.rf), fun w => absurd rfl w⟩)
  rw [hT.n, hT.k]
  have e1 : (2 : Int32) < nI (bsn i.1) ↔ 2 < bsn i.1 := by rw [show (2 : Int32) = nI 2 from rfl]; simp (disch := omega) only [nI_addz, nI_1, nI_leI, nI_ltI, nI_eq, nI_tN, nI_inI]
  have e2 : (2 : Int32) < nI (bsz i.1) ↔ 2 < bsz i.1 := by rw [show (2 : Int32) = nI 2 from rfl]; simp (disch := omega) only [nI_addz, nI_1, nI_leI, nI_ltI, nI_eq, nI_tN, nI_inI]
  rw [e1, e2]
  refine ⟨fun w => qI (q0 (fun ⟨x, y, u, hl, _⟩ => by have := hl.2.2.1.1; omega) h Fl.rf), fun w => ⟨fun w2 => qI (q0 (fun ⟨x, y, u, hl, _⟩ => by have := hl.2.2.1.2.1; omega) h Fl.rf), fun w2 => ?_⟩⟩
  have c11 := ccI_n i.1 1 1 (by omega) (by omega)
  have c10 := ccI_n i.1 1 0 (by omega) (by omega)
  have c01 := ccI_n i.1 0 1 (by omega) (by omega)
  have c00 := ccI_n i.1 0 0 (by omega) (by omega)
  refine ok_dget (x := nI 1) (y := nI 1) hp t2 hT ?_
  rw [c11, toI_eq0]
  refine ⟨fun w3 => ?_, fun w3 => qI (q0 (fun ⟨x, y, u, hl, _⟩ => w3 hl.2.2.1.2.2) h Fl.rf)⟩
  refine ok_dget (x := nI 1) (y := nI 0) hp t2 hT ?_
  rw [c10]
  refine ok_small hp (fun h1 g1 => ?_)
  have f1 : Fl h h1 := by rw [g1]; exact Fl.rf.put (by omega) (by omega)
  refine ok_dget (x := nI 0) (y := nI 1) hp t2 (hT.fr f1.1 lne.1 lne.2) ?_
  rw [c01]
  refine ok_small hp (fun h2 g2 => ?_)
  have f2 : Fl h h2 := by rw [g2]; exact f1.put (by omega) (by omega)
  refine ok_dget (x := nI 0) (y := nI 0) hp t2 (hT.fr f2.1 lne.1 lne.2) ?_
  rw [c00]
  refine ok_small hp (fun h3 g3 => ?_)
  have f3 : Fl h h3 := by rw [g3]; exact f2.put (by omega) (by omega)
  have r8 : ri h3 0 8 = zI (sml (cc i.1 0 1)) := by rw [g3, ri_ne' (by decide), g2, ri_ne' (by decide), g1, ri_same]
  have r9 : ri h3 0 9 = zI (sml (cc i.1 1 0)) := by rw [g3, ri_ne' (by decide), g2, ri_same]
  have r10' : ri h3 0 10 = zI (sml (cc i.1 0 0)) := by rw [g3, ri_same]
  have b1 := sml_bd (cc i.1 0 1)
  have b2' := sml_bd (cc i.1 1 0)
  have b3 := sml_bd (cc i.1 0 0)
  have hln : isLn i (sml (cc i.1 0 1)) (sml (cc i.1 1 0)) (sml (cc i.1 0 0)) := ⟨z, ⟨p1, p2⟩, ⟨by omega, by omega, w3⟩, rfl, rfl, rfl⟩
  rw [r8, r9, r10']
  refine ok_isLine2 hp (by omega) (by omega) (by omega) (fun hr => ⟨Or.inr rfl, qI (q1 _ _ _ hln hr h3 f3 r8 r9 r10')⟩) (fun hr => ⟨Or.inl rfl, qI (q0 (fun ⟨x, y, u, hl, hr2⟩ => hr ?_) h3 f3)⟩)
  obtain ⟨_, _, _, q1', q2', q3'⟩ := hl
  rw [← q1', ← q2', ← q3']; exact hr2
/-- one factorial more of a line, to the power 1 or -1; none of a number below 0 -/
noncomputable def addFa (i : Itm) (a b c e : Int) : Option Itm := if a ≠ 0 ∨ b ≠ 0 then some (i.1, i.2.1, i.2.2.1, i.2.2.2.1, insF (a, b, c, e) i.2.2.2.2) else if c < 0 then none else some (bsc (if 0 < e then facF c.toNat else iv (facF c.toNat)) i.1, i.2.1, i.2.2.1, i.2.2.2.1, i.2.2.2.2)
theorem ok_addFactorial (hp : g.2.2.2.2 = true) (ta : lay a = (0, 5, 8)) {i : Itm} {x y z e : Int} (hr : rgL x y z) (he : e = 1 ∨ e = -1) (Ha : IIt h a i) (hm : ∀ r, r ∈ i.2.2.2.2 → mq 1000 r) (hl : i.2.2.2.2.length + 1 ≤ 60) {Q : Int32 → Hp → Prop} (q1 : ∀ r, addFa i x y z e = some r → ∀ h', Fr h h' (Lit a) → IIt h' a r → Q 1 h') (q0 : addFa i x y z e = none → Q 0 h) : CallI g m_X0_addFactorial (d + 3) [.ref 0, .ref a, .int (zI x), .int (zI y), .int (zI z), .int (zI e)] n h Q := by
  have la := it_lo ta
  obtain ⟨r1, r2, r3⟩ := hr
  have t2 := it_2 ta
  have nz : ∀ w : Int, -1000 ≤ w → w ≤ 1000 → (zI w = (0 : Int32) ↔ w = 0) := fun w h1 h2 => by rw [z0, zI_eq (by omega) (by omega) (by omega) (by omega)]
  have j8 : (x ≠ 0 ∨ y ≠ 0) → W_X0_addFactorial g (d + 2) [.ref 0, .ref a, .int (zI x), .int (zI y), .int (zI z), .int (zI e)] (QI n Q) n 8 [none, some (.ref a), some (.int (zI x)), some (.int (zI y)), some (.int (zI z)), some (.int (zI e)), none] [] h := by
    intro hxy
    refine s_X0_addFactorial_8 hp ta (ok_iadd (q := (x, y, z, e)) hp ta ⟨by show -1000000 ≤ x ∧ x ≤ 1000000; omega, by show -1000000 ≤ y ∧ y ≤ 1000000; omega, by show -1000000 ≤ z ∧ z ≤ 1000000; omega, by show -1000000 ≤ e ∧ e ≤ 1000000; omega⟩ Ha.2.2.2 hl (fun r hr => ?_) (fun h1 f1 g1 g2 => qI (q1 (i.1, i.2.1, i.2.2.1, i.2.2.2.1, insF (x, y, z, e) i.2.2.2.2) (by unfold addFa; rw [if_pos hxy]) h1 (f1.mono (by simp)) ⟨Ha.1.fr f1 (by simp; omega) (by simp; omega) (by simp; omega) (by simp; omega), by rw [g1 1 (by decide)]; exact Ha.2.1, by rw [g1 2 (by decide)]; exact Ha.2.2.1, g2⟩)))
    obtain ⟨m1, m2, m3, m4⟩ := hm r hr
    exact ⟨by show -1000000 ≤ r.1 ∧ r.1 ≤ 1000000; omega, by show -1000000 ≤ r.2.1 ∧ r.2.1 ≤ 1000000; omega, by show -1000000 ≤ r.2.2.1 ∧ r.2.2.1 ≤ 1000000; omega, by show -1000000 ≤ r.2.2.2 + e ∧ r.2.2.2 + e ≤ 1000000; omega⟩
  have j56 : x = 0 → y = 0 → 0 ≤ z → ∀ v : Fp, v = (if 0 < e then facF z.toNat else iv (facF z.toNat)) → W_X0_addFactorial g (d + 2) [.ref 0, .ref a, .int (zI x), .int (zI y), .int (zI z), .int (zI e)] (QI n Q) n 56 [none, none, none, none, none, none, none] [.int (toI v), .ref (a + 2)] h := by
    intro hx hy hz v ev'
    refine s_X0_addFactorial_56 hp t2 (ok_dscale hp t2 Ha.1.1 (fun h1 f1 H1 => qI (q1 (bsc (if 0 < e then facF z.toNat else iv (facF z.toNat)) i.1, i.2.1, i.2.2.1, i.2.2.2.1, i.2.2.2.2) (by unfold addFa; rw [if_neg (by omega), if_neg (by omega)]) h1 (f1.mono (by simp)) ⟨⟨?_, Ha.1.2.fr f1 (by simp) (by simp)⟩, by rw [f1.gi (by simp; omega)]; exact Ha.2.1, by rw [f1.gi (by simp; omega)]; exact Ha.2.2.1, Ha.2.2.2.fr f1 (fun w hw => by simp at hw ⊢; omega)⟩)))
    rw [← ev']; exact H1
  refine okI 1 rfl rfl (s_X0_addFactorial_0 hp ta ?_)
  rw [nz x (by omega) (by omega), nz y (by omega) (by omega), z0, zI_le (by omega) (by omega) (by omega) (by omega), zI_le (by omega) (by omega) (by omega) (by omega)]
  refine ⟨fun w => j8 (Or.inl w), fun w => ⟨fun w2 => ⟨fun w3 => ?_, fun w3 => qI (q0 (by unfold addFa; rw [if_neg (by omega), if_pos (by omega)]))⟩, fun w2 => j8 (Or.inr w2)⟩⟩
  rw [show zI z = nI z.toNat by rw [nI_z]; congr 1; omega] at j56 ⊢
  refine ok_factorial hp (by omega) ⟨fun w4 => ok_inverse hp (j56 w w2 w3 _ (if_neg (by omega)).symm), fun w4 => j56 w w2 w3 _ (if_pos (by omega)).symm⟩
end
