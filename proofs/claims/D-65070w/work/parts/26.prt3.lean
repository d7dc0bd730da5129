set_option maxRecDepth 100000
/-! PARTS: inverses that are kept, interpolation -/
theorem toI_nF {m : Nat} (h : m < 2147483647) : toI (nF m) = nI m := by
  unfold toI nF
  rw [Fin.val_ofNat, Nat.mod_eq_of_lt h]
theorem nF_sub {a b : Nat} (h : b ≤ a) (ha : a < 2147483647) : nF (a - b) = nF a - nF b := by
  apply toI_inj
  rw [sub_val, toI_nF (by omega)]
  have e1 : (nF a).val = a := by unfold nF; rw [Fin.val_ofNat, Nat.mod_eq_of_lt ha]
  have e2 : (nF b).val = b := by unfold nF; rw [Fin.val_ofNat, Nat.mod_eq_of_lt (by omega)]
  rw [e1, e2, if_pos h]
section
variable {g : GX} {d n : Nat} {h : Hp} {a b c : Nat}
theorem Kp.inv {h : Hp} {m : Nat} (K : Kp h) : Kp (wi h 38 m (toI (iv (nF m)))) := by
  refine ⟨fun x t => ?_, fun x hx => ?_, ?_⟩
  · rw [ri_ne (fun e => by rw [e, l38] at t; cases t)]; exact K.1 x t
  · rw [ri_wi]
    by_cases e : x = m
    · right; rw [if_pos ⟨rfl, e⟩, e]
    · rw [if_neg (fun q => e q.2)]; exact K.2.1 x hx
  · exact K.2.2.elim (fun z => Or.inl (by rw [ri_ne (by decide)]; exact z)) (fun z => Or.inr (fun x hx => by rw [ri_ne (by decide)]; exact z x hx))
theorem ok_parted (hp : g.2.2.2.2 = true) (hK : Kp h) {m : Nat} (hm : m < 2147483647) {Q : Int32 → Hp → Prop} (q : ∀ h', Fr h h' [38] → Q (toI (iv (nF m))) h') : CallI g m_X1_parted (d + 3) [.ref 1, .int (nI m)] n h Q := by
  refine okI 0 rfl rfl (s_X1_parted_0 hp ?_)
  have e0 : nI m < (2000 : Int32) ↔ m < 2000 := by
    rw [show (2000 : Int32) = nI 2000 from rfl]; simp (disch := omega) only [nI_addz, nI_1, nI_leI, nI_ltI, nI_eq, nI_tN, nI_inI]
  rw [e0, ← toI_nF hm]
  refine ⟨fun c1 => ?_, fun c1 => ok_inverse hp (qI (q h Fr.rf))⟩
  rw [toI_nF hm, nI_tN (by omega)]
  refine ⟨nI_inL c1 (by omega), fun c2 => ⟨nI_inL c1 (by omega), qI ?_⟩, fun c2 => ?_⟩
  · have := (hK.2.1 m c1).resolve_left c2
    rw [this]; exact q h Fr.rf
  · rw [← toI_nF hm]
    refine ok_inverse hp ?_
    rw [toI_nF hm]
    refine ⟨nI_inL c1 (by omega), fun h2 e2 => ⟨nI_inL c1 (by omega), qI ?_⟩⟩
    rw [e2, ri_same]
    refine q _ ⟨rfl, fun x hx => ?_, fun K => K.inv⟩
    exact wi_ne1 (by simpa using hx)
/-- the table at stage s -/
def dt (x y : Nat → Fp) (s l : Nat) : Fp := dd x y (min s l) l
theorem w_ip14 (hp : g.2.2.2.2 = true) {L1 L2 : Nat} (ta : lay a = (1, L1, 0)) (tb : lay b = (1, L2, 0)) (tc : lay c = (0, 3, 2)) (hab : a ≠ b) (ha : a ≠ 38) (hb : b ≠ 38) (hb2 : b ≠ 92) {av : List Value} {Q : QT} {N s : Nat} {X : Nat → Nat} {x y : Nat → Fp} (hX : ∀ i j, i < j → j < N → X i < X j) (hXP : ∀ i, i < N → X i < 2147483647) (hx : ∀ i, i < N → x i = nF (X i)) (hL1 : N ≤ L1) (hL2 : N ≤ L2) (hNL : N < 1000000) (hs : 0 < s) : ∀ (k : Nat) (h : Hp), s + k ≤ N → Kp h → (∀ i, i < N → ri h a i = nI (X i)) → (∀ l, l < N → ri h b l = toI (if l < s + k then dt x y (s - 1) l else dt x y s l)) → (∀ h1, Fr h h1 [38, b] → (∀ l, l < N → ri h1 b l = toI (dt x y s l)) → W_X1_interpolate g (d + 3) av Q n 3 [some (.ref 1), some (.ref a), some (.ref b), some (.int (nI N)), some (.ref c), some (.int (nI (s + 1))), none] [] h1) → W_X1_interpolate g (d + 3) av Q n 14 [some (.ref 1), some (.ref a), some (.ref b), some (.int (nI N)), some (.ref c), some (.int (nI s)), some (.int (zI ((s : Int) + k - 1)))] [] h := by
  have hl1 : L1 < 1000000 := by have := rm_lt a; unfold rm at this; rw [ta] at this; exact this
  have hl2 : L2 < 1000000 := by have := rm_lt b; unfold rm at this; rw [tb] at this; exact this
  intro k
  induction k with
  | zero =>
    intro h hk K Hx Hy q
    refine s_X1_interpolate_14 hp ta tb tc ⟨fun _ => ?_, fun c' => absurd ?_ c'⟩
    · rw [nI_1]
      refine q h Fr.rf (fun l hl => ?_)
      rw [Hy l hl]
      split
      · unfold dt; rw [show min (s - 1) l = l by omega, show min s l = l by omega]
      · rfl
    · simp (disch := omega) only [nI_z, z0, z1, z2, zm1, zI_add, zI_sub, zI_neg, zI_mul, zI_le, zI_lt, zI_eq, zI_tN, zI_inI]; omega
  | succ k ih =>
    intro h hk K Hx Hy q
    have e0 : (zI ((s : Int) + ((k + 1 : Nat) : Int) - 1) : Int32) = nI (s + k) := by rw [nI_z]; congr 1; omega
    rw [e0]
    refine s_X1_interpolate_14 hp ta tb tc ⟨fun c' => absurd c' ?_, fun _ => ?_⟩
    · simp (disch := omega) only [nI_addz, nI_1, nI_leI, nI_ltI, nI_eq, nI_tN, nI_inI]; omega
    · have e1 : nI (s + k) - 1 = nI (s + k - 1) := nI_sub1 (by omega)
      have e2 : nI (s + k) - nI s = nI k := by rw [pk_sub (by omega), show s + k - s = k by omega]
      rw [e1, e2, nI_tN (by omega), nI_tN (by omega), nI_tN (by omega), Hy (s + k) (by omega), Hy (s + k - 1) (by omega), if_pos (by omega), if_pos (by omega)]
      refine ⟨nI_inL (by omega) (by omega), nI_inL (by omega) (by omega), ok_less hp ⟨nI_inL (by omega) (by omega), nI_inL (by omega) (by omega), ?_⟩⟩
      have hlt := hX k (s + k) (by omega) (by omega)
      have hP := hXP (s + k) (by omega)
      rw [Hx (s + k) (by omega), Hx k (by omega), pk_sub (by omega)]
      refine ok_parted hp K (by omega) (fun h2 f2 => ok_times hp ⟨nI_inL (by omega) (by omega), fun h3 e3 => ?_⟩)
      have f3 : Fr h h3 [38, b] := by
        rw [e3]
        exact (f2.mono (by simp)).put (by simp) ⟨Or.inr (fun e => by rw [tb] at e; cases e), hb, hb2⟩
      rw [show nI (s + k) + (-1 : Int32) = zI ((s : Int) + k - 1) by simp (disch := omega) only [nI_z, z0, z1, z2, zm1, zI_add, zI_sub, zI_neg, zI_mul, zI_le, zI_lt, zI_eq, zI_tN, zI_inI]; congr 1]
      refine ih h3 (by omega) (f3.kp K) (fun i hi => ?_) (fun l hl => ?_) (fun h1 g1 g2 => q h1 (f3.tr g1) g2)
      · rw [f3.gi (by simp; omega)]; exact Hx i hi
      · rw [e3, ri_wi]
        by_cases e : l = s + k
        · rw [if_pos ⟨rfl, e⟩, if_neg (by omega), e]
          refine congrArg toI ?_
          unfold dt
          rw [show min (s - 1) (s + k) = s - 1 by omega, show min (s - 1) (s + k - 1) = s - 1 by omega, show min s (s + k) = s by omega]
          obtain ⟨t, rfl⟩ : ∃ t, s = t + 1 := ⟨s - 1, by omega⟩
          rw [Nat.add_sub_cancel]
          show _ = (dd x y t (t + 1 + k) - dd x y t (t + 1 + k - 1)) * iv (x (t + 1 + k) - x (t + 1 + k - (t + 1)))
          rw [nF_sub (by omega) hP, hx (t + 1 + k) (by omega), show t + 1 + k - (t + 1) = k by omega, hx k (by omega)]
        · rw [if_neg (fun z => e z.2), f2.gi (by simp; omega), Hy l hl]
          by_cases e2 : l < s + k
          · rw [if_pos e2, if_pos (by omega)]
          · rw [if_neg e2, if_neg (by omega)]
theorem w_ip3 (hp : g.2.2.2.2 = true) {L1 L2 : Nat} (ta : lay a = (1, L1, 0)) (tb : lay b = (1, L2, 0)) (tc : lay c = (0, 3, 2)) (hab : a ≠ b) (ha : a ≠ 38) (hb : b ≠ 38) (hb2 : b ≠ 92) (hbc : b ≠ c) (hac : a ≠ c) {av : List Value} {Q : QT} {N : Nat} {X : Nat → Nat} {x y : Nat → Fp} (hX : ∀ i j, i < j → j < N → X i < X j) (hXP : ∀ i, i < N → X i < 2147483647) (hx : ∀ i, i < N → x i = nF (X i)) (hL1 : N ≤ L1) (hL2 : N ≤ L2) (hNL : N < 1000000) : ∀ (k s : Nat) (h : Hp), N ≤ s + k → 0 < s → Kp h → (∀ i, i < N → ri h a i = nI (X i)) → (∀ l, l < N → ri h b l = toI (dt x y (s - 1) l)) → (∀ h1, Fr h h1 [38, b, c] → (∀ i, i < N → ri h1 a i = nI (X i)) → (∀ l, l < N → ri h1 b l = toI (dd x y l l)) → PI h1 c pz → W_X1_interpolate g (d + 3) av Q n 79 [none, some (.ref a), some (.ref b), none, some (.ref c), some (.int (zI ((N : Int) - 1))), none] [] h1) → s ≤ N + 1 → W_X1_interpolate g (d + 3) av Q n 3 [some (.ref 1), some (.ref a), some (.ref b), some (.int (nI N)), some (.ref c), some (.int (nI s)), none] [] h := by
  have fin : ∀ (s : Nat) (h : Hp), N ≤ s → s ≤ N + 1 → Kp h → (∀ i, i < N → ri h a i = nI (X i)) → (∀ l, l < N → ri h b l = toI (dt x y (s - 1) l)) → (∀ h1, Fr h h1 [38, b, c] → (∀ i, i < N → ri h1 a i = nI (X i)) → (∀ l, l < N → ri h1 b l = toI (dd x y l l)) → PI h1 c pz → W_X1_interpolate g (d + 3) av Q n 79 [none, some (.ref a), some (.ref b), none, some (.ref c), some (.int (zI ((N : Int) - 1))), none] [] h1) → W_X1_interpolate g (d + 3) av Q n 3 [some (.ref 1), some (.ref a), some (.ref b), some (.int (nI N)), some (.ref c), some (.int (nI s)), none] [] h := by
    intro s h hs hs2 K Hx Hy q
    refine s_X1_interpolate_3 hp ta tb tc ⟨fun _ => ok_clear hp tc (fun h1 f1 H1 => ?_), fun c' => absurd ?_ c'⟩
    · rw [show nI N - 1 = zI ((N : Int) - 1) by simp (disch := omega) only [nI_z, z0, z1, z2, zm1, zI_add, zI_sub, zI_neg, zI_mul, zI_le, zI_lt, zI_eq, zI_tN, zI_inI]]
      refine q h1 (f1.mono (by simp)) (fun i hi => by rw [f1.gi (by simpa using hac)]; exact Hx i hi) (fun l hl => ?_) H1
      rw [f1.gi (by simpa using hbc), Hy l hl]
      unfold dt
      rw [show min (s - 1) l = l by omega]
    · simp (disch := omega) only [nI_addz, nI_1, nI_leI, nI_ltI, nI_eq, nI_tN, nI_inI]; omega
  intro k
  induction k with
  | zero => intro s h hk hs K Hx Hy q hs2; exact fin s h (by omega) hs2 K Hx Hy q
  | succ k ih =>
    intro s h hk hs K Hx Hy q hs2
    by_cases hN : N ≤ s
    · exact fin s h hN hs2 K Hx Hy q
    · refine s_X1_interpolate_3 hp ta tb tc ⟨fun c' => absurd c' ?_, fun _ => ?_⟩
      · simp (disch := omega) only [nI_addz, nI_1, nI_leI, nI_ltI, nI_eq, nI_tN, nI_inI]; omega
      · have e1 : nI N - 1 = zI ((s : Int) + ((N - s : Nat) : Int) - 1) := by simp (disch := omega) only [nI_z, z0, z1, z2, zm1, zI_add, zI_sub, zI_neg, zI_mul, zI_le, zI_lt, zI_eq, zI_tN, zI_inI]; omega
        rw [e1]
        refine w_ip14 (y := y) hp ta tb tc hab ha hb hb2 hX hXP hx hL1 hL2 hNL hs (N - s) h (by omega) K Hx (fun l hl => ?_) (fun h1 f1 g1 => ?_)
        · rw [Hy l hl, if_pos (by omega)]
        · refine ih (s + 1) h1 (by omega) (by omega) (f1.kp K) (fun i hi => by rw [f1.gi (by simp; omega)]; exact Hx i hi) g1 (fun h2 k1 => q h2 ((f1.mono (by simp)).tr k1)) (by omega)
theorem w_ip91 (hp : g.2.2.2.2 = true) {L1 L2 : Nat} (ta : lay a = (1, L1, 0)) (tb : lay b = (1, L2, 0)) (tc : lay c = (0, 3, 2)) (hac : a ≠ c) (hac2 : a ≠ c + 1) (hbc : b ≠ c) (hbc2 : b ≠ c + 1) {av : List Value} {Q : QT} {i k : Nat} {xi yi : Fp} {H : Un} (hi : i < L1) (hi2 : i < L2) (hH : szle H k) (hk : k + 1 ≤ rm (c + 1)) (h0 : Hp) (q : ∀ h1, Fr h0 h1 [c, c + 1] → PA h1 c (k + 1) (co (padd (pmul (pL xi) H) (pC yi))) → W_X1_interpolate g d av Q n 79 [none, some (.ref a), some (.ref b), none, some (.ref c), some (.int (zI ((i : Int) - 1))), none] [] h1) : ∀ (j : Nat) (h : Hp), j ≤ k → Fr h0 h [c, c + 1] → ri h a i = toI xi → ri h b i = toI yi → ri h c 1 = nI k → (∀ l, l < k → l ≤ j → ri h (c + 1) l = toI (co H l)) → (∀ l, l ≤ k → j < l → ri h (c + 1) l = toI (co (pmul (pL xi) H) l)) → W_X1_interpolate g d av Q n 91 [none, some (.ref a), some (.ref b), none, some (.ref c), some (.int (nI i)), some (.int (nI j))] [] h := by
  have hl1 : L1 < 1000000 := by have := rm_lt a; unfold rm at this; rw [ta] at this; exact this
  have hl2 : L2 < 1000000 := by have := rm_lt b; unfold rm at this; rw [tb] at this; exact this
  have hrc := rm_lt (c + 1)
  have tc1 := lf_3_0 tc
  have j231 : ∀ (h : Hp) (s : Nat) (v : Fp), Fr h0 h [c, c + 1] → ri h c 1 = nI s → max s 1 = k + 1 → v = co (pmul (pL xi) H) 0 + yi → (∀ l, l ≤ k → 0 < l → ri h (c + 1) l = toI (co (pmul (pL xi) H) l)) → W_X1_interpolate g d av Q n 231 [none, some (.ref a), some (.ref b), none, some (.ref c), some (.int (nI i)), none] [.int (toI v), .int 0, .ref (c + 1)] h := by
    intro h s v f0 hs hm hv hl
    refine s_X1_interpolate_231 hp ta tb tc tc1 ⟨zI_in (a := 0) (by omega) (by omega) (by omega), fun h1 e1 => ?_⟩
    have e2 : ri h1 c 1 = nI s := by rw [e1, ri_ne (by omega)]; exact hs
    rw [e2]
    refine ok_maxN (y := 1) hp (by omega) (by omega) (fun h3 e3 => ?_)
    rw [show nI i + (-1 : Int32) = zI ((i : Int) - 1) by simp (disch := omega) only [nI_z, z0, z1, z2, zm1, zI_add, zI_sub, zI_neg, zI_mul, zI_le, zI_lt, zI_eq, zI_tN, zI_inI]; congr 1]
    have f1 : Fr h0 h1 [c, c + 1] := by rw [e1]; exact f0.put (by simp)
    refine q h3 (by rw [e3]; exact f1.put (by simp)) ?_
    rw [e3, hm]
    refine ⟨ri_same, hk, fun l hl' => ?_⟩
    rw [ri_ne (by omega), e1, ri_wi, co_add, co_C]
    by_cases el : l = 0
    · rw [if_pos ⟨rfl, by rw [el]; rfl⟩, if_pos el, hv, el]
    · rw [if_neg (fun z => el (by rw [z.2]; rfl)), if_neg el, hl l (by omega) (by omega)]
      refine congrArg toI ?_
      grind
  have j196 : ∀ (h : Hp) (s : Nat), Fr h0 h [c, c + 1] → ri h b i = toI yi → ri h c 1 = nI s → max s 1 = k + 1 → (0 < s → ri h (c + 1) 0 = toI (co (pmul (pL xi) H) 0)) → (s = 0 → co (pmul (pL xi) H) 0 = 0) → (∀ l, l ≤ k → 0 < l → ri h (c + 1) l = toI (co (pmul (pL xi) H) l)) → W_X1_interpolate g d av Q n 196 [none, some (.ref a), some (.ref b), none, some (.ref c), some (.int (nI i)), none] [] h := by
    intro h s f0 hy hs hm h1 h2 hl
    refine s_X1_interpolate_196 hp ta tb tc ?_
    rw [hs, nI_tN (by omega), hy]
    have e0 : nI s = (0 : Int32) ↔ s = 0 := by simp (disch := omega) only [nI_z, z0, z1, z2, zm1, zI_add, zI_sub, zI_neg, zI_mul, zI_le, zI_lt, zI_eq, zI_tN, zI_inI]; omega
    rw [e0]
    refine ⟨fun c' => ⟨zI_in (a := 0) (by omega) (by omega) (by omega), nI_inL hi2 (by omega), ?_⟩, fun c' => ⟨nI_inL hi2 (by omega), ?_⟩⟩
    · rw [show (0 : Int32).toNatClampNeg = 0 from rfl, h1 (by omega)]
      exact ok_sum hp (j231 h s _ f0 hs hm rfl hl)
    · exact j231 h s yi f0 hs hm (by rw [h2 c']; grind) hl
  intro j
  induction j with
  | zero =>
    intro h hj f0 hx hy hs hlo hhi
    refine s_X1_interpolate_91 hp ta tb tc ⟨fun _ => ?_, fun c' => absurd (by decide) c'⟩
    rw [hs, show (0 : Int32) = nI 0 from rfl, nI_leI (by omega) (by omega), nI_tN (by omega), nI_tN (by omega), hx]
    refine ⟨fun c' => ?_, fun c' => ⟨nI_inL (by omega) (by omega), nI_inL hi (by omega), ?_⟩⟩
    · refine j196 h k f0 hy hs (by omega) (fun z => absurd z (by omega)) (fun _ => ?_) (fun l h1 h2 => hhi l h1 h2)
      rw [(co_Lmul xi H 0).2, hH 0 (by omega)]; grind
    · rw [hlo 0 (by omega) (Nat.le_refl _)]
      refine ok_times hp ?_
      rw [show nI 0 = toI 0 from rfl]
      refine ok_less hp ⟨nI_inL (k := 0) (by omega) (by omega), fun h3 e3 h4 e4 => ?_⟩
      have f3 : Fr h0 h3 [c, c + 1] := by rw [e3]; exact f0.put (by simp)
      have f4 : Fr h0 h4 [c, c + 1] := by rw [e4]; exact f3.put (by simp)
      have e5 : ri h3 c 1 = nI k := by rw [e3, ri_ne (by omega)]; exact hs
      rw [e5, nI_1] at e4
      refine j196 h4 (k + 1) f4 ?_ (by rw [e4]; exact ri_same) (by omega) (fun _ => ?_) (fun z => absurd z (by omega)) (fun l h1 h2 => ?_)
      · rw [e4, ri_ne hbc, e3, ri_ne hbc2]; exact hy
      · rw [e4, ri_ne (by omega), e3, ri_same, (co_Lmul xi H 0).2]
        refine congrArg toI ?_
        grind
      · rw [e4, ri_ne (by omega), e3, ri_ne' (by omega)]; exact hhi l h1 h2
  | succ j ih =>
    intro h hj f0 hx hy hs hlo hhi
    have j142 : ∀ v : Fp, co H j - v = co (pmul (pL xi) H) (j + 1) → W_X1_interpolate g d av Q n 142 [none, some (.ref a), some (.ref b), none, some (.ref c), some (.int (nI i)), some (.int (nI (j + 1)))] [.int (toI v), .int (toI (co H j)), .int (nI (j + 1)), .ref (c + 1)] h := by
      intro v hv
      refine s_X1_interpolate_142 hp ta tb tc tc1 (ok_less hp ⟨nI_inL (by omega) (by omega), fun h2 e2 => ?_⟩)
      rw [nI_tN (by omega)] at e2
      rw [show nI (j + 1) + (-1 : Int32) = nI j by simp (disch := omega) only [nI_z, z0, z1, z2, zm1, zI_add, zI_sub, zI_neg, zI_mul, zI_le, zI_lt, zI_eq, zI_tN, zI_inI]; congr 1; omega]
      refine ih h2 (by omega) (by rw [e2]; exact f0.put (by simp)) (by rw [e2, ri_ne hac2]; exact hx) (by rw [e2, ri_ne hbc2]; exact hy) (by rw [e2, ri_ne (by omega)]; exact hs) (fun l h1 h3 => ?_) (fun l h1 h3 => ?_)
      · rw [e2, ri_ne' (by omega)]; exact hlo l h1 (by omega)
      · rw [e2, ri_wi]
        by_cases e : l = j + 1
        · rw [if_pos ⟨rfl, e⟩, e, hv]
        · rw [if_neg (fun z => e z.2)]; exact hhi l h1 (by omega)
    refine s_X1_interpolate_91 hp ta tb tc ⟨fun c' => absurd c' ?_, fun _ => ?_⟩
    · rw [show (0 : Int32) = nI 0 from rfl]; simp (disch := omega) only [nI_addz, nI_1, nI_leI, nI_ltI, nI_eq, nI_tN, nI_inI]; omega
    · rw [nI_sub1 (by omega), Nat.add_sub_cancel, hs, nI_leI (by omega) (by omega), nI_tN (by omega), nI_tN (by omega), nI_tN (by omega), hx, hlo j (by omega) (by omega)]
      refine ⟨nI_inL (by omega) (by omega), fun c' => ?_, fun c' => ⟨nI_inL (by omega) (by omega), nI_inL hi (by omega), ?_⟩⟩
      · refine j142 0 ?_
        rw [(co_Lmul xi H j).1, hH (j + 1) (by omega)]; grind
      · rw [hlo (j + 1) (by omega) (by omega)]
        refine ok_times hp (j142 _ ?_)
        rw [(co_Lmul xi H j).1]; grind
theorem w_ip79 (hp : g.2.2.2.2 = true) {L1 L2 : Nat} (ta : lay a = (1, L1, 0)) (tb : lay b = (1, L2, 0)) (tc : lay c = (0, 3, 2)) (hac : a ≠ c) (hac2 : a ≠ c + 1) (hbc : b ≠ c) (hbc2 : b ≠ c + 1) {av : List Value} {N : Nat} {x cs : Nat → Fp} (hL1 : N ≤ L1) (hL2 : N ≤ L2) (hr : N ≤ rm (c + 1)) {Q : Hp → Prop} : ∀ (m k : Nat) (h : Hp), m + k = N → (∀ i, i < N → ri h a i = toI (x i)) → (∀ i, i < N → ri h b i = toI (cs i)) → PA h c k (co (pH x cs N k)) → (∀ h1, Fr h h1 [c, c + 1] → PI h1 c (pH x cs N N) → Q h1) → W_X1_interpolate g d av (QV n Q) n 79 [none, some (.ref a), some (.ref b), none, some (.ref c), some (.int (zI ((m : Int) - 1))), none] [] h := by
  have hrc := rm_lt (c + 1)
  intro m
  induction m with
  | zero =>
    intro k h hm Hx Hy H q
    refine s_X1_interpolate_79 hp ta tb tc ⟨fun _ => ok_trim hp tc H (fun h1 f1 H1 => qV (q h1 (f1.mono (by simp)) ?_)), fun c' => absurd (by decide) c'⟩
    rw [mkP_co _ (sz_min (pH_szle x cs N k)), show k = N by omega] at H1
    exact H1
  | succ m ih =>
    intro k h hm Hx Hy H q
    rw [show ((m + 1 : Nat) : Int) - 1 = (m : Int) by omega, show zI (m : Int) = nI m from rfl]
    refine s_X1_interpolate_79 hp ta tb tc ⟨fun c' => absurd c' (nI_pos (by omega)), fun _ => ?_⟩
    rw [H.1]
    refine w_ip91 hp ta tb tc hac hac2 hbc hbc2 (k := k) (xi := x m) (yi := cs m) (H := pH x cs N k) (by omega) (by omega) (pH_szle x cs N k) (by omega) h (fun h1 f1 H1 => ?_) k h (Nat.le_refl _) Fr.rf (Hx m (by omega)) (Hy m (by omega)) H.1 (fun l h1 _ => H.2.2 l h1) (fun l h1 h2 => absurd h2 (by omega))
    refine ih (k + 1) h1 (by omega) (fun i hi => by rw [f1.gi (by simp; omega)]; exact Hx i hi) (fun i hi => by rw [f1.gi (by simp; omega)]; exact Hy i hi) ?_ (fun h2 k1 k2 => q h2 (f1.tr k1) k2)
    have e : pH x cs N (k + 1) = padd (pmul (pL (x m)) (pH x cs N k)) (pC (cs m)) := by
      show padd (pmul (pL (x (N - (k + 1)))) (pH x cs N k)) (pC (cs (N - (k + 1)))) = _
      rw [show N - (k + 1) = m by omega]
    rw [e]; exact H1
/-- the polynomial through the points -/
theorem ok_interpolate (hp : g.2.2.2.2 = true) {L1 L2 : Nat} (ta : lay a = (1, L1, 0)) (tb : lay b = (1, L2, 0)) (tc : lay c = (0, 3, 2)) (hab : a ≠ b) (ha : a ≠ 38) (hb : b ≠ 38) (hb2 : b ≠ 92) (hac : a ≠ c) (hac2 : a ≠ c + 1) (hbc : b ≠ c) (hbc2 : b ≠ c + 1) {N : Nat} {X : Nat → Nat} {y : Nat → Fp} (hX : ∀ i j, i < j → j < N → X i < X j) (hXP : ∀ i, i < N → X i < 2147483647) (hL1 : N ≤ L1) (hL2 : N ≤ L2) (hr : N ≤ rm (c + 1)) (K : Kp h) (Hx : ∀ i, i < N → ri h a i = nI (X i)) (Hy : ∀ i, i < N → ri h b i = toI (y i)) {Q : Hp → Prop} (q : ∀ h' p, sz p ≤ N → (∀ i, i < N → ev p (nF (X i)) = y i) → Fr h h' [38, b, c, c + 1] → PI h' c p → Q h') : CallV g m_X1_interpolate (d + 4) [.ref 1, .ref a, .ref b, .int (nI N), .ref c] n h Q := by
  have hrc := rm_lt (c + 1)
  refine okV 2 rfl rfl (s_X1_interpolate_0 hp ta tb tc ?_)
  refine w_ip3 (x := fun i => nF (X i)) (y := y) hp ta tb tc hab ha hb hb2 hbc hac hX hXP (fun i _ => rfl) hL1 hL2 (by omega) N 1 h (by omega) (by omega) K Hx (fun l hl => ?_) (fun h1 f1 g1 g2 g3 => ?_) (by omega)
  · rw [Hy l hl]; unfold dt; rw [show min (1 - 1) l = 0 by omega]; rfl
  · refine w_ip79 hp ta tb tc hac hac2 hbc hbc2 (x := fun i => nF (X i)) (cs := fun l => dd (fun i => nF (X i)) y l l) hL1 hL2 hr N 0 h1 (by omega) (fun i hi => ?_) g2 ?_ (fun h2 f2 H2 => ?_)
    · rw [g1 i hi, toI_nF (hXP i hi)]
    · have : PI h1 c pz := g3
      unfold PI at this
      rw [sz_z] at this
      exact ⟨this.1, Nat.zero_le _, fun i hi => absurd hi (Nat.not_lt_zero i)⟩
    · have hinj : ∀ i j, i < N → j < N → nF (X i) = nF (X j) → i = j := by
        intro i j hi hj e
        have e2 : X i = X j := by
          have h1 := congrArg Fin.val e
          unfold nF at h1
          rw [Fin.val_ofNat, Fin.val_ofNat, Nat.mod_eq_of_lt (hXP i hi), Nat.mod_eq_of_lt (hXP j hj)] at h1
          exact h1
        rcases Nat.lt_trichotomy i j with h1 | h1 | h1
        · have := hX i j h1 hj; omega
        · exact h1
        · have := hX j i h1 hi; omega
      have hN := newton (x := fun i => nF (X i)) (y := y) (n := N) hinj
      exact q h2 _ hN.1 hN.2 ((f1.mono (by simp)).tr (f2.mono (by simp))) H2
end
