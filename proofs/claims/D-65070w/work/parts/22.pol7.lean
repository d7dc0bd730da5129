set_option maxRecDepth 100000
/-! POLY: shift, put, isSame; rest, small, abs -/
theorem sz_sh_le {K : Type} [Lean.Grind.CommRing K] (hD : Dom K) (v : K) : ∀ (n : Nat) (p : Pl K), sz p ≤ n → sz (psh v p) ≤ n := by
  intro n
  induction n with
  | zero =>
    intro p h
    rw [sz_0 (Nat.le_zero.mp h)]
    have : psh v (pz : Pl K) = pz := sh_C v 0
    rw [this, sz_z]; exact Nat.le_refl 0
  | succ n ih =>
    intro p h
    by_cases h1 : sz p ≤ 1
    · rw [sz_1C h1, sh_C, ← sz_1C h1]; exact h
    · obtain ⟨s, e⟩ := root_dv p 0
      have hs : sz s ≤ n := by
        by_cases hz : s = pz
        · rw [hz, sz_z]; omega
        · have hX := szX1 hD (0 : K)
          have hne : psub (pX 1) (pC (0 : K)) ≠ pz := fun q => by rw [q, sz_z] at hX; omega
          have hm := (sz_mul hD hne hz).1
          apply Nat.not_lt.mp
          intro hlt
          have htop : co p (sz s) ≠ 0 := by
            rw [e, co_add, co_C, if_neg (by have := sz_pos hz; omega)]
            have h3 : sz (pmul (psub (pX 1) (pC 0)) s) = sz s + 1 := by rw [hm, hX.1]; omega
            have := sz_top h3
            grind
          have := sz_co htop
          omega
      have e2 : psh v p = padd (pmul (psub (pX 1) (pC (0 - v))) (psh v s)) (pC (ev p 0)) := by
        have e3 : psh v p = psh v (padd (pmul (psub (pX 1) (pC 0)) s) (pC (ev p 0))) := congrArg (psh v) e
        rw [e3, sh_add, sh_mul, sh_C]
        have : psh v (psub (pX 1) (pC (0 : K))) = psub (pX 1) (pC (0 - v)) := by
          letI := plRing K
          have h3 : psh v (psub (pX 1) (pC (0 : K))) = psub (psh v (pX 1)) (psh v (pC 0)) := (hm_sh v).sub _ _
          rw [h3, sh_X, sh_C]
          exact pl_ext fun i => by rw [co_sub, co_sub, co_add, co_C, co_C, co_C]; split <;> grind
        rw [this]
      rw [e2]
      refine sz_min (szle_add ?_ ?_)
      · have := szle_mul (n := 2) (m := n) (p := psub (pX 1) (pC (0 - v))) (q := psh v s) (by have := sz_le (psub (pX 1) (pC (0 - v))); rw [(szX1 hD (0 - v)).1] at this; exact this) (fun i hi => sz_le _ i (Nat.le_trans (ih s hs) hi))
        intro i hi
        exact this i (by omega)
      · intro i hi
        rw [co_C, if_neg (by omega)]
theorem sz_sh {K : Type} [Lean.Grind.CommRing K] (hD : Dom K) (v : K) (p : Pl K) : sz (psh v p) = sz p := by
  apply Nat.le_antisymm (sz_sh_le hD v _ p (Nat.le_refl _))
  have h := sz_sh_le hD (-v) _ (psh v p) (Nat.le_refl _)
  rw [sh_sh, show -v + v = 0 by grind, sh_0] at h
  exact h
section
variable {g : GX} {d n : Nat} {h : Hp} {a b c : Nat}
theorem w_sh21 (hp : g.2.2.2.2 = true) (ta : lay a = (0, 3, 2)) {av : List Value} {Q : QT} {v : Fp} {i s : Nat} : ∀ (k : Nat) (f : Nat → Fp) (h : Hp), i + k + 1 ≤ s → PA h a s f → (∀ (h1 : Hp) (b : Nat → Fp), Fr h h1 [a, a + 1] → PA h1 a s b → (∀ l, (l < i ∨ i + k ≤ l) → b l = f l) → (∀ l, i ≤ l → l < i + k → b l = f l + b (l + 1) * v) → W_X3_shift g d av Q n 2 [some (.ref a), some (.int (toI v)), some (.int (nI (i + 1))), none] [] h1) → W_X3_shift g d av Q n 21 [some (.ref a), some (.int (toI v)), some (.int (nI i)), some (.int (zI ((i : Int) + k - 1)))] [] h := by
  intro k
  induction k with
  | zero =>
    intro f h hk H q
    have hl := H.lt
    refine s_X3_shift_21 hp ta ⟨fun _ => ?_, fun c' => absurd ?_ c'⟩
    · rw [nI_1]; exact q h f Fr.rf H (fun l _ => rfl) (fun l h1 h2 => absurd h1 (by omega))
    · simp (disch := omega) only [nI_z, z0, z1, z2, zm1, zI_add, zI_sub, zI_neg, zI_mul, zI_le, zI_lt, zI_eq, zI_tN, zI_inI]; omega
  | succ k ih =>
    intro f h hk H q
    have hl := H.lt
    have hr := rm_lt (a + 1)
    have h2 := H.2.1
    have e0 : (zI ((i : Int) + ((k + 1 : Nat) : Int) - 1) : Int32) = nI (i + k) := by rw [nI_z]; congr 1; omega
    rw [e0]
    refine s_X3_shift_21 hp ta ⟨fun c' => absurd c' ?_, fun _ => ?_⟩
    · simp (disch := omega) only [nI_addz, nI_1, nI_leI, nI_ltI, nI_eq, nI_tN, nI_inI]; omega
    · rw [nI_1, nI_tN (by omega), nI_tN (by omega), H.2.2 _ (show i + k < s by omega), H.2.2 _ (show i + k + 1 < s by omega)]
      refine ⟨nI_inL (by omega) (by omega), nI_inL (by omega) (by omega), ok_times hp (ok_sum hp ⟨nI_inL (by omega) (by omega), fun h3 e3 => ?_⟩)⟩
      have f3 : Fr h h3 [a, a + 1] := by rw [e3]; exact Fr.rf.put (by simp)
      have e4 : nI (i + k) + (-1 : Int32) = zI ((i : Int) + k - 1) := by simp (disch := omega) only [nI_z, z0, z1, z2, zm1, zI_add, zI_sub, zI_neg, zI_mul, zI_le, zI_lt, zI_eq, zI_tN, zI_inI]; congr 1
      rw [e4]
      refine ih (fun j => if j = i + k then f (i + k) + f (i + k + 1) * v else f j) h3 (by omega) (by rw [e3]; exact H.upd) (fun h1 b g1 g2 g3 g4 => q h1 b (f3.tr g1) g2 (fun l hl => ?_) (fun l q1 q2 => ?_))
      · rw [g3 l (by omega), if_neg (by omega)]
      · by_cases e : l = i + k
        · rw [g3 l (by omega), if_pos e, e, g3 (i + k + 1) (by omega), if_neg (by omega)]
        · rw [g4 l q1 (by omega), if_neg e]
theorem w_sh2 (hp : g.2.2.2.2 = true) (ta : lay a = (0, 3, 2)) {av : List Value} {p : Pl Fp} {v : Fp} (hv : v ≠ 0) {Q : Hp → Prop} : ∀ (m i : Nat) (f : Nat → Fp) (h : Hp), i + m = sz p → PA h a (sz p) f → f (sz p - 1) = hd p → psh v p = padd (mkP f i) (pmul (pX i) (psh v (mkP (fun j => f (i + j)) m))) → (∀ h', Fr h h' [a, a + 1] → PI h' a (psh v p) → Q h') → W_X3_shift g d av (QV n Q) n 2 [some (.ref a), some (.int (toI v)), some (.int (nI i)), none] [] h := by
  intro m
  induction m with
  | zero =>
    intro i f h hm H ht he q
    have hl := H.lt
    refine s_X3_shift_2 hp ta ⟨fun _ => qV (q h Fr.rf ?_), fun c' => absurd ?_ c'⟩
    · have e1 : psh v p = mkP f (sz p) := by
        rw [he, mkP_0, show i = sz p by omega]
        have : psh v (pz : Pl Fp) = pz := sh_C v 0
        rw [this, (szmul_z _).1]
        exact pl_ext fun i => by rw [co_add, co_z]; grind
      unfold PI
      rw [sz_sh fp_dom, e1]
      exact ⟨H.1, H.2.1, fun i hi => by rw [co_mkP, if_pos hi]; exact H.2.2 i hi⟩
    · rw [H.1, nI_leI (by omega) (by omega)]; omega
  | succ m ih =>
    intro i f h hm H ht he q
    have hl := H.lt
    refine s_X3_shift_2 hp ta ⟨fun c' => absurd c' ?_, fun _ => ⟨fun c' => absurd (toI_eq0.mp c') hv, fun _ => ?_⟩⟩
    · rw [H.1, nI_leI (by omega) (by omega)]; omega
    · have e0 : ri h a 1 - (2 : Int32) = zI ((i : Int) + m - 1) := by rw [H.1]; simp (disch := omega) only [nI_z, z0, z1, z2, zm1, zI_add, zI_sub, zI_neg, zI_mul, zI_le, zI_lt, zI_eq, zI_tN, zI_inI]; omega
      rw [e0]
      refine w_sh21 hp ta m f h (by omega) H (fun h1 b g1 g2 g3 g4 => ?_)
      refine ih (i + 1) b h1 (by omega) g2 ?_ ?_ (fun h' k1 k2 => q h' (g1.tr k1) k2)
      · rw [g3 _ (by omega), ht]
      · rw [he, sh_step (b := fun j => b (i + j)) v (g3 _ (by omega)) (fun j hj => g4 (i + j) (by omega) (by omega))]
        have e1 : mkP b (i + 1) = padd (mkP f i) (pmul (pX i) (pC (b i))) := pl_ext fun l => by
          rw [co_add, co_Xmul, co_mkP, co_mkP, co_C]
          by_cases h1 : l < i
          · rw [if_pos (by omega), if_pos h1, if_neg (by omega), g3 l (by omega)]; grind
          · by_cases h2 : l = i
            · rw [if_pos (by omega), if_neg h1, if_pos (by omega), if_pos (by omega), h2]; grind
            · rw [if_neg (by omega), if_neg h1, if_pos (by omega), if_neg (by omega)]; grind
        have e2 : (fun j => b (i + 1 + j)) = fun j => b (i + (j + 1)) := funext fun j => by rw [show i + 1 + j = i + (j + 1) by omega]
        rw [e1, e2, Nat.add_zero]
        have e3 : pX (i + 1) = (pmul (pX i) (pX 1) : Pl Fp) := by
          refine pl_ext fun l => ?_
          rw [co_Xmul, co_X, co_X]
          by_cases h1 : l = i + 1
          · rw [if_pos h1, if_pos (by omega), if_pos (by omega)]
          · rw [if_neg h1]
            split
            · rw [if_neg (by omega)]
            · rfl
        rw [e3]
        letI := plRing Fp
        have hh : ∀ (A B C D E : Pl Fp), A + B * (C + D * E) = A + B * C + B * D * E := by intros; grind
        exact hh _ _ _ _ _
/-- n + v for n -/
theorem ok_shift (hp : g.2.2.2.2 = true) (ta : lay a = (0, 3, 2)) {p : Pl Fp} {v : Fp} (H : PI h a p) {Q : Hp → Prop} (q : ∀ h', Fr h h' [a, a + 1] → PI h' a (psh v p) → Q h') : CallV g m_X3_shift (d + 1) [.ref a, .int (toI v)] n h Q := by
  refine okV 2 rfl rfl (s_X3_shift_0 hp ta ?_)
  by_cases hv : v = 0
  · subst hv
    rw [sh_0] at q
    refine s_X3_shift_2 hp ta ⟨fun _ => qV (q h Fr.rf H), fun _ => ⟨fun _ => qV (q h Fr.rf H), fun c' => absurd rfl c'⟩⟩
  · refine w_sh2 hp ta hv (sz p) 0 (co p) h (by omega) H rfl ?_ q
    have e : mkP (fun j => co p (0 + j)) (sz p) = p := by
      rw [show (fun j => co p (0 + j)) = co p by funext j; rw [Nat.zero_add]]
      exact mkP_co p (Nat.le_refl _)
    rw [e, mkP_0]
    exact pl_ext fun l => by rw [co_add, co_z, co_Xmul, if_pos (Nat.zero_le _), Nat.sub_zero]; grind
/-- the number at n^i becomes v -/
noncomputable def pput (p : Pl Fp) (i : Nat) (v : Fp) : Pl Fp := mkP (fun j => if j = i then v else co p j) (max (sz p) (i + 1))
theorem co_put (p : Pl Fp) (i : Nat) (v : Fp) (j : Nat) : co (pput p i v) j = if j = i then v else co p j := by
  unfold pput
  rw [co_mkP]
  split
  · rfl
  · rw [if_neg (by omega), sz_le p j (by omega)]
theorem w_put (hp : g.2.2.2.2 = true) (ta : lay a = (0, 3, 2)) {av : List Value} {v : Fp} {i : Nat} (hi : i < rm (a + 1)) {Q : Hp → Prop} : ∀ (k s : Nat) (f : Nat → Fp) (h : Hp), i + 1 ≤ s + k → PA h a s f → (∀ h', Fr h h' [a, a + 1] → PI h' a (pput (mkP f s) i v) → Q h') → W_X3_put g d av (QV n Q) n 0 [some (.ref a), some (.int (nI i)), some (.int (toI v))] [] h := by
  have last : ∀ (s : Nat) (f : Nat → Fp) (h : Hp), i < s → PA h a s f → (∀ h', Fr h h' [a, a + 1] → PI h' a (pput (mkP f s) i v) → Q h') → W_X3_put g d av (QV n Q) n 0 [some (.ref a), some (.int (nI i)), some (.int (toI v))] [] h := by
    intro s f h his H q
    have hl := H.lt
    have hr := rm_lt (a + 1)
    refine s_X3_put_0 hp ta ⟨fun _ => ⟨nI_inL (by omega) (by omega), fun h1 e1 => ?_⟩, fun c' => absurd ?_ c'⟩
    · rw [nI_tN (by omega)] at e1
      have H1 : PA h1 a s (fun j => if j = i then v else f j) := by rw [e1]; exact H.upd
      refine ok_trim hp ta H1 (fun h2 f2 H2 => qV (q h2 ?_ ?_))
      · have f1 : Fr h h1 [a, a + 1] := by rw [e1]; exact Fr.rf.put (by simp)
        exact f1.tr (f2.mono (by simp))
      · have e : pput (mkP f s) i v = mkP (fun j => if j = i then v else f j) s := pl_ext fun j => by
          rw [co_put, co_mkP, co_mkP]
          by_cases h1 : j = i
          · rw [if_pos h1, if_pos (by omega), if_pos h1]
          · rw [if_neg h1, if_neg h1]
        rw [e]; exact H2
    · rw [H.1]; simp (disch := omega) only [nI_addz, nI_1, nI_leI, nI_ltI, nI_eq, nI_tN, nI_inI]; omega
  intro k
  induction k with
  | zero => intro s f h hk H q; exact last s f h (by omega) H q
  | succ k ih =>
    intro s f h hk H q
    by_cases his : i < s
    · exact last s f h his H q
    · have hl := H.lt
      have hr := rm_lt (a + 1)
      refine s_X3_put_0 hp ta ⟨fun c' => absurd c' ?_, fun _ h1 e1 => ?_⟩
      · rw [H.1]; simp (disch := omega) only [nI_addz, nI_1, nI_leI, nI_ltI, nI_eq, nI_tN, nI_inI]; omega
      · rw [H.1] at e1 ⊢
        refine ⟨nI_inL (by omega) (by omega), fun h2 e2 => ?_⟩
        rw [nI_tN (by omega)] at e2
        rw [nI_1] at e1
        have f2 : Fr h h2 [a, a + 1] := by
          rw [e2]
          exact Fr.put (by rw [e1]; exact Fr.rf.put (by simp)) (by simp)
        refine ih (s + 1) (fun j => if j < s then f j else 0) h2 (by omega) (by rw [e2, e1]; exact H.grow (by omega)) (fun h' k1 k2 => q h' (f2.tr k1) ?_)
        rw [mkP_drop (by simp), mkP_cong (f' := f) (fun j hj => by rw [if_pos hj])] at k2
        exact k2
theorem ok_put (hp : g.2.2.2.2 = true) (ta : lay a = (0, 3, 2)) {p : Pl Fp} {v : Fp} {i : Nat} (hi : i < rm (a + 1)) (H : PI h a p) {Q : Hp → Prop} (q : ∀ h', Fr h h' [a, a + 1] → PI h' a (pput p i v) → Q h') : CallV g m_X3_put (d + 1) [.ref a, .int (nI i), .int (toI v)] n h Q :=
  okV 0 rfl rfl (w_put hp ta hi (i + 1) (sz p) (co p) h (by omega) H (fun h' k1 k2 => q h' k1 (by rw [mkP_co p (Nat.le_refl _)] at k2; exact k2)))
theorem w_same (hp : g.2.2.2.2 = true) (ta : lay a = (0, 3, 2)) (tb : lay b = (0, 3, 2)) {av : List Value} {p q : Pl Fp} (H : PI h a p) (Hb : PI h b q) {Q : Int32 → Hp → Prop} (q1 : p = q → Q 1 h) (q0 : p ≠ q → Q 0 h) (hs : sz p = sz q) : ∀ (k i : Nat), i + k = sz p → (∀ j, j < i → co p j = co q j) → W_X3_isSame g d av (QI n Q) n 19 [some (.ref a), some (.ref b), some (.int 1), some (.int (nI i))] [] h := by
  have hl := H.lt
  have hr := rm_lt (a + 1)
  have hrb := rm_lt (b + 1)
  have h2 := H.2.1
  have h3 := Hb.2.1
  intro k
  induction k with
  | zero =>
    intro i hi hj
    refine s_X3_isSame_19 hp ta tb ⟨fun _ => ⟨Or.inr rfl, qI (q1 (pl_ext fun j => ?_))⟩, fun c' => absurd ?_ c'⟩
    · by_cases e : j < i
      · exact hj j e
      · rw [sz_le p j (by omega), sz_le q j (by omega)]
    · rw [H.1]; simp (disch := omega) only [nI_addz, nI_1, nI_leI, nI_ltI, nI_eq, nI_tN, nI_inI]; omega
  | succ k ih =>
    intro i hi hj
    refine s_X3_isSame_19 hp ta tb ⟨fun c' => absurd c' ?_, fun _ => ⟨fun c' => absurd c' (by decide), fun _ => ?_⟩⟩
    · rw [H.1]; simp (disch := omega) only [nI_addz, nI_1, nI_leI, nI_ltI, nI_eq, nI_tN, nI_inI]; omega
    · rw [nI_tN (by omega), H.2.2 i (by omega), Hb.2.2 i (by omega)]
      refine ⟨nI_inL (by omega) (by omega), nI_inL (by omega) (by omega), fun c' => ?_, fun c' => ?_⟩
      · have hne : p ≠ q := fun e => c' (by rw [e])
        refine s_X3_isSame_51 hp ta tb (s_X3_isSame_19 hp ta tb ⟨fun _ => ⟨Or.inl rfl, qI (q0 hne)⟩, fun _ => ⟨fun _ => ⟨Or.inl rfl, qI (q0 hne)⟩, fun c2 => absurd rfl c2⟩⟩)
      · refine s_X3_isSame_51 hp ta tb ?_
        rw [nI_1]
        refine ih (i + 1) (by omega) (fun j q1 => ?_)
        by_cases e : j < i
        · exact hj j e
        · rw [show j = i by omega]; exact toI_inj c'
theorem ok_isSame (hp : g.2.2.2.2 = true) (ta : lay a = (0, 3, 2)) (tb : lay b = (0, 3, 2)) {p q : Pl Fp} (H : PI h a p) (Hb : PI h b q) {Q : Int32 → Hp → Prop} (q1 : p = q → Q 1 h) (q0 : p ≠ q → Q 0 h) : CallI g m_X3_isSame d [.ref a, .ref b] n h Q := by
  have hl := H.lt
  have hlb := Hb.lt
  refine okI 2 rfl rfl (s_X3_isSame_0 hp ta tb ?_)
  rw [H.1, Hb.1]
  have e0 : nI (sz p) = nI (sz q) ↔ sz p = sz q := by simp (disch := omega) only [nI_z, z0, z1, z2, zm1, zI_add, zI_sub, zI_neg, zI_mul, zI_le, zI_lt, zI_eq, zI_tN, zI_inI]; omega
  rw [e0]
  refine ⟨fun c' => s_X3_isSame_16 hp ta tb ?_, fun c' => s_X3_isSame_16 hp ta tb (w_same hp ta tb H Hb q1 q0 c' (sz p) 0 (by omega) (fun j hj => absurd hj (Nat.not_lt_zero j)))⟩
  have hne : p ≠ q := fun e => c' (by rw [e])
  exact s_X3_isSame_19 hp ta tb ⟨fun _ => ⟨Or.inl rfl, qI (q0 hne)⟩, fun _ => ⟨fun _ => ⟨Or.inl rfl, qI (q0 hne)⟩, fun c2 => absurd rfl c2⟩⟩
end
