set_option maxRecDepth 100000
/-! POLY: the methods of SumHouse.Poly -/
theorem PA.upd {h : Hp} {a s i : Nat} {f : Nat → Fp} {v : Fp} (H : PA h a s f) : PA (wi h (a + 1) i (toI v)) a s (fun j => if j = i then v else f j) := by
  refine ⟨by rw [ri_ne (by omega)]; exact H.1, H.2.1, fun j hj => ?_⟩
  show ri (wi h (a + 1) i (toI v)) (a + 1) j = toI (if j = i then v else f j)
  rw [ri_wi]
  by_cases e : j = i
  · rw [if_pos ⟨rfl, e⟩, if_pos e]
  · rw [if_neg (fun q => e q.2), if_neg e]; exact H.2.2 j hj
theorem PA.cong {h : Hp} {a s : Nat} {f f' : Nat → Fp} (H : PA h a s f) (e : ∀ i, i < s → f i = f' i) : PA h a s f' := ⟨H.1, H.2.1, fun i hi => by rw [← e i hi]; exact H.2.2 i hi⟩
theorem PA.grow {h : Hp} {a s : Nat} {f : Nat → Fp} (H : PA h a s f) (hs : s < rm (a + 1)) : PA (wi (wi h a 1 (nI (s + 1))) (a + 1) s 0) a (s + 1) (fun j => if j < s then f j else 0) := by
  refine ⟨by rw [ri_ne (by omega), ri_same], by omega, fun j hj => ?_⟩
  show ri (wi (wi h a 1 (nI (s + 1))) (a + 1) s 0) (a + 1) j = toI (if j < s then f j else 0)
  rw [ri_wi]
  by_cases e : j = s
  · rw [if_pos ⟨rfl, e⟩, if_neg (by omega)]; rfl
  · rw [if_neg (fun q => e q.2), ri_ne (by omega), if_pos (by omega)]; exact H.2.2 j (by omega)
theorem PA.fr {h h' : Hp} {a s : Nat} {f : Nat → Fp} {L : List Nat} (H : PA h a s f) (e : Fr h h' L) (h1 : a ∉ L) (h2 : a + 1 ∉ L) : PA h' a s f := ⟨by rw [e.gi h1]; exact H.1, H.2.1, fun i hi => by rw [e.gi h2]; exact H.2.2 i hi⟩
theorem mkP_cong {f f' : Nat → Fp} {s : Nat} (e : ∀ i, i < s → f i = f' i) : mkP f s = mkP f' s := pl_ext fun i => by
  rw [co_mkP, co_mkP]
  split
  · exact e i (by assumption)
  · rfl
section
variable {g : GX} {d n : Nat} {h : Hp} {a : Nat}
theorem ok_isZero (hp : g.2.2.2.2 = true) (t : lay a = (0, 3, 2)) {p : Pl Fp} (H : PI h a p) {Q : Int32 → Hp → Prop} (q1 : p = pz → Q 1 h) (q0 : p ≠ pz → Q 0 h) : CallI g m_X3_isZero d [.ref a] n h Q := by
  refine okI 0 rfl rfl (s_X3_isZero_0 hp t ?_)
  have hl := H.lt
  rw [H.1, z0, nI_z, zI_eq (by omega) (by omega) (by omega) (by omega)]
  exact ⟨fun c => qI (q0 (fun e => c (by rw [e, sz_z]; rfl))), fun c => qI (q1 (sz_0 (by omega)))⟩
theorem ok_head (hp : g.2.2.2.2 = true) (t : lay a = (0, 3, 2)) {p : Pl Fp} (H : PI h a p) {Q : Int32 → Hp → Prop} (q : Q (toI (hd p)) h) : CallI g m_X3_head d [.ref a] n h Q := by
  refine okI 0 rfl rfl (s_X3_head_0 hp t ?_)
  have hl := H.lt
  have hr := rm_lt (a + 1)
  have h2 := H.2.1
  rw [H.1, z0, nI_z, zI_le (by omega) (by omega) (by omega) (by omega)]
  refine ⟨fun c => qI ?_, fun c => ?_⟩
  · have e : p = pz := sz_0 (by omega)
    rw [e, hd_z] at q; exact q
  · rw [z1, zI_sub, zI_tN (by omega) (by omega)]
    refine ⟨zI_in (by omega) (by omega) (by omega), qI ?_⟩
    have e := H.2.2 (((sz p : Nat) : Int) - 1).toNat (by omega)
    rw [e]
    have e2 : (((sz p : Nat) : Int) - 1).toNat = sz p - 1 := by omega
    rw [e2]; exact q
theorem ok_degree (hp : g.2.2.2.2 = true) (t : lay a = (0, 3, 2)) {p : Pl Fp} (H : PI h a p) {Q : Int32 → Hp → Prop} (q : Q (nI (sz p - 1)) h) : CallI g m_X3_degree d [.ref a] n h Q := by
  refine okI 0 rfl rfl (s_X3_degree_0 hp t ?_)
  have hl := H.lt
  rw [H.1, z0, nI_z, zI_le (by omega) (by omega) (by omega) (by omega)]
  refine ⟨fun c => qI ?_, fun c => qI ?_⟩
  · rw [show sz p - 1 = 0 by omega] at q; exact q
  · rw [z1, zI_sub, show ((sz p : Nat) : Int) - 1 = ((sz p - 1 : Nat) : Int) by omega]; exact q
theorem ok_get (hp : g.2.2.2.2 = true) (t : lay a = (0, 3, 2)) {p : Pl Fp} (H : PI h a p) {i : Nat} (hi : i < 2147483648) {Q : Int32 → Hp → Prop} (q : Q (toI (co p i)) h) : CallI g m_X3_get d [.ref a, .int (nI i)] n h Q := by
  refine okI 0 rfl rfl (s_X3_get_0 hp t ?_)
  have hl := H.lt
  have hr := rm_lt (a + 1)
  have h2 := H.2.1
  rw [H.1]
  refine ⟨fun c => absurd c (nI_pos hi), fun _ => ?_⟩
  rw [nI_leI (by omega) hi]
  refine ⟨fun c => qI ?_, fun c => ?_⟩
  · rw [sz_le p i c] at q; exact q
  · rw [nI_tN hi, H.2.2 i (by omega)]
    exact ⟨nI_inL (by omega) (by omega), qI q⟩
theorem ok_getN (hp : g.2.2.2.2 = true) (t : lay a = (0, 3, 2)) {x : Int32} (hx : x < 0) {Q : Int32 → Hp → Prop} (q : Q 0 h) : CallI g m_X3_get d [.ref a, .int x] n h Q :=
  okI 0 rfl rfl (s_X3_get_0 hp t ⟨fun _ => qI q, fun c => absurd hx c⟩)
theorem PI.C {h : Hp} {a : Nat} {v : Fp} (h1 : ri h a 1 = if v = 0 then 0 else 1) (h2 : ri h (a + 1) 0 = toI v) (hr : 0 < rm (a + 1)) : PI h a (pC v) := by
  unfold PI
  by_cases e : v = 0
  · rw [if_pos e] at h1
    have : sz (pC v : Pl Fp) = 0 := by rw [e]; exact sz_z
    rw [this]
    exact ⟨h1, by omega, fun i hi => absurd hi (Nat.not_lt_zero i)⟩
  · rw [if_neg e] at h1
    rw [sz_C e]
    exact ⟨h1, hr, fun i hi => by rw [show i = 0 by omega, h2]; rfl⟩
theorem ok_set (hp : g.2.2.2.2 = true) (t : lay a = (0, 3, 2)) (hr : 0 < rm (a + 1)) {v : Fp} {Q : Hp → Prop} (q : ∀ h', Fr h h' [a, a + 1] → PI h' a (pC v) → Q h') : CallV g m_X3_set d [.ref a, .int (toI v)] n h Q := by
  have j17 : ∀ h1 : Hp, Fr h h1 [a, a + 1] → ri h1 (a + 1) 0 = toI v → W_X3_set g d [.ref a, .int (toI v)] (QV n Q) n 17 [none, none] [.int (if v = 0 then 0 else 1), .ref a] h1 := by
    intro h1 f1 e1
    refine s_X3_set_17 hp t (fun h2 e2 => qV (q h2 (by rw [e2]; exact f1.put (by simp)) (PI.C (by rw [e2]; exact ri_same) (by rw [e2, ri_ne (by omega)]; exact e1) hr)))
  refine okV 0 rfl rfl (s_X3_set_0 hp t ⟨zI_in (a := 0) (by omega) (by omega) (by have := rm_lt (a + 1); omega), fun h1 e1 => ?_⟩)
  have f1 : Fr h h1 [a, a + 1] := by rw [e1]; exact Fr.rf.put (by simp)
  have e2 : ri h1 (a + 1) 0 = toI v := by rw [e1]; exact ri_same
  have j := j17 h1 f1 e2
  rw [toI_eq0]
  refine ⟨fun c => ?_, fun c => ?_⟩
  · rw [if_neg c] at j; exact j
  · rw [if_pos c] at j; exact j
theorem ok_clear (hp : g.2.2.2.2 = true) (t : lay a = (0, 3, 2)) {Q : Hp → Prop} (q : ∀ h', Fr h h' [a] → PI h' a pz → Q h') : CallV g m_X3_clear d [.ref a] n h Q := by
  refine okV 0 rfl rfl (s_X3_clear_0 hp t (fun h1 e1 => qV (q h1 (by rw [e1]; exact Fr.rf.put (by simp)) ?_)))
  unfold PI
  rw [sz_z, e1]
  exact ⟨ri_same, Nat.zero_le _, fun i hi => absurd hi (Nat.not_lt_zero i)⟩
theorem ok_copy (hp : g.2.2.2.2 = true) (t : lay a = (0, 3, 2)) {b : Nat} (tb : lay b = (0, 3, 2)) {p : Pl Fp} (H : PI h b p) (hr : sz p ≤ rm (a + 1)) {Q : Hp → Prop} (q : ∀ h', Fr h h' [a, a + 1] → PI h' a p → Q h') : CallV g m_X3_copy (d + 1) [.ref a, .ref b] n h Q := by
  have hl := H.lt
  have hb := H.2.1
  have hne := pa_ne tb t
  refine okV 0 rfl rfl (s_X3_copy_0 hp t tb ?_)
  rw [H.1, nI_tN (by omega)]
  refine ⟨by decide, by decide, nI_pos (by omega), by rw [show (0 : Int32).toNatClampNeg = 0 from rfl]; omega, by rw [show (0 : Int32).toNatClampNeg = 0 from rfl]; omega, fun h1 e1 h2 e2 => qV (q h2 ?_ ?_)⟩
  · have f1 : Fr h h1 [a, a + 1] := ⟨by rw [e1]; rfl, fun x hx => by
      rw [e1]
      funext y
      simp only [List.mem_cons, List.not_mem_nil, or_false, not_or] at hx
      simp [cpy, hx.2], fun K => by rw [e1]; exact K.cp (fun k => nk3 t)⟩
    rw [e2]
    exact f1.put (by simp)
  · have hsz : ri h1 b 1 = nI (sz p) := by
      rw [e1]
      show (if b = a + 1 ∧ _ then _ else _) = _
      rw [if_neg (fun z => hne z.1)]
      exact H.1
    refine ⟨by rw [e2, ri_same, hsz], hr, fun i hi => ?_⟩
    rw [e2, ri_ne (by omega), e1]
    show (if a + 1 = a + 1 ∧ (0 : Int32).toNatClampNeg ≤ i ∧ i < (0 : Int32).toNatClampNeg + sz p then h.1 (b + 1) ((0 : Int32).toNatClampNeg + (i - (0 : Int32).toNatClampNeg)) else _) = _
    rw [show (0 : Int32).toNatClampNeg = 0 from rfl, if_pos ⟨rfl, by omega, by omega⟩, show 0 + (i - 0) = i by omega]
    exact H.2.2 i hi
theorem w_value (hp : g.2.2.2.2 = true) (t : lay a = (0, 3, 2)) {av : List Value} {p : Pl Fp} {x : Fp} (H : PI h a p) {Q : Int32 → Hp → Prop} : ∀ (k : Nat) (v : Fp), k ≤ sz p → Q (toI (v * x ^ k + evn (co p) x k)) h → W_X3_value g d av (QI n Q) n 9 [some (.ref a), some (.int (toI x)), some (.int (toI v)), some (.int (zI ((k : Int) - 1)))] [] h := by
  have hl := H.lt
  have hr := rm_lt (a + 1)
  have hb := H.2.1
  intro k
  induction k with
  | zero =>
    intro v hk q
    refine s_X3_value_9 hp t ⟨fun c => qI ?_, fun c => absurd (by decide) c⟩
    have : v * x ^ 0 + evn (co p) x 0 = v := by unfold evn; simp only [sm]; rw [Lean.Grind.Semiring.pow_zero]; grind
    rw [this] at q; exact q
  | succ k ih =>
    intro v hk q
    have e1 : ((k + 1 : Nat) : Int) - 1 = (k : Int) := by omega
    rw [e1]
    refine s_X3_value_9 hp t ⟨fun c => absurd c ?_, fun c => ?_⟩
    · rw [z0, zI_lt (by omega) (by omega) (by omega) (by omega)]; omega
    · refine ok_times hp ⟨zI_in (by omega) (by omega) (by omega), ?_⟩
      rw [zI_tN (by omega) (by omega), show ((k : Int)).toNat = k by omega, H.2.2 k (by omega)]
      refine ok_sum hp ?_
      rw [zm1, zI_add, show (k : Int) + -1 = (k : Int) - 1 by omega]
      refine ih _ (by omega) ?_
      have : (v * x + co p k) * x ^ k + evn (co p) x k = v * x ^ (k + 1) + evn (co p) x (k + 1) := by
        unfold evn; simp only [sm]; rw [Lean.Grind.Semiring.pow_succ]; grind
      rw [this]; exact q
theorem ok_value (hp : g.2.2.2.2 = true) (t : lay a = (0, 3, 2)) {p : Pl Fp} {x : Fp} (H : PI h a p) {Q : Int32 → Hp → Prop} (q : Q (toI (ev p x)) h) : CallI g m_X3_value (d + 1) [.ref a, .int (toI x)] n h Q := by
  refine okI 2 rfl rfl (s_X3_value_0 hp t ?_)
  have hl := H.lt
  rw [H.1, nI_z, z1, zI_sub]
  refine w_value hp t H (sz p) 0 (Nat.le_refl _) ?_
  have : 0 * x ^ sz p + evn (co p) x (sz p) = ev p x := by unfold ev; grind
  rw [this]; exact q
theorem w_scale (hp : g.2.2.2.2 = true) (t : lay a = (0, 3, 2)) {av : List Value} {s : Nat} {c : Fp} {Q : Hp → Prop} : ∀ (k i : Nat) (f : Nat → Fp) (h : Hp), i + k = s → PA h a s f → (∀ h', Fr h h' [a, a + 1] → PI h' a (mkP (fun j => if i ≤ j then f j * c else f j) s) → Q h') → W_X3_scale g d av (QV n Q) n 2 [some (.ref a), some (.int (toI c)), some (.int (nI i))] [] h := by
  intro k
  induction k with
  | zero =>
    intro i f h hik H q
    have hl := H.lt
    refine s_X3_scale_2 hp t ⟨fun _ => ok_trim hp t H (fun h' f' hpi => qV (q h' (f'.mono (by simp)) ?_)), fun c' => absurd ?_ c'⟩
    · rw [mkP_cong (f' := f)]
      · exact hpi
      · intro j hj
        rw [if_neg (by omega)]
    · rw [H.1, nI_leI (by omega) (by omega)]; omega
  | succ k ih =>
    intro i f h hik H q
    have hl := H.lt
    have hr := rm_lt (a + 1)
    have hb := H.2.1
    refine s_X3_scale_2 hp t ⟨fun c' => absurd c' ?_, fun _ => ?_⟩
    · rw [H.1, nI_leI (by omega) (by omega)]; omega
    · rw [nI_tN (by omega), H.2.2 i (by omega)]
      refine ⟨nI_inL (by omega) (by omega), ok_times hp ⟨nI_inL (by omega) (by omega), fun h3 e3 => ?_⟩⟩
      rw [nI_1]
      refine ih (i + 1) (fun j => if j = i then f i * c else f j) h3 (by omega) (by rw [e3]; exact H.upd) (fun h' f' hpi => q h' ?_ ?_)
      · have : Fr h h3 [a, a + 1] := by rw [e3]; exact Fr.rf.put (by simp)
        exact this.tr f'
      · rw [mkP_cong (f' := fun j => if i + 1 ≤ j then (if j = i then f i * c else f j) * c else (if j = i then f i * c else f j))]
        · exact hpi
        · intro j hj
          by_cases e : j = i
          · subst e
            rw [if_pos (by omega), if_neg (by omega), if_pos rfl]
          · by_cases e2 : i ≤ j
            · rw [if_pos e2, if_pos (by omega), if_neg e]
            · rw [if_neg e2, if_neg (by omega), if_neg e]
theorem ok_scale (hp : g.2.2.2.2 = true) (t : lay a = (0, 3, 2)) {p : Pl Fp} {c : Fp} (H : PI h a p) {Q : Hp → Prop} (q : ∀ h', Fr h h' [a, a + 1] → PI h' a (pmul (pC c) p) → Q h') : CallV g m_X3_scale (d + 1) [.ref a, .int (toI c)] n h Q := by
  refine okV 1 rfl rfl (s_X3_scale_0 hp t ?_)
  refine w_scale hp t (sz p) 0 (co p) h (by omega) H (fun h' f' hpi => q h' f' ?_)
  have e : mkP (fun j => if 0 ≤ j then co p j * c else co p j) (sz p) = pmul (pC c) p := pl_ext fun i => by
    rw [co_mkP, pC_mul]
    split
    · rw [if_pos (by omega)]; grind
    · rw [sz_le p i (by omega)]; grind
  rw [e] at hpi; exact hpi
theorem ok_monic (hp : g.2.2.2.2 = true) (t : lay a = (0, 3, 2)) {p : Pl Fp} (H : PI h a p) {Q : Hp → Prop} (q : ∀ h', Fr h h' [a, a + 1] → PI h' a (pmul (pC (iv (hd p))) p) → Q h') : CallV g m_X3_monic (d + 3) [.ref a] n h Q := by
  refine okV 0 rfl rfl (s_X3_monic_0 hp t ?_)
  have hl := H.lt
  have one : hd p = 1 ∨ p = pz → pmul (pC (iv (hd p))) p = p := by
    intro e
    apply pl_ext
    intro i
    rw [pC_mul]
    rcases e with e | e
    · rw [e, show iv 1 = 1 from fp_one_pow _]; grind
    · rw [e, co_z]; grind
  rw [H.1, z0, nI_z, zI_le (by omega) (by omega) (by omega) (by omega)]
  refine ⟨fun c => qV (q h Fr.rf (by rw [one (Or.inr (sz_0 (by omega)))]; exact H)), fun c => ok_head hp t H ?_⟩
  rw [show (1 : Int32) = toI 1 from rfl]
  refine ⟨fun c2 => qV (q h Fr.rf (by rw [one (Or.inl (toI_inj c2))]; exact H)), fun c2 => ok_head hp t H (ok_inverse hp (ok_scale hp t H (fun h' f' hpi => qV (q h' f' hpi))))⟩
end
