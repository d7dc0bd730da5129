set_option maxRecDepth 100000
/-! ITEMS: good ones; powers -/
theorem isMul_ex (by' : Bool) (i1 i2 : Itm) : ∃ r, isMul by' i1 i2 r := by
  by_cases h1 : fitB (mulR by' i1 i2).1 ∧ fitB (mulR by' i1 i2).2
  · by_cases h2 : (mulR by' i1 i2).1 = bz
    · exact ⟨_, fun w => absurd h1 w, fun _ => ⟨fun _ => rfl, fun w => absurd h2 w⟩⟩
    · by_cases h3 : szF (mulL by' i1.2.2.2.2 i2.2.2.2.2) ≤ 12
      · exact ⟨_, fun w => absurd h1 w, fun _ => ⟨fun w => absurd w h2, fun _ => ⟨fun w => absurd w (by omega), fun _ => rfl⟩⟩⟩
      · exact ⟨none, fun w => absurd h1 w, fun _ => ⟨fun w => absurd w h2, fun _ => ⟨fun _ => rfl, fun w => absurd w h3⟩⟩⟩
  · exact ⟨none, fun _ => rfl, fun w => absurd w h1⟩
noncomputable def mulI (by' : Bool) (i1 i2 : Itm) : Option Itm := Classical.choose (isMul_ex by' i1 i2)
theorem mulI_is (by' : Bool) (i1 i2 : Itm) : isMul by' i1 i2 (mulI by' i1 i2) := Classical.choose_spec (isMul_ex by' i1 i2)
theorem isMul_uniq {by' : Bool} {i1 i2 : Itm} {r r' : Option Itm} (h : isMul by' i1 i2 r) (h' : isMul by' i1 i2 r') : r = r' := by
  by_cases h1 : fitB (mulR by' i1 i2).1 ∧ fitB (mulR by' i1 i2).2
  · by_cases h2 : (mulR by' i1 i2).1 = bz
    · rw [(h.2 h1).1 h2, (h'.2 h1).1 h2]
    · by_cases h3 : szF (mulL by' i1.2.2.2.2 i2.2.2.2.2) ≤ 12
      · rw [((h.2 h1).2 h2).2 h3, ((h'.2 h1).2 h2).2 h3]
      · rw [((h.2 h1).2 h2).1 (by omega), ((h'.2 h1).2 h2).1 (by omega)]
  · rw [h.1 h1, h'.1 h1]
theorem isMul_eq {by' : Bool} {i1 i2 : Itm} {r : Option Itm} (h : isMul by' i1 i2 r) : mulI by' i1 i2 = r := isMul_uniq (mulI_is by' i1 i2) h
/-- a line's numbers -/
def lnQ (q : Q4) : Prop := (-3 ≤ q.1 ∧ q.1 ≤ 3) ∧ (-3 ≤ q.2.1 ∧ q.2.1 ≤ 3) ∧ (-50 ≤ q.2.2.1 ∧ q.2.2.1 ≤ 50)
def gq (q : Q4) : Prop := lnQ q ∧ q.2.2.2 ≠ 0
def gL (L : List Q4) : Prop := ∀ r, r ∈ L → gq r
theorem szF_mem {L : List Q4} {r : Q4} (h : r ∈ L) : r.2.2.2.natAbs ≤ szF L := by
  induction L with
  | nil => simp at h
  | cons s L ih =>
    simp only [szF, List.map_cons, List.sum_cons]
    rcases List.mem_cons.mp h with e | e
    · rw [e]; omega
    · have := ih e
      simp only [szF] at this
      omega
theorem gL_len {L : List Q4} (h : gL L) : L.length ≤ szF L := by
  induction L with
  | nil => simp
  | cons s L ih =>
    have h1 := ih (fun r hr => h r (List.mem_cons_of_mem _ hr))
    have h2 := (h s (List.mem_cons_self ..)).2
    simp only [szF, List.map_cons, List.sum_cons, List.length_cons] at h1 ⊢
    omega
theorem gL_mq {L : List Q4} (h : gL L) (hs : szF L ≤ 12) : ∀ r, r ∈ L → mq 1000 r := by
  intro r hr
  have h1 := szF_mem hr
  obtain ⟨⟨l1, l2, l3⟩, _⟩ := h r hr
  exact ⟨by omega, by omega, by omega, by omega⟩
theorem gL_ins {q : Q4} {L : List Q4} (hq : gq q) (h : gL L) : gL (insF q L) := by
  intro r hr
  unfold insF at hr
  split at hr
  · rename_i s es
    split at hr
    · rename_i hk
      split at hr
      · exact h r (List.mem_of_mem_eraseIdx hr)
      · rename_i hne
        rcases List.mem_or_eq_of_mem_set hr with z | z
        · exact h r z
        · rw [z]
          exact ⟨(h s (FA.mem es)).1, hne⟩
    · rcases (List.mem_insertIdx (fpos_le q L)).mp hr with z | z
      · rw [z]; exact hq
      · exact h r z
  · rcases (List.mem_insertIdx (fpos_le q L)).mp hr with z | z
    · rw [z]; exact hq
    · exact h r z
theorem gq_ng {by' : Bool} {q : Q4} (h : gq q) : gq (ngQ by' q) := by
  refine ⟨h.1, ?_⟩
  have := h.2
  show (if by' = true then -q.2.2.2 else q.2.2.2) ≠ 0
  split <;> omega
theorem gL_mul {by' : Bool} {L1 : List Q4} : ∀ {L2 : List Q4}, gL L2 → gL L1 → gL (mulL by' L1 L2) := by
  intro L2
  induction L2 generalizing L1 with
  | nil => intro _ h; exact h
  | cons q L ih =>
    intro h2 h1
    show gL (mulL by' (insF (ngQ by' q) L1) L)
    exact ih (fun r hr => h2 r (List.mem_cons_of_mem _ hr)) (gL_ins (gq_ng (h2 q (List.mem_cons_self ..))) h1)
/-- an item as it may stand in a slot or on the pile -/
def gI (i : Itm) : Prop := bcop i.1 i.2.1 ∧ hB i.2.1 = 1 ∧ fitB i.1 ∧ fitB i.2.1 ∧ i.2.2.1 ≠ 0 ∧ i.2.2.2.1 ≠ 0 ∧ gL i.2.2.2.2 ∧ szF i.2.2.2.2 ≤ 12 ∧ (i.1 = bz → ¬ isT i.2.2.1 i.2.2.2.1 i.2.2.2.2)
theorem gI.b {i : Itm} (h : gI i) : i.2.1 ≠ bz := fun z => by
  have := h.2.1
  rw [z, hB_z] at this
  exact fp_dom.2 this.symm
theorem fit_C (v : Fp) : fitB (bC (pC v)) := by
  by_cases h : v = 0
  · have : bC (pC v) = bz := by rw [h]; rfl
    unfold fitB
    rw [this, bsn_z, bsz_z]; omega
  · unfold fitB
    rw [bsn_C, sz_C h, bsz_C (pC_ne h)]; omega
theorem gI_num (v : Fp) : gI (numI v) := ⟨fun c _ h => h, by show hB (bC (pC 1)) = 1; rw [hB_C, hd_C], fit_C v, fit_C 1, fp_dom.2, fp_dom.2, fun r hr => absurd hr (by simp [numI]), by simp [numI, szF], fun _ => by simp [isT, numI]⟩
theorem gI_mul {by' : Bool} {i1 i2 r : Itm} (h1 : gI i1) (h2 : gI i2) (hT : by' = true → i2.1 ≠ bz) (h : mulI by' i1 i2 = some r) : gI r := by
  have hm := mulI_is by' i1 i2
  rw [h] at hm
  by_cases f1 : fitB (mulR by' i1 i2).1 ∧ fitB (mulR by' i1 i2).2
  · by_cases f2 : (mulR by' i1 i2).1 = bz
    · have := (hm.2 f1).1 f2
      injection this with this
      rw [this]; exact gI_num 0
    · by_cases f3 : szF (mulL by' i1.2.2.2.2 i2.2.2.2.2) ≤ 12
      · have := ((hm.2 f1).2 f2).2 f3
        injection this with this
        have hD : rkD (if by' = true then 3 else 2) i1.1 i1.2.1 i2.1 i2.2.1 ≠ bz := by
          unfold rkD
          cases by' with
          | true => exact b_mulne h1.b (hT rfl)
          | false => exact b_mulne h1.b h2.b
        have lw := low_is (rkN (if by' = true then 3 else 2) i1.1 i1.2.1 i2.1 i2.2.1) hD
        rw [this]
        refine ⟨lw.2.1, lw.2.2, f1.1, f1.2, ?_, ?_, gL_mul h2.2.2.2.2.2.2.1 h1.2.2.2.2.2.2.1, f3, fun z => absurd z f2⟩
        · refine dom_mul_ne fp_dom h1.2.2.2.2.1 ?_
          cases by' with
          | true => rw [if_pos rfl]; exact iv_ne h2.2.2.2.2.1
          | false => rw [if_neg (by decide)]; exact h2.2.2.2.2.1
        · refine dom_mul_ne fp_dom h1.2.2.2.2.2.1 ?_
          cases by' with
          | true => rw [if_pos rfl]; exact iv_ne h2.2.2.2.2.2.1
          | false => rw [if_neg (by decide)]; exact h2.2.2.2.2.2.1
      · have := ((hm.2 f1).2 f2).1 (by omega)
        cases this
  · have := hm.1 f1
    cases this
/-- a power, step by step -/
noncomputable def powI (by' : Bool) (i : Itm) : Nat → Option Itm
  | 0 => some (numI 1)
  | m + 1 => match powI by' i m with
    | none => none
    | some t => mulI by' t i
theorem powI_none {by' : Bool} {i : Itm} {m : Nat} (h : powI by' i m = none) : ∀ k, powI by' i (m + k) = none
  | 0 => h
  | k + 1 => by
    show (match powI by' i (m + k) with | none => none | some t => mulI by' t i) = none
    rw [powI_none h k]
theorem gI_pow {by' : Bool} {i : Itm} (h : gI i) (hT : by' = true → i.1 ≠ bz) : ∀ (m : Nat) (r : Itm), powI by' i m = some r → gI r
  | 0, r, e => by
    have e : some (numI 1) = some r := e
    injection e with e
    rw [← e]; exact gI_num 1
  | m + 1, r, e => by
    have e : (match powI by' i m with | none => none | some t => mulI by' t i) = some r := e
    cases hm : powI by' i m with
    | none => rw [hm] at e; cases e
    | some t => rw [hm] at e; exact gI_mul (gI_pow h hT m t hm) h hT e
section
variable {g : GX} {d n : Nat} {h h' : Hp} {a b c : Nat}
theorem t57 : lay 57 = (0, 5, 8) := by decide +kernel
theorem t67 : lay 67 = (0, 5, 8) := by decide +kernel
/-- the product of good ones -/
theorem ok_mulG (hp : g.2.2.2.2 = true) (ta : lay a = (0, 5, 8)) (tb : lay b = (0, 5, 8)) (tc : lay c = (0, 5, 8)) (ha : a ≠ 47) (hb : b ≠ 47) (hc : c ≠ 47) (K : Kp h) {by' : Bool} {i1 i2 : Itm} (Ha : IIt h a i1) (Hb : IIt h b i2) (g1 : gI i1) (g2 : gI i2) (hT2 : by' = true → i2.1 ≠ bz) {Q : Int32 → Hp → Prop} (q1 : ∀ r, mulI by' i1 i2 = some r → gI r → ∀ h', Fr h h' (Lmu c) → IIt h' c r → Q 1 h') (q0 : mulI by' i1 i2 = none → ∀ h', Fr h h' (Lit 47 ++ Lrd) → Q 0 h') : CallI g m_X0_multiply (d + 12) [.ref 0, .ref a, .ref b, .int (if by' = true then 1 else 0), .ref c] n h Q := by
  have l1 := gL_len g1.2.2.2.2.2.2.1
  have l2 := gL_len g2.2.2.2.2.2.2.1
  have s1 := g1.2.2.2.2.2.2.2.1
  have s2 := g2.2.2.2.2.2.2.2.1
  exact ok_multiply hp ta tb tc ha hb hc K Ha Hb g1.b g2.b hT2 (gL_mq g1.2.2.2.2.2.2.1 s1) (gL_mq g2.2.2.2.2.2.2.1 s2) (by omega) (fun r hr => q1 r (isMul_eq hr) (gI_mul g1 g2 hT2 (isMul_eq hr))) (fun hr => q0 (isMul_eq hr))
/-- cells of raise -/
abbrev Lrs (c : Nat) : List Nat := Lit c ++ (Lit 57 ++ (Lit 67 ++ (Lit 47 ++ Lrd)))
theorem Lrs_67 {c x : Nat} (h : x ∈ Lmu 67) : x ∈ Lrs c := List.mem_append_right _ (List.mem_append_right _ h)
theorem Lrs_47 {c x : Nat} (h : x ∈ Lit 47 ++ Lrd) : x ∈ Lrs c := Lrs_67 (List.mem_append_right _ h)
theorem w_raise25 (hp : g.2.2.2.2 = true) (tc : lay c = (0, 5, 8)) (hc : c ≠ 47) (hc2 : c ≠ 67) {av : List Value} {by' : Bool} {i : Itm} {e : Int} (he : by' = true ↔ e < 0) (heb : -1000 ≤ e ∧ e ≤ 1000) (gi : gI i) (hT : by' = true → i.1 ≠ bz) {Q : Int32 → Hp → Prop} : ∀ (k m : Nat) (t : Itm) (h : Hp), m + k = e.natAbs → Kp h → IIt h 57 i → IIt h 67 t → gI t → powI by' i m = some t → (∀ r, powI by' i e.natAbs = some r → gI r → ∀ h', Fr h h' (Lrs c) → IIt h' c r → Q 1 h') → (powI by' i e.natAbs = none → ∀ h', Fr h h' (Lrs c) → Q 0 h') → W_X0_raise g (d + 12) av (QI n Q) n 25 [some (.ref 0), none, some (.int (zI e)), some (.ref c), some (.int (nI e.natAbs)), some (.int (nI m))] [] h := by
  have t0 : lay 0 = (0, 0, 80) := by decide +kernel
  intro k
  induction k with
  | zero =>
    intro m t h hm K H57 H67 gt hpw q1 q0
    refine s_X0_raise_25 hp tc ⟨fun _ => ok_icopy hp tc t67 hc2 K H67 (fun h1 f1 H1 => qI (q1 t (by rw [← hpw, show e.natAbs = m by omega]) gt h1 (f1.mono (fun x hx => List.mem_append_left _ hx)) H1)), fun c' => absurd ?_ c'⟩
    simp (disch := omega) only [nI_addz, nI_1, nI_leI, nI_ltI, nI_eq, nI_tN, nI_inI]; omega
  | succ k ih =>
    intro m t h hm K H57 H67 gt hpw q1 q0
    have go : W_X0_raise g (d + 12) av (QI n Q) n 50 [some (.ref 0), none, some (.int (zI e)), some (.ref c), some (.int (nI e.natAbs)), some (.int (nI m))] [.int (if by' = true then 1 else 0), .ref 57, .ref 67, .ref 0] h := by
      refine s_X0_raise_50 hp tc t57 t67 t0 (ok_mulG hp t67 t57 t67 (by decide) (by decide) (by decide) K H67 H57 gt gi hT (fun r er gr h1 f1 H1 => ⟨fun _ => ?_, fun w => absurd w (by decide)⟩) (fun er h1 f1 => ⟨fun w => absurd rfl w, fun _ => qI (q0 ?_ h1 (f1.mono (fun x hx => Lrs_47 hx)))⟩))
      · rw [nI_1]
        have f1' : Fr h h1 (Lrs c) := f1.mono (fun x hx => Lrs_67 hx)
        refine ih (m + 1) r h1 (by omega) (f1.kp K) (H57.fr2 f1 (fun x h1 h2 => Lmu_out (by omega) (by omega))) H1 gr ?_ (fun r' er' gr' h' k1 => q1 r' er' gr' h' (f1'.tr k1)) (fun er' h' k1 => q0 er' h' (f1'.tr k1))
        show (match powI by' i m with | none => none | some t => mulI by' t i) = some r
        rw [hpw]; exact er
      · have e1 : powI by' i (m + 1) = none := by
          show (match powI by' i m with | none => none | some t => mulI by' t i) = none
          rw [hpw]; exact er
        have := powI_none e1 k
        rw [show m + 1 + k = e.natAbs by omega] at this
        exact this
    refine s_X0_raise_25 hp tc ⟨fun c' => absurd c' ?_, fun _ => ?_⟩
    · simp (disch := omega) only [nI_addz, nI_1, nI_leI, nI_ltI, nI_eq, nI_tN, nI_inI]; omega
    · rw [z0, zI_le (by omega) (by omega) (by omega) (by omega)]
      cases by' with
      | true => exact ⟨fun w => absurd (he.mp rfl) (by omega), fun _ => go⟩
      | false => exact ⟨fun _ => go, fun w => absurd (he.mpr (by omega)) (by decide)⟩
/-- an item to a whole power -/
theorem ok_raise (hp : g.2.2.2.2 = true) (ta : lay a = (0, 5, 8)) (tc : lay c = (0, 5, 8)) (ha : a ≠ 57) (hc : c ≠ 47) (hc2 : c ≠ 67) (K : Kp h) {i : Itm} {e : Int} (heb : -1000 ≤ e ∧ e ≤ 1000) (Ha : IIt h a i) (gi : gI i) (hT : e < 0 → i.1 ≠ bz) {Q : Int32 → Hp → Prop} (q1 : ∀ r, powI (decide (e < 0)) i e.natAbs = some r → gI r → ∀ h', Fr h h' (Lrs c) → IIt h' c r → Q 1 h') (q0 : powI (decide (e < 0)) i e.natAbs = none → ∀ h', Fr h h' (Lrs c) → Q 0 h') : CallI g m_X0_raise (d + 13) [.ref 0, .ref a, .int (zI e), .ref c] n h Q := by
  refine okI 2 rfl rfl (s_X0_raise_0 hp ta tc (ok_icopy hp t57 ta (Ne.symm ha) K Ha (fun h1 f1 H1 => ok_iset (v := 1) hp t67 (f1.kp K) (fun h2 f2 H2 => ok_abs hp (by omega) (by omega) ?_))))
  have f12 : Fr h h2 (Lrs c) := (f1.mono (fun x hx => List.mem_append_right _ (List.mem_append_left _ hx))).tr (f2.mono (fun x hx => Lrs_67 (List.mem_append_left _ hx)))
  refine w_raise25 (by' := decide (e < 0)) hp tc hc hc2 (by simp) heb gi (fun z => hT (by simpa using z)) e.natAbs 0 (numI 1) h2 (by omega) (f12.kp K) (H1.fr f2 (fun x hx => by simp at hx ⊢; omega)) H2 (gI_num 1) rfl (fun r er gr h' k1 => q1 r er gr h' (f12.tr k1)) (fun er h' k1 => q0 er h' (f12.tr k1))
end
