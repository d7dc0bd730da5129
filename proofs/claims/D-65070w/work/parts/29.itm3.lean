set_option maxRecDepth 100000
/-! ITEMS: products and powers -/
abbrev Itm : Type := Bi × Bi × Fp × Fp × List Q4
def IIt (h : Hp) (a : Nat) (i : Itm) : Prop := II h a i.1 i.2.1 i.2.2.1 i.2.2.2.1 i.2.2.2.2
def ngQ (by' : Bool) (q : Q4) : Q4 := (q.1, q.2.1, q.2.2.1, if by' = true then -q.2.2.2 else q.2.2.2)
def mulL (by' : Bool) (L1 L2 : List Q4) : List Q4 := L2.foldl (fun L q => insF (ngQ by' q) L) L1
/-- a number as an item -/
def numI (v : Fp) : Itm := (bC (pC v), bC (pC 1), 1, 1, [])
noncomputable def mulR (by' : Bool) (i1 i2 : Itm) : Bi × Bi := (lowT (rkN (if by' = true then 3 else 2) i1.1 i1.2.1 i2.1 i2.2.1) (rkD (if by' = true then 3 else 2) i1.1 i1.2.1 i2.1 i2.2.1), lowB (rkN (if by' = true then 3 else 2) i1.1 i1.2.1 i2.1 i2.2.1) (rkD (if by' = true then 3 else 2) i1.1 i1.2.1 i2.1 i2.2.1))
/-- a product (or quotient) of items, when it is not too large -/
def isMul (by' : Bool) (i1 i2 : Itm) (r : Option Itm) : Prop := (¬ (fitB (mulR by' i1 i2).1 ∧ fitB (mulR by' i1 i2).2) → r = none) ∧ (fitB (mulR by' i1 i2).1 ∧ fitB (mulR by' i1 i2).2 → ((mulR by' i1 i2).1 = bz → r = some (numI 0)) ∧ ((mulR by' i1 i2).1 ≠ bz → (12 < szF (mulL by' i1.2.2.2.2 i2.2.2.2.2) → r = none) ∧ (szF (mulL by' i1.2.2.2.2 i2.2.2.2.2) ≤ 12 → r = some ((mulR by' i1 i2).1, (mulR by' i1 i2).2, i1.2.2.1 * (if by' = true then iv i2.2.2.1 else i2.2.2.1), i1.2.2.2.1 * (if by' = true then iv i2.2.2.2.1 else i2.2.2.2.1), mulL by' i1.2.2.2.2 i2.2.2.2.2))))
theorem insF_len (q : Q4) (L : List Q4) : (insF q L).length ≤ L.length + 1 := by
  unfold insF
  split
  · split
    · split
      · have := List.length_eraseIdx_le L (fpos q L); omega
      · rw [List.length_set]; omega
    · exact List.length_insertIdx_le_succ
  · exact List.length_insertIdx_le_succ
theorem fpos_le (q : Q4) : ∀ L, fpos q L ≤ L.length
  | [] => Nat.le_refl _
  | r :: L => by
    show (if lexle r q = true then fpos q L + 1 else 0) ≤ L.length + 1
    have := fpos_le q L
    split <;> omega
theorem insF_mem {q r : Q4} {L : List Q4} (h : r ∈ insF q L) : r = q ∨ r ∈ L ∨ ∃ s, s ∈ L ∧ r = (s.1, s.2.1, s.2.2.1, s.2.2.2 + q.2.2.2) := by
  unfold insF at h
  split at h
  · rename_i s es
    split at h
    · split at h
      · exact Or.inr (Or.inl (List.mem_of_mem_eraseIdx h))
      · rcases List.mem_or_eq_of_mem_set h with z | z
        · exact Or.inr (Or.inl z)
        · exact Or.inr (Or.inr ⟨s, FA.mem es, z⟩)
    · rcases (List.mem_insertIdx (fpos_le q L)).mp h with z | z
      · exact Or.inl z
      · exact Or.inr (Or.inl z)
  · rcases (List.mem_insertIdx (fpos_le q L)).mp h with z | z
    · exact Or.inl z
    · exact Or.inr (Or.inl z)
/-- keys of modest size, exponents up to M -/
def mq (M : Int) (q : Q4) : Prop := (-1000 ≤ q.1 ∧ q.1 ≤ 1000) ∧ (-1000 ≤ q.2.1 ∧ q.2.1 ≤ 1000) ∧ (-1000 ≤ q.2.2.1 ∧ q.2.2.1 ≤ 1000) ∧ (-M ≤ q.2.2.2 ∧ q.2.2.2 ≤ M)
theorem mq_ins {M N : Int} {q : Q4} {L : List Q4} (hN : 0 ≤ N) (hM : 0 ≤ M) (hq : mq N q) (hL : ∀ r, r ∈ L → mq M r) : ∀ r, r ∈ insF q L → mq (M + N) r := by
  intro r hr
  rcases insF_mem hr with e | e | ⟨s, hs, e⟩
  · obtain ⟨h1, h2, h3, h4⟩ := hq
    rw [e]; exact ⟨h1, h2, h3, by omega⟩
  · obtain ⟨h1, h2, h3, h4⟩ := hL r e
    exact ⟨h1, h2, h3, by omega⟩
  · obtain ⟨h1, h2, h3, h4⟩ := hL s hs
    obtain ⟨_, _, _, k4⟩ := hq
    rw [e]; exact ⟨h1, h2, h3, by show -(M + N) ≤ s.2.2.2 + q.2.2.2 ∧ s.2.2.2 + q.2.2.2 ≤ M + N; omega⟩
theorem mq_bq {M : Int} (hM : M ≤ 1000000) {q : Q4} (h : mq M q) : bq q := by
  obtain ⟨h1, h2, h3, h4⟩ := h
  exact ⟨by omega, by omega, by omega, by omega⟩
theorem mq_ng {M : Int} {by' : Bool} {q : Q4} (h : mq M q) : mq M (ngQ by' q) := by
  obtain ⟨h1, h2, h3, h4⟩ := h
  refine ⟨h1, h2, h3, ?_⟩
  show -M ≤ (if by' = true then -q.2.2.2 else q.2.2.2) ∧ (if by' = true then -q.2.2.2 else q.2.2.2) ≤ M
  split <;> omega
abbrev Lmu (c : Nat) : List Nat := Lit c ++ (Lit 47 ++ Lrd)
theorem Lmu_r {c x : Nat} (h : x ∈ Lit 47 ++ Lrd) : x ∈ Lmu c := List.mem_append_right _ h
theorem Lmu_out {c x : Nat} (h1 : 56 < x) (h2 : x < c ∨ c + 9 < x) : x ∉ Lmu c := by
  simp only [Lmu, Lit, Lrd, List.mem_append, List.mem_cons, List.not_mem_nil, or_false]; omega
theorem L47_out {x : Nat} (h1 : 56 < x) : x ∉ Lit 47 ++ Lrd := by
  simp only [Lit, Lrd, List.mem_append, List.mem_cons, List.not_mem_nil, or_false]; omega
section
variable {g : GX} {d n : Nat} {h h' : Hp} {a b c : Nat}
theorem t47 : lay 47 = (0, 5, 8) := by decide +kernel
theorem t48 : lay 48 = (0, 6, 2) := by decide +kernel
theorem it_57 (ta : lay a = (0, 5, 8)) (h : a ≠ 47) : 57 ≤ a := by
  have h1 := it_lo ta
  have h2 := it_far ta t47 h
  omega
theorem IIt.fr2 {a : Nat} {i : Itm} {M : List Nat} (H : IIt h a i) (f : Fr h h' M) (o : ∀ x, a ≤ x → x ≤ a + 9 → x ∉ M) : IIt h' a i := II.fr H f (fun x hx => o x (by simp at hx; omega) (by simp at hx; omega))
theorem Lgv48 {x : Nat} (h : x ∈ Lgv 48) : x ∈ Lit 47 ++ Lrd := by
  simp only [Lgv, Lit, Lrd, List.mem_append, List.mem_cons, List.not_mem_nil, or_false] at h ⊢; omega
theorem Lcp47 {x : Nat} (h : x ∈ Lcp 47) : x ∈ Lit 47 ++ Lrd := by
  simp only [Lcp, Lit, Lrd, List.mem_append, List.mem_cons, List.not_mem_nil, or_false] at h ⊢; omega
theorem w_mul135 (hp : g.2.2.2.2 = true) (tb : lay b = (0, 5, 8)) (tc : lay c = (0, 5, 8)) (hb : b ≠ 47) (hc : c ≠ 47) {av : List Value} {by' : Bool} {i2 : Itm} {T B : Bi} {x y : Fp} {L1 : List Q4} (m1 : ∀ r, r ∈ L1 → mq 1000 r) (m2 : ∀ r, r ∈ i2.2.2.2.2 → mq 1000 r) (ln : L1.length + i2.2.2.2.2.length ≤ 50) {Q : Int32 → Hp → Prop} : ∀ (k i : Nat) (h : Hp), i + k = i2.2.2.2.2.length → Kp h → IIt h b i2 → II h 47 T B x y (mulL by' L1 (i2.2.2.2.2.take i)) → (∀ r, r ∈ mulL by' L1 (i2.2.2.2.2.take i) → mq (1000 + 1000 * i) r) → (mulL by' L1 (i2.2.2.2.2.take i)).length ≤ L1.length + i → (szF (mulL by' L1 i2.2.2.2.2) ≤ 12 → ∀ h', Fr h h' (Lmu c) → II h' c T B x y (mulL by' L1 i2.2.2.2.2) → Q 1 h') → (12 < szF (mulL by' L1 i2.2.2.2.2) → ∀ h', Fr h h' (Lit 47 ++ Lrd) → Q 0 h') → W_X0_multiply g (d + 4) av (QI n Q) n 135 [some (.ref 0), none, some (.ref b), some (.int (if by' = true then 1 else 0)), some (.ref c), some (.int (nI i))] [] h := by
  have lb := it_57 tb hb
  have lc := it_57 tc hc
  intro k
  induction k with
  | zero =>
    intro i h hi K Hb Hw Hm Hl q1 q0
    have l2 := Hb.2.2.2.2.1
    have hl47 := Hw.2.2.2.2.1
    refine s_X0_multiply_135 hp tb tc ⟨fun _ => ?_, fun c' => absurd ?_ c'⟩
    · rw [List.take_of_length_le (by omega)] at Hw
      refine ok_sizes hp t47 Hw.2.2.2 ?_
      have hsz : szF (mulL by' L1 i2.2.2.2.2) < 2147483648 := by
        rw [List.take_of_length_le (by omega)] at Hm Hl
        have gen : ∀ (L : List Q4) (M : Nat), (∀ r, r ∈ L → mq (M : Int) r) → szF L ≤ L.length * M := by
          intro L M
          induction L with
          | nil => intro _; simp [szF]
          | cons r L ihL =>
            intro hr
            have h1 := ihL (fun r hr' => hr r (List.mem_cons_of_mem _ hr'))
            obtain ⟨_, _, _, h4⟩ := hr r (List.mem_cons_self ..)
            simp only [szF, List.map_cons, List.sum_cons, List.length_cons] at h1 ⊢
            rw [Nat.succ_mul]
            omega
        have h5 := gen _ (1000 + 1000 * i) (fun r hr => by have := Hm r hr; rw [show (((1000 + 1000 * i : Nat)) : Int) = 1000 + 1000 * (i : Int) by omega]; exact this)
        have h6 : (mulL by' L1 i2.2.2.2.2).length * (1000 + 1000 * i) ≤ 60 * (1000 + 1000 * 60) := Nat.mul_le_mul (by omega) (by omega)
        omega
      rw [show (12 : Int32) = nI 12 from rfl, nI_leI hsz (by omega)]
      refine ⟨fun c' => ok_icopy hp tc t47 hc K Hw (fun h1 f1 H1 => qI (q1 c' h1 (f1.mono (fun x hx => List.mem_append_left _ hx)) H1)), fun c' => qI (q0 (by omega) h Fr.rf)⟩
    · rw [Hb.2.2.2.1]; simp (disch := omega) only [nI_addz, nI_1, nI_leI, nI_ltI, nI_eq, nI_tN, nI_inI]; omega
  | succ k ih =>
    intro i h hi K Hb Hw Hm Hl q1 q0
    have l2 := Hb.2.2.2.2.1
    have hlt : i < i2.2.2.2.2.length := by omega
    obtain ⟨r, er⟩ : ∃ r, i2.2.2.2.2[i]? = some r := ⟨_, List.getElem?_eq_getElem hlt⟩
    obtain ⟨r6, r7, r8, r9⟩ := Hb.2.2.2.2.2.2 i r er
    have mr := m2 r (FA.mem er)
    have hin : vp_in (nI i) 60 := nI_inL (by omega) (by omega)
    have etk : mulL by' L1 (i2.2.2.2.2.take (i + 1)) = insF (ngQ by' r) (mulL by' L1 (i2.2.2.2.2.take i)) := by
      unfold mulL
      rw [List.take_add_one, er, List.foldl_append]
      rfl
    have hq := mq_ng (by' := by') mr
    have go : W_X0_multiply g (d + 4) av (QI n Q) n 191 [some (.ref 0), none, some (.ref b), some (.int (if by' = true then 1 else 0)), some (.ref c), some (.int (nI i))] [.int (zI (ngQ by' r).2.2.2), .int (zI (ngQ by' r).2.2.1), .int (zI (ngQ by' r).2.1), .int (zI (ngQ by' r).1), .ref 47] h := by
      refine s_X0_multiply_191 hp tb tc t47 (ok_iadd hp t47 (mq_bq (by omega) hq) Hw.2.2.2 (by omega) (fun s hs => ?_) (fun h1 f1 g1 g2 => ?_))
      · obtain ⟨h1, h2, h3, h4⟩ := Hm s hs
        obtain ⟨_, _, _, k4⟩ := hq
        refine ⟨by show -1000000 ≤ s.1 ∧ s.1 ≤ 1000000; omega, by show -1000000 ≤ s.2.1 ∧ s.2.1 ≤ 1000000; omega, by show -1000000 ≤ s.2.2.1 ∧ s.2.2.1 ≤ 1000000; omega, ?_⟩
        show -1000000 ≤ s.2.2.2 + (ngQ by' r).2.2.2 ∧ s.2.2.2 + (ngQ by' r).2.2.2 ≤ 1000000
        omega
      · rw [nI_1]
        have f1' := f1.mono (M := Lit 47 ++ Lrd) (fun x hx => Lcp47 hx)
        rw [← etk] at g2
        refine ih (i + 1) h1 (by omega) (f1.kp K) (Hb.fr2 f1' (fun x h1 _ => L47_out (by omega))) ⟨Hw.1.fr f1 (by decide) (by decide) (by decide) (by decide), by rw [g1 1 (by decide)]; exact Hw.2.1, by rw [g1 2 (by decide)]; exact Hw.2.2.1, g2⟩ ?_ ?_ (fun z h' k1 k2 => q1 z h' ((f1'.mono (fun x hx => Lmu_r hx)).tr k1) k2) (fun z h' k1 => q0 z h' (f1'.tr k1))
        · rw [etk]
          intro s hs
          have := mq_ins (by omega) (by omega) hq Hm s hs
          rw [show (1000 + 1000 * (i : Int)) + 1000 = 1000 + 1000 * ((i + 1 : Nat) : Int) by omega] at this
          exact this
        · rw [etk]
          have := insF_len (ngQ by' r) (mulL by' L1 (i2.2.2.2.2.take i))
          omega
    refine s_X0_multiply_135 hp tb tc ⟨fun c' => absurd c' ?_, fun _ => ⟨hin, hin, hin, ?_⟩⟩
    · rw [Hb.2.2.2.1]; simp (disch := omega) only [nI_addz, nI_1, nI_leI, nI_ltI, nI_eq, nI_tN, nI_inI]; omega
    · rw [nI_tN (by omega), r6, r7, r8, r9, zI_neg]
      cases by' with
      | true => exact ⟨fun z => absurd z (by decide), fun _ => ⟨hin, go⟩⟩
      | false => exact ⟨fun _ => ⟨hin, go⟩, fun z => absurd rfl z⟩
/-- a times b, or by b -/
theorem ok_multiply (hp : g.2.2.2.2 = true) (ta : lay a = (0, 5, 8)) (tb : lay b = (0, 5, 8)) (tc : lay c = (0, 5, 8)) (ha : a ≠ 47) (hb : b ≠ 47) (hc : c ≠ 47) (K : Kp h) {by' : Bool} {i1 i2 : Itm} (Ha : IIt h a i1) (Hb : IIt h b i2) (hB1 : i1.2.1 ≠ bz) (hB2 : i2.2.1 ≠ bz) (hT2 : by' = true → i2.1 ≠ bz) (m1 : ∀ r, r ∈ i1.2.2.2.2 → mq 1000 r) (m2 : ∀ r, r ∈ i2.2.2.2.2 → mq 1000 r) (ln : i1.2.2.2.2.length + i2.2.2.2.2.length ≤ 50) {Q : Int32 → Hp → Prop} (q1 : ∀ r, isMul by' i1 i2 (some r) → ∀ h', Fr h h' (Lmu c) → IIt h' c r → Q 1 h') (q0 : isMul by' i1 i2 none → ∀ h', Fr h h' (Lit 47 ++ Lrd) → Q 0 h') : CallI g m_X0_multiply (d + 12) [.ref 0, .ref a, .ref b, .int (if by' = true then 1 else 0), .ref c] n h Q := by
  have la := it_57 ta ha
  have lb := it_57 tb hb
  have lc := it_57 tc hc
  have t0 : lay 0 = (0, 0, 80) := by decide +kernel
  have go : W_X0_multiply g (d + 11) [.ref 0, .ref a, .ref b, .int (if by' = true then 1 else 0), .ref c] (QI n Q) n 10 [some (.ref 0), some (.ref a), some (.ref b), some (.int (if by' = true then 1 else 0)), some (.ref c), none] [.int (nI (if by' = true then 3 else 2)), .ref 0] h := by
    refine s_X0_multiply_10 hp ta tb tc t0 (ok_reckon hp (it_1 ta) (it_1 tb) t48 K (by split <;> omega) Ha.1 Hb.1 hB1 hB2 (fun z => hT2 (by cases by' with | true => rfl | false => exact absurd z (by decide))) (fun x1 x2 h1 f1 H1 => ⟨fun _ => ?_, fun z => absurd z (by decide)⟩) (fun z h1 f1 => ⟨fun w => absurd rfl w, fun _ => qI (q0 ⟨fun _ => rfl, fun w => absurd w z⟩ h1 (f1.mono (fun x hx => List.mem_append_right _ hx)))⟩))
    have f1' : Fr h h1 (Lit 47 ++ Lrd) := f1.mono (fun x hx => Lgv48 hx)
    have Ha1 := Ha.fr2 f1' (fun x h1 _ => L47_out (by omega))
    have Hb1 := Hb.fr2 f1' (fun x h1 _ => L47_out (by omega))
    refine ok_copyParts hp t47 ta (Ne.symm ha) Ha1.2.1 Ha1.2.2.1 Ha1.2.2.2 (fun h2 f2 p1 p2 p3 => ?_)
    have f2' : Fr h h2 (Lit 47 ++ Lrd) := f1'.tr (f2.mono (fun x hx => Lcp47 hx))
    have H2 : RI h2 48 (mulR by' i1 i2).1 (mulR by' i1 i2).2 := H1.fr f2 (by decide) (by decide) (by decide) (by decide)
    have Hb2 := Hb1.fr2 f2 (fun x h1 _ => by simp; omega)
    refine ok_risZero hp t48 H2 (fun z => ⟨fun w => absurd w (by decide), fun _ => ?_⟩) (fun z => ⟨fun _ => ?_, fun w => absurd rfl w⟩)
    · refine ok_iset (v := 0) hp tc (f2'.kp K) (fun h3 f3 H3 => qI (q1 (numI 0) ⟨fun w => absurd ⟨x1, x2⟩ w, fun _ => ⟨fun _ => rfl, fun w => absurd z w⟩⟩ h3 ((f2'.mono (fun x hx => Lmu_r hx)).tr (f3.mono (fun x hx => List.mem_append_left _ hx))) H3))
    · -- the bases, then the factorials
      have last : ∀ (h4 : Hp) (x y : Fp), Fr h h4 (Lit 47 ++ Lrd) → x = i1.2.2.1 * (if by' = true then iv i2.2.2.1 else i2.2.2.1) → y = i1.2.2.2.1 * (if by' = true then iv i2.2.2.2.1 else i2.2.2.2.1) → II h4 47 (mulR by' i1 i2).1 (mulR by' i1 i2).2 x y i1.2.2.2.2 → IIt h4 b i2 → W_X0_multiply g (d + 11) [.ref 0, .ref a, .ref b, .int (if by' = true then 1 else 0), .ref c] (QI n Q) n 135 [some (.ref 0), none, some (.ref b), some (.int (if by' = true then 1 else 0)), some (.ref c), some (.int (nI 0))] [] h4 := by
        intro h4 x y f4 ex ey H4 Hb4
        refine w_mul135 hp tb tc hb hc m1 m2 ln i2.2.2.2.2.length 0 h4 (by omega) (f4.kp K) Hb4 (by rw [List.take_zero]; exact H4) (by rw [List.take_zero]; intro r hr; exact m1 r hr) (by rw [List.take_zero]; exact Nat.le_refl _) (fun w h' k1 k2 => ?_) (fun w h' k1 => q0 ⟨fun y => rfl, fun _ => ⟨fun y => absurd y z, fun _ => ⟨fun _ => rfl, fun y => absurd w (by omega)⟩⟩⟩ h' (f4.tr k1))
        refine q1 ((mulR by' i1 i2).1, (mulR by' i1 i2).2, x, y, mulL by' i1.2.2.2.2 i2.2.2.2.2) ⟨fun y => absurd ⟨x1, x2⟩ y, fun _ => ⟨fun y => absurd y z, fun _ => ⟨fun y => absurd w (by omega), fun _ => by rw [ex, ey]⟩⟩⟩ h' ((f4.mono (fun x hx => Lmu_r hx)).tr k1) k2
      have j126 : ∀ (h4 : Hp) (x v : Fp), Fr h h4 (Lit 47 ++ Lrd) → x = i1.2.2.1 * (if by' = true then iv i2.2.2.1 else i2.2.2.1) → v = (if by' = true then iv i2.2.2.2.1 else i2.2.2.2.1) → II h4 47 (mulR by' i1 i2).1 (mulR by' i1 i2).2 x i1.2.2.2.1 i1.2.2.2.2 → IIt h4 b i2 → W_X0_multiply g (d + 11) [.ref 0, .ref a, .ref b, .int (if by' = true then 1 else 0), .ref c] (QI n Q) n 126 [some (.ref 0), none, some (.ref b), some (.int (if by' = true then 1 else 0)), some (.ref c), none] [.int (toI v), .int (ri h4 47 2), .ref 47] h4 := by
        intro h4 x v f4 ex ev' H4 Hb4
        rw [H4.2.2.1]
        refine s_X0_multiply_126 hp tb tc t47 (ok_times hp (fun h5 e5 => ?_))
        have f5 : Fr h4 h5 [47] := by rw [e5]; exact Fr.rf.put (by simp) (okp_o t47 (Or.inr (by decide)))
        refine last h5 x (i1.2.2.2.1 * v) (f4.tr (f5.mono (by simp))) ex (by rw [ev']) ⟨H4.1.fr f5 (by decide) (by decide) (by decide) (by decide), by rw [e5, ri_ne' (by decide)]; exact H4.2.1, by rw [e5, ri_same], ?_⟩ (Hb4.fr2 f5 (fun x h1 _ => by simp; omega))
        refine ⟨by rw [e5, ri_ne' (by decide)]; exact H4.2.2.2.1, H4.2.2.2.2.1, H4.2.2.2.2.2.1, fun i q' e => ?_⟩
        rw [f5.gi (by decide), f5.gi (by decide), f5.gi (by decide), f5.gi (by decide)]
        exact H4.2.2.2.2.2.2 i q' e
      have j91 : ∀ (v : Fp), v = (if by' = true then iv i2.2.2.1 else i2.2.2.1) → W_X0_multiply g (d + 11) [.ref 0, .ref a, .ref b, .int (if by' = true then 1 else 0), .ref c] (QI n Q) n 91 [some (.ref 0), none, some (.ref b), some (.int (if by' = true then 1 else 0)), some (.ref c), none] [.int (toI v), .int (ri h2 47 1), .ref 47] h2 := by
        intro v ev'
        rw [p1]
        refine s_X0_multiply_91 hp tb tc t47 (ok_times hp (fun h5 e5 => ?_))
        have f5 : Fr h2 h5 [47] := by rw [e5]; exact Fr.rf.put (by simp) (okp_o t47 (Or.inr (by decide)))
        have f5' : Fr h h5 (Lit 47 ++ Lrd) := f2'.tr (f5.mono (by simp))
        have Hb5 := Hb2.fr2 f5 (fun x h1 _ => by simp; omega)
        have H5 : II h5 47 (mulR by' i1 i2).1 (mulR by' i1 i2).2 (i1.2.2.1 * v) i1.2.2.2.1 i1.2.2.2.2 := by
          refine ⟨H2.fr f5 (by decide) (by decide) (by decide) (by decide), by rw [e5, ri_same], by rw [e5, ri_ne' (by decide)]; exact p2, by rw [e5, ri_ne' (by decide)]; exact p3.1, p3.2.1, p3.2.2.1, fun i q' e => ?_⟩
          rw [f5.gi (by decide), f5.gi (by decide), f5.gi (by decide), f5.gi (by decide)]
          exact p3.2.2.2 i q' e
        rw [show ri h5 b 2 = toI i2.2.2.2.1 from Hb5.2.2.1]
        cases by' with
        | true => exact ⟨fun w => absurd w (by decide), fun _ => ok_inverse hp (j126 h5 _ _ f5' (by rw [ev']) (if_pos rfl).symm H5 Hb5)⟩
        | false => exact ⟨fun _ => j126 h5 _ _ f5' (by rw [ev']) (if_neg (by decide)).symm H5 Hb5, fun w => absurd rfl w⟩
      rw [show ri h2 b 1 = toI i2.2.2.1 from Hb2.2.1]
      cases by' with
      | true => exact ⟨fun w => absurd w (by decide), fun _ => ok_inverse hp (j91 _ (if_pos rfl).symm)⟩
      | false => exact ⟨fun _ => j91 _ (if_neg (by decide)).symm, fun w => absurd rfl w⟩
  refine okI 1 rfl rfl (s_X0_multiply_0 hp ta tb tc ?_)
  cases by' with
  | true => exact ⟨fun w => absurd w (by decide), fun _ => go⟩
  | false => exact ⟨fun _ => go, fun w => absurd rfl w⟩
end
