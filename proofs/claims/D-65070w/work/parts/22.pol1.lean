set_option maxRecDepth 100000
/-! INTS as whole numbers; cells of polynomials -/
def zI (z : Int) : Int32 := Int32.ofInt z
theorem zI_add (a b : Int) : zI a + zI b = zI (a + b) := (Int32.ofInt_add a b).symm
theorem zI_sub (a b : Int) : zI a - zI b = zI (a - b) := (Int32.ofInt_sub a b).symm
theorem zI_mul (a b : Int) : zI a * zI b = zI (a * b) := (Int32.ofInt_mul a b).symm
theorem zI_neg (a : Int) : - zI a = zI (-a) := (Int32.ofInt_neg a).symm
theorem nI_z (n : Nat) : nI n = zI n := rfl
theorem zI_toInt {a : Int} (h1 : -2147483648 ≤ a) (h2 : a < 2147483648) : (zI a).toInt = a := Int32.toInt_ofInt_of_le (by simpa using h1) (by simpa using h2)
theorem zI_lt {a b : Int} (h1 : -2147483648 ≤ a) (h2 : a < 2147483648) (h3 : -2147483648 ≤ b) (h4 : b < 2147483648) : zI a < zI b ↔ a < b := by rw [Int32.lt_iff_toInt_lt, zI_toInt h1 h2, zI_toInt h3 h4]
theorem zI_le {a b : Int} (h1 : -2147483648 ≤ a) (h2 : a < 2147483648) (h3 : -2147483648 ≤ b) (h4 : b < 2147483648) : zI a ≤ zI b ↔ a ≤ b := by rw [Int32.le_iff_toInt_le, zI_toInt h1 h2, zI_toInt h3 h4]
theorem zI_eq {a b : Int} (h1 : -2147483648 ≤ a) (h2 : a < 2147483648) (h3 : -2147483648 ≤ b) (h4 : b < 2147483648) : zI a = zI b ↔ a = b := ⟨fun e => by rw [← zI_toInt h1 h2, e, zI_toInt h3 h4], fun e => by rw [e]⟩
theorem zI_tN {a : Int} (h1 : 0 ≤ a) (h2 : a < 2147483648) : (zI a).toNatClampNeg = a.toNat := by
  show (zI a).toInt.toNat = a.toNat
  rw [zI_toInt (by omega) h2]
theorem nI_tN {k : Nat} (h : k < 2147483648) : (nI k).toNatClampNeg = k := nI_clamp h
theorem z0 : (0 : Int32) = zI 0 := rfl
theorem z1 : (1 : Int32) = zI 1 := rfl
theorem z2 : (2 : Int32) = zI 2 := rfl
theorem zm1 : (-1 : Int32) = zI (-1) := rfl
theorem zI_in {a : Int} {L : Nat} (h1 : 0 ≤ a) (h2 : a < L) (h3 : L < 2147483648) : vp_in (zI a) L := by
  rw [vp_in_iff, zI_toInt (by omega) (by omega)]
  exact ⟨h1, h2⟩
theorem nI_inL {k L : Nat} (h2 : k < L) (h3 : L < 2147483648) : vp_in (nI k) L := vp_in_nI h2 h3
def lenOk (l : List (Nat × List CT)) : Bool := l.all (fun s => s.2.all (fun c => decide (c.2.1 < 1000000)))
theorem lenOk_all : lenOk laySegs = true := by decide +kernel
theorem layGo_len : ∀ (l : List (Nat × List CT)), lenOk l = true → ∀ a, (layGo l a).2.1 < 1000000
  | [], _, a => by simp [layGo]
  | (t, p) :: r, h, a => by
    simp only [lenOk, List.all_cons, Bool.and_eq_true] at h
    simp only [layGo]
    split
    · by_cases hm : a % p.length < p.length
      · have : p.getD (a % p.length) (9, 0, 0) ∈ p := by
          rw [List.getD_eq_getElem?_getD, List.getElem?_eq_getElem hm]
          exact List.getElem_mem hm
        have h1 := List.all_eq_true.mp h.1 _ this
        simpa using h1
      · rw [List.getD_eq_getElem?_getD, List.getElem?_eq_none (by omega)]
        simp
    · exact layGo_len r h.2 _
theorem rm_lt (a : Nat) : rm a < 1000000 := by
  unfold rm lay
  split
  · exact layGo_len laySegs lenOk_all a
  · simp
theorem ri_wi (h : Hp) (a k : Nat) (v : Int32) (x y : Nat) : ri (wi h a k v) x y = if x = a ∧ y = k then v else ri h x y := rfl
theorem ri_same {h : Hp} {a k : Nat} {v : Int32} : ri (wi h a k v) a k = v := by simp [ri_wi]
theorem ri_ne {h : Hp} {a k : Nat} {v : Int32} {x y : Nat} (hx : x ≠ a) : ri (wi h a k v) x y = ri h x y := by simp [ri_wi, hx]
theorem ri_ne' {h : Hp} {a k : Nat} {v : Int32} {y : Nat} (hx : y ≠ k) : ri (wi h a k v) a y = ri h a y := by simp [ri_wi, hx]
def wh (r : Nat) : Nat × Nat := if r = 135000 then (900, 150) else if r = 325 then (25, 13) else if r = 31200 then (1300, 24) else if r = 195000 then (1300, 150) else if r = 4 then (2, 2) else if r = 3200 then (160, 20) else if r = 7800 then (130, 60) else (0, 0)
/-- width and height of a Duo's room -/
def wd (a : Nat) : Nat := (wh (rm (a + 1))).1
def hg (a : Nat) : Nat := (wh (rm (a + 1))).2
/-- factorials -/
def facF : Nat → Fp
  | 0 => 1
  | k + 1 => facF k * nF (k + 1)
/-- what always holds: widths of Duos, tables of inverses and factorials -/
def Kp (h : Hp) : Prop := (∀ a, lay a = (0, 4, 4) → ri h a 0 = nI (wd a)) ∧ (∀ k, k < 2000 → ri h 38 k = 0 ∨ ri h 38 k = toI (iv (nF k))) ∧ (ri h 92 0 = 0 ∨ ∀ k, k < 3200 → ri h 92 k = toI (facF k))
/-- a place that a write may change -/
def okp (a k : Nat) : Prop := (k ≠ 0 ∨ lay a ≠ (0, 4, 4)) ∧ a ≠ 38 ∧ a ≠ 92
theorem l38 : lay 38 = (1, 2000, 0) := by decide +kernel
theorem l92 : lay 92 = (1, 3200, 0) := by decide +kernel
theorem l37 : lay 37 = (1, 2000, 0) := by decide +kernel
theorem l91 : lay 91 = (1, 4000, 1) := by decide +kernel
theorem okp_o {a k c f : Nat} (t : lay a = (0, c, f)) (h : k ≠ 0 ∨ c ≠ 4) : okp a k := by
  refine ⟨h.elim Or.inl (fun q => Or.inr (fun e => ?_)), fun e => ?_, fun e => ?_⟩
  · rw [t] at e; injection e with _ e; injection e with e; exact q e
  · rw [e, l38] at t; cases t
  · rw [e, l92] at t; cases t
theorem nk3 {a k : Nat} (t : lay a = (0, 3, 2)) : okp (a + 1) k := by
  refine ⟨Or.inr (fun q => ?_), fun e => ?_, fun e => ?_⟩
  · have := lf_3_0 t
    rw [q] at this
    cases this
  · rw [show a = 37 by omega, l37] at t; cases t
  · rw [show a = 91 by omega, l91] at t; cases t
theorem nk3' {a k : Nat} (t : lay a = (0, 3, 2)) : okp a k := okp_o t (Or.inr (by decide))
theorem nk4 {a k : Nat} (t : lay a = (0, 4, 4)) : okp (a + 1) k := by
  refine ⟨Or.inr (fun q => ?_), fun e => ?_, fun e => ?_⟩
  · have := lf_4_1 t
    rw [q] at this
    cases this
  · rw [show a = 37 by omega, l37] at t; cases t
  · rw [show a = 91 by omega, l91] at t; cases t
theorem nk4' {a k : Nat} (t : lay a = (0, 4, 4)) (h : k ≠ 0) : okp a k := okp_o t (Or.inl h)
theorem Kp.put {h : Hp} {a k : Nat} {v : Int32} (K : Kp h) (o : okp a k) : Kp (wi h a k v) := by
  refine ⟨fun x t => ?_, fun x hx => ?_, ?_⟩
  · show (if x = a ∧ 0 = k then v else h.1 x 0) = _
    rw [if_neg (fun q => o.1.elim (fun e => e q.2.symm) (fun e => e (by rw [← q.1]; exact t)))]
    exact K.1 x t
  · show (if 38 = a ∧ x = k then v else h.1 38 x) = _ ∨ (if 38 = a ∧ x = k then v else h.1 38 x) = _
    rw [if_neg (fun q => o.2.1 q.1.symm)]
    exact K.2.1 x hx
  · refine K.2.2.elim (fun z => Or.inl ?_) (fun z => Or.inr (fun x hx => ?_))
    · show (if 92 = a ∧ 0 = k then v else h.1 92 0) = _
      rw [if_neg (fun q => o.2.2 q.1.symm)]; exact z
    · show (if 92 = a ∧ x = k then v else h.1 92 x) = _
      rw [if_neg (fun q => o.2.2 q.1.symm)]; exact z x hx
theorem Kp.cp {h : Hp} {a b p q m : Nat} (K : Kp h) (o : ∀ k, okp b k) : Kp (cpy h a p b q m) := by
  have g : ∀ x y, ¬ (x = b) → (cpy h a p b q m).1 x y = h.1 x y := fun x y hx => by
    show (if x = b ∧ _ then _ else _) = _
    rw [if_neg (fun z => hx z.1)]
  refine ⟨fun x t => ?_, fun x hx => ?_, ?_⟩
  · have hx : ¬ x = b := fun e => (o 0).1.elim (fun z => z rfl) (fun z => z (by rw [← e]; exact t))
    show (cpy h a p b q m).1 x 0 = _
    rw [g x 0 hx]
    exact K.1 x t
  · show (cpy h a p b q m).1 38 x = _ ∨ (cpy h a p b q m).1 38 x = _
    rw [g 38 x (fun e => (o 0).2.1 e.symm)]
    exact K.2.1 x hx
  · refine K.2.2.elim (fun z => Or.inl ?_) (fun z => Or.inr (fun x hx => ?_))
    · show (cpy h a p b q m).1 92 0 = _
      rw [g 92 0 (fun e => (o 0).2.2 e.symm)]; exact z
    · show (cpy h a p b q m).1 92 x = _
      rw [g 92 x (fun e => (o 0).2.2 e.symm)]; exact z x hx
/-- only these cells' ints changed; what always holds stays -/
def Fr (h h' : Hp) (L : List Nat) : Prop := h'.2 = h.2 ∧ (∀ x, x ∉ L → h'.1 x = h.1 x) ∧ (Kp h → Kp h')
theorem Fr.rf {h : Hp} {L : List Nat} : Fr h h L := ⟨rfl, fun _ _ => rfl, id⟩
theorem Fr.gi {h h' : Hp} {L : List Nat} (f : Fr h h' L) {x : Nat} (hx : x ∉ L) (k : Nat) : ri h' x k = ri h x k := by
  show h'.1 x k = h.1 x k
  rw [f.2.1 x hx]
theorem Fr.gr {h h' : Hp} {L : List Nat} (f : Fr h h' L) (x k : Nat) : h'.2 x k = h.2 x k := by rw [f.1]
theorem Fr.kp {h h' : Hp} {L : List Nat} (f : Fr h h' L) (k : Kp h) : Kp h' := f.2.2 k
theorem Fr.mono {h h' : Hp} {L M : List Nat} (f : Fr h h' L) (hs : ∀ x, x ∈ L → x ∈ M) : Fr h h' M := ⟨f.1, fun x hx => f.2.1 x (fun q => hx (hs x q)), f.2.2⟩
theorem Fr.tr {h h1 h2 : Hp} {L : List Nat} (f : Fr h h1 L) (e : Fr h1 h2 L) : Fr h h2 L := ⟨e.1.trans f.1, fun x hx => (e.2.1 x hx).trans (f.2.1 x hx), fun k => e.2.2 (f.2.2 k)⟩
theorem Fr.tr2 {h h1 h2 : Hp} {L M : List Nat} (f : Fr h h1 L) (e : Fr h1 h2 M) : Fr h h2 (L ++ M) := (f.mono (fun _ q => List.mem_append_left _ q)).tr (e.mono (fun _ q => List.mem_append_right _ q))
theorem Fr.put {h h1 : Hp} {L : List Nat} (f : Fr h h1 L) {a k : Nat} {v : Int32} (ha : a ∈ L) (hk : okp a k := by first | exact nk3 (by assumption) | exact nk3' (by assumption) | exact nk4 (by assumption) | exact nk4' (by assumption) (by decide) | exact okp_o (by assumption) (by decide) | exact ⟨Or.inr (by decide +kernel), by decide, by decide⟩ | exact ⟨Or.inl (by decide), by decide, by decide⟩) : Fr h (wi h1 a k v) L := ⟨f.1, fun x hx => by
  have hne : x ≠ a := fun q => hx (by rw [q]; exact ha)
  rw [wi_ne1 hne]
  exact f.2.1 x hx, fun K => (f.2.2 K).put hk⟩
def AR (h : Hp) (A s : Nat) (f : Nat → Fp) : Prop := ∀ i, i < s → ri h A i = toI (f i)
def PA (h : Hp) (a s : Nat) (f : Nat → Fp) : Prop := ri h a 1 = nI s ∧ s ≤ rm (a + 1) ∧ AR h (a + 1) s f
/-- the cell a of a Poly (or U) holds p -/
def PI (h : Hp) (a : Nat) (p : Pl Fp) : Prop := PA h a (sz p) (co p)
theorem PA.lt {h : Hp} {a s : Nat} {f : Nat → Fp} (H : PA h a s f) : s < 1000000 := Nat.lt_of_le_of_lt H.2.1 (rm_lt _)
theorem PI.fr {h h' : Hp} {a : Nat} {p : Pl Fp} {L : List Nat} (H : PI h a p) (f : Fr h h' L) (h1 : a ∉ L) (h2 : a + 1 ∉ L) : PI h' a p := ⟨by rw [f.gi h1]; exact H.1, H.2.1, fun i hi => by rw [f.gi h2]; exact H.2.2 i hi⟩
theorem pa_ne {a b : Nat} (ta : lay a = (0, 3, 2)) (tb : lay b = (0, 3, 2)) : a ≠ b + 1 := by
  intro e
  have := lf_3_0 tb
  rw [← e, ta] at this
  cases this
theorem mkP_sz {f : Nat → Fp} {s : Nat} (hs : f s ≠ 0) : sz (mkP f (s + 1)) = s + 1 := sz_eq (szle_mkP f (s + 1)) (by rw [co_mkP, if_pos (by omega)]; exact hs)
theorem mkP_drop {f : Nat → Fp} {s : Nat} (hs : f s = 0) : mkP f (s + 1) = mkP f s := pl_ext fun i => by
  rw [co_mkP, co_mkP]
  by_cases h : i < s
  · rw [if_pos h, if_pos (by omega)]
  · rw [if_neg h]
    split
    · rw [show i = s by omega, hs]
    · rfl
theorem mkP_0 {f : Nat → Fp} : mkP f 0 = (pz : Pl Fp) := pl_ext fun i => by rw [co_mkP, co_z, if_neg (by omega)]
theorem mkP_co (p : Pl Fp) {n : Nat} (h : sz p ≤ n) : mkP (co p) n = p := pl_ext fun i => by
  rw [co_mkP]
  split
  · rfl
  · exact (sz_le p i (by omega)).symm
theorem PI.of {h : Hp} {a s : Nat} {f : Nat → Fp} (H : PA h a (s + 1) f) (hs : f s ≠ 0) : PI h a (mkP f (s + 1)) := by
  unfold PI
  rw [mkP_sz hs]
  exact ⟨H.1, H.2.1, fun i hi => by rw [co_mkP, if_pos hi]; exact H.2.2 i hi⟩
section
variable {g : GX} {d n : Nat} {h : Hp} {a : Nat}
theorem w_trim (hp : g.2.2.2.2 = true) (t : lay a = (0, 3, 2)) {av : List Value} {f : Nat → Fp} {Q : Hp → Prop} : ∀ (s : Nat) (h : Hp), PA h a s f → (∀ h', Fr h h' [a] → PI h' a (mkP f s) → Q h') → W_X3_trim g d av (QV n Q) n 0 [some (.ref a)] [] h := by
  intro s
  induction s with
  | zero =>
    intro h H q
    refine s_X3_trim_0 hp t ⟨fun c => qV (q h Fr.rf ?_), fun c => absurd ?_ c⟩
    · rw [mkP_0]
      unfold PI
      rw [sz_z]
      exact ⟨H.1, Nat.zero_le _, fun i hi => absurd hi (Nat.not_lt_zero i)⟩
    · rw [H.1]; decide
  | succ s ih =>
    intro h H q
    have hl := H.lt
    have hr := rm_lt (a + 1)
    refine s_X3_trim_0 hp t ⟨fun c => absurd c ?_, fun c => ?_⟩
    · rw [H.1]; exact nI_nle (by omega) (by omega)
    · rw [H.1, nI_pred, nI_tN (by omega), H.2.2 s (by omega), toI_eq0]
      refine ⟨nI_inL (by have := H.2.1; omega) (by omega), fun c2 => qV (q h Fr.rf (PI.of H c2)), fun c2 h1 e1 => ?_⟩
      refine ih h1 ?_ ?_
      · subst e1
        refine ⟨ri_same, by have := H.2.1; omega, fun i hi => ?_⟩
        rw [ri_ne (by omega)]
        exact H.2.2 i (by omega)
      · intro h' hf hpi
        refine q h' ?_ (by rw [mkP_drop c2]; exact hpi)
        have : Fr h h1 [a] := by rw [e1]; exact Fr.rf.put (by simp)
        exact this.tr hf
theorem ok_trim (hp : g.2.2.2.2 = true) (t : lay a = (0, 3, 2)) {s : Nat} {f : Nat → Fp} (H : PA h a s f) {Q : Hp → Prop} (q : ∀ h', Fr h h' [a] → PI h' a (mkP f s) → Q h') : CallV g m_X3_trim d [.ref a] n h Q := okV 0 rfl rfl (w_trim hp t s h H q)
end
