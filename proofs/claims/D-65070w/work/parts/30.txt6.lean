set_option maxRecDepth 100000
/-! TEXTS: values in the house -/
theorem and255_all : (List.range 256).all (fun k => decide (zI ((k : Int) - 128) &&& 255 = zI (if (k : Int) < 128 then (k : Int) + 128 else (k : Int) - 128))) = true := by decide +kernel
theorem and255 {x : Int32} (h : -128 ≤ x.toInt ∧ x.toInt ≤ 127) {c : Nat} (hc : c < 128) : x &&& 255 = nI c ↔ x = nI c := by
  have e := I32_z x
  have h1 := List.all_eq_true.mp and255_all (x.toInt + 128).toNat (List.mem_range.mpr (by omega))
  simp only [decide_eq_true_eq] at h1
  rw [show (((x.toInt + 128).toNat : Nat) : Int) - 128 = x.toInt by omega, ← e] at h1
  rw [h1]
  have e2 : x = nI c ↔ x.toInt = c := by
    constructor
    · intro w; rw [w, nI_toInt (by omega)]
    · intro w; rw [e, w]; rfl
  rw [e2, nI_z]
  split
  · rw [zI_eq (by omega) (by omega) (by omega) (by omega)]; omega
  · rw [zI_eq (by omega) (by omega) (by omega) (by omega)]
def byt (t : Nat → Int32) (len : Nat) : Prop := ∀ i, i < len → -128 ≤ (t i).toInt ∧ (t i).toInt ≤ 127
theorem nx_raw {t : Nat → Int32} {len a c : Nat} (hb : byt t len) (hl : skp t len a < len) (hc : c < 128) : t (skp t len a) = nI c ↔ nxc t len a = nI c := by
  unfold nxc
  rw [if_pos hl, and255 (hb _ hl) hc]
abbrev pcl (s : Nat) : Nat := 1509 + 10 * s
theorem pcl_all : (List.range 100).all (fun s => decide (lay (1509 + 10 * s) = (0, 5, 8))) = true := by decide +kernel
theorem pcl_lay {s : Nat} (h : s < 100) : lay (pcl s) = (0, 5, 8) := by
  have := List.all_eq_true.mp pcl_all s (List.mem_range.mpr h)
  simpa using this
def Sv (s x : Nat) : Prop := x ≤ 76 ∨ (1509 + 10 * s ≤ x ∧ x < 2509)
/-- what reading values above s of the pile may change -/
def Vz (s : Nat) (h h' : Hp) : Prop := h'.2 = h.2 ∧ (∀ x, ¬ Sv s x → h'.1 x = h.1 x) ∧ (Kp h → Kp h') ∧ ∀ k, (k < 8 ∨ (10 < k ∧ k < 13) ∨ k = 14 ∨ (16 < k ∧ k ≠ 19)) → ri h' 0 k = ri h 0 k
section
variable {g : GX} {d n : Nat} {h h' h1 : Hp} {t : Nat → Int32} {len a op s : Nat}
theorem Vz.rf : Vz s h h := ⟨rfl, fun _ _ => rfl, id, fun _ _ => rfl⟩
theorem Vz.tr {h2 : Hp} (f : Vz s h h1) (e : Vz s h1 h2) : Vz s h h2 := ⟨e.1.trans f.1, fun x hx => (e.2.1 x hx).trans (f.2.1 x hx), fun k => e.2.2.1 (f.2.2.1 k), fun k hk => (e.2.2.2 k hk).trans (f.2.2.2 k hk)⟩
theorem Vz.mono {s' : Nat} (f : Vz s' h h') (hs : s ≤ s') : Vz s h h' := ⟨f.1, fun x hx => f.2.1 x (fun w => hx (by unfold Sv at w ⊢; omega)), f.2.2⟩
theorem Vz.of_w {L : List Nat} (f : Fw h h' L) (o : ∀ x, x ∈ L → Sv s x) : Vz s h h' := ⟨f.1.1, fun x hx => f.1.2.1 x (fun w => hx (by
  rcases List.mem_cons.mp w with e | e
  · rw [e]; exact Or.inl (by omega)
  · exact o x e)), f.1.2.2, fun k hk => f.2 k (by omega)⟩
theorem Vz.of_fr {L : List Nat} (f : Fr h h' L) (o0 : 0 ∉ L) (o : ∀ x, x ∈ L → Sv s x) : Vz s h h' := Vz.of_w (Fw.of_fr f o0) o
theorem Vz.of_n (f : Fz h h') (e : ∀ j, j ≠ 13 → ri h' 0 j = ri h 0 j) : Vz s h h' := ⟨f.1.1, fun x hx => f.1.2.1 x (fun w => hx (Or.inl (by simp at w; omega))), f.1.2.2, fun k hk => e k (by omega)⟩
theorem Vz.put {k : Nat} {v : Int32} (f : Vz s h h1) (hk : k = 13 ∨ k = 19) : Vz s h (wi h1 0 k v) := by
  refine f.tr ⟨rfl, fun x hx => ?_, fun K => K.put (okp_o l0 (Or.inr (by decide))), fun j hj => ?_⟩
  · exact wi_ne1 (fun e => hx (Or.inl (by omega)))
  · exact ri_ne' (by omega)
theorem TP.vz (H : TP h t len) (f : Vz s h h') : TP h' t len := ⟨by rw [f.2.2.2 12 (by omega)]; exact H.1, H.2.1, fun i hi => by
  show h'.1 77 i = t i
  rw [f.2.1 77 (by unfold Sv; omega)]; exact H.2.2 i hi⟩
theorem IIt.vz {s' : Nat} {i : Itm} (H : IIt h (pcl s') i) (f : Vz s h h') (hs : s' < s) : IIt h' (pcl s') i := by
  have hpc : pcl s' = 1509 + 10 * s' := rfl
  have g : ∀ x k, pcl s' ≤ x → x ≤ pcl s' + 9 → ri h' x k = ri h x k := fun x k h1 h2 => by
    show h'.1 x k = h.1 x k
    rw [f.2.1 x (by unfold Sv; omega)]
  obtain ⟨⟨A, B⟩, C, D, E⟩ := H
  refine ⟨⟨?_, ?_⟩, by rw [g _ _ (by omega) (by omega)]; exact C, by rw [g _ _ (by omega) (by omega)]; exact D, by rw [g _ _ (by omega) (by omega)]; exact E.1, E.2.1, E.2.2.1, fun j q e => ?_⟩
  · exact ⟨by rw [g _ _ (by omega) (by omega)]; exact A.w, by rw [g _ _ (by omega) (by omega)]; exact A.n, by rw [g _ _ (by omega) (by omega)]; exact A.k, A.nl, A.kl, fun j i hj hi => by rw [g _ _ (by omega) (by omega)]; exact A.at hj hi⟩
  · exact ⟨by rw [g _ _ (by omega) (by omega)]; exact B.w, by rw [g _ _ (by omega) (by omega)]; exact B.n, by rw [g _ _ (by omega) (by omega)]; exact B.k, B.nl, B.kl, fun j i hj hi => by rw [g _ _ (by omega) (by omega)]; exact B.at hj hi⟩
  · rw [g _ _ (by omega) (by omega), g _ _ (by omega) (by omega), g _ _ (by omega) (by omega), g _ _ (by omega) (by omega)]
    exact E.2.2.2 j q e
/-- where the values stand: no flaw, place a, s of them on the pile -/
def VS (h : Hp) (t : Nat → Int32) (len a s : Nat) : Prop := TP h t len ∧ ri h 0 13 = nI a ∧ a ≤ len ∧ ri h 0 15 = 0 ∧ ri h 0 19 = nI s ∧ Kp h
def VF (h : Hp) (t : Nat → Int32) (len op c pl : Nat) : Prop := TP h t len ∧ PF h (nI c) (nI pl) ∧ ∃ a', ri h 0 13 = nI a' ∧ a' + 2 * op ≤ 442
/-- what reading leaves -/
def Vr (h h' : Hp) (t : Nat → Int32) (len s op : Nat) (r : RV) : Prop := Vz s h h' ∧ match r with
  | Sum.inl (p, i) => VS h' t len p (s + 1) ∧ IIt h' (pcl s) i ∧ gI i
  | Sum.inr (c, pl) => VF h' t len op c pl
theorem Vr.tr {r : RV} (f : Vz s h h1) (G : Vr h1 h' t len s op r) : Vr h h' t len s op r := ⟨f.tr G.1, G.2⟩
theorem ok_nextV (hp : g.2.2.2.2 = true) (P : VS h t len a s) {Q : Int32 → Hp → Prop} {u : Nat} (q : ∀ h', Vz u h h' → VS h' t len (skp t len a) s → Q (nxc t len a) h') : CallI g m_X0_next d [.ref 0] n h Q :=
  ok_next hp P.1 P.2.1 P.2.2.1 (fun h' k1 k2 k3 => q h' (Vz.of_n k1 k2) ⟨P.1.fz k1, k3, (skp_le P.2.2.1).2, by rw [k2 15 (by decide)]; exact P.2.2.2.1, by rw [k2 19 (by decide)]; exact P.2.2.2.2.1, k1.1.kp P.2.2.2.2.2⟩)
theorem ok_nextF (hp : g.2.2.2.2 = true) {c pl : Nat} (P : VF h t len op c pl) (hop : op ≤ 21) {Q : Int32 → Hp → Prop} {u : Nat} (q : ∀ v h', Vz u h h' → VF h' t len op c pl → Q v h') : CallI g m_X0_next d [.ref 0] n h Q := by
  obtain ⟨T, pf, a', ha, hb⟩ := P
  have hl := T.2.1
  by_cases hle : a' ≤ len
  · exact ok_next hp T ha hle (fun h' k1 k2 k3 => q _ h' (Vz.of_n k1 k2) ⟨T.fz k1, ⟨pf.1, by rw [k2 15 (by decide)]; exact pf.2.1, by rw [k2 16 (by decide)]; exact pf.2.2⟩, _, k3, by have := (skp_le (t := t) hle).2; omega⟩)
  · refine okI 0 rfl rfl (s_X0_next_0 hp ⟨fun _ => s_X0_next_38 hp ⟨fun _ => qI (q _ h Vz.rf ⟨T, pf, a', ha, hb⟩), fun w => absurd ?_ w⟩, fun w => absurd ?_ w⟩)
    · rw [T.1, ha]; simp (disch := omega) only [nI_addz, nI_1, nI_leI, nI_ltI, nI_eq, nI_tN, nI_inI]; omega
    · rw [T.1, ha]; simp (disch := omega) only [nI_addz, nI_1, nI_leI, nI_ltI, nI_eq, nI_tN, nI_inI]; omega
theorem VS.adv {u : Nat} (P : VS h t len a s) (hl : a < len) {v : Int32} (hv : v = nI (a + 1)) (e : h1 = wi h 0 13 v) : VS h1 t len (a + 1) s ∧ Vz u h h1 := by
  have f : Vz u h h1 := by rw [e]; exact Vz.rf.put (Or.inl rfl)
  exact ⟨⟨P.1.vz f, by rw [e, ri_same, hv], hl, by rw [e, ri_ne' (by decide)]; exact P.2.2.2.1, by rw [e, ri_ne' (by decide)]; exact P.2.2.2.2.1, f.2.2.1 P.2.2.2.2.2⟩, f⟩
theorem VF.adv {u c pl : Nat} {v : Int32} (P : VF h t len (op + 1) c pl) (hv : v = ri h 0 13 + 1) (e : h1 = wi h 0 13 v) : VF h1 t len op c pl ∧ Vz u h h1 := by
  have f : Vz u h h1 := by rw [e]; exact Vz.rf.put (Or.inl rfl)
  obtain ⟨T, pf, a', ha, hb⟩ := P
  exact ⟨⟨T.vz f, ⟨pf.1, by rw [e, ri_ne' (by decide)]; exact pf.2.1, by rw [e, ri_ne' (by decide)]; exact pf.2.2⟩, a' + 1, by rw [e, ri_same, hv, ha, nI_1], by omega⟩, f⟩
theorem VS.nx (P : VS h t len a s) {c : Int32} (e : nxc t len a = c) (hc : c ≠ -1) : skp t len a < len := by
  apply Classical.byContradiction
  intro z
  unfold nxc at e
  rw [if_neg z] at e
  exact hc e.symm
theorem ok_push (hp : g.2.2.2.2 = true) (P : VS h t len a s) (hs : s < 100) {Q : Nat → Hp → Prop} (q : ∀ h', Vz s h h' → VS h' t len a (s + 1) → Q (pcl s) h') : CallR g m_X0_push d [.ref 0] n h Q := by
  refine okR 0 rfl rfl (s_X0_push_0 hp (fun h1 e1 => ?_))
  have f : Vz s h h1 := by rw [e1]; exact Vz.rf.put (Or.inr rfl)
  have e19 : ri h1 0 19 = nI (s + 1) := by rw [e1, ri_same, P.2.2.2.2.1, nI_1]
  rw [e19, nI_sub1 (by omega), Nat.add_sub_cancel, nI_tN (by omega)]
  refine ⟨nI_inL hs (by omega), fun r2 e2 => ?_⟩
  rw [e2]
  exact qR (q h1 f ⟨P.1.vz f, by rw [e1, ri_ne' (by decide)]; exact P.2.1, P.2.2.1, by rw [e1, ri_ne' (by decide)]; exact P.2.2.2.1, e19, f.2.2.1 P.2.2.2.2.2⟩)
theorem Lit_p0 (s : Nat) : 0 ∉ Lit (pcl s) := Lit_0 (show 46 < 1509 + 10 * s by omega)
theorem Lit_sv (s x : Nat) (hs : s < 100) (h : x ∈ Lit (pcl s)) : Sv s x := by
  have hpc : pcl s = 1509 + 10 * s := rfl
  simp only [Lit, List.mem_cons, List.not_mem_nil, or_false] at h
  unfold Sv; omega
theorem VS.fr {L : List Nat} (P : VS h t len a s) (f : Fr h h' L) (o0 : 0 ∉ L) (o : ∀ x, x ∈ L → Sv op x) : VS h' t len a s :=
  ⟨P.1.vz (Vz.of_fr f o0 o), by rw [f.gi o0]; exact P.2.1, P.2.2.1, by rw [f.gi o0]; exact P.2.2.2.1, by rw [f.gi o0]; exact P.2.2.2.2.1, f.kp P.2.2.2.2.2⟩
theorem dig_bd {fr : Nat} : ∀ (k a v p : Nat), gdig t fr k a = some (true, p) → fr ≤ a → a - fr ≤ 10 → v < 10 ^ (a - fr) → (digV t k a v).2 < 10 ^ 10 := by
  intro k
  induction k with
  | zero =>
    intro a v p _ _ h1 h2
    show v < 10 ^ 10
    exact Nat.lt_of_lt_of_le h2 (Nat.pow_le_pow_right (by omega) h1)
  | succ k ih =>
    intro a v p h h0 h1 h2
    have h : (if ¬ t a < 48 ∧ ¬ 57 < t a then (if a - fr = 10 then some (false, a) else gdig t fr k (a + 1)) else some (true, a)) = some (true, p) := h
    show (if ¬ t a < 48 ∧ ¬ 57 < t a then digV t k (a + 1) (10 * v + ((t a).toInt - 48).toNat) else (a, v)).2 < 10 ^ 10
    by_cases e : ¬ t a < 48 ∧ ¬ 57 < t a
    · rw [if_pos e] at h ⊢
      split at h
      · injection h with h
        injection h with h _
        cases h
      · refine ih (a + 1) _ p h (by omega) (by omega) ?_
        have e2 : (t a).toInt ≤ 57 := by
          have := e.2
          rw [Int32.lt_iff_toInt_lt] at this
          have e57 : (57 : Int32).toInt = 57 := by decide
          omega
        rw [show a + 1 - fr = a - fr + 1 by omega, Nat.pow_succ]
        omega
    · rw [if_neg e]
      exact Nat.lt_of_lt_of_le h2 (Nat.pow_le_pow_right (by omega) h1)
theorem w_digV (hp : g.2.2.2.2 = true) {av : List Value} {fr : Nat} (hs : s < 100) {Q : Hp → Prop} : ∀ (k a v p : Nat) (h : Hp), a + k = len → fr ≤ a → a - fr ≤ 10 → v < 10 ^ (a - fr) → VS h t len a s → gdig t fr k a = some (true, p) → (∀ h', Vr h h' t len s op (Sum.inl ((digV t k a v).1, numI (nF (digV t k a v).2))) → Q h') → W_X0_readB g (d + 4) av (QV n Q) n 19 [some (.ref 0), none, some (.long (lN v)), none] [] h := by
  intro k
  induction k with
  | zero =>
    intro a v p h hk hf hd hv P hg q
    have hl := P.1.2.1
    have hv10 : v < 10 ^ 10 := Nat.lt_of_lt_of_le hv (Nat.pow_le_pow_right (by omega) hd)
    refine s_X0_readB_19 hp ⟨fun _ => s_X0_readB_92 hp (ok_push hp P hs (fun h1 f1 P1 => ⟨pcl_lay hs, ?_⟩)), fun c => absurd ?_ c⟩
    · rw [Pl64, pk_lRem (by omega) (by decide) (by decide), lN_i, show nI (v % 2147483647) = toI (nF v) by unfold toI nF; rw [Fin.val_ofNat]]
      refine ok_iset hp (pcl_lay hs) (f1.2.2.1 P.2.2.2.2.2) (fun h2 f2 H2 => qV (q h2 ⟨f1.tr (Vz.of_fr f2 (Lit_p0 s) (fun x hx => Lit_sv s x hs hx)), P1.fr f2 (Lit_p0 s) (fun x hx => Lit_sv s x hs hx), H2, gI_num _⟩))
    · rw [P.1.1, P.2.1]; simp (disch := omega) only [nI_addz, nI_1, nI_leI, nI_ltI, nI_eq, nI_tN, nI_inI]; omega
  | succ k ih =>
    intro a v p h hk hf hd hv P hg q
    have hl := P.1.2.1
    have hv10 : v < 10 ^ 10 := Nat.lt_of_lt_of_le hv (Nat.pow_le_pow_right (by omega) hd)
    have hg : (if ¬ t a < 48 ∧ ¬ 57 < t a then (if a - fr = 10 then some (false, a) else gdig t fr k (a + 1)) else some (true, a)) = some (true, p) := hg
    have eV : digV t (k + 1) a v = (if ¬ t a < 48 ∧ ¬ 57 < t a then digV t k (a + 1) (10 * v + ((t a).toInt - 48).toNat) else (a, v)) := rfl
    have stop : ¬ (¬ t a < 48 ∧ ¬ 57 < t a) → W_X0_readB g (d + 4) av (QV n Q) n 92 [some (.ref 0), none, some (.long (lN v)), none] [] h := by
      intro z
      rw [eV, if_neg z] at q
      refine s_X0_readB_92 hp (ok_push hp P hs (fun h1 f1 P1 => ⟨pcl_lay hs, ?_⟩))
      rw [Pl64, pk_lRem (by omega) (by decide) (by decide), lN_i, show nI (v % 2147483647) = toI (nF v) by unfold toI nF; rw [Fin.val_ofNat]]
      refine ok_iset hp (pcl_lay hs) (f1.2.2.1 P.2.2.2.2.2) (fun h2 f2 H2 => qV (q h2 ⟨f1.tr (Vz.of_fr f2 (Lit_p0 s) (fun x hx => Lit_sv s x hs hx)), P1.fr f2 (Lit_p0 s) (fun x hx => Lit_sv s x hs hx), H2, gI_num _⟩))
    refine s_X0_readB_19 hp ?_
    rw [P.1.1, P.2.1, nI_leI (by omega) (by omega), nI_tN (by omega), P.1.2.2 a (by omega), nI_1]
    refine ⟨fun c => absurd c (by omega), fun _ => ⟨nI_inL (by omega) (by omega), fun c => stop (fun z => z.1 c), fun c => ⟨nI_inL (by omega) (by omega), fun c2 => stop (fun z => z.2 c2), fun c2 => ⟨nI_inL (by omega) (by omega), fun h1 e1 => ?_⟩⟩⟩⟩
    rw [if_pos ⟨c, c2⟩] at hg
    rw [eV, if_pos ⟨c, c2⟩] at q
    have A := P.adv (u := s) (by omega) rfl e1
    have e57 : (57 : Int32).toInt = 57 := by decide
    have e48 : (48 : Int32).toInt = 48 := by decide
    have b1 : 48 ≤ (t a).toInt := by rw [Int32.lt_iff_toInt_lt] at c; omega
    have b2' : (t a).toInt ≤ 57 := by rw [Int32.lt_iff_toInt_lt] at c2; omega
    have eL : (10 : Int64) * lN v + (t a).toInt64 - 48 = lN (10 * v + ((t a).toInt - 48).toNat) := by
      have e1 : t a = nI (t a).toInt.toNat := by
        have := I32_z (t a)
        rw [this, nI_z, zI_toInt (by omega) (by omega)]
        congr 1
        omega
      have e2 : (t a).toInt64 = lN (t a).toInt.toNat := by
        have := nI_l (show (t a).toInt.toNat < 2147483648 by omega)
        rw [← e1] at this
        exact this
      rw [e2, show (10 : Int64) = lN 10 from rfl, show (48 : Int64) = lN 48 from rfl, lN_mul, lN_add, lN_sub (by omega)]
      congr 1
      omega
    rw [eL]
    split at hg
    · injection hg with hg
      injection hg with hg _
      cases hg
    · refine ih (a + 1) _ p h1 (by omega) (by omega) (by omega) ?_ A.1 hg (fun h' G => q h' (G.tr A.2))
      rw [show a + 1 - fr = a - fr + 1 by omega, Nat.pow_succ]
      omega
end
