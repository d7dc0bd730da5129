set_option maxRecDepth 100000
/-! OPERATIONS: poke, holds -/
noncomputable def bput (F : Bi) (j i : Nat) (v : Fp) : Bi := b2 (fun j' i' => if j' = j ∧ i' = i then v else cc F j' i') (max (bsn F) (i + 1)) (max (bsz F) (j + 1))
theorem low_dv {F G : Bi} (hG : G ≠ bz) : bdv (lowT F G) F ∧ bdv (lowB F G) G := by
  have h := low_is F hG
  letI := @plRing Un (plRing Fp)
  constructor
  · refine euclid bi_dom bi_gcd (b := lowB F G) h.2.1 ⟨G, ?_⟩
    have e : bmul (lowB F G) F = bmul (lowT F G) G := (b_mulc _ _).trans h.1.symm
    exact e
  · refine euclid bi_dom bi_gcd (b := lowT F G) (copr_symm h.2.1) ⟨F, ?_⟩
    have e : bmul (lowT F G) G = bmul (lowB F G) F := h.1.trans (b_mulc _ _)
    exact e
theorem low_fit {F G : Bi} (hG : G ≠ bz) (h1 : fitB F) (h2 : fitB G) : fitB (lowT F G) ∧ fitB (lowB F G) := by
  have d := low_dv (F := F) hG
  unfold fitB at *
  have b := bdv_bsz d.2 hG
  by_cases hF : F = bz
  · have := (low_z hG).1
    rw [hF, this, bsn_z, bsz_z]
    rw [hF] at b
    omega
  · have a := bdv_bsz d.1 hF
    omega
theorem bput_fit {F : Bi} {j i : Nat} {v : Fp} (h : fitB F) (hj : j ≤ 12) (hi : i ≤ 24) : fitB (bput F j i v) := by
  have := b2_sz (fun j' i' => if j' = j ∧ i' = i then v else cc F j' i') (max (bsn F) (i + 1)) (max (bsz F) (j + 1))
  unfold fitB bput at *
  omega
noncomputable def pokS (S : SS) (s : Nat) (T B : Bi) (a : List Un) (m i j : Int) (v : Fp) : SS × Int32 := if (-1 ≤ m ∧ m ≤ (a.length : Int) - 1) ∧ (0 ≤ i ∧ i ≤ 24) ∧ (0 ≤ j ∧ j ≤ (if m < 0 then 12 else 0)) then (if m < 0 then (S.put s (svR (lowT (bput T j.toNat i.toNat v) B) (lowB (bput T j.toNat i.toNat v) B) a), toI (cc T j.toNat i.toNat)) else (S.put s (svR T B (a.set m.toNat (pput (a.getD m.toNat pz) i.toNat v))), toI (co (a.getD m.toNat pz) i.toNat))) else (S, -1)
noncomputable def S_poke (S : SS) (x m i j v : Int32) : SS × Int32 := slS S x (fun s => match S.sl s with
  | some (Sum.inr (Sum.inl (T, B, a))) => pokS S s T B a m.toInt i.toInt j.toInt (fI v)
  | _ => (S, -3))
theorem pput_sz {p : Un} {i : Nat} {v : Fp} (h : sz p ≤ 25) (hi : i ≤ 24) : sz (pput p i v) ≤ 25 := sz_min fun j hj => by rw [co_put, if_neg (by omega), sz_le p j (by omega)]
section
variable {g : GX} {d n : Nat} {h h' h1 : Hp} {S : SS} {s : Nat}
theorem r40 : rm 40 = 135000 := by decide +kernel
theorem w_poke65 (hp : g.2.2.2.2 = true) (I : SI h S) (hs : s < 12) {av : List Value} {T B : Bi} {a : List Un} (e : S.sl s = svR T B a) (H : RI h (slc s + 2) T B) (La : LA h (slc s) a) (gr : gR T B) (ga : gA a 4) (k : ri h (slc s) 0 = nI 3) {m i j v : Int32} (hm : -1 ≤ m.toInt ∧ m.toInt ≤ (a.length : Int) - 1) (hi : 0 ≤ i.toInt ∧ i.toInt ≤ 24) {Q : Int32 → Hp → Prop} (q : Pub h (pokS S s T B a m.toInt i.toInt j.toInt (fI v)) Q) : W_X0_poke g (d + 11) av (QI n Q) n 65 [some (.ref 0), none, some (.int m), some (.int i), some (.int j), some (.int v), some (.ref (slc s)), none, none, none] [.int (zI (if m.toInt < 0 then 12 else 0)), .int 0, .int j] h := by
  have ts := slc_lay hs
  have hsc : slc s = 1185 + 27 * s := rfl
  have tI := lf_9_1 ts
  have l1 := ga.1
  have l4 := ga.2.1
  have gT := gr.2.2.1
  have gB := gr.2.2.2
  have gT' := gT
  have gB' := gB
  unfold fitB at gT' gB'
  unfold pokS at q
  have z39 := w39
  have z41 := w41
  refine s_X0_poke_65 hp ts ?_
  rw [show (0 : Int32) = zI 0 from rfl]
  refine ok_withinX hp (by omega) (by omega) (by split <;> omega) (by split <;> omega) (fun a1 a2 => ⟨fun _ => ?_, fun c => absurd c (by decide)⟩) (fun w => ⟨fun c => absurd rfl c, fun _ => ?_⟩)
  · rw [if_pos ⟨hm, hi, a1, a2⟩] at q
    have ei : i = nI i.toInt.toNat := I32_nat hi.1
    have ej : j = nI j.toInt.toNat := I32_nat a1
    have j12 : j.toInt.toNat ≤ 12 := by split at a2 <;> omega
    have i24 : i.toInt.toNat ≤ 24 := by omega
    rw [I32_ltz (by omega) (by omega)]
    refine ⟨fun c => ?_, fun c => ?_⟩
    · rw [if_pos c] at q
      generalize i.toInt.toNat = i0 at ei q i24
      generalize j.toInt.toNat = j0 at ej q j12
      subst ei; subst ej
      refine ok_dget hp (it_2 tI) H.1 ?_
      rw [show ccI T (nI i0) (nI j0) = cc T j0 i0 by unfold ccI; rw [if_neg (by intro w; rcases w with w | w <;> exact nI_pos (by omega) w), nI_tN (by omega), nI_tN (by omega)]]
      refine ok_dcopy hp t39 (it_2 tI) (by omega) (I.kp.w t39) H.1 (by omega) (by omega) (fun h3 f3 D3 => ?_)
      rw [show (1 : Int32) = nI 1 from rfl, nI_addz, nI_addz]
      refine ok_grow hp t39 D3 (by omega) (by omega) (fun h4 f4 D4 => ok_rest hp ⟨?_, fun h6 e6 => ?_⟩)
      · exact D4.inx (by omega) (by omega)
      · rw [D4.tn (by omega) (by omega)] at e6
        have D6 := D4.upd (j := j0) (i := i0) (v := fI v) (by omega)
        have e6' : h6 = wi h4 (39 + 1) (j0 * wd 39 + i0) (toI (fI v)) := e6
        rw [← e6'] at D6
        have f6 : Fr h4 h6 [39, 40] := by rw [e6]; exact Fr.rf.put (by simp) (nk4 t39)
        refine ok_dtrim hp t39 D6 (fun h7 f7 D7 => ?_)
        have F7 : Fr h h7 Lrd := (((f3.mono (by simp)).tr (f4.mono (by simp))).tr (f6.mono (by simp))).tr (f7.mono (by simp))
        have eb : b2 (fun j' i' => if j' = j0 ∧ i' = i0 then fI v else if j' < bsz T ∧ i' < bsn T then cc T j' i' else 0) (max (bsn T) (i0 + 1)) (max (bsz T) (j0 + 1)) = bput T j0 i0 (fI v) := by
          unfold bput
          refine b2_cong fun j' i' _ _ => ?_
          by_cases c1 : j' = j0 ∧ i' = i0
          · rw [if_pos c1, if_pos c1]
          · rw [if_neg c1, if_neg c1]
            by_cases c2 : j' < bsz T ∧ i' < bsn T
            · rw [if_pos c2]
            · rw [if_neg c2, cc_out c2]
        rw [eb] at D7
        have hout : ∀ x, slc s ≤ x → x ∉ Lrd := fun x hx => Lrd_out (by omega)
        have R7 : RI h7 (slc s + 2) T B := H.fr F7 (hout _ (by omega)) (hout _ (by omega)) (hout _ (by omega)) (hout _ (by omega))
        refine ok_dcopy hp t41 (it_4 tI) (by omega) ((F7.kp I.kp).w t41) R7.2 (by omega) (by omega) (fun h8 f8 D8 => ?_)
        have F8 : Fr h h8 Lrd := F7.tr (f8.mono (by simp))
        have nB : B ≠ bz := fun w => by have := gr.2.1; rw [w, hB_z] at this; exact absurd this (by decide)
        have lf := low_fit nB (bput_fit (v := fI v) gT j12 i24) gB
        have pb := ppB_bsn B
        have gd := low_good (F := bput T j0 i0 (fI v)) nB
        refine ok_give hp (it_1 tI) (F8.kp I.kp) nB (D7.fr f8 (by decide) (by decide)) D8 (by omega) (fun f1' f2' h9 f9 R9 => ?_) (fun w => absurd lf w)
        have wq : Wq s h h9 := (Wz.lrd F8).q.tr (Wq.of_fr f9 (fun x hx => by
          simp only [Lgv, Lrd, List.mem_cons, List.not_mem_nil, or_false] at hx; unfold pubC; omega))
        have n9 : ∀ x k, (x = slc s ∨ slc s + 13 ≤ x) → x < slc s + 27 → ri h9 x k = ri h x k := fun x k hx hx2 => by
          rw [f9.gi (by simp only [Lgv, Lrd, List.mem_cons, List.not_mem_nil, or_false]; omega), F8.gi (hout x (by omega))]
        refine qI (q h9 wq.cz (I.put hs wq (v := svR _ _ a) ⟨⟨gd.1, gd.2, f1', f2'⟩, ga⟩ (by rw [n9 _ _ (by omega) (by omega), k]; rfl) ⟨R9, by rw [n9 _ _ (by omega) (by omega)]; exact La.1, fun l hl => (La.2 l hl).c (fun k => n9 _ _ (by omega) (by omega)) (fun k => n9 _ _ (by omega) (by omega))⟩))
    · rw [if_neg c] at q
      have em : m = nI m.toInt.toNat := I32_nat (by omega)
      have m4 : m.toInt.toNat < a.length := by omega
      generalize i.toInt.toNat = i0 at ei q i24
      generalize m.toInt.toNat = m0 at em q m4
      subst ei; subst em
      refine ⟨nI_inL (by omega) (by omega), fun r10 e10 => ?_⟩
      rw [nI_tN (by omega)] at e10; subst e10
      have P := La.2 m0 m4
      refine ok_get hp (lay_sa hs (by omega)) P (by omega) ⟨nI_inL (by omega) (by omega), fun r12 e12 => ?_⟩
      rw [nI_tN (by omega)] at e12; subst e12
      have sp : sz (a.getD m0 pz) ≤ 25 := ga.2.2 m0 m4
      refine ok_rest hp (ok_put hp (lay_sa hs (by omega)) (by rw [rm_sa hs (by omega)]; omega) P (fun h14 f14 P14 => ?_))
      have wq : Wq s h h14 := Wq.of_fr f14 (fun x hx => by simp at hx; omega)
      have n14 : ∀ x k, x ≠ slc s + 13 + 2 * m0 → x ≠ slc s + 13 + 2 * m0 + 1 → ri h14 x k = ri h x k := fun x k h1 h2 => f14.gi (by simp; omega) k
      refine qI (q h14 wq.cz (I.put hs wq (v := svR T B (a.set m0 (pput (a.getD m0 pz) i0 (fI v)))) ⟨gr, ?_, ?_, fun l hl => ?_⟩ (by rw [n14 _ _ (by omega) (by omega), k]; rfl) ⟨?_, ?_, fun l hl => ?_⟩))
      · rw [List.length_set]; exact l1
      · rw [List.length_set]; exact l4
      · rw [List.length_set] at hl
        by_cases c1 : l = m0
        · subst c1
          rw [show (a.set l (pput (a.getD l pz) i0 (fI v))).getD l pz = pput (a.getD l pz) i0 (fI v) by simp [List.getD, hl]]
          exact pput_sz sp i24
        · rw [show (a.set m0 (pput (a.getD m0 pz) i0 (fI v))).getD l pz = a.getD l pz by simp [List.getD, List.getElem?_set, Ne.symm c1]]
          exact ga.2.2 l hl
      · exact H.fr f14 (by simp; omega) (by simp; omega) (by simp; omega) (by simp; omega)
      · rw [List.length_set, n14 _ _ (by omega) (by omega)]; exact La.1
      · rw [List.length_set] at hl
        by_cases c1 : l = m0
        · subst c1
          rw [show (a.set l (pput (a.getD l pz) i0 (fI v))).getD l pz = pput (a.getD l pz) i0 (fI v) by simp [List.getD, hl]]
          exact P14
        · rw [show (a.set m0 (pput (a.getD m0 pz) i0 (fI v))).getD l pz = a.getD l pz by simp [List.getD, List.getElem?_set, Ne.symm c1]]
          exact (La.2 l hl).c (fun k => n14 _ _ (by omega) (by omega)) (fun k => n14 _ _ (by omega) (by omega))
  · rw [if_neg (fun u => w u.2.2)] at q
    exact qI (q.same I)
theorem ok_S_poke (hp : g.2.2.2.2 = true) (I : SI h S) {x m i j v : Int32} {Q : Int32 → Hp → Prop} (q : Pub h (S_poke S x m i j v) Q) : CallI g m_X0_poke (d + 12) [.ref 0, .int x, .int m, .int i, .int j, .int v] n h Q := by
  unfold S_poke at q
  refine okI 4 rfl rfl (s_X0_poke_0 hp (ok_isSlot hp (fun s hs e => ⟨fun _ => ⟨by rw [e]; exact nI_inL hs (by omega), fun r2 e2 => ?_⟩, fun c => absurd c (by decide)⟩) (fun e => ⟨fun c => absurd rfl c, fun _ => ?_⟩)))
  · subst e
    rw [nI_tN (by omega)] at e2; subst e2
    rw [slS_n hs] at q
    rcases I.slot hs with ⟨e, k⟩ | ⟨i', e, H, gi, k, kk⟩ | ⟨T, B, a, e, H, H2, gr, ga, k⟩ | ⟨a, m', f, e, H, gs, k⟩
    · rw [show ri h (1185 + 27 * s) 0 = nI 0 from k]
      rw [e] at q
      exact ⟨fun c => absurd c (by decide), fun _ => qI (q.same I)⟩
    · rw [show ri h (1185 + 27 * s) 0 = nI (kdI i') from k]
      rw [e] at q
      refine ⟨fun c => absurd c ?_, fun _ => qI (q.same I)⟩
      rcases kk with w | w <;> rw [w] <;> decide
    · rw [show ri h (1185 + 27 * s) 0 = nI 3 from k]
      rw [e] at q
      have q : Pub h (pokS S s T B a m.toInt i.toInt j.toInt (fI v)) Q := q
      have l1 := ga.1
      have l4 := ga.2.1
      rw [show ri h (1185 + 27 * s) 3 = zI ((a.length : Int) - 1) by rw [show ri h (1185 + 27 * s) 3 = nI (a.length - 1) from H2.1, nI_z]; congr 1; omega]
      have bad : ¬ ((-1 ≤ m.toInt ∧ m.toInt ≤ (a.length : Int) - 1) ∧ (0 ≤ i.toInt ∧ i.toInt ≤ 24)) → Q (-1) h := fun w => by
        unfold pokS at q
        rw [if_neg (fun u => w ⟨u.1, u.2.1⟩)] at q
        exact q.same I
      refine ⟨fun _ => ?_, fun c => absurd rfl c⟩
      show CallI g m_X0_within (d + 11) [.int m, .int (zI (-1)), .int (zI ((a.length : Int) - 1))] n h _
      refine ok_withinX (lo := -1) hp (by omega) (by omega) (by omega) (by omega) (fun a1 a2 => ⟨fun c => absurd c (by decide), fun _ => ?_⟩) (fun w => ⟨fun _ => qI (bad (fun u => w u.1)), fun c => absurd rfl c⟩)
      show CallI g m_X0_within (d + 11) [.int i, .int (zI 0), .int (zI 24)] n h _
      refine ok_withinX (lo := 0) (hi := 24) hp (by omega) (by omega) (by omega) (by omega) (fun b1 b2 => ⟨fun c => absurd c (by decide), fun _ => ?_⟩) (fun w => ⟨fun _ => qI (bad (fun u => w u.2)), fun c => absurd rfl c⟩)
      have W := w_poke65 (d := d) (av := [.ref 0, .int (nI s), .int m, .int i, .int j, .int v]) (n := n) hp I hs e H H2 gr ga k ⟨a1, a2⟩ ⟨b1, b2⟩ q
      rw [show (0 : Int32) ≤ m ↔ 0 ≤ m.toInt from I32_gez (z := 0) (by omega) (by omega)]
      refine ⟨fun c => ?_, fun c => ?_⟩
      · rw [if_neg (by omega)] at W; exact W
      · rw [if_pos (by omega)] at W; exact W
    · rw [show ri h (1185 + 27 * s) 0 = nI 4 from k]
      rw [e] at q
      exact ⟨fun c => absurd c (by decide), fun _ => qI (q.same I)⟩
  · rw [slS_no e] at q
    exact qI (q.same I)
end
/-- holds: the sums times their numbers; R times a value -/
noncomputable def hsV (a : List Un) (i : Itm) (n lo m : Nat) : Nat → Option Fp
  | 0 => some 0
  | j + 1 => match hsV a i n lo m j with
    | none => none
    | some s => match sumV i (nI (n + j)) lo m with
      | none => none
      | some p => some (s + ev (a.getD j pz) (nF n) * p)
theorem hsV_none {a : List Un} {i : Itm} {n lo m j : Nat} (h : hsV a i n lo m j = none) : ∀ k, hsV a i n lo m (j + k) = none
  | 0 => h
  | k + 1 => by
    show (match hsV a i n lo m (j + k) with
      | none => none
      | some s => match sumV i (nI (n + (j + k))) lo m with
        | none => none
        | some p => some (s + ev (a.getD (j + k) pz) (nF n) * p)) = none
    rw [hsV_none h k]
noncomputable def crV (T B : Bi) (i : Itm) (n k : Nat) : Option Fp := match vR T B (nF n) (nF k) with
  | none => none
  | some r => match valI i (nI n) (nI k) with
    | none => none
    | some v => some (r * v)
def hldV (o u w : Option Fp) : Int32 := match o with
  | none => -1
  | some s => match u with
    | none => -1
    | some x => match w with
      | none => -1
      | some y => if s = x - y then 1 else 0
noncomputable def hldS (T B : Bi) (a : List Un) (i : Itm) (n lo hi : Nat) : Int32 := hldV (hsV a i n lo (hi + 1 - lo) a.length) (crV T B i n (hi + 1)) (crV T B i n lo)
noncomputable def S_holds (S : SS) (x y n lo hi : Int32) : SS × Int32 := slS S x (fun s => slS S y (fun t => (S, match S.sl s with
  | some (Sum.inr (Sum.inl (T, B, a))) => (match itmS (S.sl t) with
    | none => -3
    | some i => cite ((pl5 n.toInt ∧ pl5 lo.toInt ∧ pl5 hi.toInt) ∧ n.toInt + ((a.length : Int) - 1) ≤ 500 ∧ hi.toInt + 1 ≤ 500) (hldS T B a i n.toInt.toNat lo.toInt.toNat hi.toInt.toNat) (-1))
  | _ => -3)))
section
variable {g : GX} {d n : Nat} {h h' h1 : Hp} {S : SS} {s : Nat}
theorem ok_certified (hp : g.2.2.2.2 = true) (hs : s < 12) {t : Nat} (ht : t < 12) (K : Kp h) {T B : Bi} (R : RI h (slc s + 2) T B) {i : Itm} (gi : gI i) (H : IIt h (slc t + 1) i) {n0 k0 : Nat} (hn : n0 ≤ 1000) (hk : k0 ≤ 1000) {Q : Int32 → Hp → Prop} (q : ∀ h', Fr h h' [92] → Q (oI (crV T B i n0 k0)) h') : CallI g m_X0_certified (d + 5) [.ref 0, .ref (slc s), .ref (slc t + 1), .int (nI n0), .int (nI k0)] n h Q := by
  have ts := slc_lay hs
  have tI := lf_9_1 ts
  have tJ := lf_9_1 (slc_lay ht)
  have hsc : slc t = 1185 + 27 * t := rfl
  refine okI 2 rfl rfl (s_X0_certified_0 hp ts tJ ?_)
  conv => arg 4; rw [show nI n0 = toI (nF n0) from (toI_nF (by omega)).symm, show nI k0 = toI (nF k0) from (toI_nF (by omega)).symm]
  refine ok_valueOf2 hp (it_1 tI) R ?_
  refine ok_valueOf hp tJ (Or.inr (by omega)) K gi H (fun h2 f2 => ?_)
  unfold crV at q
  rw [oI_m, oI_m]
  cases e1 : vR T B (nF n0) (nF k0) with
  | none =>
    rw [e1] at q
    exact ⟨fun _ => qI (q h2 f2), fun c => absurd rfl c⟩
  | some r =>
    rw [e1] at q
    refine ⟨fun c => (by cases c), fun _ => ?_⟩
    cases e2 : valI i (nI n0) (nI k0) with
    | none =>
      rw [e2] at q
      exact ⟨fun c => absurd rfl c, fun _ => qI (q h2 f2)⟩
    | some v =>
      rw [e2] at q
      exact ⟨fun _ => ok_times hp (qI (q h2 f2)), fun c => (by cases c)⟩
theorem w_holds101 (hp : g.2.2.2.2 = true) (hs : s < 12) {t : Nat} (ht : t < 12) {av : List Value} {T B : Bi} {a : List Un} (ga : gA a 4) {i : Itm} (gi : gI i) {n0 lo hi : Nat} (h1 : n0 ≤ 500) (h2 : lo ≤ 500) (h3 : hi ≤ 500) {Q : Int32 → Hp → Prop} : ∀ (k j : Nat) (u : Fp) (h : Hp), j + k = a.length → Kp h → RI h (slc s + 2) T B → LA h (slc s) a → IIt h (slc t + 1) i → hsV a i n0 lo (hi + 1 - lo) j = some u → (∀ h', Fr h h' [92] → Q (hldS T B a i n0 lo hi) h') → W_X0_holds g (d + 5) av (QI n Q) n 101 [some (.ref 0), none, none, some (.int (nI n0)), some (.int (nI lo)), some (.int (nI hi)), some (.ref (slc s)), some (.ref (slc t + 1)), some (.int (toI u)), some (.int (nI j)), none] [] h := by
  have ts := slc_lay hs
  have tJ := lf_9_1 (slc_lay ht)
  have hsc : slc s = 1185 + 27 * s := rfl
  have hsc' : slc t = 1185 + 27 * t := rfl
  have l1 := ga.1
  have l4 := ga.2.1
  intro k
  induction k with
  | zero =>
    intro j u h hj K R La H eu q
    have ej : j = a.length := by omega
    subst ej
    refine s_X0_holds_101 hp ts tJ ⟨fun _ => ?_, fun c => absurd ?_ c⟩
    · rw [show nI hi + 1 = nI (hi + 1) from nI_1 hi]
      unfold hldS at q
      rw [eu] at q
      refine ok_certified hp hs ht K R gi H (by omega) (by omega) (fun h2 f2 => ok_certified hp hs ht (f2.kp K) (R.fr f2 (by simp; omega) (by simp; omega) (by simp; omega) (by simp; omega)) gi (H.fr2 f2 (fun x h1 h2 => by simp; omega)) (by omega) (by omega) (fun h3 f3 => ?_))
      have f23 : Fr h h3 [92] := f2.tr f3
      rw [oI_m, oI_m]
      cases e1 : crV T B i n0 (hi + 1) with
      | none =>
        rw [e1] at q
        exact ⟨fun _ => qI (q h3 f23), fun c => absurd rfl c⟩
      | some x =>
        rw [e1] at q
        refine ⟨fun c => (by cases c), fun _ => ?_⟩
        cases e2 : crV T B i n0 lo with
        | none =>
          rw [e2] at q
          exact ⟨fun c => absurd rfl c, fun _ => qI (q h3 f23)⟩
        | some y =>
          rw [e2] at q
          refine ⟨fun _ => ok_less hp ?_, fun c => (by cases c)⟩
          have q : ∀ h', Fr h h' [92] → Q (if u = x - y then 1 else 0) h' := q
          have ee : toI u = toI (x - y) ↔ u = x - y := ⟨toI_inj, fun e => by rw [e]⟩
          rw [ee]
          refine ⟨fun c => ?_, fun c => ?_⟩
          · rw [if_neg c] at q; exact qI (q h3 f23)
          · rw [if_pos c] at q; exact qI (q h3 f23)
    · rw [La.1, nI_ltI (by omega) (by omega)]; omega
  | succ k ih =>
    intro j u h hj K R La H eu q
    refine s_X0_holds_101 hp ts tJ ⟨fun c => absurd c ?_, fun _ => ?_⟩
    · rw [La.1, nI_ltI (by omega) (by omega)]; omega
    · rw [nI_addz]
      refine ok_sumOf hp tJ (Or.inr (by omega)) K gi H (by omega) (by omega) (fun h4 f4 => ?_)
      have step : ∀ o, sumV i (nI (n0 + j)) lo (hi + 1 - lo) = o → hsV a i n0 lo (hi + 1 - lo) (j + 1) = (match o with
        | none => none
        | some p => some (u + ev (a.getD j pz) (nF n0) * p)) := fun o eo => by
        show (match hsV a i n0 lo (hi + 1 - lo) j with
          | none => none
          | some s => match sumV i (nI (n0 + j)) lo (hi + 1 - lo) with
            | none => none
            | some p => some (s + ev (a.getD j pz) (nF n0) * p)) = _
        rw [eu, eo]
      rw [oI_m]
      cases e1 : sumV i (nI (n0 + j)) lo (hi + 1 - lo) with
      | none =>
        have st := hsV_none (step none e1) k
        rw [show j + 1 + k = a.length by omega] at st
        refine ⟨fun c => absurd rfl c, fun _ => ?_⟩
        have := q h4 f4
        unfold hldS at this
        rw [st] at this
        exact qI this
      | some p =>
        have st := step (some p) e1
        have La4 : LA h4 (slc s) a := La.c (by omega) (fun x a b k => f4.gi (by simp; omega) k)
        refine ⟨fun _ => ⟨nI_inL (by omega) (by omega), fun r5 e5 => ?_⟩, fun c => (by cases c)⟩
        rw [nI_tN (by omega)] at e5; subst e5
        conv => arg 4; rw [show nI n0 = toI (nF n0) from (toI_nF (by omega)).symm]
        refine ok_value hp (lay_sa hs (by omega)) (La4.2 j (by omega)) (ok_times hp (ok_sum hp ?_))
        rw [show (1 : Int32) = nI 1 from rfl, nI_addz]
        exact ih (j + 1) _ h4 (by omega) (f4.kp K) (R.fr f4 (by simp; omega) (by simp; omega) (by simp; omega) (by simp; omega)) La4 (H.fr2 f4 (fun x h1 h2 => by simp; omega)) st (fun h' f' => q h' (f4.tr f'))
theorem ok_S_holds (hp : g.2.2.2.2 = true) (I : SI h S) {x y m lo hi : Int32} {Q : Int32 → Hp → Prop} (q : Pub h (S_holds S x y m lo hi) Q) : CallI g m_X0_holds (d + 6) [.ref 0, .int x, .int y, .int m, .int lo, .int hi] n h Q := by
  unfold S_holds at q
  refine okI 5 rfl rfl (s_X0_holds_0 hp (ok_isSlot hp (fun s hs e => ⟨fun c => absurd c (by decide), fun _ => ?_⟩) (fun e => ⟨fun _ => ?_, fun c => absurd rfl c⟩)))
  · subst e
    refine ok_isSlot hp (fun t ht e => ⟨fun _ => ⟨nI_inL hs (by omega), fun r3 e3 => ?_⟩, fun c => absurd c (by decide)⟩) (fun e => ⟨fun c => absurd rfl c, fun _ => ?_⟩)
    · subst e
      rw [nI_tN (by omega)] at e3; subst e3
      rw [slS_n hs, slS_n ht] at q
      rcases I.slot hs with ⟨e, k⟩ | ⟨i', e, H, gi, k, kk⟩ | ⟨T, B, a, e, H, H2, gr, ga, k⟩ | ⟨a, m', f, e, H, gs, k⟩
      · rw [show ri h (1185 + 27 * s) 0 = nI 0 from k]
        rw [e] at q
        exact ⟨fun _ => qI (q.same I), fun c => absurd c (by decide)⟩
      · rw [show ri h (1185 + 27 * s) 0 = nI (kdI i') from k]
        rw [e] at q
        refine ⟨fun _ => qI (q.same I), fun c => absurd c ?_⟩
        rcases kk with w | w <;> rw [w] <;> decide
      · rw [show ri h (1185 + 27 * s) 0 = nI 3 from k]
        rw [e] at q
        refine ⟨fun c => absurd rfl c, fun _ => ?_⟩
        refine ok_hasItem hp I ht (fun i ei Hi gi ki => ⟨fun _ => ⟨nI_inL hs (by omega), fun r5 e5 => ⟨nI_inL ht (by omega), fun r6 e6 => ?_⟩⟩, fun c => absurd c (by decide)⟩) (fun ei ki => ⟨fun c => absurd rfl c, fun _ => ?_⟩)
        · rw [nI_tN (by omega)] at e5 e6; subst e5; subst e6
          rw [ei] at q
          have q : Pub h (S, cite ((pl5 m.toInt ∧ pl5 lo.toInt ∧ pl5 hi.toInt) ∧ m.toInt + ((a.length : Int) - 1) ≤ 500 ∧ hi.toInt + 1 ≤ 500) (hldS T B a i m.toInt.toNat lo.toInt.toNat hi.toInt.toNat) (-1)) Q := q
          have bad : ¬ ((pl5 m.toInt ∧ pl5 lo.toInt ∧ pl5 hi.toInt) ∧ m.toInt + ((a.length : Int) - 1) ≤ 500 ∧ hi.toInt + 1 ≤ 500) → Q (-1) h := fun w => by
            rw [cite_neg w] at q; exact q.same I
          have l1 := ga.1
          have l4 := ga.2.1
          refine ok_arePlaces hp (fun a1 a2 a3 => ⟨fun c => absurd c (by decide), fun _ => ?_⟩) (fun w => ⟨fun _ => qI (bad (fun u => w u.1)), fun c => absurd rfl c⟩)
          have b1 := a1.1; have b2 := a1.2; have b3 := a2.1; have b4 := a2.2; have b5 := a3.1; have b6 := a3.2
          have em := I32_nat b1
          have el := I32_nat b3
          have eh := I32_nat b5
          rw [show ri h (1185 + 27 * s) 3 = nI (a.length - 1) from H2.1]
          have m5 : m.toInt.toNat ≤ 500 := by omega
          have lo5 : lo.toInt.toNat ≤ 500 := by omega
          have hi5 : hi.toInt.toNat ≤ 500 := by omega
          have emt : m.toInt = (m.toInt.toNat : Int) := by omega
          have eht : hi.toInt = (hi.toInt.toNat : Int) := by omega
          rw [em, eh, nI_addz, show (500 : Int32) = nI 500 from rfl, nI_ltI (by omega) (by omega), show (1 : Int32) = nI 1 from rfl, nI_addz, nI_leI (by omega) (by omega), el]
          refine ⟨fun c => qI (bad (by omega)), fun c => ⟨fun c2 => ?_, fun c2 => qI (bad (by omega))⟩⟩
          rw [cite_pos ⟨⟨a1, a2, a3⟩, by omega, by omega⟩] at q
          rw [show (0 : Int32) = toI 0 from toI_0.symm]
          have W := w_holds101 (d := d) (n := n) (av := [.ref 0, .int (nI s), .int (nI t), .int (nI m.toInt.toNat), .int (nI lo.toInt.toNat), .int (nI hi.toInt.toNat)]) (Q := Q) hp hs ht (T := T) (B := B) ga gi m5 lo5 hi5 a.length 0 0 h (by omega) I.kp H H2 Hi rfl (fun h' f' => q h' (Wz.f92 f').cz (I.wz (Wz.f92 f')))
          exact W
        · rw [ei] at q
          exact qI (q.same I)
      · rw [show ri h (1185 + 27 * s) 0 = nI 4 from k]
        rw [e] at q
        exact ⟨fun _ => qI (q.same I), fun c => absurd c (by decide)⟩
    · rw [slS_no2 e] at q
      exact qI (q.same I)
  · rw [slS_no e] at q
    exact qI (q.same I)
end
