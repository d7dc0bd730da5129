set_option maxRecDepth 100000
/-! ROWS: numbers of a row -/
section
variable {g : GX} {d n : Nat} {h h' h1 : Hp} {S : SS} {s : Nat}
/-- entries whose first local isn't used -/
theorem ent0 {av : List Value} {pad : Nat} {x : Option Value} {ls : LV} (e : entL av ++ List.replicate pad none = x :: ls) (i : Nat) (v : Value) (hv : (none :: ls : LV)[i]? = some (some v)) : (entL av)[i]? = some (some v) := by
  match i, hv with
  | 0, hv => simp at hv
  | i + 1, hv => exact ent_pad (k := pad) (by rw [e]; exact hv)
theorem okI0 {mt : Mth} {av : List Value} {x : Option Value} {ls : LV} {Q : Int32 → Hp → Prop} (pad : Nat) (hlen : Nat.ble (lg_sl (av' g.2.2.2.1 av)).length mt.2.2.1 = true) (e : entL av ++ List.replicate pad none = x :: ls) (k : RJ g mt d 0 0 av (QI n Q) 0 (none :: ls) [] n h 0 0) (hy : plainName mt.1.cls = true := by decide) : CallI g mt d av n h Q :=
  CallN.of hy (Nat.le_of_ble_eq_true hlen) (fun s hR => by rw [hR.1]; omega) (ent0 e) k
theorem okV0 {mt : Mth} {av : List Value} {x : Option Value} {ls : LV} {Q : Hp → Prop} (pad : Nat) (hlen : Nat.ble (lg_sl (av' g.2.2.2.1 av)).length mt.2.2.1 = true) (e : entL av ++ List.replicate pad none = x :: ls) (k : RJ g mt d 0 0 av (QV n Q) 0 (none :: ls) [] n h 0 0) (hy : plainName mt.1.cls = true := by decide) : CallV g mt d av n h Q :=
  CallN.of hy (Nat.le_of_ble_eq_true hlen) (fun s hR => by rw [hR.1]; omega) (ent0 e) k
theorem ok_isWhole (hp : g.2.2.2.2 = true) (hs : s < 12) {a : List Un} {m : Nat} {f : List Fp} (H : SLI h (slc s) (svW a m f)) (gs : gS (svW a m f)) (k : ri h (slc s) 0 = nI 4) {Q : Int32 → Hp → Prop} (q1 : f.length = m → Q 1 h) (q0 : f.length ≠ m → Q 0 h) : CallI g m_X0_isWhole d [.ref (slc s)] n h Q := by
  have g2 : 2 ≤ a.length ∧ a.length ≤ m + 1 ∧ m ≤ 60 ∧ f.length ≤ m := gs.2
  refine okI 0 rfl rfl (s_X0_isWhole_0 hp (slc_lay hs) ?_)
  rw [k, show ri h (slc s) 4 = nI m from H.2.1, show ri h (slc s) 5 = nI f.length from H.2.2.1, nI_eq (by omega) (by omega)]
  exact ⟨fun c => absurd rfl c, fun _ => ⟨fun c => qI (q0 c), fun c => qI (q1 c)⟩⟩
/-- the next number's sum -/
theorem w_na24 (hp : g.2.2.2.2 = true) (hs : s < 12) {av : List Value} {a : List Un} {l : List Fp} {x2 : Int32} (h7 : a.length ≤ 7) (h1 : 1 ≤ a.length) (hl : a.length - 1 ≤ l.length) (h300 : l.length ≤ 300) {Q : QT} (La : LA h (slc s) a) (Hn : ∀ i, i < l.length → ri h (slc s + 12) i = toI (l.getD i 0)) (Hk : ri h (slc s) 7 = nI l.length) (q : ∀ h6 h7, h6 = wi h (slc s + 12) l.length (toI (nxR a l)) → h7 = wi h6 (slc s) 7 (nI (l.length + 1)) → W_X0_numberAt g (d + 2) av Q n 0 [none, some (.ref (slc s)), some (.int x2), none, none, none] [] h7) : ∀ (k j : Nat), j + k = a.length - 1 → W_X0_numberAt g (d + 2) av Q n 24 [none, some (.ref (slc s)), some (.int x2), some (.int (nI (l.length - (a.length - 1)))), some (.int (toI (sm (fun j => ev (a.getD j pz) (nF (l.length - (a.length - 1))) * l.getD (l.length - (a.length - 1) + j) 0) j))), some (.int (nI j))] [] h := by
  have ts := slc_lay hs
  have hsc : slc s = 1185 + 27 * s := rfl
  have en : nI (l.length - (a.length - 1)) = toI (nF (l.length - (a.length - 1))) := (toI_nF (by omega)).symm
  intro k
  induction k with
  | zero =>
    intro j hj
    have ej : j = a.length - 1 := by omega
    refine s_X0_numberAt_24 hp ts ⟨fun _ => ⟨by rw [La.1]; exact nI_inL (by omega) (by omega), fun r1 e1 => ?_⟩, fun c => absurd ?_ c⟩
    · rw [La.1, nI_tN (by omega)] at e1; subst e1
      rw [en]
      refine ok_value hp (lay_sa hs (by omega)) (La.2 _ (by omega)) (ok_inverse hp (ok_times hp ?_))
      rw [show (0 : Int32) = toI 0 from toI_0.symm]
      refine ok_less hp ⟨by rw [Hk]; exact nI_inL (by omega) (by omega), fun h6 e6 h7 e7 => ?_⟩
      rw [Hk, nI_tN (by omega)] at e6
      have x7 : ri h6 (slc s) 7 = nI l.length := by rw [e6, ri_ne (by omega)]; exact Hk
      rw [x7, show (1 : Int32) = nI 1 from rfl, nI_addz] at e7
      have en : (0 : Fp) - sm (fun j => ev (a.getD j pz) (nF (l.length - (a.length - 1))) * l.getD (l.length - (a.length - 1) + j) 0) j * iv (ev (a.getD (a.length - 1) pz) (nF (l.length - (a.length - 1)))) = nxR a l := by
        unfold nxR
        rw [ej]
        generalize iv (ev (a.getD (a.length - 1) pz) (nF (l.length - (a.length - 1)))) = w
        generalize sm (fun j => ev (a.getD j pz) (nF (l.length - (a.length - 1))) * l.getD (l.length - (a.length - 1) + j) 0) (a.length - 1) = u
        grind
      rw [en] at e6
      exact q h6 h7 e6 e7
    · rw [La.1, nI_leI (by omega) (by omega)]; omega
  | succ k ih =>
    intro j hj
    refine s_X0_numberAt_24 hp ts ⟨fun c => absurd c ?_, fun _ => ⟨nI_inL (by omega) (by omega), fun r8 e8 => ?_⟩⟩
    · rw [La.1, nI_leI (by omega) (by omega)]; omega
    · rw [nI_tN (by omega)] at e8; subst e8
      conv => arg 4; rw [en]
      refine ok_value hp (lay_sa hs (by omega)) (La.2 _ (by omega)) ?_
      rw [nI_addz, nI_tN (by omega), Hn _ (by omega)]
      refine ⟨nI_inL (by omega) (by omega), ok_times hp (ok_sum hp ?_)⟩
      rw [show (1 : Int32) = nI 1 from rfl, nI_addz]
      exact ih (j + 1) (by omega)
/-- u(i) of a row that has all first numbers -/
theorem w_na0 (hp : g.2.2.2.2 = true) (hs : s < 12) {av : List Value} {a : List Un} {m : Nat} {f : List Fp} (gs : gS (svW a m f)) (hw : f.length = m) {i : Nat} (hi : i ≤ 300) {Q : Int32 → Hp → Prop} : ∀ (t k : Nat) (h : Hp), 301 ≤ f.length + k + t → SLI h (slc s) (svW a m f) → ri h (slc s) 7 = nI (f.length + k) → f.length + k ≤ 301 → (∀ i, i < f.length + k → ri h (slc s + 12) i = toI (rwU a f i)) → (∀ h', Fr h h' [slc s, slc s + 12] → (∀ k, k ≠ 7 → ri h' (slc s) k = ri h (slc s) k) → SLI h' (slc s) (svW a m f) → Q (toI (rwU a f i)) h') → W_X0_numberAt g (d + 2) av (QI n Q) n 0 [none, some (.ref (slc s)), some (.int (nI i)), none, none, none] [] h := by
  have ts := slc_lay hs
  have hsc : slc s = 1185 + 27 * s := rfl
  have g2 : 2 ≤ a.length ∧ a.length ≤ m + 1 ∧ m ≤ 60 ∧ f.length ≤ m := gs.2
  have g1 := gs.1.2.1
  intro t
  induction t with
  | zero =>
    intro k h ht H Hk hk Hn q
    refine s_X0_numberAt_0 hp ts ⟨fun _ => ⟨nI_inL (by omega) (by omega), ?_⟩, fun c => absurd ?_ c⟩
    · rw [nI_tN (by omega), Hn i (by omega)]
      exact qI (q h Fr.rf (fun _ _ => rfl) H)
    · rw [Hk, nI_ltI (by omega) (by omega)]; omega
  | succ t ih =>
    intro k h ht H Hk hk Hn q
    refine s_X0_numberAt_0 hp ts ⟨fun _ => ⟨nI_inL (by omega) (by omega), ?_⟩, fun c => ?_⟩
    · rename_i c
      rw [Hk, nI_ltI (by omega) (by omega)] at c
      rw [nI_tN (by omega), Hn i c]
      exact qI (q h Fr.rf (fun _ _ => rfl) H)
    · rw [Hk, nI_ltI (by omega) (by omega)] at c
      have La := H.1
      rw [Hk, La.1, show nI (f.length + k) - nI (a.length - 1) = nI (f.length + k - (a.length - 1)) by rw [nI_z, nI_z, zI_sub, nI_z]; congr 1; omega]
      have ll := rwE_len a f k
      have Hn' : ∀ i, i < (rwE a f k).length → ri h (slc s + 12) i = toI ((rwE a f k).getD i 0) := fun i hi => by
        rw [ll] at hi
        rw [rwE_get a f hi]; exact Hn i hi
      have := w_na24 (d := d) (n := n) (av := av) (l := rwE a f k) (x2 := nI i) (Q := QI n Q) hp hs g1 (by omega) (by omega) (by omega) La Hn' (by rw [ll]; exact Hk) (fun h6 h7 e6 e7 => ?_) (a.length - 1) 0 (by omega)
      · rw [ll] at this
        exact this
      · rw [ll] at e6 e7
        rw [← rwU_new a f k] at e6
        have f7 : Fr h h7 [slc s, slc s + 12] := by
          rw [e7, e6]; exact (Fr.rf.put (by simp) (okp_a (lf_9_6 ts) (by decide))).put (by simp) (okp_o ts (Or.inr (by decide)))
        have n7 : ∀ k, k ≠ 7 → ri h7 (slc s) k = ri h (slc s) k := fun k hk => by rw [e7, ri_ne' hk, e6, ri_ne (by omega)]
        have Hk7 : ri h7 (slc s) 7 = nI (f.length + (k + 1)) := by rw [e7, ri_same]; rfl
        have Hn7 : ∀ i, i < f.length + (k + 1) → ri h7 (slc s + 12) i = toI (rwU a f i) := fun i hi => by
          rw [e7, ri_ne (by omega), e6]
          by_cases c : i = f.length + k
          · rw [c, ri_same]
          · rw [ri_ne' c]; exact Hn i (by omega)
        have H7 : SLI h7 (slc s) (svW a m f) := by
          refine ⟨⟨by rw [n7 3 (by omega)]; exact La.1, fun j hj => (La.2 j hj).fr f7 (by simp; omega) (by simp; omega)⟩, by rw [n7 4 (by omega)]; exact H.2.1, by rw [n7 5 (by omega)]; exact H.2.2.1, k + 1, Hk7, by omega, fun w => by omega, Hn7⟩
        exact ih (k + 1) h7 (by omega) H7 Hk7 (by omega) Hn7 (fun h' f' n' H' => q h' (f7.tr f') (fun k hk => (n' k hk).trans (n7 k hk)) H')
theorem ok_numberAt (hp : g.2.2.2.2 = true) (hs : s < 12) {a : List Un} {m : Nat} {f : List Fp} (gs : gS (svW a m f)) (hw : f.length = m) {i : Nat} (hi : i ≤ 300) (H : SLI h (slc s) (svW a m f)) {Q : Int32 → Hp → Prop} (q : ∀ h', Fr h h' [slc s, slc s + 12] → (∀ k, k ≠ 7 → ri h' (slc s) k = ri h (slc s) k) → SLI h' (slc s) (svW a m f) → Q (toI (rwU a f i)) h') : CallI g m_X0_numberAt (d + 3) [.ref 0, .ref (slc s), .int (nI i)] n h Q := by
  obtain ⟨k0, k1, k2, k3, k4⟩ := H.2.2.2
  exact okI0 3 rfl rfl (w_na0 hp hs gs hw hi 301 k0 h (by omega) H k1 k2 k4 q)
/-- a slot that stays what it is, its cells moved -/
theorem SI.same (I : SI h S) (hs : s < 12) (w : Wq s h h1) (hk : ri h1 (slc s) 0 = ri h (slc s) 0) (hv : SLI h1 (slc s) (S.sl s)) : SI h1 S := by
  have := I.put hs w (v := S.sl s) (I.gd.2.2.2.2.1 s hs) (by rw [hk]; exact I.kd s hs) hv
  have e : S.put s (S.sl s) = S := by
    unfold SS.put SS.mk
    have : (fun i => if i = s then S.sl s else S.sl i) = S.sl := funext fun i => by
      by_cases c : i = s
      · rw [if_pos c, c]
      · rw [if_neg c]
    rw [this]; rfl
  rw [e] at this
  exact this
/-- at -/
noncomputable def S_at (S : SS) (x y : Int32) : SS × Int32 := slS S x (fun s => match S.sl s with
  | some (Sum.inr (Sum.inr (a, m, f))) => (S, if f.length = m ∧ (0 ≤ y.toInt ∧ y.toInt ≤ 300) then toI (rwU a f y.toInt.toNat) else -1)
  | _ => (S, -3))
theorem Wq.na (hs : s < 12) (f : Fr h h1 [slc s, slc s + 12]) : Wq s h h1 := Wq.of_fr f (fun x hx => by have hsc : slc s = 1185 + 27 * s := rfl; simp at hx; omega)
theorem ok_S_at (hp : g.2.2.2.2 = true) (I : SI h S) {x y : Int32} {Q : Int32 → Hp → Prop} (q : Pub h (S_at S x y) Q) : CallI g m_X0_at (d + 4) [.ref 0, .int x, .int y] n h Q := by
  unfold S_at at q
  refine okI 1 rfl rfl (s_X0_at_0 hp (ok_isSlot hp (fun s hs e => ⟨fun _ => ⟨by rw [e]; exact nI_inL hs (by omega), fun r2 e2 => ?_⟩, fun c => absurd c (by decide)⟩) (fun e => ⟨fun c => absurd rfl c, fun _ => ?_⟩)))
  · subst e
    rw [nI_tN (by omega)] at e2; subst e2
    rw [slS_n hs] at q
    rcases I.slot hs with ⟨e, k⟩ | ⟨i, e, H, gi, k, kk⟩ | ⟨T, B, a, e, H, H2, _, ga, k⟩ | ⟨a, m, f, e, H, gs, k⟩
    · rw [show ri h (1185 + 27 * s) 0 = nI 0 from k]
      rw [e] at q
      exact ⟨fun c => absurd c (by decide), fun _ => qI (q.same I)⟩
    · rw [show ri h (1185 + 27 * s) 0 = nI (kdI i) from k]
      rw [e] at q
      refine ⟨fun c => absurd c ?_, fun _ => qI (q.same I)⟩
      rcases kk with w | w <;> rw [w] <;> decide
    · rw [show ri h (1185 + 27 * s) 0 = nI 3 from k]
      rw [e] at q
      exact ⟨fun c => absurd c (by decide), fun _ => qI (q.same I)⟩
    · rw [show ri h (1185 + 27 * s) 0 = nI 4 from k]
      rw [e] at q
      have q : Pub h (S, if f.length = m ∧ (0 ≤ y.toInt ∧ y.toInt ≤ 300) then toI (rwU a f y.toInt.toNat) else -1) Q := q
      refine ⟨fun _ => ok_isWhole hp hs H gs k (fun w => ⟨fun c => absurd c (by decide), fun _ => ?_⟩) (fun w => ⟨fun _ => ?_, fun c => absurd rfl c⟩), fun c => absurd rfl c⟩
      · rw [show (0 : Int32) = zI 0 from rfl, show (300 : Int32) = zI 300 from rfl]
        refine ok_withinX hp (by omega) (by omega) (by omega) (by omega) (fun a1 a2 => ⟨fun c => absurd c (by decide), fun _ => ?_⟩) (fun w2 => ⟨fun _ => ?_, fun c => absurd rfl c⟩)
        · rw [if_pos ⟨w, a1, a2⟩] at q
          rw [I32_nat a1]
          refine ok_numberAt hp hs gs w (by omega) H (fun h' f' n' H' => qI (q h' (Wq.na hs f').cz (I.same hs (Wq.na hs f') (n' 0 (by omega)) (by rw [e]; exact H'))))
        · rw [if_neg (fun u => w2 u.2)] at q
          exact qI (q.same I)
      · rw [if_neg (fun u => w u.1)] at q
        exact qI (q.same I)
  · rw [slS_no e] at q
    exact qI (q.same I)
end
