set_option maxRecDepth 100000
/-! THE STATE of a house: tape, place, text, slots, numbers fed, roots -/
/-- a slot: nothing, an item, a record (ratio, recurrence), a row (recurrence, how many it needs, first numbers) -/
abbrev SV : Type := Option (Itm ⊕ ((Bi × Bi × List Un) ⊕ (List Un × Nat × List Fp)))
def sv0 : SV := none
def svI (i : Itm) : SV := some (Sum.inl i)
def svR (T B : Bi) (a : List Un) : SV := some (Sum.inr (Sum.inl (T, B, a)))
def svW (a : List Un) (m : Nat) (f : List Fp) : SV := some (Sum.inr (Sum.inr (a, m, f)))
/-- tape, its length, place told, text, its length, slots, numbers fed, roots -/
def SS : Type := (Nat → Int32) × Nat × Int32 × (Nat → Int32) × Nat × (Nat → SV) × List Fp × List Fp
def SS.t (S : SS) : Nat → Int32 := S.1
def SS.len (S : SS) : Nat := S.2.1
def SS.pl (S : SS) : Int32 := S.2.2.1
def SS.x (S : SS) : Nat → Int32 := S.2.2.2.1
def SS.xl (S : SS) : Nat := S.2.2.2.2.1
def SS.sl (S : SS) : Nat → SV := S.2.2.2.2.2.1
def SS.fd (S : SS) : List Fp := S.2.2.2.2.2.2.1
def SS.rt (S : SS) : List Fp := S.2.2.2.2.2.2.2
def SS.mk (t : Nat → Int32) (len : Nat) (pl : Int32) (x : Nat → Int32) (xl : Nat) (sl : Nat → SV) (fd rt : List Fp) : SS := (t, len, pl, x, xl, sl, fd, rt)
noncomputable def kdS : SV → Nat
  | none => 0
  | some (Sum.inl i) => kdI i
  | some (Sum.inr (Sum.inl _)) => 3
  | some (Sum.inr (Sum.inr _)) => 4
def sOf (x : Int32) : Option Nat := if 0 ≤ x.toInt ∧ x.toInt < 12 then some x.toInt.toNat else none
theorem sOf_n {s : Nat} (h : s < 12) : sOf (nI s) = some s := by
  unfold sOf
  rw [nI_toInt (by omega), if_pos (by omega)]
  simp
theorem sOf_none {x : Int32} (h : ∀ s : Nat, s < 12 → x ≠ nI s) : sOf x = none := by
  unfold sOf
  rw [if_neg]
  intro w
  apply h x.toInt.toNat (by omega)
  apply Int32.toInt_inj.mp
  rw [nI_toInt (by omega)]; omega
/-- the next number of a row -/
noncomputable def nxR (a : List Un) (l : List Fp) : Fp := (0 - sm (fun j => ev (a.getD j pz) (nF (l.length - (a.length - 1))) * l.getD (l.length - (a.length - 1) + j) 0) (a.length - 1)) * iv (ev (a.getD (a.length - 1) pz) (nF (l.length - (a.length - 1))))
noncomputable def rwE (a : List Un) (l : List Fp) : Nat → List Fp
  | 0 => l
  | k + 1 => rwE a l k ++ [nxR a (rwE a l k)]
theorem rwE_s (a : List Un) (l : List Fp) (k : Nat) : rwE a l (k + 1) = rwE a l k ++ [nxR a (rwE a l k)] := by
  rw [rwE.eq_2]
theorem getD_l {l m : List Fp} {i : Nat} (h : i < l.length) : (l ++ m).getD i 0 = l.getD i 0 := by
  simp [List.getD, List.getElem?_append_left h]
theorem getD_r {l : List Fp} {v : Fp} : (l ++ [v]).getD l.length 0 = v := by simp [List.getD]
theorem rwE_len (a : List Un) (l : List Fp) : ∀ k, (rwE a l k).length = l.length + k
  | 0 => rfl
  | k + 1 => by rw [rwE_s, List.length_append, rwE_len a l k]; rfl
/-- u(i) -/
noncomputable def rwU (a : List Un) (l : List Fp) (i : Nat) : Fp := (rwE a l (i + 1 - l.length)).getD i 0
theorem rwE_get (a : List Un) (l : List Fp) {i : Nat} : ∀ {k : Nat}, i < l.length + k → (rwE a l k).getD i 0 = rwU a l i
  | 0, h => by
    show l.getD i 0 = (rwE a l (i + 1 - l.length)).getD i 0
    rw [show i + 1 - l.length = 0 by omega]; rfl
  | k + 1, h => by
    by_cases hi : i < l.length + k
    · rw [← rwE_get a l hi]
      rw [rwE_s, getD_l (by rw [rwE_len]; exact hi)]
    · unfold rwU
      rw [show i + 1 - l.length = k + 1 by omega]
theorem rwU_new (a : List Un) (l : List Fp) (k : Nat) : rwU a l (l.length + k) = nxR a (rwE a l k) := by
  rw [← rwE_get a l (k := k + 1) (by omega)]
  rw [rwE_s]
  have e := rwE_len a l k
  generalize nxR a (rwE a l k) = v
  generalize rwE a l k = m at e
  rw [← e]
  exact getD_r
theorem rwU_old (a : List Un) {l : List Fp} {i : Nat} (h : i < l.length) : rwU a l i = l.getD i 0 := by
  rw [← rwE_get a l (k := 0) (by omega)]; rfl
/-- recurrences: their polynomials -/
def LA (h : Hp) (b : Nat) (a : List Un) : Prop := ri h b 3 = nI (a.length - 1) ∧ ∀ j, j < a.length → PI h (b + 13 + 2 * j) (a.getD j pz)
def gA (a : List Un) (N : Nat) : Prop := 1 ≤ a.length ∧ a.length ≤ N ∧ ∀ j, j < a.length → sz (a.getD j pz) ≤ 25
def gR (T B : Bi) : Prop := bcop T B ∧ hB B = 1 ∧ fitB T ∧ fitB B
def gS : SV → Prop
  | none => True
  | some (Sum.inl i) => gI i
  | some (Sum.inr (Sum.inl (T, B, a))) => gR T B ∧ gA a 4
  | some (Sum.inr (Sum.inr (a, m, f))) => gA a 7 ∧ 2 ≤ a.length ∧ a.length ≤ m + 1 ∧ m ≤ 60 ∧ f.length ≤ m
def SLI (h : Hp) (b : Nat) : SV → Prop
  | none => True
  | some (Sum.inl i) => IIt h (b + 1) i
  | some (Sum.inr (Sum.inl (T, B, a))) => RI h (b + 2) T B ∧ LA h b a
  | some (Sum.inr (Sum.inr (a, m, f))) => LA h b a ∧ ri h b 4 = nI m ∧ ri h b 5 = nI f.length ∧ ∃ k, ri h b 7 = nI (f.length + k) ∧ f.length + k ≤ 301 ∧ (f.length < m → k = 0) ∧ ∀ i, i < f.length + k → ri h (b + 12) i = toI (rwU a f i)
def BP (h : Hp) : Prop := (∃ σ : Nat → Nat, (∀ i, i < 24 → σ i < 24 ∧ rr h 114 i = some (115 + σ i)) ∧ (∀ i j, i < 24 → j < 24 → σ i = σ j → i = j) ∧ ∀ r c, r < 24 → c < 14 → rr h (115 + r) c = some (146 + 2 * (14 * r + c))) ∧ ∀ k, k < 8 → rr h 855 k = some (2601 + 2 * k)
def LPm (h : Hp) : Prop := ∃ σ : Nat → Nat, (∀ i, i < 60 → σ i < 60 ∧ rr h 1115 i = some (1116 + σ i)) ∧ ∀ i j, i < 60 → j < 60 → σ i = σ j → i = j
def gSS (S : SS) : Prop := S.len ≤ 400 ∧ byt S.t S.len ∧ S.xl ≤ 4000 ∧ (∀ i, i < S.xl → 0 ≤ (S.x i).toInt ∧ (S.x i).toInt ≤ 127) ∧ (∀ s, s < 12 → gS (S.sl s)) ∧ S.fd.length ≤ 60 ∧ S.rt.length ≤ 24
def SI (h : Hp) (S : SS) : Prop := (Kp h) ∧ (BP h) ∧ (LPm h) ∧ (TP h S.t S.len) ∧ (ri h 0 17 = S.pl) ∧ (ri h 0 25 = nI S.xl) ∧ (∀ i, i < S.xl → ri h 91 i = S.x i) ∧ (∀ s, s < 12 → ri h (slc s) 0 = nI (kdS (S.sl s))) ∧ (∀ s, s < 12 → SLI h (slc s) (S.sl s)) ∧ (ri h 0 69 = nI S.fd.length) ∧ (∀ i, i < S.fd.length → ri h 1114 i = toI (S.fd.getD i 0)) ∧ (ri h 0 73 = nI S.rt.length) ∧ (∀ i, i < S.rt.length → ri h 1177 i = toI (S.rt.getD i 0)) ∧ (gSS S)
theorem SI.kp {h : Hp} {S : SS} (I : SI h S) : Kp h := I.1
theorem SI.bp {h : Hp} {S : SS} (I : SI h S) : BP h := I.2.1
theorem SI.lp {h : Hp} {S : SS} (I : SI h S) : LPm h := I.2.2.1
theorem SI.tp {h : Hp} {S : SS} (I : SI h S) : TP h S.t S.len := I.2.2.2.1
theorem SI.pl {h : Hp} {S : SS} (I : SI h S) : ri h 0 17 = S.pl := I.2.2.2.2.1
theorem SI.xs {h : Hp} {S : SS} (I : SI h S) : ri h 0 25 = nI S.xl := I.2.2.2.2.2.1
theorem SI.xt {h : Hp} {S : SS} (I : SI h S) : ∀ i, i < S.xl → ri h 91 i = S.x i := I.2.2.2.2.2.2.1
theorem SI.kd {h : Hp} {S : SS} (I : SI h S) : ∀ s, s < 12 → ri h (slc s) 0 = nI (kdS (S.sl s)) := I.2.2.2.2.2.2.2.1
theorem SI.sl {h : Hp} {S : SS} (I : SI h S) : ∀ s, s < 12 → SLI h (slc s) (S.sl s) := I.2.2.2.2.2.2.2.2.1
theorem SI.fs {h : Hp} {S : SS} (I : SI h S) : ri h 0 69 = nI S.fd.length := I.2.2.2.2.2.2.2.2.2.1
theorem SI.fd {h : Hp} {S : SS} (I : SI h S) : ∀ i, i < S.fd.length → ri h 1114 i = toI (S.fd.getD i 0) := I.2.2.2.2.2.2.2.2.2.2.1
theorem SI.rs {h : Hp} {S : SS} (I : SI h S) : ri h 0 73 = nI S.rt.length := I.2.2.2.2.2.2.2.2.2.2.2.1
theorem SI.rt {h : Hp} {S : SS} (I : SI h S) : ∀ i, i < S.rt.length → ri h 1177 i = toI (S.rt.getD i 0) := I.2.2.2.2.2.2.2.2.2.2.2.2.1
theorem SI.gd {h : Hp} {S : SS} (I : SI h S) : gSS S := I.2.2.2.2.2.2.2.2.2.2.2.2.2
/-- cells that the state stands in -/
abbrev pubC (x : Nat) : Prop := x = 77 ∨ x = 91 ∨ x = 1114 ∨ x = 1177 ∨ (1185 ≤ x ∧ x < 1509)
abbrev pubF (k : Nat) : Prop := k = 12 ∨ k = 17 ∨ k = 25 ∨ k = 69 ∨ k = 73
/-- what working leaves -/
def Wz (h h' : Hp) : Prop := (∀ x, pubC x ∨ 2759 ≤ x → h'.1 x = h.1 x) ∧ (∀ x, 2759 ≤ x → h'.2 x = h.2 x) ∧ (∀ k, pubF k → ri h' 0 k = ri h 0 k) ∧ (Kp h → Kp h') ∧ (BP h → BP h') ∧ (LPm h → LPm h')
theorem Wz.c {h h' : Hp} (I : Wz h h') : ∀ x, pubC x ∨ 2759 ≤ x → h'.1 x = h.1 x := I.1
theorem Wz.r {h h' : Hp} (I : Wz h h') : ∀ x, 2759 ≤ x → h'.2 x = h.2 x := I.2.1
theorem Wz.f {h h' : Hp} (I : Wz h h') : ∀ k, pubF k → ri h' 0 k = ri h 0 k := I.2.2.1
theorem Wz.k {h h' : Hp} (I : Wz h h') : Kp h → Kp h' := I.2.2.2.1
theorem Wz.b {h h' : Hp} (I : Wz h h') : BP h → BP h' := I.2.2.2.2.1
theorem Wz.l {h h' : Hp} (I : Wz h h') : LPm h → LPm h' := I.2.2.2.2.2
/-- what an operation leaves of the other house -/
def Cz (h h' : Hp) : Prop := (∀ x, 2759 ≤ x → h'.1 x = h.1 x) ∧ (∀ x, 2759 ≤ x → h'.2 x = h.2 x)
theorem Cz.c {h h' : Hp} (I : Cz h h') : ∀ x, 2759 ≤ x → h'.1 x = h.1 x := I.1
theorem Cz.r {h h' : Hp} (I : Cz h h') : ∀ x, 2759 ≤ x → h'.2 x = h.2 x := I.2
section
variable {h h1 h2 : Hp} {S : SS}
theorem Wz.rf : Wz h h := ⟨fun _ _ => rfl, fun _ _ => rfl, fun _ _ => rfl, id, id, id⟩
theorem Wz.tr (a : Wz h h1) (b : Wz h1 h2) : Wz h h2 := ⟨fun x hx => (b.c x hx).trans (a.c x hx), fun x hx => (b.r x hx).trans (a.r x hx), fun x hx => (b.f x hx).trans (a.f x hx), fun q => b.k (a.k q), fun q => b.b (a.b q), fun q => b.l (a.l q)⟩
theorem Cz.rf : Cz h h := ⟨fun _ _ => rfl, fun _ _ => rfl⟩
theorem Cz.tr (a : Cz h h1) (b : Cz h1 h2) : Cz h h2 := ⟨fun x hx => (b.c x hx).trans (a.c x hx), fun x hx => (b.r x hx).trans (a.r x hx)⟩
theorem Wz.cz (a : Wz h h1) : Cz h h1 := ⟨fun x hx => a.c x (Or.inr hx), a.r⟩
theorem BP.eq (H : BP h) (e : h1.2 = h.2) : BP h1 := by
  unfold BP rr at *
  rw [e]; exact H
theorem LPm.eq (H : LPm h) (e : h1.2 = h.2) : LPm h1 := by
  unfold LPm rr at *
  rw [e]; exact H
theorem Wz.of_fr {L : List Nat} (f : Fr h h1 L) (o : ∀ x, x ∈ L → x ≠ 0 ∧ ¬ pubC x ∧ x < 2759) : Wz h h1 := ⟨fun x hx => f.2.1 x (fun q => by have := o x q; rcases hx with w | w <;> first | exact this.2.1 w | omega), fun x _ => by rw [f.1], fun k _ => f.gi (fun q => (o 0 q).1 rfl) k, f.2.2, fun b => b.eq f.1, fun b => b.eq f.1⟩
theorem Wz.put0 (a : Wz h h1) {k : Nat} {v : Int32} (hk : ¬ pubF k) : Wz h (wi h1 0 k v) := a.tr ⟨fun x hx => wi_ne1 (by omega), fun _ _ => rfl, fun j hj => ri_ne' (fun e => hk (e ▸ hj)), fun K => K.put (okp_o l0 (Or.inr (by decide))), fun b => b.eq rfl, fun b => b.eq rfl⟩
theorem Cz.of_fr {L : List Nat} (f : Fr h h1 L) (o : ∀ x, x ∈ L → x < 2759) : Cz h h1 := ⟨fun x hx => f.2.1 x (fun q => by have := o x q; omega), fun x _ => by rw [f.1]⟩
theorem Cz.put (a : Cz h h1) {x k : Nat} {v : Int32} (hx : x < 2759) : Cz h (wi h1 x k v) := a.tr ⟨fun y hy => wi_ne1 (by omega), fun _ _ => rfl⟩
theorem PI.c {p : Un} {a : Nat} (H : PI h a p) (e : ∀ k, ri h1 a k = ri h a k) (e1 : ∀ k, ri h1 (a + 1) k = ri h (a + 1) k) : PI h1 a p := ⟨by rw [e]; exact H.1, H.2.1, fun i hi => by rw [e1]; exact H.2.2 i hi⟩
theorem DI.c {F : Bi} {a : Nat} (H : DI h a F) (e : ∀ k, ri h1 a k = ri h a k) (e1 : ∀ k, ri h1 (a + 1) k = ri h (a + 1) k) : DI h1 a F := ⟨by rw [e]; exact H.1, by rw [e]; exact H.2.1, by rw [e]; exact H.2.2.1, H.2.2.2.1, H.2.2.2.2.1, fun j i hj hi => by rw [e1]; exact H.2.2.2.2.2 j i hj hi⟩
theorem RI.c {T B : Bi} {a : Nat} (H : RI h a T B) (e : ∀ x, a ≤ x → x < a + 5 → ∀ k, ri h1 x k = ri h x k) : RI h1 a T B := ⟨H.1.c (e _ (by omega) (by omega)) (e _ (by omega) (by omega)), H.2.c (e _ (by omega) (by omega)) (e _ (by omega) (by omega))⟩
theorem IIt.c {i : Itm} {a : Nat} (H : IIt h a i) (e : ∀ x, a ≤ x → x < a + 10 → ∀ k, ri h1 x k = ri h x k) : IIt h1 a i := by
  refine ⟨RI.c H.1 (fun x h1 h2 => e x (by omega) (by omega)), by rw [e a (by omega) (by omega)]; exact H.2.1, by rw [e a (by omega) (by omega)]; exact H.2.2.1, by rw [e a (by omega) (by omega)]; exact H.2.2.2.1, H.2.2.2.2.1, H.2.2.2.2.2.1, fun j q hq => ?_⟩
  rw [e (a + 6) (by omega) (by omega), e (a + 7) (by omega) (by omega), e (a + 8) (by omega) (by omega), e (a + 9) (by omega) (by omega)]
  exact H.2.2.2.2.2.2 j q hq
theorem LA.c {a : List Un} {b : Nat} (H : LA h b a) (hl : a.length ≤ 7) (e : ∀ x, b ≤ x → x < b + 27 → ∀ k, ri h1 x k = ri h x k) : LA h1 b a := ⟨by rw [e b (by omega) (by omega)]; exact H.1, fun j hj => (H.2 j hj).c (e _ (by omega) (by omega)) (e _ (by omega) (by omega))⟩
theorem SLI.c {v : SV} {b : Nat} (H : SLI h b v) (g : gS v) (e : ∀ x, b ≤ x → x < b + 27 → ∀ k, ri h1 x k = ri h x k) : SLI h1 b v := by
  match v, H, g with
  | none, _, _ => trivial
  | some (Sum.inl i), H, g => exact IIt.c H (fun x h1 h2 => e x (by omega) (by omega))
  | some (Sum.inr (Sum.inl (T, B, a))), H, g => exact ⟨RI.c H.1 (fun x h1 h2 => e x (by omega) (by omega)), H.2.c (by have := g.2.2.1; omega) e⟩
  | some (Sum.inr (Sum.inr (a, m, f))), H, g =>
    obtain ⟨k, k1, k2, k3, k4⟩ := H.2.2.2
    refine ⟨H.1.c g.1.2.1 e, by rw [e b (by omega) (by omega)]; exact H.2.1, by rw [e b (by omega) (by omega)]; exact H.2.2.1, k, by rw [e b (by omega) (by omega)]; exact k1, k2, k3, fun i hi => ?_⟩
    rw [e (b + 12) (by omega) (by omega)]
    exact k4 i hi
theorem gi1 {x : Nat} (e : h1.1 x = h.1 x) (k : Nat) : ri h1 x k = ri h x k := by unfold ri; rw [e]
theorem SI.wz (I : SI h S) (w : Wz h h1) : SI h1 S := by
  refine ⟨w.k I.kp, w.b I.bp, w.l I.lp, ⟨by rw [w.f 12 (by omega)]; exact I.tp.1, I.tp.2.1, fun i hi => by rw [gi1 (w.c 77 (by omega))]; exact I.tp.2.2 i hi⟩, by rw [w.f 17 (by omega)]; exact I.pl, by rw [w.f 25 (by omega)]; exact I.xs, fun i hi => by rw [gi1 (w.c 91 (by omega))]; exact I.xt i hi, fun s hs => ?_, fun s hs => ?_, by rw [w.f 69 (by omega)]; exact I.fs, fun i hi => by rw [gi1 (w.c 1114 (by omega))]; exact I.fd i hi, by rw [w.f 73 (by omega)]; exact I.rs, fun i hi => by rw [gi1 (w.c 1177 (by omega))]; exact I.rt i hi, I.gd⟩
  · rw [gi1 (w.c (slc s) (Or.inl (by have : slc s = 1185 + 27 * s := rfl; omega)))]; exact I.kd s hs
  · exact (I.sl s hs).c (I.gd.2.2.2.2.1 s hs) (fun x h1 h2 => gi1 (w.c x (Or.inl (by have : slc s = 1185 + 27 * s := rfl; omega))))
/-- a slot becomes another one -/
def SS.put (S : SS) (s : Nat) (v : SV) : SS := SS.mk S.t S.len S.pl S.x S.xl (fun i => if i = s then v else S.sl i) S.fd S.rt
end
/-- working, and a slot -/
def Wq (s : Nat) (h h' : Hp) : Prop := (∀ x, (pubC x ∧ ¬ (slc s ≤ x ∧ x < slc s + 27)) ∨ 2759 ≤ x → h'.1 x = h.1 x) ∧ (∀ x, 2759 ≤ x → h'.2 x = h.2 x) ∧ (∀ k, pubF k → ri h' 0 k = ri h 0 k) ∧ (Kp h → Kp h') ∧ (BP h → BP h') ∧ (LPm h → LPm h')
theorem Wq.c {s : Nat} {h h' : Hp} (I : Wq s h h') : ∀ x, (pubC x ∧ ¬ (slc s ≤ x ∧ x < slc s + 27)) ∨ 2759 ≤ x → h'.1 x = h.1 x := I.1
theorem Wq.r {s : Nat} {h h' : Hp} (I : Wq s h h') : ∀ x, 2759 ≤ x → h'.2 x = h.2 x := I.2.1
theorem Wq.f {s : Nat} {h h' : Hp} (I : Wq s h h') : ∀ k, pubF k → ri h' 0 k = ri h 0 k := I.2.2.1
theorem Wq.k {s : Nat} {h h' : Hp} (I : Wq s h h') : Kp h → Kp h' := I.2.2.2.1
theorem Wq.b {s : Nat} {h h' : Hp} (I : Wq s h h') : BP h → BP h' := I.2.2.2.2.1
theorem Wq.l {s : Nat} {h h' : Hp} (I : Wq s h h') : LPm h → LPm h' := I.2.2.2.2.2
section
variable {h h1 h2 : Hp} {S : SS} {s : Nat}
theorem Wz.q (a : Wz h h1) : Wq s h h1 := ⟨fun x hx => a.c x (hx.imp (fun w => w.1) id), a.r, a.f, a.k, a.b, a.l⟩
theorem Wq.tr (a : Wq s h h1) (b : Wq s h1 h2) : Wq s h h2 := ⟨fun x hx => (b.c x hx).trans (a.c x hx), fun x hx => (b.r x hx).trans (a.r x hx), fun x hx => (b.f x hx).trans (a.f x hx), fun q => b.k (a.k q), fun q => b.b (a.b q), fun q => b.l (a.l q)⟩
theorem Wq.cz (a : Wq s h h1) : Cz h h1 := ⟨fun x hx => a.c x (Or.inr hx), a.r⟩
theorem Wq.of_fr {L : List Nat} (f : Fr h h1 L) (o : ∀ x, x ∈ L → x ≠ 0 ∧ (¬ pubC x ∨ (slc s ≤ x ∧ x < slc s + 27)) ∧ x < 2759) : Wq s h h1 := ⟨fun x hx => f.2.1 x (fun q => by have := o x q; omega), fun x _ => by rw [f.1], fun k _ => f.gi (fun q => (o 0 q).1 rfl) k, f.2.2, fun b => b.eq f.1, fun b => b.eq f.1⟩
theorem Wq.put (hs : s < 12) {x k : Nat} {v : Int32} (hx : slc s ≤ x ∧ x < slc s + 27) (o : okp x k) : Wq s h (wi h x k v) := by
  have hsc : slc s = 1185 + 27 * s := rfl
  exact ⟨fun y hy => wi_ne1 (by omega), fun _ _ => rfl, fun j _ => ri_ne (by omega), fun K => K.put o, fun b => b.eq rfl, fun b => b.eq rfl⟩
theorem SI.put (I : SI h S) (hs : s < 12) (w : Wq s h h1) {v : SV} (gv : gS v) (hk : ri h1 (slc s) 0 = nI (kdS v)) (hv : SLI h1 (slc s) v) : SI h1 (S.put s v) := by
  have hsc : slc s = 1185 + 27 * s := rfl
  have g : ∀ x k, pubC x → ¬ (slc s ≤ x ∧ x < slc s + 27) → ri h1 x k = ri h x k := fun x k hx hy => gi1 (w.c x (Or.inl ⟨hx, hy⟩)) k
  refine ⟨w.k I.kp, w.b I.bp, w.l I.lp, ⟨by rw [w.f 12 (by omega)]; exact I.tp.1, I.tp.2.1, fun i hi => by rw [g 77 _ (by omega) (by omega)]; exact I.tp.2.2 i hi⟩, by rw [w.f 17 (by omega)]; exact I.pl, by rw [w.f 25 (by omega)]; exact I.xs, fun i hi => by rw [g 91 _ (by omega) (by omega)]; exact I.xt i hi, fun s' hs' => ?_, fun s' hs' => ?_, by rw [w.f 69 (by omega)]; exact I.fs, fun i hi => by rw [g 1114 _ (by omega) (by omega)]; exact I.fd i hi, by rw [w.f 73 (by omega)]; exact I.rs, fun i hi => by rw [g 1177 _ (by omega) (by omega)]; exact I.rt i hi, I.gd.1, I.gd.2.1, I.gd.2.2.1, I.gd.2.2.2.1, fun s' hs' => ?_, I.gd.2.2.2.2.2⟩
  · have hsc' : slc s' = 1185 + 27 * s' := rfl
    show ri h1 (slc s') 0 = nI (kdS (if s' = s then v else S.sl s'))
    by_cases es : s' = s
    · rw [if_pos es, es]; exact hk
    · rw [if_neg es, g _ _ (by omega) (by omega)]; exact I.kd s' hs'
  · have hsc' : slc s' = 1185 + 27 * s' := rfl
    show SLI h1 (slc s') (if s' = s then v else S.sl s')
    by_cases es : s' = s
    · rw [if_pos es, es]; exact hv
    · rw [if_neg es]; exact (I.sl s' hs').c (I.gd.2.2.2.2.1 s' hs') (fun x h1 h2 k => g _ _ (by omega) (by omega))
  · show gS (if s' = s then v else S.sl s')
    split
    · exact gv
    · exact I.gd.2.2.2.2.1 s' hs'
theorem Lsl_in {x : Nat} (h : x ∈ Lsl s) : slc s ≤ x ∧ x < slc s + 27 := by
  simp only [Lsl, Lit, List.mem_cons, List.not_mem_nil, or_false] at h; omega
theorem Wq.lsl (hs : s < 12) (f : Fr h h1 (Lsl s)) : Wq s h h1 := Wq.of_fr f (fun x hx => by have := Lsl_in hx; have hsc : slc s = 1185 + 27 * s := rfl; omega)
theorem SI.putI (I : SI h S) (hs : s < 12) (w : Wq s h h1) {i : Itm} (gi : gI i) (H : IIt h1 (slc s + 1) i) (hk : ri h1 (slc s) 0 = nI (kdI i)) : SI h1 (S.put s (svI i)) := I.put hs w gi hk H
theorem kdI_12 (i : Itm) : kdI i = 1 ∨ kdI i = 2 := by
  unfold kdI
  by_cases h : isT i.2.2.1 i.2.2.2.1 i.2.2.2.2
  · rw [cite_pos h]; exact Or.inr rfl
  · rw [cite_neg h]; exact Or.inl rfl
theorem kdS_lt (v : SV) : kdS v ≤ 4 := by
  match v with
  | none => exact Nat.zero_le _
  | some (Sum.inl i) => rcases kdI_12 i with w | w <;> (show kdI i ≤ 4; omega)
  | some (Sum.inr (Sum.inl _)) => exact (by decide : 3 ≤ 4)
  | some (Sum.inr (Sum.inr _)) => exact (by decide : 4 ≤ 4)
end
