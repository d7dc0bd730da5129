set_option maxRecDepth 100000
/-! SUMS: the equation solved -/
def FrG (h h' : Hp) (P : Nat → Prop) : Prop := (∀ x, ¬ P x → x ≠ 0 → h'.1 x = h.1 x) ∧ (∀ k, k ≠ 47 → ri h' 0 k = ri h 0 k) ∧ (∀ x, x ≠ 114 → h'.2 x = h.2 x) ∧ (Kp h → Kp h')
theorem FrG.i {h h' : Hp} {P : Nat → Prop} (I : FrG h h' P) : ∀ x, ¬ P x → x ≠ 0 → h'.1 x = h.1 x := I.1
theorem FrG.z {h h' : Hp} {P : Nat → Prop} (I : FrG h h' P) : ∀ k, k ≠ 47 → ri h' 0 k = ri h 0 k := I.2.1
theorem FrG.r {h h' : Hp} {P : Nat → Prop} (I : FrG h h' P) : ∀ x, x ≠ 114 → h'.2 x = h.2 x := I.2.2.1
theorem FrG.k {h h' : Hp} {P : Nat → Prop} (I : FrG h h' P) : Kp h → Kp h' := I.2.2.2
abbrev Lrt : List Nat := [3, 4, 5, 6, 7, 8, 828, 829] ++ Lfo
def SvP (x : Nat) : Prop := Sop x ∨ x ∈ Lrso ∨ x = 828 ∨ x = 829
section
variable {g : GX} {d n : Nat} {h h' h1 h2 : Hp} {σ : Nat → Nat} {P : Nat → Prop}
theorem FrG.rf : FrG h h P := ⟨fun _ _ _ => rfl, fun _ _ => rfl, fun _ _ => rfl, id⟩
theorem FrG.tr (f : FrG h h1 P) (e : FrG h1 h2 P) : FrG h h2 P := ⟨fun x hx h0 => (e.i x hx h0).trans (f.i x hx h0), fun k hk => (e.z k hk).trans (f.z k hk), fun x hx => (e.r x hx).trans (f.r x hx), fun k => e.k (f.k k)⟩
theorem FrG.of {L : List Nat} (f : Fr h h1 L) (o : ∀ x, x ∈ L → P x) (z0 : 0 ∉ L) : FrG h h1 P := ⟨fun x hx _ => f.2.1 x (fun q => hx (o x q)), fun k _ => f.gi z0 k, fun x _ => by rw [f.1], f.2.2⟩
theorem FrG.ofP {P' : Nat → Prop} (f : FrP h h1 P') (o : ∀ x, P' x → P x) (z0 : ¬ P' 0) : FrG h h1 P := ⟨fun x hx _ => f.2.1 x (fun q => hx (o x q)), fun k _ => f.gi z0 k, fun x _ => by rw [f.1], f.2.2⟩
theorem FrG.ofB (f : FrB h h1) (o : ∀ x, Bar x → P x) : FrG h h1 P := ⟨fun x hx _ => f.i x (fun q => hx (o x q)), fun k _ => by unfold ri; rw [f.i 0 (by unfold Bar; omega)], f.r, f.k⟩
theorem FrG.put (v : Int32) : FrG h (wi h 0 47 v) P := ⟨fun x _ h0 => wi_ne1 h0, fun k hk => ri_ne' hk, fun _ _ => rfl, fun K => K.put (okp_o l0 (Or.inr (by decide)))⟩
theorem FrG.gi (f : FrG h h' P) {x : Nat} (hx : ¬ P x) (h0 : x ≠ 0) (k : Nat) : ri h' x k = ri h x k := by unfold ri; rw [f.i x hx h0]
theorem PI.frg {a : Nat} {p : Un} (H : PI h a p) (f : FrG h h' P) (h1 : ¬ P a) (h2 : ¬ P (a + 1)) (h0 : a ≠ 0) : PI h' a p := ⟨by rw [f.gi h1 h0]; exact H.1, H.2.1, fun i hi => by rw [f.gi h2 (by omega)]; exact H.2.2 i hi⟩
theorem DI.frg {a : Nat} {F : Bi} (H : DI h a F) (f : FrG h h' P) (h1 : ¬ P a) (h2 : ¬ P (a + 1)) (h0 : a ≠ 0) : DI h' a F := H.c (fun k => f.gi h1 h0 k) (fun k => f.gi h2 (by omega) k)
theorem w_sf362 (hp : g.2.2.2.2 = true) {av : List Value} {Q : QT} {xs hh fo : Nat} {z : Nat → Un} (hz : ∀ l, hh < l → z l = pz) (h14 : hh < 14) (hs : ∀ j, sz (z j) ≤ 1300) (hf : fo < 4) (hx : xs + fo ≤ hh) : ∀ (k i : Nat) (h : Hp), i + k = fo + 1 → BS h σ → BZ h σ hh z → ri h 0 47 = nI fo → FD h i (fun i => z (xs + i)) → PI h 828 (gcF (fun i => z (xs + i)) i) → (∀ h', Fr h h' Lrt → FD h' (fo + 1) (fun i => z (xs + i)) → PI h' 828 (gcF (fun i => z (xs + i)) (fo + 1)) → CallV g m_X0_readSolution (d + 4) [.ref 0, .int (nI xs), .int (nI hh)] n h' (fun h1 => Q (some (.int 1)) n h1)) → W_X0_solveFor g (d + 4) av Q n 362 [some (.ref 0), none, none, some (.int (nI xs)), none, some (.int (nI hh)), some (.int (nI i))] [] h := by
  intro k
  induction k with
  | zero =>
    intro i h hi B Z F H G q
    have e : i = fo + 1 := by omega
    refine s_X0_solveFor_362 hp ⟨fun _ => ?_, fun w => absurd ?_ w⟩
    · rw [e] at H G; exact q h Fr.rf H G
    · rw [F, nI_ltI (by omega) (by omega)]; omega
  | succ k ih =>
    intro i h hi B Z F H G q
    have sm := hs (xs + i)
    have sg : sz (gcF (fun i => z (xs + i)) i) ≤ 1300 := gcF_sz i (fun l _ => hs (xs + l))
    have sg' : sz (gcF (fun i => z (xs + i)) (i + 1)) ≤ 1300 := gcF_sz (i + 1) (fun l _ => hs (xs + l))
    refine s_X0_solveFor_362 hp ⟨fun w => absurd w ?_, fun _ => ⟨?_, fun r2 e2 => ?_⟩⟩
    · rw [F, nI_ltI (by omega) (by omega)]; omega
    · rw [nI_inI (by omega)]; omega
    · rw [nI_tN (by omega)] at e2
      rw [e2, nI_addz]
      refine ok_bnumber hp B Z hz h14 (by omega) (fo_lay (by omega)) (Or.inr (by omega)) (by rw [fo_rm (by omega)]; omega) (fun h3 f3 P3 => ⟨by rw [nI_inI (by omega)]; omega, fun r4 e4 => ?_⟩)
      rw [nI_tN (by omega)] at e4
      rw [e4]
      have f3' : Fr h h3 Lrt := f3.mono (fun x hx => by simp at hx ⊢; omega)
      refine ok_common hp t828 (fo_lay (by omega)) t828 (by omega) (by omega) (G.fr f3 (by simp; omega) (by simp; omega)) P3 (by omega) (by omega) (by rw [r829]; exact Nat.le_trans sg' (by decide)) (fun h5 f5 G5 => ?_)
      have F5 : Fr h h5 Lrt := f3'.tr (f5.mono (by simp))
      rw [show (1 : Int32) = nI 1 from rfl, nI_addz]
      refine ih (i + 1) h5 (by omega) (B.fr F5.1) (Z.frp (P := fun x => x ∈ Lrt) B h14 (F5.p (fun _ q => q)) (fun x q => by simp at q; omega)) (by rw [F5.gi (by decide)]; exact F) (fun l hl => ?_) G5 (fun h' f' => q h' (F5.tr f'))
      by_cases c : l = i
      · rw [c]; exact P3.fr f5 (by simp; omega) (by simp; omega)
      · exact ((H l (by omega)).fr f3 (by simp; omega) (by simp; omega)).fr f5 (by simp; omega) (by simp; omega)
end
