set_option maxRecDepth 100000
/-! ARRAYS INTO ARRAYS: the store of a row -/
theorem aov_spec {args : Array Value} {first s : State} {o : Option Outcome} {idx : List Nat} {t : FieldType} (h : (Cond.arrayOver (.array t)).holds args first o s idx = true) : ∃ comp c k, s.vm.findClass (FieldType.array t).toString = some comp ∧ s.vm.classes[c]? = some k ∧ k.kind = .array comp (.array t) ∧ s.vm.findClass ("[" ++ (FieldType.array t).toString) = some c := by
  simp only [Cond.holds, Cond.value, beq_iff_eq] at h
  cases hc : s.vm.findClass (FieldType.array t).toString with
  | none => simp [hc] at h
  | some comp =>
    simp only [hc, Option.bind_some, Option.bind_eq_some_iff, Option.map_eq_some_iff] at h
    obtain ⟨c, hi, k, hk, hb⟩ := h
    obtain ⟨hlt, hp, -⟩ := Array.findIdx?_eq_some_iff_getElem.mp hi
    have hkk : s.vm.classes[c] = k := (Array.getElem?_eq_some_iff.mp hk).2
    rw [hkk] at hp
    cases hkind : k.kind with
    | array component ty =>
      rw [hkind] at hb hp
      simp at hb hp
      exact ⟨comp, c, k, rfl, hk, by rw [hkind, hp, hb.1], hb.2⟩
    | _ => rw [hkind] at hb; simp at hb
theorem as_refl (vm : Vm) (c : ClassId) : vm.assignable c c = true := by
  show Vm.assignableAux vm (255 + 1) c c = true
  rw [Vm.assignableAux, beq_self_eq_true, Bool.true_or]
theorem ra_find {U : State} {cA : ClassId} {ty : FieldType} (h : va_RA U cA ty) : U.vm.findClass ("[" ++ ty.toString) = some cA := by
  cases ty with
  | object C => obtain ⟨kA, comp, h1, h2, h3, h4⟩ := h; exact h4
  | _ => exact h
section
variable {g : GX} {mt : Mth} {d mc ms : Nat} {av : List Value} {Q : QT} {pc : Nat} {ls : LV} {stk : List Value} {n : Nat} {h : Hp} {c z : Nat}
/-- a row (of ints, or of references) into an array of rows -/
theorem r_aastR {a L j x k2 L2 j2 : Nat} {i : Int32} {t : FieldType} (hd : decode mt.2.1 pc = .ok (.aastore, 1)) (ht : lay a = (2, L, j)) (hj : jat[j]? = some (.array t)) (hj2 : jat[j2]? = some t) (hk2 : k2 = 1 ∨ k2 = 2) (hw : Cond.arrayOver (.array t) ∈ lw_nest) (hx : lay x = (k2, L2, j2)) (ha : a < n) (hxn : x < n) (hi : vp_in i L) (hf : g.2.2.2.2 = true → fin a i.toNatClampNeg = none) (kk : RJ g mt d mc ms av Q (pc + 1) ls stk n (wr h a i.toNatClampNeg (some x)) c z) : RJ g mt d mc ms av Q pc ls (.ref x :: .int i :: .ref a :: stk) n h c z := by
  intro p e s m below meth cd H locs la X hR hS hl
  have hlt : i.toNatClampNeg < L := Nat.not_le.mp fun q => hi (Or.inr q)
  have hj14 : j < 14 := (List.getElem?_eq_some_iff.mp hj).1
  have hj14' : j2 < 14 := (List.getElem?_eq_some_iff.mp hj2).1
  have hjt : (jtys g.2.2.1)[j]? = some (g.2.2.1 j, .array t) := by simp [jtys, hj14, List.getD, hj]
  have hjt2 : (jtys g.2.2.1)[j2]? = some (g.2.2.1 j2, t) := by simp [jtys, hj14', List.getD, hj2]
  have hK := X.2.2.2.2.2.2.2.1
  obtain ⟨comp, cO, kA, f1, f2, f3, f4⟩ := aov_spec (hK.2 _ hw)
  have e1 : cO = g.2.2.1 j := Option.some.inj (f4.symm.trans (ra_find (hK.1.2 j _ hjt).2))
  have e2 : comp = g.2.2.1 j2 := by
    have := ra_find (hK.1.2 j2 _ hjt2).2
    have e3 : (FieldType.array t).toString = "[" ++ t.toString := rfl
    rw [e3] at f1
    exact Option.some.inj (f1.symm.trans this)
  obtain ⟨kC, hkC, -⟩ := Vm.findClass_spec (ra_find (hK.1.2 j2 _ hjt2).2)
  obtain ⟨cv, q1, q2, q3⟩ : ∃ cv : Cell, H[g.2.2.2.1 + x]? = some cv ∧ cv.cls = g.2.2.1 j2 ∧ ∀ q, cv.vm ≠ .statics q := by
    rcases hk2 with w | w
    · subst w
      exact ⟨_, hR.arr hxn hx, rfl, fun q hq => by cases hq⟩
    · subst w
      exact ⟨_, hR.arq hxn hx, rfl, fun q hq => by cases hq⟩
  refine W.aast (cell := arrV (g.2.2.1 j) L (fun i => va_rf (sh g.2.2.2.1 (h.2 a i)))) (cv := cv) (k := kA) (kv := kC) (kcomp := kC) (comp := comp) (t := .array t) X.1 X.2.1 (hR.arq ha ht) (fun q => by intro hq; cases hq) (fun q => by cases q) (by rw [← e1]; exact f2) f3 rfl (by rw [e2]; exact hkC) ⟨fun q => hi (Or.inl q), by rw [arrV_size]; exact hlt⟩ q1 q3 (by rw [q2]; exact hkC) (by rw [q2, e2]; exact as_refl _ _) rfl rfl hd (fun H1 e1 e2 e3 => kk p e s m below meth cd H1 _ la X (hR.arqW ht hf e2 e3 e1) (hS.put e2 e3 (Nat.le_add_right _ _)) hl)
theorem m_aastR {a L j x k2 L2 j2 : Nat} {i : Int32} {t : FieldType} (hp : g.2.2.2.2 = true) (hd : decode mt.2.1 pc = .ok (.aastore, 1)) (ht : lay a = (2, L, j)) (hj : jat[j]? = some (.array t)) (hj2 : jat[j2]? = some t) (hk2 : k2 = 1 ∨ k2 = 2) (hw : Cond.arrayOver (.array t) ∈ lw_nest) (hx : lay x = (k2, L2, j2)) (ha : a < N0) (hxn : x < N0) (hi : vp_in i L) (hf : fin a i.toNatClampNeg = none) (kk : ∀ h1, h1 = wr h a i.toNatClampNeg (some x) → RJ g mt d mc ms av Q (pc + 1) ls stk n h1 c z) : RJ g mt d mc ms av Q pc ls (.ref x :: .int i :: .ref a :: stk) n h c z :=
  RJ.main (fun hN hs => r_aastR hd ht hj hj2 hk2 hw hx (Nat.lt_of_lt_of_le ha hN) (Nat.lt_of_lt_of_le hxn hN) hi (fun _ => hf) (kk _ rfl)) hp
theorem ao_int : Cond.arrayOver (.array .int) ∈ lw_nest := nest_in q519 rfl
theorem ao_U : Cond.arrayOver (.array (.object RX13)) ∈ lw_nest := nest_in q1884 rfl
theorem ao_poly : Cond.arrayOver (.array (.object RX3)) ∈ lw_nest := nest_in q447 rfl
end
