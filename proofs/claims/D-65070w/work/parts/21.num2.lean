set_option maxRecDepth 100000
/-! java/lang/Math's methods -/
section
variable {g : GX} {mt : Mth} {d mc ms : Nat} {av : List Value} {n : Nat} {h : Hp} {ls : LV}
theorem CallN.ofF {Q : QT} (hy : plainFor mt.1 = true) (hlen : (lg_sl (av' g.2.2.2.1 av)).length ≤ mt.2.2.1) (hb : ∀ s : State, Rep g.2.1 g.2.2.1 g.2.2.2.1 g.2.2.2.2 n h s.heap → g.2.2.2.1 ≤ s.heap.size) (hls : ∀ (i : Nat) (v : Value), ls[i]? = some (some v) → (entL av)[i]? = some (some v)) (k : RJ g mt d mc ms av Q 0 ls [] n h 0 0) : CallN g mt d mc ms av n h Q := by
  refine va_MetF (cc := mt.2.1) (maxL := mt.2.2.1) (ret := mt.2.2.2) hy rfl ?_
  intro p e s m args below meth cd s₁ B hml hv
  obtain ⟨rfl, hR, hK⟩ := hv
  have hts := atoms_spec (ws := ws_ mt.1 mt.2.1 mt.2.2.1 mt.2.2.2) B.pre
  have hts : ∀ w ∈ lw_all, w.before _ s = true := fun w h => hts w (List.mem_cons_of_mem _ h)
  rw [lg_entry_eq]
  refine k p e s m below meth cd s.heap [] _ ⟨B.exec, B.bytes, B.returns, B.notSynchronized, hml, findClass_of_methodNamed B.named, hts, hK, hb s hR, (name_of_methodNamed B.named B.method).1⟩ hR va_S.rf ?_
  have hl := lv_entry (av' g.2.2.2.1 av) hlen
  refine ⟨hl.1, hl.2.1, fun q hq => ?_⟩
  obtain ⟨j, w⟩ := q
  obtain ⟨i, v, e1, e2, e3⟩ := mem_al hq
  subst e1; subst e2
  exact hl.2.2 _ (entL_args (hls i v e3))
theorem okJ {Q : Int32 → Hp → Prop} (hy : plainFor mt.1 = true) (pad : Nat) (hlen : Nat.ble (lg_sl (av' g.2.2.2.1 av)).length mt.2.2.1 = true) (e : entL av ++ List.replicate pad none = ls) (k : RJ g mt d 0 0 av (QI n Q) 0 ls [] n h 0 0) : CallI g mt d av n h Q :=
  CallN.ofF hy (Nat.le_of_ble_eq_true hlen) (fun s hR => by rw [hR.1]; omega) (fun i v hv => ent_pad (by rw [e]; exact hv)) k
end
theorem pf_max : plainFor yJ3_max = true := by decide +kernel
theorem pf_min : plainFor yJ3_min = true := by decide +kernel
theorem pf_abs : plainFor yJ3_abs = true := by decide +kernel
theorem pf_floorMod : plainFor yJ3_floorMod = true := by decide +kernel
