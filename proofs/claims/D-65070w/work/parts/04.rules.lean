set_option maxRecDepth 100000
def Pre (g : GX) (n : Nat) (h : Hp) (av : List Value) : Array Value → State → Prop := va_Pc (av' g.2.2.2.1 av) (fun U => Rep g.2.1 g.2.2.1 g.2.2.2.1 g.2.2.2.2 n h U.heap ∧ Kn g U)
def Post (g : GX) (Q : QT) : Array Value → State → Outcome → State → Prop := fun _ st oc t => (∃ (v : Option Value) (n' : Nat) (h' : Hp), oc = .returned (v.map (conc g.2.2.2.1)) ∧ Q v n' h' ∧ Rep g.2.1 g.2.2.1 g.2.2.2.1 g.2.2.2.2 n' h' t.heap) ∧ va_F (fun q => g.2.2.2.1 ≤ q) st t
/-- a method's contract at a heap and for an end Q -/
def CallN (g : GX) (mt : Mth) (d mc ms : Nat) (av : List Value) (n : Nat) (h : Hp) (Q : QT) : Prop := Met g.1 mt.1 (ws_ mt.1 mt.2.1 mt.2.2.1 mt.2.2.2) (rmD d mc ms) (Pre g n h av) (Post g Q) mc ms (fun q => g.2.2.2.1 ≤ q)
def Cx (g : GX) (mt : Mth) (av : List Value) (p : Program) (s : State) (m : MethodId) (meth : Method) (cd : Code) : Prop :=
  p.tables.exec = Jvm.exec ∧ cd.code = mt.2.1 ∧ meth.sig.returnType = mt.2.2.2 ∧ meth.locks = false ∧ cd.maxLocals = mt.2.2.1 ∧ s.vm.findClass mt.1.cls = some m.cls ∧ (∀ w ∈ lw_all, w.before (av' g.2.2.2.1 av).toArray s = true) ∧ Kn g s ∧ g.2.2.2.1 ≤ s.heap.size ∧ meth.name = mt.1.name
/-- the machine at pc with these locals, stack, heap: it ends with Q -/
def RJ (g : GX) (mt : Mth) (d mc ms : Nat) (av : List Value) (Q : QT) (pc : Nat) (ls : LV) (stk : List Value) (n : Nat) (h : Hp) (c z : Nat) : Prop :=
  ∀ (p : Program) (e : Env) (s : State) (m : MethodId) (below : List Frame) (meth : Method) (cd : Code) (H : Heap) (locs : List Loc) (la : Array Slot), Cx g mt av p s m meth cd → Rep g.2.1 g.2.2.1 g.2.2.2.1 g.2.2.2.2 n h H → va_S (fun q => g.2.2.2.1 ≤ q) s.heap H locs → lv_has la mt.2.2.1 (al g.2.2.2.1 0 ls) →
    W p g.1 e (rmD d mc ms) s m (av' g.2.2.2.1 av).toArray below meth cd H locs c z (MQ below (Post g Q) (av' g.2.2.2.1 av).toArray s mc ms (fun q => g.2.2.2.1 ≤ q)) (F0 m pc la (stk.map (conc g.2.2.2.1)))
theorem mem_wl {b n a : Nat} (h : a < n) : b + a ∈ wl b n := List.mem_map.mpr ⟨a, List.mem_range.mpr h, rfl⟩
theorem wl_in {b n q : Nat} (h : q ∈ wl b n) : ∃ a, a < n ∧ q = b + a := by
  obtain ⟨a, h1, h2⟩ := List.mem_map.mp h
  exact ⟨a, List.mem_range.mp h1, h2.symm⟩
/-- all cells of the region are apart -/
theorem wl_D {b n : Nat} {f : Nat → va_E} : va_D (fun q => b ≤ q) (va_pl (wl b n) f) := by
  have key : ∀ (k : Nat) (q : Nat × va_E), (va_pl (wl b n) f)[k]? = some q → q.1 = b + k := by
    intro k q hk
    simp only [va_pl, wl, List.map_map, List.getElem?_map] at hk
    cases hr : (List.range n)[k]? with
    | none => rw [hr] at hk; cases hk
    | some x =>
      rw [hr] at hk
      have : x = k := by
        rw [List.getElem?_range (by have := (List.getElem?_eq_some_iff.mp hr).1; simpa using this)] at hr
        cases hr; rfl
      subst this
      cases hk
      rfl
  refine ⟨fun i j p q hi hj hpq => ?_, fun k q hk => ?_⟩
  · have h1 := key i p hi
    have h2 := key j q hj
    omega
  · have := key k q hk
    omega
theorem wl_at {b n a : Nat} {f : Nat → va_E} (h : a < n) : (va_pl (wl b n) f)[a]? = some (b + a, f (b + a)) := by
  simp [va_pl, wl, List.getElem?_map, List.getElem?_range h]
theorem wl_set {b n a : Nat} {f f' : Nat → va_E} {e : va_E} (h : a < n) (h1 : f' (b + a) = e) (h2 : ∀ x, x < n → x ≠ a → f' (b + x) = f (b + x)) : (va_pl (wl b n) f).set a (b + a, e) = va_pl (wl b n) f' := by
  apply List.ext_getElem?
  intro j
  by_cases hj : j < n
  · by_cases hja : j = a
    · subst hja
      rw [List.getElem?_set_self (by simp [va_pl, wl]; exact hj), wl_at hj, h1]
    · rw [List.getElem?_set_ne (Ne.symm hja), wl_at hj, wl_at hj, h2 j hj hja]
  · have : ∀ w : va_W, w.length = n → w[j]? = none := fun w hw => by rw [List.getElem?_eq_none_iff]; omega
    rw [this _ (by simp [va_pl, wl]), this _ (by simp [va_pl, wl])]
theorem cf_at {b : Nat} {cA : Nat → ClassId} {h : Hp} {a : Nat} {t : CT} (ht : lay a = t) : cf b cA h (b + a) = ce b cA t (h.1 a) (h.2 a) := by
  simp only [cf, Nat.add_sub_cancel_left, ht]
theorem cf_ne {b : Nat} {cA : Nat → ClassId} {h h' : Hp} {x : Nat} (h1 : h'.1 x = h.1 x) (h2 : h'.2 x = h.2 x) : cf b cA h' (b + x) = cf b cA h (b + x) := by
  simp only [cf, Nat.add_sub_cancel_left, h1, h2]
theorem wi_ne1 {h : Hp} {a k : Nat} {v : Int32} {x : Nat} (hx : x ≠ a) : (wi h a k v).1 x = h.1 x := by
  funext y
  simp [wi, hx]
theorem wi_2 {h : Hp} {a k : Nat} {v : Int32} {x : Nat} : (wi h a k v).2 x = h.2 x := rfl
theorem wr_ne2 {h : Hp} {a k : Nat} {v : Option Nat} {x : Nat} (hx : x ≠ a) : (wr h a k v).2 x = h.2 x := by
  funext y
  simp [wr, hx]
theorem lay_lt {a : Nat} {t : CT} (h : lay a = t) (hn : t.1 ≠ 2) : a < N0 := by
  unfold lay at h
  split at h
  · assumption
  · subst h; exact absurd rfl hn
theorem Kn.warm {g : GX} {s U : State} (hW : s.WarmedH U.vm) (h : Kn g s) : Kn g U := by
  refine ⟨va_K.moved hW.alike h.1, fun w hw => ?_⟩
  have hZ := h.2 w hw
  have hi := (List.mem_filter.mp hw).2
  cases w with
  | fieldLinkNest a b c d e f => exact va_Nw.warmF hW hZ
  | methodLinkNest a b c d => exact va_Nw.warmM hW hZ
  | castable a b => exact va_Nw.warmC hW hZ
  | arrayOver t =>
    cases t with
    | object C => exact va_AO.moved hW.alike hZ
    | array t => exact over_moved hW.alike hZ
    | _ => simp [isNest] at hi
  | _ => simp [isNest] at hi
theorem Kn.same {g : GX} {s U : State} (hv : s.vm = U.vm) (h : Kn g s) : Kn g U := by
  refine ⟨va_K.moved (by rw [hv]; exact Vm.Alike.refl U.vm) h.1, fun w hw => ?_⟩
  have hi := (List.mem_filter.mp hw).2
  cases w with
  | fieldLinkNest a b c d e f => exact va_Nw.same rfl hv (h.2 _ hw)
  | methodLinkNest a b c d => exact va_Nw.same rfl hv (h.2 _ hw)
  | castable a b => exact va_Nw.same rfl hv (h.2 _ hw)
  | arrayOver t =>
    have hal : s.vm.Alike U.vm := by rw [hv]; exact Vm.Alike.refl U.vm
    cases t with
    | object C => exact va_AO.moved hal (h.2 _ hw)
    | array t => exact over_moved hal (h.2 _ hw)
    | _ => simp [isNest] at hi
  | _ => simp [isNest] at hi
theorem Pre.blind {g : GX} {n : Nat} {h : Hp} {av : List Value} : FrameBlind (Pre g n h av) := by
  intro a U gf mk hp
  obtain ⟨h1, h2, h3⟩ := hp
  exact ⟨h1, h2, Kn.same (s := U) (by rfl) h3⟩

section
variable {g : GX} {mt : Mth} {d mc ms : Nat} {av : List Value} {Q : QT} {pc : Nat} {ls ls2 : LV} {stk : List Value} {n : Nat} {h : Hp} {c z : Nat}
/-! instructions that touch no heap -/
theorem r_iconst {k : Int} {v : Int32} (hd : decode mt.2.1 pc = .ok (.iconst k, 1)) (hv : Int32.ofInt k = v) (k : RJ g mt d mc ms av Q (pc + 1) ls (.int v :: stk) n h c z) : RJ g mt d mc ms av Q pc ls stk n h c z := by
  intro p e s m below meth cd H locs la X hR hS hl
  exact lv_iconst X.1 X.2.1 hd hv (k p e s m below meth cd H locs la X hR hS hl)
theorem r_bipush {k : Int} {v : Int32} (hd : decode mt.2.1 pc = .ok (.bipush k, 2)) (hv : (Int8.ofInt k).toInt32 = v) (k : RJ g mt d mc ms av Q (pc + 2) ls (.int v :: stk) n h c z) : RJ g mt d mc ms av Q pc ls stk n h c z := by
  intro p e s m below meth cd H locs la X hR hS hl
  exact lv_bipush X.1 X.2.1 hd hv (k p e s m below meth cd H locs la X hR hS hl)
theorem r_sipush {k : Int} {v : Int32} (hd : decode mt.2.1 pc = .ok (.sipush k, 3)) (hv : (Int16.ofInt k).toInt32 = v) (k : RJ g mt d mc ms av Q (pc + 3) ls (.int v :: stk) n h c z) : RJ g mt d mc ms av Q pc ls stk n h c z := by
  intro p e s m below meth cd H locs la X hR hS hl
  exact lv_sipush X.1 X.2.1 hd hv (k p e s m below meth cd H locs la X hR hS hl)
theorem r_lconst {k : Fin 2} {v : Int64} (hd : decode mt.2.1 pc = .ok (.lconst k, 1)) (hv : Int64.ofNat (k : Nat) = v) (k : RJ g mt d mc ms av Q (pc + 1) ls (.long v :: stk) n h c z) : RJ g mt d mc ms av Q pc ls stk n h c z := by
  intro p e s m below meth cd H locs la X hR hS hl
  exact lv_lconst X.1 X.2.1 hd hv (k p e s m below meth cd H locs la X hR hS hl)
theorem r_ldc {own : String} {index : Nat} {v : Int32} (hd : decode mt.2.1 pc = .ok (.ldc index, 2)) (hw : Cond.constant mt.1.cls index v ∈ lw_all) (k : RJ g mt d mc ms av Q (pc + 2) ls (.int v :: stk) n h c z) : RJ g mt d mc ms av Q pc ls stk n h c z := by
  intro p e s m below meth cd H locs la X hR hS hl
  exact lv_ldc X.1 X.2.1 X.2.2.2.2.2.1 (X.2.2.2.2.2.2.1 _ hw) hd (k p e s m below meth cd H locs la X hR hS hl)
theorem r_ldcw {own : String} {index : Nat} {v : Int32} (hd : decode mt.2.1 pc = .ok (.ldc_w index, 3)) (hw : Cond.constant mt.1.cls index v ∈ lw_all) (k : RJ g mt d mc ms av Q (pc + 3) ls (.int v :: stk) n h c z) : RJ g mt d mc ms av Q pc ls stk n h c z := by
  intro p e s m below meth cd H locs la X hR hS hl
  exact lv_ldcw X.1 X.2.1 X.2.2.2.2.2.1 (X.2.2.2.2.2.2.1 _ hw) hd (k p e s m below meth cd H locs la X hR hS hl)
theorem r_ldc2 {own : String} {index : Nat} {v : Int64} (hd : decode mt.2.1 pc = .ok (.ldc2_w index, 3)) (hw : Cond.constantLong mt.1.cls index v ∈ lw_all) (k : RJ g mt d mc ms av Q (pc + 3) ls (.long v :: stk) n h c z) : RJ g mt d mc ms av Q pc ls stk n h c z := by
  intro p e s m below meth cd H locs la X hR hS hl
  exact lv_ldc2 X.1 X.2.1 X.2.2.2.2.2.1 (X.2.2.2.2.2.2.1 _ hw) hd (k p e s m below meth cd H locs la X hR hS hl)
theorem r_null (hd : decode mt.2.1 pc = .ok (.aconst_null, 1)) (k : RJ g mt d mc ms av Q (pc + 1) ls (.null :: stk) n h c z) : RJ g mt d mc ms av Q pc ls stk n h c z := by
  intro p e s m below meth cd H locs la X hR hS hl
  exact lv_null X.1 X.2.1 hd (k p e s m below meth cd H locs la X hR hS hl)
theorem r_iload_n {k : Fin 4} {i : Nat} {x : Int32} (hd : decode mt.2.1 pc = .ok (.iload_n k, 1)) (hi : (k : Nat) = i) (hx : ls[i]? = some (some (.int x))) (k : RJ g mt d mc ms av Q (pc + 1) ls (.int x :: stk) n h c z) : RJ g mt d mc ms av Q pc ls stk n h c z := by
  intro p e s m below meth cd H locs la X hR hS hl
  exact lv_iload_n X.1 X.2.1 hd hi (lv_get hl hx) (k p e s m below meth cd H locs la X hR hS hl)
theorem r_iload {i : Nat} {x : Int32} (hd : decode mt.2.1 pc = .ok (.iload i, 2)) (hx : ls[i]? = some (some (.int x))) (k : RJ g mt d mc ms av Q (pc + 2) ls (.int x :: stk) n h c z) : RJ g mt d mc ms av Q pc ls stk n h c z := by
  intro p e s m below meth cd H locs la X hR hS hl
  exact lv_iload X.1 X.2.1 hd (lv_get hl hx) (k p e s m below meth cd H locs la X hR hS hl)
theorem r_lload_n {k : Fin 4} {i : Nat} {x : Int64} (hd : decode mt.2.1 pc = .ok (.lload_n k, 1)) (hi : (k : Nat) = i) (hx : ls[i]? = some (some (.long x))) (k : RJ g mt d mc ms av Q (pc + 1) ls (.long x :: stk) n h c z) : RJ g mt d mc ms av Q pc ls stk n h c z := by
  intro p e s m below meth cd H locs la X hR hS hl
  exact lv_lload_n X.1 X.2.1 hd hi (lv_get hl hx) (k p e s m below meth cd H locs la X hR hS hl)
theorem r_lload {i : Nat} {x : Int64} (hd : decode mt.2.1 pc = .ok (.lload i, 2)) (hx : ls[i]? = some (some (.long x))) (k : RJ g mt d mc ms av Q (pc + 2) ls (.long x :: stk) n h c z) : RJ g mt d mc ms av Q pc ls stk n h c z := by
  intro p e s m below meth cd H locs la X hR hS hl
  exact lv_lload X.1 X.2.1 hd (lv_get hl hx) (k p e s m below meth cd H locs la X hR hS hl)
theorem r_aload_n {k : Fin 4} {i a : Nat} (hd : decode mt.2.1 pc = .ok (.aload_n k, 1)) (hi : (k : Nat) = i) (hx : ls[i]? = some (some (.ref a))) (k : RJ g mt d mc ms av Q (pc + 1) ls (.ref a :: stk) n h c z) : RJ g mt d mc ms av Q pc ls stk n h c z := by
  intro p e s m below meth cd H locs la X hR hS hl
  exact lv_aload_n X.1 X.2.1 hd hi (lv_get hl hx) (k p e s m below meth cd H locs la X hR hS hl)
theorem r_aload {i a : Nat} (hd : decode mt.2.1 pc = .ok (.aload i, 2)) (hx : ls[i]? = some (some (.ref a))) (k : RJ g mt d mc ms av Q (pc + 2) ls (.ref a :: stk) n h c z) : RJ g mt d mc ms av Q pc ls stk n h c z := by
  intro p e s m below meth cd H locs la X hR hS hl
  exact lv_aload X.1 X.2.1 hd (lv_get hl hx) (k p e s m below meth cd H locs la X hR hS hl)
theorem r_aload_nN {k : Fin 4} {i : Nat} (hd : decode mt.2.1 pc = .ok (.aload_n k, 1)) (hi : (k : Nat) = i) (hx : ls[i]? = some (some .null)) (k : RJ g mt d mc ms av Q (pc + 1) ls (.null :: stk) n h c z) : RJ g mt d mc ms av Q pc ls stk n h c z := by
  intro p e s m below meth cd H locs la X hR hS hl
  exact lv_aload_nN X.1 X.2.1 hd hi (lv_get hl hx) (k p e s m below meth cd H locs la X hR hS hl)
theorem r_istore_n {k : Fin 4} {i : Nat} {x : Int32} (hd : decode mt.2.1 pc = .ok (.istore_n k, 1)) (hi : (k : Nat) = i) (hn : i < mt.2.2.1) (h2 : stL ls i (.int x) = ls2) (k : RJ g mt d mc ms av Q (pc + 1) ls2 stk n h c z) : RJ g mt d mc ms av Q pc ls (.int x :: stk) n h c z := by
  intro p e s m below meth cd H locs la X hR hS hl
  exact lv_istore_n X.1 X.2.1 hd hi hl hn rfl (fun la' hl' => k p e s m below meth cd H locs la' X hR hS (lv_stL h2 hl'))
theorem r_istore {i : Nat} {x : Int32} (hd : decode mt.2.1 pc = .ok (.istore i, 2)) (hn : i < mt.2.2.1) (h2 : stL ls i (.int x) = ls2) (k : RJ g mt d mc ms av Q (pc + 2) ls2 stk n h c z) : RJ g mt d mc ms av Q pc ls (.int x :: stk) n h c z := by
  intro p e s m below meth cd H locs la X hR hS hl
  exact lv_istore X.1 X.2.1 hd hl hn rfl (fun la' hl' => k p e s m below meth cd H locs la' X hR hS (lv_stL h2 hl'))
theorem r_lstore_n {k : Fin 4} {i : Nat} {x : Int64} (hd : decode mt.2.1 pc = .ok (.lstore_n k, 1)) (hi : (k : Nat) = i) (hn : i + 1 < mt.2.2.1) (h2 : stL2 ls i (.long x) = ls2) (k : RJ g mt d mc ms av Q (pc + 1) ls2 stk n h c z) : RJ g mt d mc ms av Q pc ls (.long x :: stk) n h c z := by
  intro p e s m below meth cd H locs la X hR hS hl
  exact lv_lstore_n X.1 X.2.1 hd hi hl hn rfl (fun la' hl' => k p e s m below meth cd H locs la' X hR hS (lv_stL2 h2 hl'))
theorem r_lstore {i : Nat} {x : Int64} (hd : decode mt.2.1 pc = .ok (.lstore i, 2)) (hn : i + 1 < mt.2.2.1) (h2 : stL2 ls i (.long x) = ls2) (k : RJ g mt d mc ms av Q (pc + 2) ls2 stk n h c z) : RJ g mt d mc ms av Q pc ls (.long x :: stk) n h c z := by
  intro p e s m below meth cd H locs la X hR hS hl
  exact lv_lstore X.1 X.2.1 hd hl hn rfl (fun la' hl' => k p e s m below meth cd H locs la' X hR hS (lv_stL2 h2 hl'))
theorem r_astore_n {k : Fin 4} {i a : Nat} (hd : decode mt.2.1 pc = .ok (.astore_n k, 1)) (hi : (k : Nat) = i) (hn : i < mt.2.2.1) (h2 : stL ls i (.ref a) = ls2) (k : RJ g mt d mc ms av Q (pc + 1) ls2 stk n h c z) : RJ g mt d mc ms av Q pc ls (.ref a :: stk) n h c z := by
  intro p e s m below meth cd H locs la X hR hS hl
  exact lv_astore_n X.1 X.2.1 hd hi hl hn rfl (fun la' hl' => k p e s m below meth cd H locs la' X hR hS (lv_stL h2 hl'))
theorem r_astore {i a : Nat} (hd : decode mt.2.1 pc = .ok (.astore i, 2)) (hn : i < mt.2.2.1) (h2 : stL ls i (.ref a) = ls2) (k : RJ g mt d mc ms av Q (pc + 2) ls2 stk n h c z) : RJ g mt d mc ms av Q pc ls (.ref a :: stk) n h c z := by
  intro p e s m below meth cd H locs la X hR hS hl
  exact lv_astore X.1 X.2.1 hd hl hn rfl (fun la' hl' => k p e s m below meth cd H locs la' X hR hS (lv_stL h2 hl'))
theorem al_idx {b : Nat} {ls : LV} {i : Nat} {v : Value} (hx : ls[i]? = some (some v)) : ∃ k : Nat, (al b 0 ls)[k]? = some (i, conc b v) := by
  have := al_mem (b := b) (k := 0) hx
  rw [Nat.zero_add] at this
  exact List.getElem?_of_mem this
theorem r_iinc {i : Nat} {k : Int} {x v : Int32} (hd : decode mt.2.1 pc = .ok (.iinc i k, 3)) (hx : ls[i]? = some (some (.int x))) (hv : x + Int32.ofInt k = v) (hn : i < mt.2.2.1) (h2 : stL ls i (.int v) = ls2) (k : RJ g mt d mc ms av Q (pc + 3) ls2 stk n h c z) : RJ g mt d mc ms av Q pc ls stk n h c z := by
  intro p e s m below meth cd H locs la X hR hS hl
  obtain ⟨j, hj⟩ := al_idx (b := g.2.2.2.1) hx
  exact lv_iinc X.1 X.2.1 hd hl hj hv hn rfl (fun la' hl' => k p e s m below meth cd H locs la' X hR hS (lv_stL h2 hl'))
theorem r_iadd {x y : Int32} (hd : decode mt.2.1 pc = .ok (.iadd, 1)) (k : RJ g mt d mc ms av Q (pc + 1) ls (.int (x + y) :: stk) n h c z) : RJ g mt d mc ms av Q pc ls (.int y :: .int x :: stk) n h c z := by
  intro p e s m below meth cd H locs la X hR hS hl
  exact lv_iadd X.1 X.2.1 hd (k p e s m below meth cd H locs la X hR hS hl)
theorem r_isub {x y : Int32} (hd : decode mt.2.1 pc = .ok (.isub, 1)) (k : RJ g mt d mc ms av Q (pc + 1) ls (.int (x - y) :: stk) n h c z) : RJ g mt d mc ms av Q pc ls (.int y :: .int x :: stk) n h c z := by
  intro p e s m below meth cd H locs la X hR hS hl
  exact lv_isub X.1 X.2.1 hd (k p e s m below meth cd H locs la X hR hS hl)
theorem r_imul {x y : Int32} (hd : decode mt.2.1 pc = .ok (.imul, 1)) (k : RJ g mt d mc ms av Q (pc + 1) ls (.int (x * y) :: stk) n h c z) : RJ g mt d mc ms av Q pc ls (.int y :: .int x :: stk) n h c z := by
  intro p e s m below meth cd H locs la X hR hS hl
  exact lv_imul X.1 X.2.1 hd (k p e s m below meth cd H locs la X hR hS hl)
theorem r_iand {x y : Int32} (hd : decode mt.2.1 pc = .ok (.iand, 1)) (k : RJ g mt d mc ms av Q (pc + 1) ls (.int (x &&& y) :: stk) n h c z) : RJ g mt d mc ms av Q pc ls (.int y :: .int x :: stk) n h c z := by
  intro p e s m below meth cd H locs la X hR hS hl
  exact lv_iand X.1 X.2.1 hd (k p e s m below meth cd H locs la X hR hS hl)
theorem r_ior {x y : Int32} (hd : decode mt.2.1 pc = .ok (.ior, 1)) (k : RJ g mt d mc ms av Q (pc + 1) ls (.int (x ||| y) :: stk) n h c z) : RJ g mt d mc ms av Q pc ls (.int y :: .int x :: stk) n h c z := by
  intro p e s m below meth cd H locs la X hR hS hl
  exact lv_ior X.1 X.2.1 hd (k p e s m below meth cd H locs la X hR hS hl)
theorem r_ladd {x y : Int64} (hd : decode mt.2.1 pc = .ok (.ladd, 1)) (k : RJ g mt d mc ms av Q (pc + 1) ls (.long (x + y) :: stk) n h c z) : RJ g mt d mc ms av Q pc ls (.long y :: .long x :: stk) n h c z := by
  intro p e s m below meth cd H locs la X hR hS hl
  exact lv_ladd X.1 X.2.1 hd (k p e s m below meth cd H locs la X hR hS hl)
theorem r_lsub {x y : Int64} (hd : decode mt.2.1 pc = .ok (.lsub, 1)) (k : RJ g mt d mc ms av Q (pc + 1) ls (.long (x - y) :: stk) n h c z) : RJ g mt d mc ms av Q pc ls (.long y :: .long x :: stk) n h c z := by
  intro p e s m below meth cd H locs la X hR hS hl
  exact lv_lsub X.1 X.2.1 hd (k p e s m below meth cd H locs la X hR hS hl)
theorem r_lmul {x y : Int64} (hd : decode mt.2.1 pc = .ok (.lmul, 1)) (k : RJ g mt d mc ms av Q (pc + 1) ls (.long (x * y) :: stk) n h c z) : RJ g mt d mc ms av Q pc ls (.long y :: .long x :: stk) n h c z := by
  intro p e s m below meth cd H locs la X hR hS hl
  exact lv_lmul X.1 X.2.1 hd (k p e s m below meth cd H locs la X hR hS hl)
theorem r_land {x y : Int64} (hd : decode mt.2.1 pc = .ok (.land, 1)) (k : RJ g mt d mc ms av Q (pc + 1) ls (.long (x &&& y) :: stk) n h c z) : RJ g mt d mc ms av Q pc ls (.long y :: .long x :: stk) n h c z := by
  intro p e s m below meth cd H locs la X hR hS hl
  exact lv_land X.1 X.2.1 hd (k p e s m below meth cd H locs la X hR hS hl)
theorem r_lor {x y : Int64} (hd : decode mt.2.1 pc = .ok (.lor, 1)) (k : RJ g mt d mc ms av Q (pc + 1) ls (.long (x ||| y) :: stk) n h c z) : RJ g mt d mc ms av Q pc ls (.long y :: .long x :: stk) n h c z := by
  intro p e s m below meth cd H locs la X hR hS hl
  exact lv_lor X.1 X.2.1 hd (k p e s m below meth cd H locs la X hR hS hl)
theorem r_idiv {x y : Int32} (hd : decode mt.2.1 pc = .ok (.idiv, 1)) (hne : ¬ y = 0) (k : RJ g mt d mc ms av Q (pc + 1) ls (.int (x / y) :: stk) n h c z) : RJ g mt d mc ms av Q pc ls (.int y :: .int x :: stk) n h c z := by
  intro p e s m below meth cd H locs la X hR hS hl
  exact lv_idiv X.1 X.2.1 hd hne (k p e s m below meth cd H locs la X hR hS hl)
theorem r_irem {x y : Int32} (hd : decode mt.2.1 pc = .ok (.irem, 1)) (hne : ¬ y = 0) (k : RJ g mt d mc ms av Q (pc + 1) ls (.int (x - x / y * y) :: stk) n h c z) : RJ g mt d mc ms av Q pc ls (.int y :: .int x :: stk) n h c z := by
  intro p e s m below meth cd H locs la X hR hS hl
  exact lv_irem X.1 X.2.1 hd hne (k p e s m below meth cd H locs la X hR hS hl)
theorem r_ldiv {x y : Int64} (hd : decode mt.2.1 pc = .ok (.ldiv, 1)) (hne : ¬ y = 0) (k : RJ g mt d mc ms av Q (pc + 1) ls (.long (x / y) :: stk) n h c z) : RJ g mt d mc ms av Q pc ls (.long y :: .long x :: stk) n h c z := by
  intro p e s m below meth cd H locs la X hR hS hl
  exact lv_ldiv X.1 X.2.1 hd hne (k p e s m below meth cd H locs la X hR hS hl)
theorem r_lrem {x y : Int64} (hd : decode mt.2.1 pc = .ok (.lrem, 1)) (hne : ¬ y = 0) (k : RJ g mt d mc ms av Q (pc + 1) ls (.long (x - x / y * y) :: stk) n h c z) : RJ g mt d mc ms av Q pc ls (.long y :: .long x :: stk) n h c z := by
  intro p e s m below meth cd H locs la X hR hS hl
  exact lv_lrem X.1 X.2.1 hd hne (k p e s m below meth cd H locs la X hR hS hl)
theorem r_ineg {x : Int32} (hd : decode mt.2.1 pc = .ok (.ineg, 1)) (k : RJ g mt d mc ms av Q (pc + 1) ls (.int (-x) :: stk) n h c z) : RJ g mt d mc ms av Q pc ls (.int x :: stk) n h c z := by
  intro p e s m below meth cd H locs la X hR hS hl
  exact lv_ineg X.1 X.2.1 hd (k p e s m below meth cd H locs la X hR hS hl)
theorem r_lneg {x : Int64} (hd : decode mt.2.1 pc = .ok (.lneg, 1)) (k : RJ g mt d mc ms av Q (pc + 1) ls (.long (-x) :: stk) n h c z) : RJ g mt d mc ms av Q pc ls (.long x :: stk) n h c z := by
  intro p e s m below meth cd H locs la X hR hS hl
  exact lv_lneg X.1 X.2.1 hd (k p e s m below meth cd H locs la X hR hS hl)
theorem r_i2l {x : Int32} (hd : decode mt.2.1 pc = .ok (.i2l, 1)) (k : RJ g mt d mc ms av Q (pc + 1) ls (.long (x.toInt64) :: stk) n h c z) : RJ g mt d mc ms av Q pc ls (.int x :: stk) n h c z := by
  intro p e s m below meth cd H locs la X hR hS hl
  exact lv_i2l X.1 X.2.1 hd rfl (k p e s m below meth cd H locs la X hR hS hl)
theorem r_l2i {x : Int64} (hd : decode mt.2.1 pc = .ok (.l2i, 1)) (k : RJ g mt d mc ms av Q (pc + 1) ls (.int (x.toInt32) :: stk) n h c z) : RJ g mt d mc ms av Q pc ls (.long x :: stk) n h c z := by
  intro p e s m below meth cd H locs la X hR hS hl
  exact lv_l2i X.1 X.2.1 hd rfl (k p e s m below meth cd H locs la X hR hS hl)
theorem r_i2b {x : Int32} (hd : decode mt.2.1 pc = .ok (.i2b, 1)) (k : RJ g mt d mc ms av Q (pc + 1) ls (.int (x.toInt8.toInt32) :: stk) n h c z) : RJ g mt d mc ms av Q pc ls (.int x :: stk) n h c z := by
  intro p e s m below meth cd H locs la X hR hS hl
  exact lv_i2b X.1 X.2.1 hd rfl (k p e s m below meth cd H locs la X hR hS hl)
theorem r_lshl {x : Int64} {y : Int32} (hd : decode mt.2.1 pc = .ok (.lshl, 1)) (k : RJ g mt d mc ms av Q (pc + 1) ls (.long (x <<< (y.toInt64 &&& 63)) :: stk) n h c z) : RJ g mt d mc ms av Q pc ls (.int y :: .long x :: stk) n h c z := by
  intro p e s m below meth cd H locs la X hR hS hl
  exact lv_lshl X.1 X.2.1 hd rfl (k p e s m below meth cd H locs la X hR hS hl)
theorem r_lshr {x : Int64} {y : Int32} (hd : decode mt.2.1 pc = .ok (.lshr, 1)) (k : RJ g mt d mc ms av Q (pc + 1) ls (.long (x >>> (y.toInt64 &&& 63)) :: stk) n h c z) : RJ g mt d mc ms av Q pc ls (.int y :: .long x :: stk) n h c z := by
  intro p e s m below meth cd H locs la X hR hS hl
  exact lv_lshr X.1 X.2.1 hd rfl (k p e s m below meth cd H locs la X hR hS hl)
theorem r_lcmp {x y : Int64} (hd : decode mt.2.1 pc = .ok (.lcmp, 1)) (k : RJ g mt d mc ms av Q (pc + 1) ls (.int (lg_cmp x y) :: stk) n h c z) : RJ g mt d mc ms av Q pc ls (.long y :: .long x :: stk) n h c z := by
  intro p e s m below meth cd H locs la X hR hS hl
  exact W.lcmp X.1 X.2.1 hd (k p e s m below meth cd H locs la X hR hS hl)
theorem r_dup {v : Value} (hd : decode mt.2.1 pc = .ok (.dup, 1)) (hv : v.category = 1) (k : RJ g mt d mc ms av Q (pc + 1) ls (v :: v :: stk) n h c z) : RJ g mt d mc ms av Q pc ls (v :: stk) n h c z := by
  intro p e s m below meth cd H locs la X hR hS hl
  exact lv_dup X.1 X.2.1 hd (by rw [conc_cat]; exact hv) (k p e s m below meth cd H locs la X hR hS hl)
theorem r_pop {v : Value} (hd : decode mt.2.1 pc = .ok (.pop, 1)) (hv : v.category = 1) (k : RJ g mt d mc ms av Q (pc + 1) ls stk n h c z) : RJ g mt d mc ms av Q pc ls (v :: stk) n h c z := by
  intro p e s m below meth cd H locs la X hR hS hl
  exact lv_pop X.1 X.2.1 hd (by rw [conc_cat]; exact hv) (k p e s m below meth cd H locs la X hR hS hl)
theorem r_dup_x1 {v w : Value} (hd : decode mt.2.1 pc = .ok (.dup_x1, 1)) (hv : v.category = 1) (hw : w.category = 1) (k : RJ g mt d mc ms av Q (pc + 1) ls (v :: w :: v :: stk) n h c z) : RJ g mt d mc ms av Q pc ls (v :: w :: stk) n h c z := by
  intro p e s m below meth cd H locs la X hR hS hl
  exact lv_dup_x1 X.1 X.2.1 hd (by rw [conc_cat]; exact hv) (by rw [conc_cat]; exact hw) (k p e s m below meth cd H locs la X hR hS hl)
theorem r_dup2 {v w : Value} (hd : decode mt.2.1 pc = .ok (.dup2, 1)) (hv : v.category = 1) (hw : w.category = 1) (k : RJ g mt d mc ms av Q (pc + 1) ls (v :: w :: v :: w :: stk) n h c z) : RJ g mt d mc ms av Q pc ls (v :: w :: stk) n h c z := by
  intro p e s m below meth cd H locs la X hR hS hl
  exact lv_dup2_11 X.1 X.2.1 hd (by rw [conc_cat]; exact hv) (by rw [conc_cat]; exact hw) (k p e s m below meth cd H locs la X hR hS hl)
theorem r_goto {off : Int} {tgt : Nat} (hd : decode mt.2.1 pc = .ok (.goto off, 3)) (ht : (pc : Int) + off = (tgt : Int)) (k : RJ g mt d mc ms av Q tgt ls stk n h c z) : RJ g mt d mc ms av Q pc ls stk n h c z := by
  intro p e s m below meth cd H locs la X hR hS hl
  exact lv_goto X.1 X.2.1 hd ht (k p e s m below meth cd H locs la X hR hS hl)
theorem r_if_eq {x : Int32} {off : Int} {tgt : Nat} (hd : decode mt.2.1 pc = .ok (.ifCond .eq off, 3)) (ht : (pc : Int) + off = (tgt : Int)) (kt : x = 0 → RJ g mt d mc ms av Q tgt ls stk n h c z) (kf : ¬ x = 0 → RJ g mt d mc ms av Q (pc + 3) ls stk n h c z) : RJ g mt d mc ms av Q pc ls (.int x :: stk) n h c z := by
  intro p e s m below meth cd H locs la X hR hS hl
  exact lv_if_eq X.1 X.2.1 hd ht (fun q => kt q p e s m below meth cd H locs la X hR hS hl) (fun q => kf q p e s m below meth cd H locs la X hR hS hl)
theorem r_if_ne {x : Int32} {off : Int} {tgt : Nat} (hd : decode mt.2.1 pc = .ok (.ifCond .ne off, 3)) (ht : (pc : Int) + off = (tgt : Int)) (kt : ¬ x = 0 → RJ g mt d mc ms av Q tgt ls stk n h c z) (kf : x = 0 → RJ g mt d mc ms av Q (pc + 3) ls stk n h c z) : RJ g mt d mc ms av Q pc ls (.int x :: stk) n h c z := by
  intro p e s m below meth cd H locs la X hR hS hl
  exact lv_if_ne X.1 X.2.1 hd ht (fun q => kt q p e s m below meth cd H locs la X hR hS hl) (fun q => kf q p e s m below meth cd H locs la X hR hS hl)
theorem r_if_lt {x : Int32} {off : Int} {tgt : Nat} (hd : decode mt.2.1 pc = .ok (.ifCond .lt off, 3)) (ht : (pc : Int) + off = (tgt : Int)) (kt : x < 0 → RJ g mt d mc ms av Q tgt ls stk n h c z) (kf : ¬ x < 0 → RJ g mt d mc ms av Q (pc + 3) ls stk n h c z) : RJ g mt d mc ms av Q pc ls (.int x :: stk) n h c z := by
  intro p e s m below meth cd H locs la X hR hS hl
  exact lv_if_lt X.1 X.2.1 hd ht (fun q => kt q p e s m below meth cd H locs la X hR hS hl) (fun q => kf q p e s m below meth cd H locs la X hR hS hl)
theorem r_if_ge {x : Int32} {off : Int} {tgt : Nat} (hd : decode mt.2.1 pc = .ok (.ifCond .ge off, 3)) (ht : (pc : Int) + off = (tgt : Int)) (kt : 0 ≤ x → RJ g mt d mc ms av Q tgt ls stk n h c z) (kf : ¬ 0 ≤ x → RJ g mt d mc ms av Q (pc + 3) ls stk n h c z) : RJ g mt d mc ms av Q pc ls (.int x :: stk) n h c z := by
  intro p e s m below meth cd H locs la X hR hS hl
  exact lv_if_ge X.1 X.2.1 hd ht (fun q => kt q p e s m below meth cd H locs la X hR hS hl) (fun q => kf q p e s m below meth cd H locs la X hR hS hl)
theorem r_if_gt {x : Int32} {off : Int} {tgt : Nat} (hd : decode mt.2.1 pc = .ok (.ifCond .gt off, 3)) (ht : (pc : Int) + off = (tgt : Int)) (kt : 0 < x → RJ g mt d mc ms av Q tgt ls stk n h c z) (kf : ¬ 0 < x → RJ g mt d mc ms av Q (pc + 3) ls stk n h c z) : RJ g mt d mc ms av Q pc ls (.int x :: stk) n h c z := by
  intro p e s m below meth cd H locs la X hR hS hl
  exact lv_if_gt X.1 X.2.1 hd ht (fun q => kt q p e s m below meth cd H locs la X hR hS hl) (fun q => kf q p e s m below meth cd H locs la X hR hS hl)
theorem r_if_le {x : Int32} {off : Int} {tgt : Nat} (hd : decode mt.2.1 pc = .ok (.ifCond .le off, 3)) (ht : (pc : Int) + off = (tgt : Int)) (kt : x ≤ 0 → RJ g mt d mc ms av Q tgt ls stk n h c z) (kf : ¬ x ≤ 0 → RJ g mt d mc ms av Q (pc + 3) ls stk n h c z) : RJ g mt d mc ms av Q pc ls (.int x :: stk) n h c z := by
  intro p e s m below meth cd H locs la X hR hS hl
  exact lv_if_le X.1 X.2.1 hd ht (fun q => kt q p e s m below meth cd H locs la X hR hS hl) (fun q => kf q p e s m below meth cd H locs la X hR hS hl)
theorem r_icmp_eq {x y : Int32} {off : Int} {tgt : Nat} (hd : decode mt.2.1 pc = .ok (.if_icmp .eq off, 3)) (ht : (pc : Int) + off = (tgt : Int)) (kt : x = y → RJ g mt d mc ms av Q tgt ls stk n h c z) (kf : ¬ x = y → RJ g mt d mc ms av Q (pc + 3) ls stk n h c z) : RJ g mt d mc ms av Q pc ls (.int y :: .int x :: stk) n h c z := by
  intro p e s m below meth cd H locs la X hR hS hl
  exact lv_icmp_eq X.1 X.2.1 hd ht (fun q => kt q p e s m below meth cd H locs la X hR hS hl) (fun q => kf q p e s m below meth cd H locs la X hR hS hl)
theorem r_icmp_ne {x y : Int32} {off : Int} {tgt : Nat} (hd : decode mt.2.1 pc = .ok (.if_icmp .ne off, 3)) (ht : (pc : Int) + off = (tgt : Int)) (kt : ¬ x = y → RJ g mt d mc ms av Q tgt ls stk n h c z) (kf : x = y → RJ g mt d mc ms av Q (pc + 3) ls stk n h c z) : RJ g mt d mc ms av Q pc ls (.int y :: .int x :: stk) n h c z := by
  intro p e s m below meth cd H locs la X hR hS hl
  exact lv_icmp_ne X.1 X.2.1 hd ht (fun q => kt q p e s m below meth cd H locs la X hR hS hl) (fun q => kf q p e s m below meth cd H locs la X hR hS hl)
theorem r_icmp_lt {x y : Int32} {off : Int} {tgt : Nat} (hd : decode mt.2.1 pc = .ok (.if_icmp .lt off, 3)) (ht : (pc : Int) + off = (tgt : Int)) (kt : x < y → RJ g mt d mc ms av Q tgt ls stk n h c z) (kf : ¬ x < y → RJ g mt d mc ms av Q (pc + 3) ls stk n h c z) : RJ g mt d mc ms av Q pc ls (.int y :: .int x :: stk) n h c z := by
  intro p e s m below meth cd H locs la X hR hS hl
  exact lv_icmp_lt X.1 X.2.1 hd ht (fun q => kt q p e s m below meth cd H locs la X hR hS hl) (fun q => kf q p e s m below meth cd H locs la X hR hS hl)
theorem r_icmp_ge {x y : Int32} {off : Int} {tgt : Nat} (hd : decode mt.2.1 pc = .ok (.if_icmp .ge off, 3)) (ht : (pc : Int) + off = (tgt : Int)) (kt : y ≤ x → RJ g mt d mc ms av Q tgt ls stk n h c z) (kf : ¬ y ≤ x → RJ g mt d mc ms av Q (pc + 3) ls stk n h c z) : RJ g mt d mc ms av Q pc ls (.int y :: .int x :: stk) n h c z := by
  intro p e s m below meth cd H locs la X hR hS hl
  exact lv_icmp_ge X.1 X.2.1 hd ht (fun q => kt q p e s m below meth cd H locs la X hR hS hl) (fun q => kf q p e s m below meth cd H locs la X hR hS hl)
theorem r_icmp_gt {x y : Int32} {off : Int} {tgt : Nat} (hd : decode mt.2.1 pc = .ok (.if_icmp .gt off, 3)) (ht : (pc : Int) + off = (tgt : Int)) (kt : y < x → RJ g mt d mc ms av Q tgt ls stk n h c z) (kf : ¬ y < x → RJ g mt d mc ms av Q (pc + 3) ls stk n h c z) : RJ g mt d mc ms av Q pc ls (.int y :: .int x :: stk) n h c z := by
  intro p e s m below meth cd H locs la X hR hS hl
  exact lv_icmp_gt X.1 X.2.1 hd ht (fun q => kt q p e s m below meth cd H locs la X hR hS hl) (fun q => kf q p e s m below meth cd H locs la X hR hS hl)
theorem r_icmp_le {x y : Int32} {off : Int} {tgt : Nat} (hd : decode mt.2.1 pc = .ok (.if_icmp .le off, 3)) (ht : (pc : Int) + off = (tgt : Int)) (kt : x ≤ y → RJ g mt d mc ms av Q tgt ls stk n h c z) (kf : ¬ x ≤ y → RJ g mt d mc ms av Q (pc + 3) ls stk n h c z) : RJ g mt d mc ms av Q pc ls (.int y :: .int x :: stk) n h c z := by
  intro p e s m below meth cd H locs la X hR hS hl
  exact lv_icmp_le X.1 X.2.1 hd ht (fun q => kt q p e s m below meth cd H locs la X hR hS hl) (fun q => kf q p e s m below meth cd H locs la X hR hS hl)
theorem r_ifnull {a : Nat} {off : Int} (hd : decode mt.2.1 pc = .ok (.ifnull off, 3)) (k : RJ g mt d mc ms av Q (pc + 3) ls stk n h c z) : RJ g mt d mc ms av Q pc ls (.ref a :: stk) n h c z := by
  intro p e s m below meth cd H locs la X hR hS hl
  exact lv_ifnull X.1 X.2.1 hd (k p e s m below meth cd H locs la X hR hS hl)
theorem r_ifnullN {off : Int} {tgt : Nat} (hd : decode mt.2.1 pc = .ok (.ifnull off, 3)) (ht : (pc : Int) + off = (tgt : Int)) (k : RJ g mt d mc ms av Q tgt ls stk n h c z) : RJ g mt d mc ms av Q pc ls (.null :: stk) n h c z := by
  intro p e s m below meth cd H locs la X hR hS hl
  exact lv_ifnullN X.1 X.2.1 hd ht (k p e s m below meth cd H locs la X hR hS hl)
theorem r_acmp_eq {a b : Nat} {off : Int} {tgt : Nat} (hd : decode mt.2.1 pc = .ok (.if_acmp .eq off, 3)) (ht : (pc : Int) + off = (tgt : Int)) (kt : a = b → RJ g mt d mc ms av Q tgt ls stk n h c z) (kf : ¬ a = b → RJ g mt d mc ms av Q (pc + 3) ls stk n h c z) : RJ g mt d mc ms av Q pc ls (.ref b :: .ref a :: stk) n h c z := by
  intro p e s m below meth cd H locs la X hR hS hl
  exact lv_acmp_eq (rx := some (g.2.2.2.1 + a)) (ry := some (g.2.2.2.1 + b)) X.1 X.2.1 hd ht (fun q => kt (by have := Option.some.inj q; omega) p e s m below meth cd H locs la X hR hS hl) (fun q => kf (fun q2 => q (by rw [q2])) p e s m below meth cd H locs la X hR hS hl)
theorem r_tableIn {dflt lo hi : Int} {offs : Array Int} {len : Nat} {x : Int32} {off : Int} {tgt : Nat} (hd : decode mt.2.1 pc = .ok (.tableswitch dflt lo hi offs, len)) (h1 : ¬ x.toInt < lo) (h2 : ¬ hi < x.toInt) (ho : offs[(x.toInt - lo).toNat]? = some off) (ht : (pc : Int) + off = (tgt : Int)) (k : RJ g mt d mc ms av Q tgt ls stk n h c z) : RJ g mt d mc ms av Q pc ls (.int x :: stk) n h c z := by
  intro p e s m below meth cd H locs la X hR hS hl
  exact lv_tableIn X.1 X.2.1 hd h1 h2 ho ht (k p e s m below meth cd H locs la X hR hS hl)
theorem r_tableOut {dflt lo hi : Int} {offs : Array Int} {len : Nat} {x : Int32} {tgt : Nat} (hd : decode mt.2.1 pc = .ok (.tableswitch dflt lo hi offs, len)) (ho : x.toInt < lo ∨ hi < x.toInt) (ht : (pc : Int) + dflt = (tgt : Int)) (k : RJ g mt d mc ms av Q tgt ls stk n h c z) : RJ g mt d mc ms av Q pc ls (.int x :: stk) n h c z := by
  intro p e s m below meth cd H locs la X hR hS hl
  exact lv_tableOut X.1 X.2.1 hd ho ht (k p e s m below meth cd H locs la X hR hS hl)
end
