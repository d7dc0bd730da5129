set_option maxRecDepth 100000
/-! the main phase: all cells are there -/
theorem lay_ltA {a k x y : Nat} (h : lay a = (k, x, y)) (hk : k ≠ 2 := by decide) : a < N0 := lay_lt h hk
theorem CallN.mono {g : GX} {mt : Mth} {d mc ms : Nat} {av : List Value} {n : Nat} {h : Hp} {Q Q' : QT} (hM : CallN g mt d mc ms av n h Q) (hq : ∀ v n' h', Q v n' h' → Q' v n' h') : CallN g mt d mc ms av n h Q' := by
  intro p e ha hc hk s m args below hf happ hP hK
  obtain ⟨k, o, h1, h2, h3, ⟨⟨v, n', h', e1, e2, e3⟩, e4⟩, e5⟩ := hM p e ha hc hk s m args below hf happ hP hK
  exact ⟨k, o, h1, h2, h3, ⟨⟨v, n', h', e1, hq _ _ _ e2, e3⟩, e4⟩, e5⟩
abbrev QI (n : Nat) (Q : Int32 → Hp → Prop) : QT := fun v n' h' => ∃ r, v = some (.int r) ∧ n' = n ∧ Q r h'
abbrev QV (n : Nat) (Q : Hp → Prop) : QT := fun v n' h' => v = none ∧ n' = n ∧ Q h'
abbrev QR (n : Nat) (Q : Nat → Hp → Prop) : QT := fun v n' h' => ∃ r, v = some (.ref r) ∧ n' = n ∧ Q r h'
/-- calls that make no cell: of an answer int, void, a reference -/
def CallI (g : GX) (mt : Mth) (d : Nat) (av : List Value) (n : Nat) (h : Hp) (Q : Int32 → Hp → Prop) : Prop := CallN g mt d 0 0 av n h (QI n Q)
def CallV (g : GX) (mt : Mth) (d : Nat) (av : List Value) (n : Nat) (h : Hp) (Q : Hp → Prop) : Prop := CallN g mt d 0 0 av n h (QV n Q)
def CallR (g : GX) (mt : Mth) (d : Nat) (av : List Value) (n : Nat) (h : Hp) (Q : Nat → Hp → Prop) : Prop := CallN g mt d 0 0 av n h (QR n Q)
section
variable {g : GX} {mt : Mth} {d mc ms : Nat} {av : List Value} {Q : QT} {pc : Nat} {ls ls2 : LV} {stk : List Value} {n : Nat} {h : Hp} {c z : Nat}
theorem CallI.mono {Q Q' : Int32 → Hp → Prop} (hM : CallI g mt d av n h Q) (hq : ∀ r h', Q r h' → Q' r h') : CallI g mt d av n h Q' := CallN.mono hM (fun v n' h' ⟨r, e1, e2, q⟩ => ⟨r, e1, e2, hq r h' q⟩)
theorem CallV.mono {Q Q' : Hp → Prop} (hM : CallV g mt d av n h Q) (hq : ∀ h', Q h' → Q' h') : CallV g mt d av n h Q' := CallN.mono hM (fun v n' h' ⟨e1, e2, q⟩ => ⟨e1, e2, hq h' q⟩)
theorem CallR.mono {Q Q' : Nat → Hp → Prop} (hM : CallR g mt d av n h Q) (hq : ∀ r h', Q r h' → Q' r h') : CallR g mt d av n h Q' := CallN.mono hM (fun v n' h' ⟨r, e1, e2, q⟩ => ⟨r, e1, e2, hq r h' q⟩)
theorem RJ.main (k : N0 ≤ n → Sk h → RJ g mt d mc ms av Q pc ls stk n h c z) (hp : g.2.2.2.2 = true) : RJ g mt d mc ms av Q pc ls stk n h c z := by
  intro p e s m below meth cd H locs la X hR hS hl
  exact k (hR.2.2 hp).1 (hR.2.2 hp).2 p e s m below meth cd H locs la X hR hS hl
def prn (m : List Bool) (l : LV) : LV := List.zipWith (fun b v => if b then v else none) m l
theorem prn_get : ∀ {m : List Bool} {l : LV} {i : Nat} {v : Value}, (prn m l)[i]? = some (some v) → l[i]? = some (some v) := by
  intro m l i v hh
  simp only [prn, List.getElem?_zipWith] at hh
  cases hm : m[i]? <;> cases hl : l[i]? <;> simp [hm, hl] at hh
  rename_i b x
  cases b <;> simp at hh
  rw [hh]
theorem r_prune (m : List Bool) (h2 : prn m ls = ls2) (k : RJ g mt d mc ms av Q pc ls2 stk n h c z) : RJ g mt d mc ms av Q pc ls stk n h c z := by
  intro p e s m' below meth cd H locs la X hR hS hl
  refine k p e s m' below meth cd H locs la X hR hS ⟨hl.1, hl.2.1, fun q hq => ?_⟩
  obtain ⟨j, w⟩ := q
  obtain ⟨i, v, e1, e2, e3⟩ := mem_al hq
  subst e1; subst e2; subst h2
  have := al_mem (b := g.2.2.2.1) (k := 0) (prn_get e3)
  exact hl.2.2 _ this
theorem m_getI {idx ci k a : Nat} {r : vw_C} (hp : g.2.2.2.2 = true) (fw : FW mt.1.cls idx ci k r) (hd : decode mt.2.1 pc = .ok (.getfield idx, 3)) (hj : jrf ci k = false) (ht : lay a = (0, ci, r.2.2)) (kk : RJ g mt d mc ms av Q (pc + 3) ls (.int (ri h a k) :: stk) n h c z) : RJ g mt d mc ms av Q pc ls (.ref a :: stk) n h c z :=
  RJ.main (fun hN _ => r_getI fw hd hj ht (Nat.lt_of_lt_of_le (lay_ltA ht) hN) kk) hp
theorem m_getF {idx ci k a x : Nat} {r : vw_C} (hp : g.2.2.2.2 = true) (fw : FW mt.1.cls idx ci k r) (hd : decode mt.2.1 pc = .ok (.getfield idx, 3)) (hj : jrf ci k = true) (ht : lay a = (0, ci, r.2.2)) (hx : fin a k = some x) (kk : RJ g mt d mc ms av Q (pc + 3) ls (.ref x :: stk) n h c z) : RJ g mt d mc ms av Q pc ls (.ref a :: stk) n h c z :=
  RJ.main (fun hN hs => r_getR fw hd hj ht (Nat.lt_of_lt_of_le (lay_ltA ht) hN) (hs a k x hx) kk) hp
theorem m_getM {idx ci k a x : Nat} {r : vw_C} (hp : g.2.2.2.2 = true) (fw : FW mt.1.cls idx ci k r) (hd : decode mt.2.1 pc = .ok (.getfield idx, 3)) (hj : jrf ci k = true) (ht : lay a = (0, ci, r.2.2)) (hx : rr h a k = some x) (kk : RJ g mt d mc ms av Q (pc + 3) ls (.ref x :: stk) n h c z) : RJ g mt d mc ms av Q pc ls (.ref a :: stk) n h c z :=
  RJ.main (fun hN hs => r_getR fw hd hj ht (Nat.lt_of_lt_of_le (lay_ltA ht) hN) hx kk) hp
theorem m_putI {idx ci k a : Nat} {r : vw_C} {x : Int32} (hp : g.2.2.2.2 = true) (fw : FW mt.1.cls idx ci k r) (hd : decode mt.2.1 pc = .ok (.putfield idx, 3)) (hj : jty ci k = .int) (hfin : (r.2.1 k).2.2.2 = false) (ht : lay a = (0, ci, r.2.2)) (kk : ∀ h1, h1 = wi h a k x → RJ g mt d mc ms av Q (pc + 3) ls stk n h1 c z) : RJ g mt d mc ms av Q pc ls (.int x :: .ref a :: stk) n h c z :=
  RJ.main (fun hN _ => r_putI fw hd hj hfin ht (Nat.lt_of_lt_of_le (lay_ltA ht) hN) (kk _ rfl)) hp
theorem m_putZ {idx ci k a : Nat} {r : vw_C} {x : Int32} (hp : g.2.2.2.2 = true) (fw : FW mt.1.cls idx ci k r) (hd : decode mt.2.1 pc = .ok (.putfield idx, 3)) (hj : jty ci k = .boolean) (hfin : (r.2.1 k).2.2.2 = false) (ht : lay a = (0, ci, r.2.2)) (hx : x = 0 ∨ x = 1) (kk : ∀ h1, h1 = wi h a k x → RJ g mt d mc ms av Q (pc + 3) ls stk n h1 c z) : RJ g mt d mc ms av Q pc ls (.int x :: .ref a :: stk) n h c z :=
  RJ.main (fun hN _ => r_putZ fw hd hj hfin ht (Nat.lt_of_lt_of_le (lay_ltA ht) hN) hx (kk _ rfl)) hp
theorem m_putM {idx ci k a x : Nat} {r : vw_C} (hp : g.2.2.2.2 = true) (fw : FW mt.1.cls idx ci k r) (hd : decode mt.2.1 pc = .ok (.putfield idx, 3)) (hj : jrf ci k = true) (hfin : (r.2.1 k).2.2.2 = false) (ht : lay a = (0, ci, r.2.2)) (hf : fin a k = none) (kk : ∀ h1, h1 = wr h a k (some x) → RJ g mt d mc ms av Q (pc + 3) ls stk n h1 c z) : RJ g mt d mc ms av Q pc ls (.ref x :: .ref a :: stk) n h c z :=
  RJ.main (fun hN _ => r_putR fw hd hj hfin ht (Nat.lt_of_lt_of_le (lay_ltA ht) hN) (fun _ => hf) (kk _ rfl)) hp
theorem m_iald {a L : Nat} {i : Int32} (hp : g.2.2.2.2 = true) (hd : decode mt.2.1 pc = .ok (.iaload, 1)) (ht : lay a = (1, L, 0)) (hi : vp_in i L) (kk : RJ g mt d mc ms av Q (pc + 1) ls (.int (ri h a i.toNatClampNeg) :: stk) n h c z) : RJ g mt d mc ms av Q pc ls (.int i :: .ref a :: stk) n h c z :=
  RJ.main (fun hN _ => r_iald hd ht (Nat.lt_of_lt_of_le (lay_ltA ht) hN) hi kk) hp
theorem m_bald {a L : Nat} {i : Int32} (hp : g.2.2.2.2 = true) (hd : decode mt.2.1 pc = .ok (.baload, 1)) (ht : lay a = (1, L, 1)) (hi : vp_in i L) (kk : RJ g mt d mc ms av Q (pc + 1) ls (.int (ri h a i.toNatClampNeg) :: stk) n h c z) : RJ g mt d mc ms av Q pc ls (.int i :: .ref a :: stk) n h c z :=
  RJ.main (fun hN _ => r_bald hd ht (Nat.lt_of_lt_of_le (lay_ltA ht) hN) hi kk) hp
theorem m_zald {a L : Nat} {i : Int32} (hp : g.2.2.2.2 = true) (hd : decode mt.2.1 pc = .ok (.baload, 1)) (ht : lay a = (1, L, 2)) (hi : vp_in i L) (kk : RJ g mt d mc ms av Q (pc + 1) ls (.int (ri h a i.toNatClampNeg) :: stk) n h c z) : RJ g mt d mc ms av Q pc ls (.int i :: .ref a :: stk) n h c z :=
  RJ.main (fun hN _ => r_zald hd ht (Nat.lt_of_lt_of_le (lay_ltA ht) hN) hi kk) hp
theorem m_iast {a L : Nat} {i x : Int32} (hp : g.2.2.2.2 = true) (hd : decode mt.2.1 pc = .ok (.iastore, 1)) (ht : lay a = (1, L, 0)) (hi : vp_in i L) (kk : ∀ h1, h1 = wi h a i.toNatClampNeg x → RJ g mt d mc ms av Q (pc + 1) ls stk n h1 c z) : RJ g mt d mc ms av Q pc ls (.int x :: .int i :: .ref a :: stk) n h c z :=
  RJ.main (fun hN _ => r_iast hd ht (Nat.lt_of_lt_of_le (lay_ltA ht) hN) hi (kk _ rfl)) hp
theorem m_bast {a L : Nat} {i x : Int32} (hp : g.2.2.2.2 = true) (hd : decode mt.2.1 pc = .ok (.bastore, 1)) (ht : lay a = (1, L, 1)) (hi : vp_in i L) (hx : narrow .byte (.int x) = .int x) (kk : ∀ h1, h1 = wi h a i.toNatClampNeg x → RJ g mt d mc ms av Q (pc + 1) ls stk n h1 c z) : RJ g mt d mc ms av Q pc ls (.int x :: .int i :: .ref a :: stk) n h c z :=
  RJ.main (fun hN _ => r_bast hd ht (Nat.lt_of_lt_of_le (lay_ltA ht) hN) hi hx (kk _ rfl)) hp
theorem m_zast {a L : Nat} {i x : Int32} (hp : g.2.2.2.2 = true) (hd : decode mt.2.1 pc = .ok (.bastore, 1)) (ht : lay a = (1, L, 2)) (hi : vp_in i L) (hx : narrow .boolean (.int x) = .int x) (kk : ∀ h1, h1 = wi h a i.toNatClampNeg x → RJ g mt d mc ms av Q (pc + 1) ls stk n h1 c z) : RJ g mt d mc ms av Q pc ls (.int x :: .int i :: .ref a :: stk) n h c z :=
  RJ.main (fun hN _ => r_zast hd ht (Nat.lt_of_lt_of_le (lay_ltA ht) hN) hi hx (kk _ rfl)) hp
theorem m_alen {a L j k : Nat} {ty : FieldType} (hp : g.2.2.2.2 = true) (hd : decode mt.2.1 pc = .ok (.arraylength, 1)) (ht : lay a = (k, L, j)) (hk : k = 1 ∨ k = 2) (hj : jat[j]? = some ty) (ha : a < N0) (kk : RJ g mt d mc ms av Q (pc + 1) ls (.int (nI L) :: stk) n h c z) : RJ g mt d mc ms av Q pc ls (.ref a :: stk) n h c z :=
  RJ.main (fun hN _ => r_alen hd ht hk hj (Nat.lt_of_lt_of_le ha hN) kk) hp
/-- an element of an array of references: one that stays, any other -/
theorem m_aalF {a L j x : Nat} {ty : FieldType} {i : Int32} (hp : g.2.2.2.2 = true) (hd : decode mt.2.1 pc = .ok (.aaload, 1)) (ht : lay a = (2, L, j)) (hj : jat[j]? = some ty) (hty : ty.isReference = true) (ha : a < N0) (hi : vp_in i L) (hx : fin a i.toNatClampNeg = some x) (kk : RJ g mt d mc ms av Q (pc + 1) ls (.ref x :: stk) n h c z) : RJ g mt d mc ms av Q pc ls (.int i :: .ref a :: stk) n h c z :=
  RJ.main (fun hN hs => r_aald hd ht hj hty (Nat.lt_of_lt_of_le ha hN) hi (hs _ _ _ hx) kk) hp
theorem m_aalM {a L j x : Nat} {ty : FieldType} {i : Int32} (hp : g.2.2.2.2 = true) (hd : decode mt.2.1 pc = .ok (.aaload, 1)) (ht : lay a = (2, L, j)) (hj : jat[j]? = some ty) (hty : ty.isReference = true) (ha : a < N0) (hi : vp_in i L) (hx : rr h a i.toNatClampNeg = some x) (kk : RJ g mt d mc ms av Q (pc + 1) ls (.ref x :: stk) n h c z) : RJ g mt d mc ms av Q pc ls (.int i :: .ref a :: stk) n h c z :=
  RJ.main (fun hN hs => r_aald hd ht hj hty (Nat.lt_of_lt_of_le ha hN) hi hx kk) hp
theorem m_aast {a L j x ci nf : Nat} {i : Int32} {r : vw_C} (hp : g.2.2.2.2 = true) (hd : decode mt.2.1 pc = .ok (.aastore, 1)) (ht : lay a = (2, L, j)) (hj : jat[j]? = some (.object r.1)) (hc : jcl[ci]? = some r) (hx : lay x = (0, ci, r.2.2)) (ha : a < N0) (hi : vp_in i L) (hf : fin a i.toNatClampNeg = none) (kk : ∀ h1, h1 = wr h a i.toNatClampNeg (some x) → RJ g mt d mc ms av Q (pc + 1) ls stk n h1 c z) : RJ g mt d mc ms av Q pc ls (.ref x :: .int i :: .ref a :: stk) n h c z :=
  RJ.main (fun hN hs => r_aast (nf := 0) hd ht hj hc hx (Nat.lt_of_lt_of_le ha hN) (Nat.lt_of_lt_of_le (lay_ltA hx) hN) hi (fun _ => hf) (kk _ rfl)) hp
/-! calls without new cells -/
theorem k_SI {idx d' np : Nat} {mt' : Mth} {As : List Value} (cw : CWS mt.1.cls idx mt' np) (hd : decode mt.2.1 pc = .ok (.invokestatic idx, 3)) (hnp : As.length = np) (hW : (stk.map fun v => v.category).sum ≤ 8)
    (hC : CallI g mt' d' As n h (fun r h' => RJ g mt (d' + 1) mc ms av Q (pc + 3) ls (.int r :: stk) n h' c z)) (hcz : c ≤ mc ∧ z ≤ ms) : RJ g mt (d' + 1) mc ms av Q pc ls (As.reverse ++ stk) n h c z :=
  r_callS cw hd hnp hW hcz (CallN.mono hC (fun v n' h' ⟨r, e1, e2, q⟩ => by subst e1; subst e2; exact q))
theorem k_SV {idx d' np : Nat} {mt' : Mth} {As : List Value} (cw : CWS mt.1.cls idx mt' np) (hd : decode mt.2.1 pc = .ok (.invokestatic idx, 3)) (hnp : As.length = np) (hW : (stk.map fun v => v.category).sum ≤ 8)
    (hC : CallV g mt' d' As n h (fun h' => RJ g mt (d' + 1) mc ms av Q (pc + 3) ls stk n h' c z)) (hcz : c ≤ mc ∧ z ≤ ms) : RJ g mt (d' + 1) mc ms av Q pc ls (As.reverse ++ stk) n h c z :=
  r_callS cw hd hnp hW hcz (CallN.mono hC (fun v n' h' ⟨e1, e2, q⟩ => by subst e1; subst e2; exact q))
theorem k_SR {idx d' np : Nat} {mt' : Mth} {As : List Value} (cw : CWS mt.1.cls idx mt' np) (hd : decode mt.2.1 pc = .ok (.invokestatic idx, 3)) (hnp : As.length = np) (hW : (stk.map fun v => v.category).sum ≤ 8)
    (hC : CallR g mt' d' As n h (fun r h' => RJ g mt (d' + 1) mc ms av Q (pc + 3) ls (.ref r :: stk) n h' c z)) (hcz : c ≤ mc ∧ z ≤ ms) : RJ g mt (d' + 1) mc ms av Q pc ls (As.reverse ++ stk) n h c z :=
  r_callS cw hd hnp hW hcz (CallN.mono hC (fun v n' h' ⟨r, e1, e2, q⟩ => by subst e1; subst e2; exact q))
theorem k_VI {idx d' np ci nf a : Nat} {mt' : Mth} {As : List Value} (hp : g.2.2.2.2 = true) (cw : CWV mt.1.cls idx mt' np ci) (hd : decode mt.2.1 pc = .ok (.invokevirtual idx, 3)) (hnp : As.length = np) (hW : (stk.map fun v => v.category).sum ≤ 8) (ht : lay a = (0, ci, nf))
    (hC : CallI g mt' d' (.ref a :: As) n h (fun r h' => RJ g mt (d' + 1) mc ms av Q (pc + 3) ls (.int r :: stk) n h' c z)) (hcz : c ≤ mc ∧ z ≤ ms) : RJ g mt (d' + 1) mc ms av Q pc ls (As.reverse ++ .ref a :: stk) n h c z :=
  RJ.main (fun hN _ => r_callV cw hd hnp hW hcz ht (Nat.lt_of_lt_of_le (lay_ltA ht) hN) (CallN.mono hC (fun v n' h' ⟨r, e1, e2, q⟩ => by subst e1; subst e2; exact q))) hp
theorem k_VV {idx d' np ci nf a : Nat} {mt' : Mth} {As : List Value} (hp : g.2.2.2.2 = true) (cw : CWV mt.1.cls idx mt' np ci) (hd : decode mt.2.1 pc = .ok (.invokevirtual idx, 3)) (hnp : As.length = np) (hW : (stk.map fun v => v.category).sum ≤ 8) (ht : lay a = (0, ci, nf))
    (hC : CallV g mt' d' (.ref a :: As) n h (fun h' => RJ g mt (d' + 1) mc ms av Q (pc + 3) ls stk n h' c z)) (hcz : c ≤ mc ∧ z ≤ ms) : RJ g mt (d' + 1) mc ms av Q pc ls (As.reverse ++ .ref a :: stk) n h c z :=
  RJ.main (fun hN _ => r_callV cw hd hnp hW hcz ht (Nat.lt_of_lt_of_le (lay_ltA ht) hN) (CallN.mono hC (fun v n' h' ⟨e1, e2, q⟩ => by subst e1; subst e2; exact q))) hp
theorem k_VR {idx d' np ci nf a : Nat} {mt' : Mth} {As : List Value} (hp : g.2.2.2.2 = true) (cw : CWV mt.1.cls idx mt' np ci) (hd : decode mt.2.1 pc = .ok (.invokevirtual idx, 3)) (hnp : As.length = np) (hW : (stk.map fun v => v.category).sum ≤ 8) (ht : lay a = (0, ci, nf))
    (hC : CallR g mt' d' (.ref a :: As) n h (fun r h' => RJ g mt (d' + 1) mc ms av Q (pc + 3) ls (.ref r :: stk) n h' c z)) (hcz : c ≤ mc ∧ z ≤ ms) : RJ g mt (d' + 1) mc ms av Q pc ls (As.reverse ++ .ref a :: stk) n h c z :=
  RJ.main (fun hN _ => r_callV cw hd hnp hW hcz ht (Nat.lt_of_lt_of_le (lay_ltA ht) hN) (CallN.mono hC (fun v n' h' ⟨r, e1, e2, q⟩ => by subst e1; subst e2; exact q))) hp
theorem r_ixor {x y : Int32} (hd : decode mt.2.1 pc = .ok (.ixor, 1)) (k : RJ g mt d mc ms av Q (pc + 1) ls (.int (x ^^^ y) :: stk) n h c z) : RJ g mt d mc ms av Q pc ls (.int y :: .int x :: stk) n h c z := by
  intro p e s m below meth cd H locs la X hR hS hl
  exact lv_ixor X.1 X.2.1 hd (k p e s m below meth cd H locs la X hR hS hl)
/-! System.arraycopy of ints or bytes -/
def cpy (h : Hp) (a sp b dp k : Nat) : Hp := (fun x y => if x = b ∧ dp ≤ y ∧ y < dp + k then h.1 a (sp + (y - dp)) else h.1 x y, h.2)
def ArC (own : String) (idx : Nat) : Prop := Cond.methodLink own idx arraycopyName ∈ lw_all ∧ Cond.native arraycopyName ∈ lw_all ∧ Cond.static arraycopyName ∈ lw_all ∧ Cond.initialized "java/lang/System" ∈ lw_all
theorem toN {x : Int32} (hz : ¬ x < 0) : x.toInt = (x.toNatClampNeg : Int) := by
  have hz0 : (0 : Int) ≤ x.toInt := by
    have := Int32.not_lt.mp hz
    simpa using Int32.le_iff_toInt_le.mp this
  show x.toInt = ((x.toInt.toNat : Nat) : Int)
  omega
theorem copyRoom {x d : Nat} (hW : x ≤ 8) (hd1 : 1 ≤ d) : 2 * 0 + x + (nativeFrameWords "java/lang/System" "arraycopy" 5 + 11) ≤ 40 * d := by
  have : nativeFrameWords "java/lang/System" "arraycopy" 5 + 11 ≤ 30 := by decide
  omega
theorem m_copy {idx a b La Lb j : Nat} {ty : FieldType} {sp dp k : Int32} (hp : g.2.2.2.2 = true) (hw : ArC mt.1.cls idx) (hd : decode mt.2.1 pc = .ok (.invokestatic idx, 3)) (hj : jat[j]? = some ty) (hprim : refKind ty = false) (ha : lay a = (1, La, j)) (hb : lay b = (1, Lb, j)) (h1 : ¬ sp < 0) (h2 : ¬ dp < 0) (h3 : ¬ k < 0) (h4 : sp.toNatClampNeg + k.toNatClampNeg ≤ La) (h5 : dp.toNatClampNeg + k.toNatClampNeg ≤ Lb) (hfit : ∀ i, i < k.toNatClampNeg → fits ty (.int (ri h a (sp.toNatClampNeg + i))) = true) (hW : (stk.map fun v => v.category).sum ≤ 8) (hd1 : 1 ≤ d)
    (kk : ∀ h1, h1 = cpy h a sp.toNatClampNeg b dp.toNatClampNeg k.toNatClampNeg → RJ g mt d mc ms av Q (pc + 3) ls stk n h1 c z) : RJ g mt d mc ms av Q pc ls (.int k :: .int dp :: .ref b :: .int sp :: .ref a :: stk) n h c z := by
  intro p e s m below meth cd H locs la X hR hS hl
  have hN := (hR.2.2 hp).1
  have hj14 : j < 14 := (List.getElem?_eq_some_iff.mp hj).1
  have hjt : (jtys g.2.2.1)[j]? = some (g.2.2.1 j, ty) := by simp [jtys, hj14, List.getD, hj]
  have hts := X.2.2.2.2.2.2.1
  have hK := X.2.2.2.2.2.2.2.1
  have hc0 := hR.arr (Nat.lt_of_lt_of_le (lay_ltA ha) hN) ha
  have hc1 := hR.arr (Nat.lt_of_lt_of_le (lay_ltA hb) hN) hb
  obtain ⟨-, k0, hk0, cm0, hkk0⟩ := (hK.1.2 j _ hjt).1 La (fun i => .int (h.1 a i))
  obtain ⟨-, k1, hk1, cm1, hkk1⟩ := (hK.1.2 j _ hjt).1 Lb (fun i => .int (h.1 b i))
  intro T hT XS
  obtain ⟨vm', X', step⟩ := XS.arraycopy X.1 X.2.2.2.2.2.1 (hts _ hw.1) (hts _ hw.2.1) (hts _ hw.2.2.1) (hts _ hw.2.2.2) (src := g.2.2.2.1 + a) (dst := g.2.2.2.1 + b) (cs := arrV (g.2.2.1 j) La (fun i => .int (h.1 a i))) (cd := arrV (g.2.2.1 j) Lb (fun i => .int (h.1 b i))) (srcPos := sp) (destPos := dp) (n := k) (by rw [hT]; exact hc0) (by rw [hT]; exact hc1)
    (fun _ h => by cases h) (fun _ h => by cases h) (fun h => by cases h) (fun h => by cases h) hk0 hk1 hkk0 hkk1 (by simp [hprim]) h1 h2 h3
    (by rw [toN h1, toN h3, arrV_size]; omega)
    (by rw [toN h2, toN h3, arrV_size]; omega)
    (fun vm₁ _ i hi => by
      have e : (arrV (g.2.2.1 j) La (fun i => .int (h.1 a i))).slots.getD (sp.toNatClampNeg + i) .null = .int (h.1 a (sp.toNatClampNeg + i)) := by
        rw [Array.getD_eq_getD_getElem?, arrV_read _ _ (by omega)]
        rfl
      refine ⟨?_, ?_⟩
      · rw [e]
        exact hfit i hi
      · rw [e]
        exact trivial)
    (g := F0 m pc la ((.int k :: .int dp :: .ref b :: .int sp :: .ref a :: stk).map (conc g.2.2.2.1))) rfl (hl.1.trans X.2.2.2.2.1.symm) (rest := stk.map (conc g.2.2.2.1)) rfl (by rw [X.2.1]; exact hd) hd1 (by show 2 * 0 + _ + _ ≤ 40 * d; rw [cat_map]; exact copyRoom hW hd1)
  have e1 : copied (arrV (g.2.2.1 j) La (fun i => .int (h.1 a i))) (arrV (g.2.2.1 j) Lb (fun i => .int (h.1 b i))) sp dp k = arrV (g.2.2.1 j) Lb (fun i => .int (va_cpy (h.1 a) (h.1 b) sp.toNatClampNeg dp.toNatClampNeg k.toNatClampNeg i)) := va_copied (fun z => .int z) _ _ (h.1 a) (h.1 b) h4
  rw [e1] at X' step
  have hlt : g.2.2.2.1 + b < H.size := (Array.getElem?_eq_some_iff.mp hc1).1
  generalize hce : arrV (g.2.2.1 j) Lb (fun i => .int (va_cpy (h.1 a) (h.1 b) sp.toNatClampNeg dp.toNatClampNeg k.toNatClampNeg i)) = cl at X' step
  have hheap : ((T.setVm vm').setCell (g.2.2.2.1 + b) cl).heap = H.setIfInBounds (g.2.2.2.1 + b) cl := by rw [← hT]; rfl
  have oq : ∀ q : Nat, q ≠ g.2.2.2.1 + b → (H.setIfInBounds (g.2.2.2.1 + b) cl)[q]? = H[q]? := fun q hq => by simp [Array.getElem?_setIfInBounds, Ne.symm hq]
  have hR1 : Rep g.2.1 g.2.2.1 g.2.2.2.1 g.2.2.2.2 n (cpy h a sp.toNatClampNeg b dp.toNatClampNeg k.toNatClampNeg) (H.setIfInBounds (g.2.2.2.1 + b) cl) := by
    refine hR.upd (a := b) (by simp) oq ?_ (fun x hx => ⟨by funext y; simp [cpy, hx], rfl⟩) (fun _ q => q)
    rw [cf_at hb]
    refine (show (H.setIfInBounds (g.2.2.2.1 + b) cl)[g.2.2.2.1 + b]? = some (arrV (g.2.2.1 j) Lb (fun q => .int ((cpy h a sp.toNatClampNeg b dp.toNatClampNeg k.toNatClampNeg).1 b q))) from ?_)
    rw [← hce]
    simp only [Array.getElem?_setIfInBounds, hlt]
    simp only [if_true]
    congr 2
    funext q
    simp [cpy, va_cpy]
  obtain ⟨t, a1, b1⟩ := kk _ rfl p e s m below meth cd _ _ la X hR1 ⟨by simp; exact hS.1, fun q g1 g2 => by
      rw [oq q (fun e => g2 (by rw [e]; exact Nat.le_add_right _ _))]
      exact hS.2.1 q g1 g2, fun q hq => by
      rcases List.mem_append.mp hq with h | h
      · exact hS.2.2 q h
      · obtain ⟨z, -, hz⟩ := List.mem_map.mp h
        rw [← hz]
        exact Nat.le_add_right _ _⟩ hl _ hheap X'
  exact ⟨t, step t a1, b1⟩
end
