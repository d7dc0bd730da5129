set_option maxRecDepth 100000
/-! heap instructions, calls, ends -/
def ClsW (ci : Nat) (r : vw_C) : Prop := jcl[ci]? = some r ∧ (∀ w ∈ u_ws r.1 r.2.1 r.2.2, w ∈ lw_all) ∧ (∀ k, k < r.2.2 → parseFieldDescriptor (r.2.1 k).2.2.1 = some (jty ci k)) ∧ (∀ a, a < r.2.2 → ∀ b, b < r.2.2 → a ≠ b → (r.2.1 a).2.1 ≠ (r.2.1 b).2.1)
theorem cw0 : ClsW 0 (RX0, TX0, 80) := ⟨rfl, in_X0, tyX0_ok, nmX0⟩
theorem cw1 : ClsW 1 (RX1, TX1, 20) := ⟨rfl, in_X1, tyX1_ok, nmX1⟩
theorem cw2 : ClsW 2 (RX2, TX2, 3) := ⟨rfl, in_X2, tyX2_ok, nmX2⟩
theorem cw3 : ClsW 3 (RX3, TX3, 2) := ⟨rfl, in_X3, tyX3_ok, nmX3⟩
theorem cw4 : ClsW 4 (RX4, TX4, 4) := ⟨rfl, in_X4, tyX4_ok, nmX4⟩
theorem cw5 : ClsW 5 (RX5, TX5, 8) := ⟨rfl, in_X5, tyX5_ok, nmX5⟩
theorem cw6 : ClsW 6 (RX6, TX6, 2) := ⟨rfl, in_X6, tyX6_ok, nmX6⟩
theorem cw7 : ClsW 7 (RX7, TX7, 9) := ⟨rfl, in_X7, tyX7_ok, nmX7⟩
theorem cw8 : ClsW 8 (RX8, TX8, 7) := ⟨rfl, in_X8, tyX8_ok, nmX8⟩
theorem cw9 : ClsW 9 (RX9, TX9, 8) := ⟨rfl, in_X9, tyX9_ok, nmX9⟩
theorem cw10 : ClsW 10 (RX10, TX10, 65) := ⟨rfl, in_X10, tyX10_ok, nmX10⟩
theorem cw11 : ClsW 11 (RX11, TX11, 15) := ⟨rfl, in_X11, tyX11_ok, nmX11⟩
theorem cw12 : ClsW 12 (RX12, TX12, 6) := ⟨rfl, in_X12, tyX12_ok, nmX12⟩
theorem cw13 : ClsW 13 (RX13, TX13, 2) := ⟨rfl, in_X13, tyX13_ok, nmX13⟩
theorem cw14 : ClsW 14 (RX14, TX14, 2) := ⟨rfl, in_X14, tyX14_ok, nmX14⟩
/-- field k of class ci by the reference idx of own's constants: linked plainly or as a nest mate's -/
def FW (own : String) (idx ci k : Nat) (r : vw_C) : Prop := ClsW ci r ∧ k < r.2.2 ∧ (Cond.fieldLink own idx (r.2.1 k).1 (r.2.1 k).2.1 (r.2.1 k).2.2.1 ∈ lw_all ∨ ∃ host, Cond.fieldLinkNest own idx (r.2.1 k).1 (r.2.1 k).2.1 (r.2.1 k).2.2.1 host ∈ lw_nest)
theorem nest_in {w : Cond} (h : w ∈ lw_tbl) (hi : isNest w = true) : w ∈ lw_nest := List.mem_filter.mpr ⟨h, hi⟩
theorem Sk.keep {h : Hp} {a k : Nat} {v : Option Nat} (hs : Sk h) (hf : fin a k = none) : Sk (wr h a k v) := by
  intro x y w hw
  simp only [wr]
  split
  · rename_i e; rw [e.1, e.2] at hw; rw [hf] at hw; cases hw
  · exact hs x y w hw
theorem Rep.upd {D : va_G} {cA : Nat → ClassId} {b n a : Nat} {ph : Bool} {h h' : Hp} {H H1 : Heap} (hR : Rep D cA b ph n h H) (hz : H1.size = H.size) (oq : ∀ q, q ≠ b + a → H1[q]? = H[q]?) (he : va_at D jcl (b + a, cf b cA h' (b + a)) H1) (hx : ∀ x, x ≠ a → h'.1 x = h.1 x ∧ h'.2 x = h.2 x) (hsk : ph = true → Sk h → Sk h') : Rep D cA b ph n h' H1 := by
  refine ⟨hz.trans hR.1, fun k q hk => ?_, fun hp => ⟨(hR.2.2 hp).1, hsk hp (hR.2.2 hp).2⟩⟩
  by_cases hkn : k < n
  · rw [wl_at hkn] at hk
    cases hk
    by_cases hka : k = a
    · subst hka; exact he
    · rw [cf_ne (hx k hka).1 (hx k hka).2]
      exact (hR.2.1 k _ (wl_at hkn)).kept (oq _ (by dsimp only; omega))
  · rw [List.getElem?_eq_none_iff.mpr (by simp [va_pl, wl]; omega)] at hk
    cases hk
theorem vp_V_map {nf : Nat} {F : Nat → Value} {j : Nat} (hj : j < nf) : vp_V ((List.range nf).map F) j = F j := by
  simp [vp_V, List.getD, hj]
theorem Rep.obj {D : va_G} {cA : Nat → ClassId} {b n a ci nf : Nat} {ph : Bool} {h : Hp} {H : Heap} {r : vw_C} (hR : Rep D cA b ph n h H) (ha : a < n) (ht : lay a = (0, ci, nf)) (hc : jcl[ci]? = some r) (hf : r.2.2 = nf) : t_OB (b + a) (D.1 ci) nf (D.2 ci) H (fun k => fv b ci k (h.1 a k) (h.2 a k)) := by
  have h1 := hR.2.1 a _ (wl_at ha)
  rw [cf_at ht] at h1
  obtain ⟨r2, h2, h3⟩ := h1
  cases hc.symm.trans h2
  rw [hf] at h3
  exact h3.to (fun k hk => vp_V_map hk)
section
variable {g : GX} {mt : Mth} {d mc ms : Nat} {av : List Value} {Q : QT} {pc : Nat} {ls ls2 : LV} {stk : List Value} {n : Nat} {h : Hp} {c z : Nat}
/-- a field is read -/
theorem r_getV {idx ci k a : Nat} {r : vw_C} (fw : FW mt.1.cls idx ci k r) (hd : decode mt.2.1 pc = .ok (.getfield idx, 3)) (ht : lay a = (0, ci, r.2.2)) (ha : a < n) {v : Value} (hv : fv g.2.2.2.1 ci k (h.1 a k) (h.2 a k) = conc g.2.2.2.1 v) (kk : RJ g mt d mc ms av Q (pc + 3) ls (v :: stk) n h c z) : RJ g mt d mc ms av Q pc ls (.ref a :: stk) n h c z := by
  intro p e s m below meth cd H locs la X hR hS hl
  obtain ⟨⟨hc, hin, hty, hnm⟩, hk, hlink⟩ := fw
  have hK := X.2.2.2.2.2.2.2.1
  obtain ⟨cell, q1, q2, q3, q4⟩ := hR.obj ha ht hc rfl
  obtain ⟨hSl, hfc, kC, hkC, hkind⟩ := hK.1.1 ci _ hc
  obtain ⟨cf1, kf, fi, f, hi, hsl⟩ := hSl k hk
  have hts := X.2.2.2.2.2.2.1
  have hst := (u_facts hfc hkC (u_lays hts hin hk) hi).1
  have hslot : cell.slots[f.slot]? = some (conc g.2.2.2.1 v) := by rw [hsl, q4 k hk]; exact congrArg some hv
  rcases hlink with hlink | ⟨host, hlink⟩
  · exact W.getf X.1 X.2.1 X.2.2.2.2.2.1 (hts _ hlink) hi hst q1 (by rw [q3]; exact fun h => by cases h) hslot rfl rfl hd (kk p e s m below meth cd H locs la X hR hS hl)
  · exact va_Wgetf X.1 X.2.1 X.2.2.2.2.2.1 (va_Nw.use rfl (hK.2 _ hlink)) hi hst q1 (by rw [q3]; exact fun h => by cases h) hslot rfl rfl hd (kk p e s m below meth cd H locs la X hR hS hl)
theorem r_getI {idx ci k a : Nat} {r : vw_C} (fw : FW mt.1.cls idx ci k r) (hd : decode mt.2.1 pc = .ok (.getfield idx, 3)) (hj : jrf ci k = false) (ht : lay a = (0, ci, r.2.2)) (ha : a < n) (kk : RJ g mt d mc ms av Q (pc + 3) ls (.int (ri h a k) :: stk) n h c z) : RJ g mt d mc ms av Q pc ls (.ref a :: stk) n h c z :=
  r_getV fw hd ht ha (by rw [fv, if_neg (by rw [hj]; decide)]; rfl) kk
theorem r_getR {idx ci k a x : Nat} {r : vw_C} (fw : FW mt.1.cls idx ci k r) (hd : decode mt.2.1 pc = .ok (.getfield idx, 3)) (hj : jrf ci k = true) (ht : lay a = (0, ci, r.2.2)) (ha : a < n) (hx : rr h a k = some x) (kk : RJ g mt d mc ms av Q (pc + 3) ls (.ref x :: stk) n h c z) : RJ g mt d mc ms av Q pc ls (.ref a :: stk) n h c z :=
  r_getV fw hd ht ha (by rw [fv, if_pos hj, show h.2 a k = some x from hx]; rfl) kk
theorem put_at {D : va_G} {cA : Nat → ClassId} {b a ci k : Nat} {h h' : Hp} {H1 : Heap} {r : vw_C} {cell : Cell} {v : Value} {f : Field} (hc : jcl[ci]? = some r) (ht : lay a = (0, ci, r.2.2)) (hk : k < r.2.2) (hap : ∀ x y, x < r.2.2 → y < r.2.2 → x ≠ y → (D.2 ci) x ≠ (D.2 ci) y) (hsl : f.slot = D.2 ci k) (q2 : cell.cls = D.1 ci) (q3 : cell.vm = .none) (q4 : ∀ j, j < r.2.2 → cell.slots[D.2 ci j]? = some (fv b ci j (h.1 a j) (h.2 a j)))
    (e1 : H1[b + a]? = some (cell.setSlot f.slot v)) (hv : ∀ j, j < r.2.2 → fv b ci j (h'.1 a j) (h'.2 a j) = updV (fun k => fv b ci k (h.1 a k) (h.2 a k)) k v j) : va_at D jcl (b + a, cf b cA h' (b + a)) H1 := by
  rw [cf_at ht]
  refine ⟨r, hc, ?_⟩
  rw [hsl] at e1
  exact t_OB.to (V := updV (fun k => fv b ci k (h.1 a k) (h.2 a k)) k v) ⟨_, e1, q2, q3, t_set q4 hap hk v⟩ (fun j hj => by rw [vp_V_map hj]; exact (hv j hj).symm)
/-- a field that isn't final is written -/
theorem r_putV {idx ci k a : Nat} {r : vw_C} (fw : FW mt.1.cls idx ci k r) (hd : decode mt.2.1 pc = .ok (.putfield idx, 3)) (hfin : (r.2.1 k).2.2.2 = false) (ht : lay a = (0, ci, r.2.2)) (ha : a < n) {v : Value} {h' : Hp} (hn : narrow (jty ci k) (conc g.2.2.2.1 v) = conc g.2.2.2.1 v) (hfit : fits (jty ci k) (conc g.2.2.2.1 v) = true) (hx : ∀ x, x ≠ a → h'.1 x = h.1 x ∧ h'.2 x = h.2 x) (hv : ∀ j, j < r.2.2 → fv g.2.2.2.1 ci j (h'.1 a j) (h'.2 a j) = updV (fun k => fv g.2.2.2.1 ci k (h.1 a k) (h.2 a k)) k (conc g.2.2.2.1 v) j) (hsk : g.2.2.2.2 = true → Sk h → Sk h')
    (kk : RJ g mt d mc ms av Q (pc + 3) ls stk n h' c z) : RJ g mt d mc ms av Q pc ls (v :: .ref a :: stk) n h c z := by
  intro p e s m below meth cd H locs la X hR hS hl
  obtain ⟨⟨hc, hin, hty, hnm⟩, hk, hlink⟩ := fw
  have hK := X.2.2.2.2.2.2.2.1
  obtain ⟨cell, q1, q2, q3, q4⟩ := hR.obj ha ht hc rfl
  obtain ⟨hSl, hfc, kC, hkC, hkind⟩ := hK.1.1 ci _ hc
  obtain ⟨cf1, kf, fi, f, hi, hsl⟩ := hSl k hk
  have hts := X.2.2.2.2.2.2.1
  have hap := va_apart (own := mt.1.cls) hts hin (jty ci) hty hnm hK.1 hc
  have hst := (u_facts hfc hkC (u_lays hts hin hk) hi).1
  have hlay := hts _ (hin _ (u_in_lay hk))
  unfold u_lay at hlay
  rw [if_neg (by rw [hfin]; decide)] at hlay
  have h6 := u_store hfc hkC hkind hlay hi (hty k hk) hn hfit
  have hslt : f.slot < cell.slots.size := by rw [hsl]; exact k2_hasslot (q4 k hk)
  have go : ∀ H1 : Heap, H1[g.2.2.2.1 + a]? = some (cell.setSlot f.slot (conc g.2.2.2.1 v)) → H1.size = H.size → (∀ q, q ≠ g.2.2.2.1 + a → H1[q]? = H[q]?) → W p g.1 e (rmD d mc ms) s m (av' g.2.2.2.1 av).toArray below meth cd H1 (locs ++ [⟨g.2.2.2.1 + a, f.slot⟩]) c z (MQ below (Post g Q) (av' g.2.2.2.1 av).toArray s mc ms (fun q => g.2.2.2.1 ≤ q)) (F0 m (pc + 3) la (stk.map (conc g.2.2.2.1))) :=
    fun H1 e1 e2 e3 => kk p e s m below meth cd H1 _ la X (hR.upd e2 e3 (put_at hc ht hk hap hsl q2 q3 q4 e1 hv) hx hsk) (hS.put e2 e3 (Nat.le_add_right _ _)) hl
  rcases hlink with hlink | ⟨host, hlink⟩
  · exact W.putK X.1 X.2.1 (f := f) ⟨X.2.2.2.2.2.1, hts _ hlink, ⟨_, _, _, hi⟩, hst⟩ (by rw [q2]; exact h6) q1 q3 hslt rfl rfl hd go
  · exact va_WputK X.1 X.2.1 (f := f) X.2.2.2.2.2.1 (va_Nw.use rfl (hK.2 _ hlink)) hi hst (by rw [q2]; exact h6) q1 q3 hslt rfl rfl hd go
theorem r_putI {idx ci k a : Nat} {r : vw_C} {x : Int32} (fw : FW mt.1.cls idx ci k r) (hd : decode mt.2.1 pc = .ok (.putfield idx, 3)) (hj : jty ci k = .int) (hfin : (r.2.1 k).2.2.2 = false) (ht : lay a = (0, ci, r.2.2)) (ha : a < n) (kk : RJ g mt d mc ms av Q (pc + 3) ls stk n (wi h a k x) c z) : RJ g mt d mc ms av Q pc ls (.int x :: .ref a :: stk) n h c z := by
  refine r_putV fw hd hfin ht ha (h' := wi h a k x) (by rw [hj]; rfl) (by rw [hj]; rfl) (fun y hy => ⟨wi_ne1 hy, rfl⟩) (fun j hj2 => ?_) (fun _ q => q) kk
  by_cases e : j = k
  · subst e
    simp [updV, fv, jrf, hj, wi, conc]
  · simp [updV, wi, e]
theorem r_putZ {idx ci k a : Nat} {r : vw_C} {x : Int32} (fw : FW mt.1.cls idx ci k r) (hd : decode mt.2.1 pc = .ok (.putfield idx, 3)) (hj : jty ci k = .boolean) (hfin : (r.2.1 k).2.2.2 = false) (ht : lay a = (0, ci, r.2.2)) (ha : a < n) (hx : x = 0 ∨ x = 1) (kk : RJ g mt d mc ms av Q (pc + 3) ls stk n (wi h a k x) c z) : RJ g mt d mc ms av Q pc ls (.int x :: .ref a :: stk) n h c z := by
  refine r_putV fw hd hfin ht ha (h' := wi h a k x) (by rw [hj]; rcases hx with rfl | rfl <;> rfl) (by rw [hj]; rcases hx with rfl | rfl <;> rfl) (fun y hy => ⟨wi_ne1 hy, rfl⟩) (fun j hj2 => ?_) (fun _ q => q) kk
  by_cases e : j = k
  · subst e
    simp [updV, fv, jrf, hj, wi, conc]
  · simp [updV, wi, e]
theorem r_putR {idx ci k a x : Nat} {r : vw_C} (fw : FW mt.1.cls idx ci k r) (hd : decode mt.2.1 pc = .ok (.putfield idx, 3)) (hj : jrf ci k = true) (hfin : (r.2.1 k).2.2.2 = false) (ht : lay a = (0, ci, r.2.2)) (ha : a < n) (hf : g.2.2.2.2 = true → fin a k = none) (kk : RJ g mt d mc ms av Q (pc + 3) ls stk n (wr h a k (some x)) c z) : RJ g mt d mc ms av Q pc ls (.ref x :: .ref a :: stk) n h c z := by
  refine r_putV fw hd hfin ht ha (h' := wr h a k (some x)) ?_ ?_ (fun y hy => ⟨rfl, wr_ne2 hy⟩) (fun j hj2 => ?_) (fun hp q => q.keep (hf hp)) kk
  · unfold jrf at hj
    cases hq : jty ci k <;> simp [hq] at hj <;> rfl
  · unfold jrf at hj
    cases hq : jty ci k <;> simp [hq] at hj <;> rfl
  · by_cases e : j = k
    · subst e
      simp [updV, fv, hj, wr, conc, sh, va_rf]
    · simp [updV, wr, e]
theorem Rep.arr {D : va_G} {cA : Nat → ClassId} {b n a L j : Nat} {ph : Bool} {h : Hp} {H : Heap} (hR : Rep D cA b ph n h H) (ha : a < n) (ht : lay a = (1, L, j)) : H[b + a]? = some (arrV (cA j) L (fun i => .int (h.1 a i))) := by
  have h1 := hR.2.1 a _ (wl_at ha)
  rw [cf_at ht] at h1
  exact h1
theorem Rep.arq {D : va_G} {cA : Nat → ClassId} {b n a L j : Nat} {ph : Bool} {h : Hp} {H : Heap} (hR : Rep D cA b ph n h H) (ha : a < n) (ht : lay a = (2, L, j)) : H[b + a]? = some (arrV (cA j) L (fun i => va_rf (sh b (h.2 a i)))) := by
  have h1 := hR.2.1 a _ (wl_at ha)
  rw [cf_at ht] at h1
  exact h1
theorem Rep.arrW {D : va_G} {cA : Nat → ClassId} {b n a L j i : Nat} {ph : Bool} {h : Hp} {H H1 : Heap} {x : Int32} (hR : Rep D cA b ph n h H) (ht : lay a = (1, L, j)) (hz : H1.size = H.size) (oq : ∀ q, q ≠ b + a → H1[q]? = H[q]?) (e : H1[b + a]? = some ((arrV (cA j) L (fun i => .int (h.1 a i))).setSlot i (.int x))) : Rep D cA b ph n (wi h a i x) H1 := by
  refine hR.upd hz oq ?_ (fun y hy => ⟨wi_ne1 hy, rfl⟩) (fun _ q => q)
  rw [cf_at ht]
  refine (show H1[b + a]? = some (arrV (cA j) L (fun q => .int ((wi h a i x).1 a q))) from ?_)
  rw [e, arrV_store]
  congr 2
  funext q
  by_cases hq : q = i
  · subst hq; simp [updV, wi]
  · simp [updV, wi, hq]
theorem Rep.arqW {D : va_G} {cA : Nat → ClassId} {b n a L j i x : Nat} {ph : Bool} {h : Hp} {H H1 : Heap} (hR : Rep D cA b ph n h H) (ht : lay a = (2, L, j)) (hf : ph = true → fin a i = none) (hz : H1.size = H.size) (oq : ∀ q, q ≠ b + a → H1[q]? = H[q]?) (e : H1[b + a]? = some ((arrV (cA j) L (fun i => va_rf (sh b (h.2 a i)))).setSlot i (.ref (b + x)))) : Rep D cA b ph n (wr h a i (some x)) H1 := by
  refine hR.upd hz oq ?_ (fun y hy => ⟨rfl, wr_ne2 hy⟩) (fun hp q => q.keep (hf hp))
  rw [cf_at ht]
  refine (show H1[b + a]? = some (arrV (cA j) L (fun q => va_rf (sh b ((wr h a i (some x)).2 a q)))) from ?_)
  rw [e, arrV_store]
  congr 2
  funext q
  by_cases hq : q = i
  · subst hq; simp [updV, wr, sh, va_rf]
  · simp [updV, wr, hq]
theorem r_iald {a L : Nat} {i : Int32} (hd : decode mt.2.1 pc = .ok (.iaload, 1)) (ht : lay a = (1, L, 0)) (ha : a < n) (hi : vp_in i L) (kk : RJ g mt d mc ms av Q (pc + 1) ls (.int (ri h a i.toNatClampNeg) :: stk) n h c z) : RJ g mt d mc ms av Q pc ls (.int i :: .ref a :: stk) n h c z := by
  intro p e s m below meth cd H locs la X hR hS hl
  have hlt : i.toNatClampNeg < L := Nat.not_le.mp fun q => hi (Or.inr q)
  exact W.iald X.1 X.2.1 (hR.arr ha ht) ((X.2.2.2.2.2.2.2.1.1.2 0 (g.2.2.1 0, .int) rfl).1 L _) (fun q => by cases q) (by rw [arrV_size]; exact hi) (arrV_read _ _ hlt) rfl rfl hd (kk p e s m below meth cd H locs la X hR hS hl)
theorem r_bald {a L : Nat} {i : Int32} (hd : decode mt.2.1 pc = .ok (.baload, 1)) (ht : lay a = (1, L, 1)) (ha : a < n) (hi : vp_in i L) (kk : RJ g mt d mc ms av Q (pc + 1) ls (.int (ri h a i.toNatClampNeg) :: stk) n h c z) : RJ g mt d mc ms av Q pc ls (.int i :: .ref a :: stk) n h c z := by
  intro p e s m below meth cd H locs la X hR hS hl
  have hlt : i.toNatClampNeg < L := Nat.not_le.mp fun q => hi (Or.inr q)
  exact W.bald X.1 X.2.1 (hR.arr ha ht) ((X.2.2.2.2.2.2.2.1.1.2 1 (g.2.2.1 1, .byte) rfl).1 L _) (fun q => by cases q) (by rw [arrV_size]; exact hi) (arrV_read _ _ hlt) rfl rfl hd (kk p e s m below meth cd H locs la X hR hS hl)
theorem r_zald {a L : Nat} {i : Int32} (hd : decode mt.2.1 pc = .ok (.baload, 1)) (ht : lay a = (1, L, 2)) (ha : a < n) (hi : vp_in i L) (kk : RJ g mt d mc ms av Q (pc + 1) ls (.int (ri h a i.toNatClampNeg) :: stk) n h c z) : RJ g mt d mc ms av Q pc ls (.int i :: .ref a :: stk) n h c z := by
  intro p e s m below meth cd H locs la X hR hS hl
  have hlt : i.toNatClampNeg < L := Nat.not_le.mp fun q => hi (Or.inr q)
  exact W.zald X.1 X.2.1 (hR.arr ha ht) ((X.2.2.2.2.2.2.2.1.1.2 2 (g.2.2.1 2, .boolean) rfl).1 L _) (fun q => by cases q) (by rw [arrV_size]; exact hi) (arrV_read _ _ hlt) rfl rfl hd (kk p e s m below meth cd H locs la X hR hS hl)
theorem r_aald {a L j x : Nat} {ty : FieldType} {i : Int32} (hd : decode mt.2.1 pc = .ok (.aaload, 1)) (ht : lay a = (2, L, j)) (hj : jat[j]? = some ty) (hty : ty.isReference = true) (ha : a < n) (hi : vp_in i L) (hx : rr h a i.toNatClampNeg = some x) (kk : RJ g mt d mc ms av Q (pc + 1) ls (.ref x :: stk) n h c z) : RJ g mt d mc ms av Q pc ls (.int i :: .ref a :: stk) n h c z := by
  intro p e s m below meth cd H locs la X hR hS hl
  have hlt : i.toNatClampNeg < L := Nat.not_le.mp fun q => hi (Or.inr q)
  have hj14 : j < 14 := (List.getElem?_eq_some_iff.mp hj).1
  have hjt : (jtys g.2.2.1)[j]? = some (g.2.2.1 j, ty) := by simp [jtys, hj14, List.getD, hj]
  exact W.aald (v := .ref (g.2.2.2.1 + x)) (ty := ty) X.1 X.2.1 (hR.arq ha ht) ((X.2.2.2.2.2.2.2.1.1.2 j _ hjt).1 L _) hty (fun q => by cases q) (by rw [arrV_size]; exact hi) (by rw [arrV_read _ _ hlt, show h.2 a i.toNatClampNeg = some x from hx]; rfl) rfl rfl hd (kk p e s m below meth cd H locs la X hR hS hl)
theorem r_alen {a L j k : Nat} {ty : FieldType} (hd : decode mt.2.1 pc = .ok (.arraylength, 1)) (ht : lay a = (k, L, j)) (hk : k = 1 ∨ k = 2) (hj : jat[j]? = some ty) (ha : a < n) (kk : RJ g mt d mc ms av Q (pc + 1) ls (.int (nI L) :: stk) n h c z) : RJ g mt d mc ms av Q pc ls (.ref a :: stk) n h c z := by
  intro p e s m below meth cd H locs la X hR hS hl
  have hj14 : j < 14 := (List.getElem?_eq_some_iff.mp hj).1
  have hjt : (jtys g.2.2.1)[j]? = some (g.2.2.1 j, ty) := by simp [jtys, hj14, List.getD, hj]
  rcases hk with rfl | rfl
  · exact W.alen X.1 X.2.1 (hR.arr ha ht) ((X.2.2.2.2.2.2.2.1.1.2 j _ hjt).1 L _) (by rw [arrV_size]; rfl) rfl rfl hd (kk p e s m below meth cd H locs la X hR hS hl)
  · exact W.alen X.1 X.2.1 (hR.arq ha ht) ((X.2.2.2.2.2.2.2.1.1.2 j _ hjt).1 L _) (by rw [arrV_size]; rfl) rfl rfl hd (kk p e s m below meth cd H locs la X hR hS hl)
theorem r_iast {a L : Nat} {i x : Int32} (hd : decode mt.2.1 pc = .ok (.iastore, 1)) (ht : lay a = (1, L, 0)) (ha : a < n) (hi : vp_in i L) (kk : RJ g mt d mc ms av Q (pc + 1) ls stk n (wi h a i.toNatClampNeg x) c z) : RJ g mt d mc ms av Q pc ls (.int x :: .int i :: .ref a :: stk) n h c z := by
  intro p e s m below meth cd H locs la X hR hS hl
  exact W.iast X.1 X.2.1 (hR.arr ha ht) ((X.2.2.2.2.2.2.2.1.1.2 0 (g.2.2.1 0, .int) rfl).1 L _) (fun q => by cases q) (by rw [arrV_size]; exact hi) rfl rfl hd (fun H1 e1 e2 e3 => kk p e s m below meth cd H1 _ la X (hR.arrW ht e2 e3 e1) (hS.put e2 e3 (Nat.le_add_right _ _)) hl)
theorem r_bast {a L : Nat} {i x : Int32} (hd : decode mt.2.1 pc = .ok (.bastore, 1)) (ht : lay a = (1, L, 1)) (ha : a < n) (hi : vp_in i L) (hx : narrow .byte (.int x) = .int x) (kk : RJ g mt d mc ms av Q (pc + 1) ls stk n (wi h a i.toNatClampNeg x) c z) : RJ g mt d mc ms av Q pc ls (.int x :: .int i :: .ref a :: stk) n h c z := by
  intro p e s m below meth cd H locs la X hR hS hl
  exact W.bast X.1 X.2.1 (hR.arr ha ht) ((X.2.2.2.2.2.2.2.1.1.2 1 (g.2.2.1 1, .byte) rfl).1 L _) (fun q => by cases q) (by rw [arrV_size]; exact hi) rfl rfl hd (fun H1 e1 e2 e3 => kk p e s m below meth cd H1 _ la X (hR.arrW ht e2 e3 (by rw [← hx]; exact e1)) (hS.put e2 e3 (Nat.le_add_right _ _)) hl)
theorem r_zast {a L : Nat} {i x : Int32} (hd : decode mt.2.1 pc = .ok (.bastore, 1)) (ht : lay a = (1, L, 2)) (ha : a < n) (hi : vp_in i L) (hx : narrow .boolean (.int x) = .int x) (kk : RJ g mt d mc ms av Q (pc + 1) ls stk n (wi h a i.toNatClampNeg x) c z) : RJ g mt d mc ms av Q pc ls (.int x :: .int i :: .ref a :: stk) n h c z := by
  intro p e s m below meth cd H locs la X hR hS hl
  exact W.zast X.1 X.2.1 (hR.arr ha ht) ((X.2.2.2.2.2.2.2.1.1.2 2 (g.2.2.1 2, .boolean) rfl).1 L _) (fun q => by cases q) (by rw [arrV_size]; exact hi) rfl rfl hd (fun H1 e1 e2 e3 => kk p e s m below meth cd H1 _ la X (hR.arrW ht e2 e3 (by rw [← hx]; exact e1)) (hS.put e2 e3 (Nat.le_add_right _ _)) hl)
/-- an object into an array of its class -/
theorem r_aast {a L j x ci nf : Nat} {i : Int32} {r : vw_C} (hd : decode mt.2.1 pc = .ok (.aastore, 1)) (ht : lay a = (2, L, j)) (hj : jat[j]? = some (.object r.1)) (hc : jcl[ci]? = some r) (hx : lay x = (0, ci, r.2.2)) (ha : a < n) (hxn : x < n) (hi : vp_in i L) (hf : g.2.2.2.2 = true → fin a i.toNatClampNeg = none) (kk : RJ g mt d mc ms av Q (pc + 1) ls stk n (wr h a i.toNatClampNeg (some x)) c z) : RJ g mt d mc ms av Q pc ls (.ref x :: .int i :: .ref a :: stk) n h c z := by
  intro p e s m below meth cd H locs la X hR hS hl
  have hlt : i.toNatClampNeg < L := Nat.not_le.mp fun q => hi (Or.inr q)
  have hj14 : j < 14 := (List.getElem?_eq_some_iff.mp hj).1
  have hjt : (jtys g.2.2.1)[j]? = some (g.2.2.1 j, .object r.1) := by simp [jtys, hj14, List.getD, hj]
  have hK := X.2.2.2.2.2.2.2.1
  obtain ⟨kA, comp, k1, k2, k3, k4⟩ := (hK.1.2 j _ hjt).2
  obtain ⟨cell, q1, q2, q3, q4⟩ := hR.obj hxn hx hc rfl
  have hu := hK.1.1 ci _ hc
  obtain ⟨hSl, hfc, kC, hkC, hkind⟩ := hu
  have hcomp : comp = g.2.1.1 ci := Option.some.inj (k3.symm.trans hfc)
  refine W.aast (cell := arrV (g.2.2.1 j) L (fun i => va_rf (sh g.2.2.2.1 (h.2 a i)))) (cv := cell) (k := kA) (kv := kC) (kcomp := kC) (comp := comp) (t := .object r.1) X.1 X.2.1 (hR.arq ha ht) (fun q => by intro hq; cases hq) (fun q => by cases q) k1 k2 rfl (by rw [hcomp]; exact hkC) ⟨fun q => hi (Or.inl q), by rw [arrV_size]; exact hlt⟩ q1 (fun q => by rw [q3]; intro hq; cases hq) (by rw [q2]; exact hkC) (by rw [q2, hcomp]; exact va_assign ⟨hfc, kC, hkC, hkind⟩) rfl rfl hd (fun H1 e1 e2 e3 => kk p e s m below meth cd H1 _ la X (hR.arqW ht hf e2 e3 e1) (hS.put e2 e3 (Nat.le_add_right _ _)) hl)
/-! ends -/
theorem r_zret {v : Int32} {ty : FieldType} (hd : decode mt.2.1 pc = .ok (.ireturn, 1)) (hr : mt.2.2.2 = some ty) (hv : narrow ty (.int v) = .int v) (hc : c ≤ mc) (hz : z ≤ ms) (hq : Q (some (.int v)) n h) : RJ g mt d mc ms av Q pc ls [.int v] n h c z := by
  intro p e s m below meth cd H locs la X hR hS hl
  exact W.widen hc hz (W.zret (v := v) (ty := ty) X.1 X.2.1 (X.2.2.1.trans hr) hv (fun t ht hW => ⟨⟨some (.int v), n, h, rfl, hq, by rw [ht]; exact hR⟩, hS.F ht⟩) hS.2.2 hd X.2.2.2.1)
theorem r_vret (hd : decode mt.2.1 pc = .ok (.return_, 1)) (hr : mt.2.2.2 = none) (hc : c ≤ mc) (hz : z ≤ ms) (hq : Q none n h) : RJ g mt d mc ms av Q pc ls [] n h c z := by
  intro p e s m below meth cd H locs la X hR hS hl
  exact W.widen hc hz (W.vret X.1 X.2.1 (X.2.2.1.trans hr) (fun t ht hW => ⟨⟨none, n, h, rfl, hq, by rw [ht]; exact hR⟩, hS.F ht⟩) hS.2.2 hd X.2.2.2.1)
theorem r_aret {x : Nat} {ty : FieldType} (hd : decode mt.2.1 pc = .ok (.areturn, 1)) (hr : mt.2.2.2 = some ty) (hty : (∃ n, ty = .object n) ∨ ∃ t, ty = .array t) (hc : c ≤ mc) (hz : z ≤ ms) (hq : Q (some (.ref x)) n h) : RJ g mt d mc ms av Q pc ls [.ref x] n h c z := by
  intro p e s m below meth cd H locs la X hR hS hl
  exact W.widen hc hz (W.aret (v := .ref (g.2.2.2.1 + x)) (rt := ty) X.1 X.2.1 (X.2.2.1.trans hr) hty (Or.inr ⟨_, rfl⟩) (fun t ht hW => ⟨⟨some (.ref x), n, h, rfl, hq, by rw [ht]; exact hR⟩, hS.F ht⟩) hS.2.2 hd X.2.2.2.1)
/-! calls -/
def Plain (mt : Mth) (np : Nat) : Prop := Cond.initialized mt.1.cls ∈ lw_all ∧ Cond.code mt.1 mt.2.1 mt.2.2.1 mt.2.2.2 ∈ lw_all ∧ (mt.1.cls ≠ "java/lang/invoke/MethodHandle" ∧ mt.1.cls ≠ "java/lang/invoke/VarHandle" ∧ (parseMethodDescriptor mt.1.desc).map (fun d => d.parameters.length) = some np) ∧ mt.2.2.1 ≤ 20
def Lnk (own : String) (idx : Nat) (y : MethodName) : Prop := Cond.methodLink own idx y ∈ lw_all ∨ ∃ host, Cond.methodLinkNest own idx y host ∈ lw_nest
def CWS (own : String) (idx : Nat) (mt : Mth) (np : Nat) : Prop := Plain mt np ∧ Cond.static mt.1 ∈ lw_all ∧ Lnk own idx mt.1
def CWV (own : String) (idx : Nat) (mt : Mth) (np ci : Nat) : Prop := Plain mt np ∧ (Cond.instanceMethod mt.1 ∈ lw_all ∧ Cond.selects mt.1.cls mt.1 mt.1 ∈ lw_all) ∧ Lnk own idx mt.1 ∧ ∃ r : vw_C, jcl[ci]? = some r ∧ r.1 = mt.1.cls
theorem conc_opt {b : Nat} {v : Option Value} {st : List Value} : (v.map (conc b)).toList ++ st.map (conc b) = (v.toList ++ st).map (conc b) := by
  cases v <;> simp
theorem cat_map {b : Nat} {st : List Value} : ((st.map (conc b)).map fun v => v.category).sum = (st.map fun v => v.category).sum := by
  rw [List.map_map]
  congr 1
  apply List.map_congr_left
  intro v _
  exact conc_cat b v
/-- behind a call -/
theorem run_on {p : Program} {e : Env} {s : State} {m : MethodId} {below : List Frame} {meth : Method} {cd : Code} {H : Heap} {locs : List Loc} {la : Array Slot} {st0 rest : List Value} {mc' ms' : Nat} {a : Array Value} (X : Cx g mt av p s m meth cd) (hS : va_S (fun q => g.2.2.2.1 ≤ q) s.heap H locs) (hl : lv_has la mt.2.2.1 (al g.2.2.2.1 0 ls)) (hrest : rest = stk.map (conc g.2.2.2.1))
    (hr : va_Run p g.1 e (rmD d mc ms) s m (av' g.2.2.2.1 av).toArray below meth cd H locs c z mc' ms' (F0 m pc la st0) rest (Post g (fun v n' h' => RJ g mt d mc ms av Q (pc + 3) ls (v.toList ++ stk) n' h' (c + mc') (z + ms')) a) (fun q => g.2.2.2.1 ≤ q)) : W p g.1 e (rmD d mc ms) s m (av' g.2.2.2.1 av).toArray below meth cd H locs c z (MQ below (Post g Q) (av' g.2.2.2.1 av).toArray s mc ms (fun q => g.2.2.2.1 ≤ q)) (F0 m pc la st0) := by
  intro T hT XS
  obtain ⟨v, st₀, t, T', L, h0, X', hL, e1, e2, ⟨⟨v', n', h', ov, hJ, hR'⟩, hz, hk⟩, st⟩ := hr T hT XS
  cases ov
  rw [h0] at hz hk
  have hS' : va_S (fun q => g.2.2.2.1 ≤ q) s.heap T'.heap (locs ++ L) := ⟨Nat.le_trans hS.1 (by rw [e1]; exact hz), fun q h1 h2 => by rw [e1, hk q (Nat.lt_of_lt_of_le h1 hS.1) h2]; exact hS.2.1 q h1 h2, fun q hq => by
      rcases List.mem_append.mp hq with h | h
      · exact hS.2.2 q h
      · exact hL q h⟩
  obtain ⟨t2, a1, b1⟩ := hJ p e s m below meth cd T'.heap (locs ++ L) la X (by rw [e1]; exact hR') hS' hl T' rfl X'
  refine ⟨t2, st t2 ?_, b1⟩
  rw [hrest, conc_opt]
  exact a1
theorem r_callS {idx d' mc' ms' np : Nat} {mt' : Mth} {As : List Value} (cw : CWS mt.1.cls idx mt' np) (hd : decode mt.2.1 pc = .ok (.invokestatic idx, 3)) (hnp : As.length = np) (hW : (stk.map fun v => v.category).sum ≤ 8) (hf : c + mc' ≤ mc ∧ z + ms' ≤ ms)
    (hC : CallN g mt' d' mc' ms' As n h (fun v n' h' => RJ g mt (d' + 1) mc ms av Q (pc + 3) ls (v.toList ++ stk) n' h' (c + mc') (z + ms'))) : RJ g mt (d' + 1) mc ms av Q pc ls (As.reverse ++ stk) n h c z := by
  intro p e s m below meth cd H locs la X hR hS hl
  obtain ⟨⟨hini, hcode, hnm, hmx⟩, hst, hlk⟩ := cw
  have hts := X.2.2.2.2.2.2.1
  have hK := X.2.2.2.2.2.2.2.1
  have hRm : (rmD d' mc' ms').frames + 1 ≤ (rmD (d' + 1) mc ms).frames ∧ 8 + (mt'.2.2.1 + 11) + (rmD d' mc' ms').locals ≤ (rmD (d' + 1) mc ms).locals := ⟨Nat.le_refl _, by show 8 + (mt'.2.2.1 + 11) + 40 * d' ≤ 40 * (d' + 1); omega⟩
  have hpre : PreS s H (Pre g n h As) (av' g.2.2.2.1 As) := ⟨Pre.blind, fun U hU hWm => ⟨rfl, by rw [hU]; exact hR, hK.warm hWm⟩⟩
  refine run_on (stk := stk) (mc' := mc') (ms' := ms') X hS hl rfl (a := (av' g.2.2.2.1 As).toArray) ?_
  have hstk : (F0 m pc la ((As.reverse ++ stk).map (conc g.2.2.2.1))).stack = (av' g.2.2.2.1 As).reverse ++ stk.map (conc g.2.2.2.1) := by simp [av']
  have hroom : 2 * (F0 m pc la ((As.reverse ++ stk).map (conc g.2.2.2.1))).monitorRoom + ((stk.map (conc g.2.2.2.1)).map fun v => v.category).sum ≤ 8 := lv_room (by rw [cat_map]; exact hW)
  rcases hlk with hlk | ⟨host, hlk⟩
  · exact va_runS ⟨X.1, X.2.1, X.2.2.2.2.1, X.2.2.2.2.2.1, hts⟩ hC ⟨callB_of np hts (lw_meth hcode) rfl rfl rfl (hts _ hini) (hts _ hlk) hnm hRm, hts _ hst⟩ hpre rfl (by simp [av', hnp]) hl.1 hstk hroom hd hf
  · exact va_runSN ⟨X.1, X.2.1, X.2.2.2.2.1, X.2.2.2.2.2.1, hts⟩ hC ⟨va_cnB np hts (lw_meth hcode) rfl rfl rfl (hK.2 _ hlk) (hts _ hini) hnm hRm, hts _ hst, trivial⟩ hpre rfl (by simp [av', hnp]) hl.1 hstk hroom hd hf
theorem r_callV {idx d' mc' ms' np ci nf a : Nat} {mt' : Mth} {As : List Value} (cw : CWV mt.1.cls idx mt' np ci) (hd : decode mt.2.1 pc = .ok (.invokevirtual idx, 3)) (hnp : As.length = np) (hW : (stk.map fun v => v.category).sum ≤ 8) (hf : c + mc' ≤ mc ∧ z + ms' ≤ ms) (ht : lay a = (0, ci, nf)) (ha : a < n)
    (hC : CallN g mt' d' mc' ms' (.ref a :: As) n h (fun v n' h' => RJ g mt (d' + 1) mc ms av Q (pc + 3) ls (v.toList ++ stk) n' h' (c + mc') (z + ms'))) : RJ g mt (d' + 1) mc ms av Q pc ls (As.reverse ++ .ref a :: stk) n h c z := by
  intro p e s m below meth cd H locs la X hR hS hl
  obtain ⟨⟨hini, hcode, hnm, hmx⟩, ⟨hin, hsel⟩, hlk, r, hc, hrc⟩ := cw
  have hts := X.2.2.2.2.2.2.1
  have hK := X.2.2.2.2.2.2.2.1
  have hRm : (rmD d' mc' ms').frames + 1 ≤ (rmD (d' + 1) mc ms).frames ∧ 8 + (mt'.2.2.1 + 11) + (rmD d' mc' ms').locals ≤ (rmD (d' + 1) mc ms).locals := ⟨Nat.le_refl _, by show 8 + (mt'.2.2.1 + 11) + 40 * d' ≤ 40 * (d' + 1); omega⟩
  have h1 := hR.2.1 a _ (wl_at ha)
  rw [cf_at ht] at h1
  obtain ⟨r2, h2, cell, q1, q2, q3, q4⟩ := h1
  have hfc := (hK.1.1 ci _ hc).2.1
  have hpre : PreV s H mt'.1.cls (g.2.2.2.1 + a) (Pre g n h (.ref a :: As)) (av' g.2.2.2.1 As) := ⟨Pre.blind, ⟨cell, q1, by rw [q3]; rfl, by rw [← hrc, q2]; exact hfc⟩, fun U hU hWm => ⟨rfl, by rw [hU]; exact hR, hK.warm hWm⟩⟩
  refine run_on (stk := stk) (mc' := mc') (ms' := ms') X hS hl rfl (a := (Value.ref (g.2.2.2.1 + a) :: av' g.2.2.2.1 As).toArray) ?_
  have hstk : (F0 m pc la ((As.reverse ++ .ref a :: stk).map (conc g.2.2.2.1))).stack = (av' g.2.2.2.1 As).reverse ++ .ref (g.2.2.2.1 + a) :: stk.map (conc g.2.2.2.1) := by simp [av', conc]
  have hroom : 2 * (F0 m pc la ((As.reverse ++ .ref a :: stk).map (conc g.2.2.2.1))).monitorRoom + ((stk.map (conc g.2.2.2.1)).map fun v => v.category).sum ≤ 8 := lv_room (by rw [cat_map]; exact hW)
  rcases hlk with hlk | ⟨host, hlk⟩
  · exact va_runV (C := mt'.1.cls) ⟨X.1, X.2.1, X.2.2.2.2.1, X.2.2.2.2.2.1, hts⟩ hC ⟨callB_of np hts (lw_meth hcode) rfl rfl rfl (hts _ hini) (hts _ hlk) hnm hRm, hts _ hin, hts _ hsel⟩ hpre rfl (by simp [av', hnp]) hl.1 hstk hroom hd hf
  · exact va_runVN (C := mt'.1.cls) ⟨X.1, X.2.1, X.2.2.2.2.1, X.2.2.2.2.2.1, hts⟩ hC ⟨va_cnB np hts (lw_meth hcode) rfl rfl rfl (hK.2 _ hlk) (hts _ hini) hnm hRm, hts _ hin, hts _ hsel⟩ hpre rfl (by simp [av', hnp]) hl.1 hstk hroom hd hf
/-- the contract out of the walk from the entry -/
theorem entL_args {b : Nat} : ∀ {vs : List Value} {k i : Nat} {v : Value}, (entL vs)[i]? = some (some v) → (k + i, conc b v) ∈ lv_args k (av' b vs)
  | [], k, i, v, h => by simp [entL] at h
  | x :: t, k, 0, v, h => by
    cases x <;> simp [entL] at h <;> subst h <;> simp [av', lv_args]
  | x :: t, k, i + 1, v, h => by
    cases x with
    | long y =>
      cases i with
      | zero => simp [entL] at h
      | succ i =>
        have h2 := entL_args (b := b) (k := k + 2) (show (entL t)[i]? = some (some v) by simpa [entL] using h)
        rw [show k + 2 + i = k + (i + 1 + 1) by omega] at h2
        exact List.mem_cons_of_mem _ h2
    | double y =>
      cases i with
      | zero => simp [entL] at h
      | succ i =>
        have h2 := entL_args (b := b) (k := k + 2) (show (entL t)[i]? = some (some v) by simpa [entL] using h)
        rw [show k + 2 + i = k + (i + 1 + 1) by omega] at h2
        exact List.mem_cons_of_mem _ h2
    | _ =>
      have h2 := entL_args (b := b) (k := k + 1) (show (entL t)[i]? = some (some v) by simpa [entL] using h)
      rw [show k + 1 + i = k + (i + 1) by omega] at h2
      exact List.mem_cons_of_mem _ h2
theorem CallN.of (hy : plainName mt.1.cls = true) (hlen : (lg_sl (av' g.2.2.2.1 av)).length ≤ mt.2.2.1) (hb : ∀ s : State, Rep g.2.1 g.2.2.1 g.2.2.2.1 g.2.2.2.2 n h s.heap → g.2.2.2.1 ≤ s.heap.size) (hls : ∀ (i : Nat) (v : Value), ls[i]? = some (some v) → (entL av)[i]? = some (some v)) (k : RJ g mt d mc ms av Q 0 ls [] n h 0 0) : CallN g mt d mc ms av n h Q := by
  refine Met.ofW (cc := mt.2.1) (maxL := mt.2.2.1) (ret := mt.2.2.2) hy rfl ?_
  intro p e s m args below meth cd s₁ B hml hv
  obtain ⟨rfl, hR, hK⟩ := hv
  have hts := atoms_spec (ws := ws_ mt.1 mt.2.1 mt.2.2.1 mt.2.2.2) B.pre
  have hts : ∀ w ∈ lw_all, w.before _ s = true := fun w h => hts w (List.mem_cons_of_mem _ h)
  rw [lg_entry_eq]
  refine k p e s m below meth cd s.heap [] _ ⟨B.exec, B.bytes, B.returns, B.notSynchronized, hml, findClass_of_methodNamed B.named, hts, hK, hb s hR, (name_of_methodNamed B.named B.method).1⟩ hR va_S.rf ?_
  have hl := lv_entry (av' g.2.2.2.1 av) hlen
  refine ⟨hl.1, hl.2.1, fun q hq => ?_⟩
  obtain ⟨j, w⟩ := q
  obtain ⟨i, v, e1, e2, e3⟩ := mem_al hq
  subst e1; subst e2
  exact hl.2.2 _ (entL_args (hls i v e3))
end
