set_option maxRecDepth 100000
theorem dX13_number_0 : decode cX13_number 0 = .ok (.aload_n 0, 1) := by decide +kernel
theorem dX13_number_1 : decode cX13_number 1 = .ok (.getfield 7, 3) := by decide +kernel
theorem dX13_number_4 : decode cX13_number 4 = .ok (.iconst 0, 1) := by decide +kernel
theorem dX13_number_5 : decode cX13_number 5 = .ok (.iload_n 1, 1) := by decide +kernel
theorem dX13_number_6 : decode cX13_number 6 = .ok (.iastore, 1) := by decide +kernel
theorem dX13_number_7 : decode cX13_number 7 = .ok (.aload_n 0, 1) := by decide +kernel
theorem dX13_number_8 : decode cX13_number 8 = .ok (.iload_n 1, 1) := by decide +kernel
theorem dX13_number_9 : decode cX13_number 9 = .ok (.ifCond .ne 7, 3) := by decide +kernel
theorem dX13_number_12 : decode cX13_number 12 = .ok (.iconst 0, 1) := by decide +kernel
theorem dX13_number_13 : decode cX13_number 13 = .ok (.goto 4, 3) := by decide +kernel
theorem dX13_number_16 : decode cX13_number 16 = .ok (.iconst 1, 1) := by decide +kernel
theorem dX13_number_17 : decode cX13_number 17 = .ok (.putfield 13, 3) := by decide +kernel
theorem dX13_number_20 : decode cX13_number 20 = .ok (.return_, 1) := by decide +kernel
theorem dX13_at_0 : decode cX13_at 0 = .ok (.iload_n 1, 1) := by decide +kernel
theorem dX13_at_1 : decode cX13_at 1 = .ok (.ifCond .lt 20, 3) := by decide +kernel
theorem dX13_at_4 : decode cX13_at 4 = .ok (.iload_n 1, 1) := by decide +kernel
theorem dX13_at_5 : decode cX13_at 5 = .ok (.aload_n 0, 1) := by decide +kernel
theorem dX13_at_6 : decode cX13_at 6 = .ok (.getfield 13, 3) := by decide +kernel
theorem dX13_at_9 : decode cX13_at 9 = .ok (.if_icmp .ge 12, 3) := by decide +kernel
theorem dX13_at_12 : decode cX13_at 12 = .ok (.aload_n 0, 1) := by decide +kernel
theorem dX13_at_13 : decode cX13_at 13 = .ok (.getfield 7, 3) := by decide +kernel
theorem dX13_at_16 : decode cX13_at 16 = .ok (.iload_n 1, 1) := by decide +kernel
theorem dX13_at_17 : decode cX13_at 17 = .ok (.iaload, 1) := by decide +kernel
theorem dX13_at_18 : decode cX13_at 18 = .ok (.goto 4, 3) := by decide +kernel
theorem dX13_at_21 : decode cX13_at 21 = .ok (.iconst 0, 1) := by decide +kernel
theorem dX13_at_22 : decode cX13_at 22 = .ok (.ireturn, 1) := by decide +kernel
theorem dX13_trim_0 : decode cX13_trim 0 = .ok (.aload_n 0, 1) := by decide +kernel
theorem dX13_trim_1 : decode cX13_trim 1 = .ok (.getfield 13, 3) := by decide +kernel
theorem dX13_trim_4 : decode cX13_trim 4 = .ok (.ifCond .le 30, 3) := by decide +kernel
theorem dX13_trim_7 : decode cX13_trim 7 = .ok (.aload_n 0, 1) := by decide +kernel
theorem dX13_trim_8 : decode cX13_trim 8 = .ok (.getfield 7, 3) := by decide +kernel
theorem dX13_trim_11 : decode cX13_trim 11 = .ok (.aload_n 0, 1) := by decide +kernel
theorem dX13_trim_12 : decode cX13_trim 12 = .ok (.getfield 13, 3) := by decide +kernel
theorem dX13_trim_15 : decode cX13_trim 15 = .ok (.iconst 1, 1) := by decide +kernel
theorem dX13_trim_16 : decode cX13_trim 16 = .ok (.isub, 1) := by decide +kernel
theorem dX13_trim_17 : decode cX13_trim 17 = .ok (.iaload, 1) := by decide +kernel
theorem dX13_trim_18 : decode cX13_trim 18 = .ok (.ifCond .ne 16, 3) := by decide +kernel
theorem dX13_trim_21 : decode cX13_trim 21 = .ok (.aload_n 0, 1) := by decide +kernel
theorem dX13_trim_22 : decode cX13_trim 22 = .ok (.dup, 1) := by decide +kernel
theorem dX13_trim_23 : decode cX13_trim 23 = .ok (.getfield 13, 3) := by decide +kernel
theorem dX13_trim_26 : decode cX13_trim 26 = .ok (.iconst 1, 1) := by decide +kernel
theorem dX13_trim_27 : decode cX13_trim 27 = .ok (.isub, 1) := by decide +kernel
theorem dX13_trim_28 : decode cX13_trim 28 = .ok (.putfield 13, 3) := by decide +kernel
theorem dX13_trim_31 : decode cX13_trim 31 = .ok (.goto (-31), 3) := by decide +kernel
theorem dX13_trim_34 : decode cX13_trim 34 = .ok (.return_, 1) := by decide +kernel
theorem dX13_head_0 : decode cX13_head 0 = .ok (.aload_n 0, 1) := by decide +kernel
theorem dX13_head_1 : decode cX13_head 1 = .ok (.getfield 13, 3) := by decide +kernel
theorem dX13_head_4 : decode cX13_head 4 = .ok (.ifCond .ne 7, 3) := by decide +kernel
theorem dX13_head_7 : decode cX13_head 7 = .ok (.iconst 0, 1) := by decide +kernel
theorem dX13_head_8 : decode cX13_head 8 = .ok (.goto 14, 3) := by decide +kernel
theorem dX13_head_11 : decode cX13_head 11 = .ok (.aload_n 0, 1) := by decide +kernel
theorem dX13_head_12 : decode cX13_head 12 = .ok (.getfield 7, 3) := by decide +kernel
theorem dX13_head_15 : decode cX13_head 15 = .ok (.aload_n 0, 1) := by decide +kernel
theorem dX13_head_16 : decode cX13_head 16 = .ok (.getfield 13, 3) := by decide +kernel
theorem dX13_head_19 : decode cX13_head 19 = .ok (.iconst 1, 1) := by decide +kernel
theorem dX13_head_20 : decode cX13_head 20 = .ok (.isub, 1) := by decide +kernel
theorem dX13_head_21 : decode cX13_head 21 = .ok (.iaload, 1) := by decide +kernel
theorem dX13_head_22 : decode cX13_head 22 = .ok (.ireturn, 1) := by decide +kernel
abbrev W_X13_number (g : GX) (d : Nat) (av : List Value) (Q : QT) (n : Nat) (pc : Nat) (ls : LV) (stk : List Value) (h : Hp) : Prop := RJ g m_X13_number d 0 0 av Q pc ls stk n h 0 0
theorem s_X13_number_0 {g : GX} {d : Nat} {av : List Value} {Q : QT} {n : Nat} {h : Hp} {a0 : Nat} {x1 : Int32} (hp : g.2.2.2.2 = true) (t0 : lay a0 = (0, 13, 2)) (H : vp_in (0 : Int32) (rm (a0 + 1)) ∧ ∀ h1, h1 = wi h (a0 + 1) ((0 : Int32)).toNatClampNeg x1 → (((¬ x1 = (0 : Int32)) → (W_X13_number g d av Q n 17 [none, none] [.int (1 : Int32), .ref a0] h1)) ∧ ((x1 = (0 : Int32)) → (W_X13_number g d av Q n 17 [none, none] [.int (0 : Int32), .ref a0] h1)))) : W_X13_number g d av Q n 0 [some (.ref a0), some (.int x1)] [] h := by
  refine r_aload_n dX13_number_0 rfl rfl ?_
  refine m_getF (x := (a0 + 1)) hp fw_X13_7 dX13_number_1 rfl t0 (ff_13_0 t0) ?_
  refine r_iconst (v := (0 : Int32)) dX13_number_4 rfl ?_
  refine r_iload_n dX13_number_5 rfl rfl ?_
  refine m_iast hp dX13_number_6 (lf_13_0 t0) H.1 (fun h1 eh1 => ?_)
  replace H := H.2 h1 eh1
  refine r_aload_n dX13_number_7 rfl rfl ?_
  refine r_iload_n dX13_number_8 rfl rfl ?_
  refine r_if_ne (tgt := 16) dX13_number_9 rfl (fun cH => ?_) (fun cH => ?_)
  · replace H := H.1 cH
    refine r_iconst (v := (1 : Int32)) dX13_number_16 rfl ?_
    refine r_prune [false, false] (ls2 := [none, none]) rfl ?_
    exact H
  · replace H := H.2 cH
    refine r_iconst (v := (0 : Int32)) dX13_number_12 rfl ?_
    refine r_goto (tgt := 17) dX13_number_13 rfl ?_
    refine r_prune [false, false] (ls2 := [none, none]) rfl ?_
    exact H
theorem s_X13_number_17 {g : GX} {d : Nat} {av : List Value} {Q : QT} {n : Nat} {h : Hp} {xs0 : Int32} {as1 : Nat} (hp : g.2.2.2.2 = true) (ts1 : lay as1 = (0, 13, 2)) (H : ∀ h1, h1 = wi h as1 1 xs0 → (Q none n h1)) : W_X13_number g d av Q n 17 [none, none] [.int xs0, .ref as1] h := by
  refine m_putI hp fw_X13_13 dX13_number_17 rfl rfl ts1 (fun h1 eh1 => ?_)
  replace H := H h1 eh1
  exact r_vret dX13_number_20 rfl (Nat.le_refl _) (Nat.le_refl _) H
abbrev W_X13_at (g : GX) (d : Nat) (av : List Value) (Q : QT) (n : Nat) (pc : Nat) (ls : LV) (stk : List Value) (h : Hp) : Prop := RJ g m_X13_at d 0 0 av Q pc ls stk n h 0 0
theorem s_X13_at_0 {g : GX} {d : Nat} {av : List Value} {Q : QT} {n : Nat} {h : Hp} {a0 : Nat} {x1 : Int32} (hp : g.2.2.2.2 = true) (t0 : lay a0 = (0, 13, 2)) (H : ((x1 < (0 : Int32)) → (Q (some (.int (0 : Int32))) n h)) ∧ ((¬ x1 < (0 : Int32)) → ((((ri h a0 1) ≤ x1) → (Q (some (.int (0 : Int32))) n h)) ∧ ((¬ (ri h a0 1) ≤ x1) → (vp_in x1 (rm (a0 + 1)) ∧ (Q (some (.int (ri h (a0 + 1) (x1).toNatClampNeg))) n h)))))) : W_X13_at g d av Q n 0 [some (.ref a0), some (.int x1)] [] h := by
  refine r_iload_n dX13_at_0 rfl rfl ?_
  refine r_if_lt (tgt := 21) dX13_at_1 rfl (fun cH => ?_) (fun cH => ?_)
  · replace H := H.1 cH
    refine r_iconst (v := (0 : Int32)) dX13_at_21 rfl ?_
    exact r_zret dX13_at_22 rfl rfl (Nat.le_refl _) (Nat.le_refl _) H
  · replace H := H.2 cH
    refine r_iload_n dX13_at_4 rfl rfl ?_
    refine r_aload_n dX13_at_5 rfl rfl ?_
    refine m_getI hp fw_X13_13 dX13_at_6 rfl t0 ?_
    refine r_icmp_ge (tgt := 21) dX13_at_9 rfl (fun cH => ?_) (fun cH => ?_)
    · replace H := H.1 cH
      refine r_iconst (v := (0 : Int32)) dX13_at_21 rfl ?_
      exact r_zret dX13_at_22 rfl rfl (Nat.le_refl _) (Nat.le_refl _) H
    · replace H := H.2 cH
      refine r_aload_n dX13_at_12 rfl rfl ?_
      refine m_getF (x := (a0 + 1)) hp fw_X13_7 dX13_at_13 rfl t0 (ff_13_0 t0) ?_
      refine r_iload_n dX13_at_16 rfl rfl ?_
      refine m_iald hp dX13_at_17 (lf_13_0 t0) H.1 ?_
      replace H := H.2
      refine r_goto (tgt := 22) dX13_at_18 rfl ?_
      exact r_zret dX13_at_22 rfl rfl (Nat.le_refl _) (Nat.le_refl _) H
abbrev W_X13_trim (g : GX) (d : Nat) (av : List Value) (Q : QT) (n : Nat) (pc : Nat) (ls : LV) (stk : List Value) (h : Hp) : Prop := RJ g m_X13_trim d 0 0 av Q pc ls stk n h 0 0
theorem s_X13_trim_0 {g : GX} {d : Nat} {av : List Value} {Q : QT} {n : Nat} {h : Hp} {a0 : Nat} (hp : g.2.2.2.2 = true) (t0 : lay a0 = (0, 13, 2)) (H : (((ri h a0 1) ≤ (0 : Int32)) → (Q none n h)) ∧ ((¬ (ri h a0 1) ≤ (0 : Int32)) → (vp_in ((ri h a0 1) - (1 : Int32)) (rm (a0 + 1)) ∧ (((¬ (ri h (a0 + 1) (((ri h a0 1) - (1 : Int32))).toNatClampNeg) = (0 : Int32)) → (Q none n h)) ∧ (((ri h (a0 + 1) (((ri h a0 1) - (1 : Int32))).toNatClampNeg) = (0 : Int32)) → (∀ h1, h1 = wi h a0 1 ((ri h a0 1) - (1 : Int32)) → (W_X13_trim g d av Q n 0 [some (.ref a0)] [] h1))))))) : W_X13_trim g d av Q n 0 [some (.ref a0)] [] h := by
  refine r_aload_n dX13_trim_0 rfl rfl ?_
  refine m_getI hp fw_X13_13 dX13_trim_1 rfl t0 ?_
  refine r_if_le (tgt := 34) dX13_trim_4 rfl (fun cH => ?_) (fun cH => ?_)
  · replace H := H.1 cH
    exact r_vret dX13_trim_34 rfl (Nat.le_refl _) (Nat.le_refl _) H
  · replace H := H.2 cH
    refine r_aload_n dX13_trim_7 rfl rfl ?_
    refine m_getF (x := (a0 + 1)) hp fw_X13_7 dX13_trim_8 rfl t0 (ff_13_0 t0) ?_
    refine r_aload_n dX13_trim_11 rfl rfl ?_
    refine m_getI hp fw_X13_13 dX13_trim_12 rfl t0 ?_
    refine r_iconst (v := (1 : Int32)) dX13_trim_15 rfl ?_
    refine r_isub dX13_trim_16 ?_
    refine m_iald hp dX13_trim_17 (lf_13_0 t0) H.1 ?_
    replace H := H.2
    refine r_if_ne (tgt := 34) dX13_trim_18 rfl (fun cH => ?_) (fun cH => ?_)
    · replace H := H.1 cH
      exact r_vret dX13_trim_34 rfl (Nat.le_refl _) (Nat.le_refl _) H
    · replace H := H.2 cH
      refine r_aload_n dX13_trim_21 rfl rfl ?_
      refine r_dup dX13_trim_22 rfl ?_
      refine m_getI hp fw_X13_13 dX13_trim_23 rfl t0 ?_
      refine r_iconst (v := (1 : Int32)) dX13_trim_26 rfl ?_
      refine r_isub dX13_trim_27 ?_
      refine m_putI hp fw_X13_13 dX13_trim_28 rfl rfl t0 (fun h1 eh1 => ?_)
      replace H := H h1 eh1
      refine r_goto (tgt := 0) dX13_trim_31 rfl ?_
      exact H
abbrev W_X13_head (g : GX) (d : Nat) (av : List Value) (Q : QT) (n : Nat) (pc : Nat) (ls : LV) (stk : List Value) (h : Hp) : Prop := RJ g m_X13_head d 0 0 av Q pc ls stk n h 0 0
theorem s_X13_head_0 {g : GX} {d : Nat} {av : List Value} {Q : QT} {n : Nat} {h : Hp} {a0 : Nat} (hp : g.2.2.2.2 = true) (t0 : lay a0 = (0, 13, 2)) (H : ((¬ (ri h a0 1) = (0 : Int32)) → (vp_in ((ri h a0 1) - (1 : Int32)) (rm (a0 + 1)) ∧ (Q (some (.int (ri h (a0 + 1) (((ri h a0 1) - (1 : Int32))).toNatClampNeg))) n h))) ∧ (((ri h a0 1) = (0 : Int32)) → (Q (some (.int (0 : Int32))) n h))) : W_X13_head g d av Q n 0 [some (.ref a0)] [] h := by
  refine r_aload_n dX13_head_0 rfl rfl ?_
  refine m_getI hp fw_X13_13 dX13_head_1 rfl t0 ?_
  refine r_if_ne (tgt := 11) dX13_head_4 rfl (fun cH => ?_) (fun cH => ?_)
  · replace H := H.1 cH
    refine r_aload_n dX13_head_11 rfl rfl ?_
    refine m_getF (x := (a0 + 1)) hp fw_X13_7 dX13_head_12 rfl t0 (ff_13_0 t0) ?_
    refine r_aload_n dX13_head_15 rfl rfl ?_
    refine m_getI hp fw_X13_13 dX13_head_16 rfl t0 ?_
    refine r_iconst (v := (1 : Int32)) dX13_head_19 rfl ?_
    refine r_isub dX13_head_20 ?_
    refine m_iald hp dX13_head_21 (lf_13_0 t0) H.1 ?_
    replace H := H.2
    exact r_zret dX13_head_22 rfl rfl (Nat.le_refl _) (Nat.le_refl _) H
  · replace H := H.2 cH
    refine r_iconst (v := (0 : Int32)) dX13_head_7 rfl ?_
    refine r_goto (tgt := 22) dX13_head_8 rfl ?_
    exact r_zret dX13_head_22 rfl rfl (Nat.le_refl _) (Nat.le_refl _) H
theorem dX14_number_0 : decode cX14_number 0 = .ok (.aload_n 0, 1) := by decide +kernel
theorem dX14_number_1 : decode cX14_number 1 = .ok (.getfield 11, 3) := by decide +kernel
theorem dX14_number_4 : decode cX14_number 4 = .ok (.iconst 0, 1) := by decide +kernel
theorem dX14_number_5 : decode cX14_number 5 = .ok (.aaload, 1) := by decide +kernel
theorem dX14_number_6 : decode cX14_number 6 = .ok (.iload_n 1, 1) := by decide +kernel
theorem dX14_number_7 : decode cX14_number 7 = .ok (.invokevirtual 27, 3) := by decide +kernel
theorem dX14_number_10 : decode cX14_number 10 = .ok (.aload_n 0, 1) := by decide +kernel
theorem dX14_number_11 : decode cX14_number 11 = .ok (.iload_n 1, 1) := by decide +kernel
theorem dX14_number_12 : decode cX14_number 12 = .ok (.ifCond .ne 7, 3) := by decide +kernel
theorem dX14_number_15 : decode cX14_number 15 = .ok (.iconst 0, 1) := by decide +kernel
theorem dX14_number_16 : decode cX14_number 16 = .ok (.goto 4, 3) := by decide +kernel
theorem dX14_number_19 : decode cX14_number 19 = .ok (.iconst 1, 1) := by decide +kernel
theorem dX14_number_20 : decode cX14_number 20 = .ok (.putfield 20, 3) := by decide +kernel
theorem dX14_number_23 : decode cX14_number 23 = .ok (.return_, 1) := by decide +kernel
theorem dX14_trim_0 : decode cX14_trim 0 = .ok (.aload_n 0, 1) := by decide +kernel
theorem dX14_trim_1 : decode cX14_trim 1 = .ok (.getfield 20, 3) := by decide +kernel
theorem dX14_trim_4 : decode cX14_trim 4 = .ok (.ifCond .le 33, 3) := by decide +kernel
theorem dX14_trim_7 : decode cX14_trim 7 = .ok (.aload_n 0, 1) := by decide +kernel
theorem dX14_trim_8 : decode cX14_trim 8 = .ok (.getfield 11, 3) := by decide +kernel
theorem dX14_trim_11 : decode cX14_trim 11 = .ok (.aload_n 0, 1) := by decide +kernel
theorem dX14_trim_12 : decode cX14_trim 12 = .ok (.getfield 20, 3) := by decide +kernel
theorem dX14_trim_15 : decode cX14_trim 15 = .ok (.iconst 1, 1) := by decide +kernel
theorem dX14_trim_16 : decode cX14_trim 16 = .ok (.isub, 1) := by decide +kernel
theorem dX14_trim_17 : decode cX14_trim 17 = .ok (.aaload, 1) := by decide +kernel
theorem dX14_trim_18 : decode cX14_trim 18 = .ok (.getfield 24, 3) := by decide +kernel
theorem dX14_trim_21 : decode cX14_trim 21 = .ok (.ifCond .ne 16, 3) := by decide +kernel
theorem dX14_trim_24 : decode cX14_trim 24 = .ok (.aload_n 0, 1) := by decide +kernel
theorem dX14_trim_25 : decode cX14_trim 25 = .ok (.dup, 1) := by decide +kernel
theorem dX14_trim_26 : decode cX14_trim 26 = .ok (.getfield 20, 3) := by decide +kernel
theorem dX14_trim_29 : decode cX14_trim 29 = .ok (.iconst 1, 1) := by decide +kernel
theorem dX14_trim_30 : decode cX14_trim 30 = .ok (.isub, 1) := by decide +kernel
theorem dX14_trim_31 : decode cX14_trim 31 = .ok (.putfield 20, 3) := by decide +kernel
theorem dX14_trim_34 : decode cX14_trim 34 = .ok (.goto (-34), 3) := by decide +kernel
theorem dX14_trim_37 : decode cX14_trim 37 = .ok (.return_, 1) := by decide +kernel
theorem dX14_degreeN_0 : decode cX14_degreeN 0 = .ok (.iconst 1, 1) := by decide +kernel
theorem dX14_degreeN_1 : decode cX14_degreeN 1 = .ok (.istore_n 1, 1) := by decide +kernel
theorem dX14_degreeN_2 : decode cX14_degreeN 2 = .ok (.iconst 0, 1) := by decide +kernel
theorem dX14_degreeN_3 : decode cX14_degreeN 3 = .ok (.istore_n 2, 1) := by decide +kernel
theorem dX14_degreeN_4 : decode cX14_degreeN 4 = .ok (.iload_n 2, 1) := by decide +kernel
theorem dX14_degreeN_5 : decode cX14_degreeN 5 = .ok (.aload_n 0, 1) := by decide +kernel
theorem dX14_degreeN_6 : decode cX14_degreeN 6 = .ok (.getfield 20, 3) := by decide +kernel
theorem dX14_degreeN_9 : decode cX14_degreeN 9 = .ok (.if_icmp .ge 23, 3) := by decide +kernel
theorem dX14_degreeN_12 : decode cX14_degreeN 12 = .ok (.iload_n 1, 1) := by decide +kernel
theorem dX14_degreeN_13 : decode cX14_degreeN 13 = .ok (.aload_n 0, 1) := by decide +kernel
theorem dX14_degreeN_14 : decode cX14_degreeN 14 = .ok (.getfield 11, 3) := by decide +kernel
theorem dX14_degreeN_17 : decode cX14_degreeN 17 = .ok (.iload_n 2, 1) := by decide +kernel
theorem dX14_degreeN_18 : decode cX14_degreeN 18 = .ok (.aaload, 1) := by decide +kernel
theorem dX14_degreeN_19 : decode cX14_degreeN 19 = .ok (.getfield 24, 3) := by decide +kernel
theorem dX14_degreeN_22 : decode cX14_degreeN 22 = .ok (.invokestatic 38, 3) := by decide +kernel
theorem dX14_degreeN_25 : decode cX14_degreeN 25 = .ok (.istore_n 1, 1) := by decide +kernel
theorem dX14_degreeN_26 : decode cX14_degreeN 26 = .ok (.iinc 2 1, 3) := by decide +kernel
theorem dX14_degreeN_29 : decode cX14_degreeN 29 = .ok (.goto (-25), 3) := by decide +kernel
theorem dX14_degreeN_32 : decode cX14_degreeN 32 = .ok (.iload_n 1, 1) := by decide +kernel
theorem dX14_degreeN_33 : decode cX14_degreeN 33 = .ok (.iconst 1, 1) := by decide +kernel
theorem dX14_degreeN_34 : decode cX14_degreeN 34 = .ok (.isub, 1) := by decide +kernel
theorem dX14_degreeN_35 : decode cX14_degreeN 35 = .ok (.ireturn, 1) := by decide +kernel
theorem dX14_degreeK_0 : decode cX14_degreeK 0 = .ok (.iconst 0, 1) := by decide +kernel
theorem dX14_degreeK_1 : decode cX14_degreeK 1 = .ok (.aload_n 0, 1) := by decide +kernel
theorem dX14_degreeK_2 : decode cX14_degreeK 2 = .ok (.getfield 20, 3) := by decide +kernel
theorem dX14_degreeK_5 : decode cX14_degreeK 5 = .ok (.iconst 1, 1) := by decide +kernel
theorem dX14_degreeK_6 : decode cX14_degreeK 6 = .ok (.isub, 1) := by decide +kernel
theorem dX14_degreeK_7 : decode cX14_degreeK 7 = .ok (.invokestatic 38, 3) := by decide +kernel
theorem dX14_degreeK_10 : decode cX14_degreeK 10 = .ok (.ireturn, 1) := by decide +kernel
theorem dX14_head_0 : decode cX14_head 0 = .ok (.aload_n 0, 1) := by decide +kernel
theorem dX14_head_1 : decode cX14_head 1 = .ok (.getfield 20, 3) := by decide +kernel
theorem dX14_head_4 : decode cX14_head 4 = .ok (.ifCond .ne 7, 3) := by decide +kernel
theorem dX14_head_7 : decode cX14_head 7 = .ok (.iconst 0, 1) := by decide +kernel
theorem dX14_head_8 : decode cX14_head 8 = .ok (.goto 10, 3) := by decide +kernel
theorem dX14_head_11 : decode cX14_head 11 = .ok (.aload_n 0, 1) := by decide +kernel
theorem dX14_head_12 : decode cX14_head 12 = .ok (.invokevirtual 30, 3) := by decide +kernel
theorem dX14_head_15 : decode cX14_head 15 = .ok (.invokevirtual 34, 3) := by decide +kernel
theorem dX14_head_18 : decode cX14_head 18 = .ok (.ireturn, 1) := by decide +kernel
theorem dX14_lead_0 : decode cX14_lead 0 = .ok (.aload_n 0, 1) := by decide +kernel
theorem dX14_lead_1 : decode cX14_lead 1 = .ok (.getfield 11, 3) := by decide +kernel
theorem dX14_lead_4 : decode cX14_lead 4 = .ok (.aload_n 0, 1) := by decide +kernel
theorem dX14_lead_5 : decode cX14_lead 5 = .ok (.getfield 20, 3) := by decide +kernel
theorem dX14_lead_8 : decode cX14_lead 8 = .ok (.iconst 1, 1) := by decide +kernel
theorem dX14_lead_9 : decode cX14_lead 9 = .ok (.isub, 1) := by decide +kernel
theorem dX14_lead_10 : decode cX14_lead 10 = .ok (.aaload, 1) := by decide +kernel
theorem dX14_lead_11 : decode cX14_lead 11 = .ok (.areturn, 1) := by decide +kernel
theorem dX14_isNumber_0 : decode cX14_isNumber 0 = .ok (.aload_n 0, 1) := by decide +kernel
theorem dX14_isNumber_1 : decode cX14_isNumber 1 = .ok (.getfield 20, 3) := by decide +kernel
theorem dX14_isNumber_4 : decode cX14_isNumber 4 = .ok (.ifCond .eq 24, 3) := by decide +kernel
theorem dX14_isNumber_7 : decode cX14_isNumber 7 = .ok (.aload_n 0, 1) := by decide +kernel
theorem dX14_isNumber_8 : decode cX14_isNumber 8 = .ok (.getfield 20, 3) := by decide +kernel
theorem dX14_isNumber_11 : decode cX14_isNumber 11 = .ok (.iconst 1, 1) := by decide +kernel
theorem dX14_isNumber_12 : decode cX14_isNumber 12 = .ok (.if_icmp .ne 20, 3) := by decide +kernel
theorem dX14_isNumber_15 : decode cX14_isNumber 15 = .ok (.aload_n 0, 1) := by decide +kernel
theorem dX14_isNumber_16 : decode cX14_isNumber 16 = .ok (.getfield 11, 3) := by decide +kernel
theorem dX14_isNumber_19 : decode cX14_isNumber 19 = .ok (.iconst 0, 1) := by decide +kernel
theorem dX14_isNumber_20 : decode cX14_isNumber 20 = .ok (.aaload, 1) := by decide +kernel
theorem dX14_isNumber_21 : decode cX14_isNumber 21 = .ok (.getfield 24, 3) := by decide +kernel
theorem dX14_isNumber_24 : decode cX14_isNumber 24 = .ok (.iconst 1, 1) := by decide +kernel
theorem dX14_isNumber_25 : decode cX14_isNumber 25 = .ok (.if_icmp .ne 7, 3) := by decide +kernel
theorem dX14_isNumber_28 : decode cX14_isNumber 28 = .ok (.iconst 1, 1) := by decide +kernel
theorem dX14_isNumber_29 : decode cX14_isNumber 29 = .ok (.goto 4, 3) := by decide +kernel
theorem dX14_isNumber_32 : decode cX14_isNumber 32 = .ok (.iconst 0, 1) := by decide +kernel
theorem dX14_isNumber_33 : decode cX14_isNumber 33 = .ok (.ireturn, 1) := by decide +kernel
abbrev W_X14_number (g : GX) (d : Nat) (av : List Value) (Q : QT) (n : Nat) (pc : Nat) (ls : LV) (stk : List Value) (h : Hp) : Prop := RJ g m_X14_number (d + 1) 0 0 av Q pc ls stk n h 0 0
theorem s_X14_number_0 {g : GX} {d : Nat} {av : List Value} {Q : QT} {n : Nat} {h : Hp} {a0 : Nat} {x1 : Int32} (hp : g.2.2.2.2 = true) (t0 : lay a0 = (0, 14, 2)) (H : vp_in (0 : Int32) 64 ∧ ∀ r1, r1 = (a0 + 2) + 2 * ((0 : Int32)).toNatClampNeg → (CallV g m_X13_number d [.ref r1, .int x1] n h (fun h2 => (((¬ x1 = (0 : Int32)) → (W_X14_number g d av Q n 20 [none, none] [.int (1 : Int32), .ref a0] h2)) ∧ ((x1 = (0 : Int32)) → (W_X14_number g d av Q n 20 [none, none] [.int (0 : Int32), .ref a0] h2)))))) : W_X14_number g d av Q n 0 [some (.ref a0), some (.int x1)] [] h := by
  refine r_aload_n dX14_number_0 rfl rfl ?_
  refine m_getF (x := (a0 + 1)) hp fw_X14_11 dX14_number_1 rfl t0 (ff_14_0 t0) ?_
  refine r_iconst (v := (0 : Int32)) dX14_number_4 rfl ?_
  obtain ⟨r1, er1⟩ : ∃ y, y = (a0 + 2) + 2 * ((0 : Int32)).toNatClampNeg := ⟨_, rfl⟩
  have hir1 := H.1
  replace H := H.2 r1 er1
  have tLr1 := le_14 t0 hir1 er1
  refine m_aalF (x := r1) hp dX14_number_5 (lf_14_0 t0) rfl rfl (lu_14_0 t0) hir1 (fe_14 t0 hir1 er1) ?_
  refine r_iload_n dX14_number_6 rfl rfl ?_
  refine k_VV (As := [.int x1]) (stk := []) hp cv_X14_27 dX14_number_7 rfl (Nat.le_of_ble_eq_true rfl) tLr1 (H.mono (fun h2 H => ?_)) ⟨Nat.le_refl _, Nat.le_refl _⟩
  refine r_aload_n dX14_number_10 rfl rfl ?_
  refine r_iload_n dX14_number_11 rfl rfl ?_
  refine r_if_ne (tgt := 19) dX14_number_12 rfl (fun cH => ?_) (fun cH => ?_)
  · replace H := H.1 cH
    refine r_iconst (v := (1 : Int32)) dX14_number_19 rfl ?_
    refine r_prune [false, false] (ls2 := [none, none]) rfl ?_
    exact H
  · replace H := H.2 cH
    refine r_iconst (v := (0 : Int32)) dX14_number_15 rfl ?_
    refine r_goto (tgt := 20) dX14_number_16 rfl ?_
    refine r_prune [false, false] (ls2 := [none, none]) rfl ?_
    exact H
theorem s_X14_number_20 {g : GX} {d : Nat} {av : List Value} {Q : QT} {n : Nat} {h : Hp} {xs0 : Int32} {as1 : Nat} (hp : g.2.2.2.2 = true) (ts1 : lay as1 = (0, 14, 2)) (H : ∀ h1, h1 = wi h as1 1 xs0 → (Q none n h1)) : W_X14_number g d av Q n 20 [none, none] [.int xs0, .ref as1] h := by
  refine m_putI hp fw_X14_20 dX14_number_20 rfl rfl ts1 (fun h1 eh1 => ?_)
  replace H := H h1 eh1
  exact r_vret dX14_number_23 rfl (Nat.le_refl _) (Nat.le_refl _) H
abbrev W_X14_trim (g : GX) (d : Nat) (av : List Value) (Q : QT) (n : Nat) (pc : Nat) (ls : LV) (stk : List Value) (h : Hp) : Prop := RJ g m_X14_trim d 0 0 av Q pc ls stk n h 0 0
theorem s_X14_trim_0 {g : GX} {d : Nat} {av : List Value} {Q : QT} {n : Nat} {h : Hp} {a0 : Nat} (hp : g.2.2.2.2 = true) (t0 : lay a0 = (0, 14, 2)) (H : (((ri h a0 1) ≤ (0 : Int32)) → (Q none n h)) ∧ ((¬ (ri h a0 1) ≤ (0 : Int32)) → (vp_in ((ri h a0 1) - (1 : Int32)) 64 ∧ ∀ r1, r1 = (a0 + 2) + 2 * (((ri h a0 1) - (1 : Int32))).toNatClampNeg → (((¬ (ri h r1 1) = (0 : Int32)) → (Q none n h)) ∧ (((ri h r1 1) = (0 : Int32)) → (∀ h2, h2 = wi h a0 1 ((ri h a0 1) - (1 : Int32)) → (W_X14_trim g d av Q n 0 [some (.ref a0)] [] h2))))))) : W_X14_trim g d av Q n 0 [some (.ref a0)] [] h := by
  refine r_aload_n dX14_trim_0 rfl rfl ?_
  refine m_getI hp fw_X14_20 dX14_trim_1 rfl t0 ?_
  refine r_if_le (tgt := 37) dX14_trim_4 rfl (fun cH => ?_) (fun cH => ?_)
  · replace H := H.1 cH
    exact r_vret dX14_trim_37 rfl (Nat.le_refl _) (Nat.le_refl _) H
  · replace H := H.2 cH
    refine r_aload_n dX14_trim_7 rfl rfl ?_
    refine m_getF (x := (a0 + 1)) hp fw_X14_11 dX14_trim_8 rfl t0 (ff_14_0 t0) ?_
    refine r_aload_n dX14_trim_11 rfl rfl ?_
    refine m_getI hp fw_X14_20 dX14_trim_12 rfl t0 ?_
    refine r_iconst (v := (1 : Int32)) dX14_trim_15 rfl ?_
    refine r_isub dX14_trim_16 ?_
    obtain ⟨r1, er1⟩ : ∃ y, y = (a0 + 2) + 2 * (((ri h a0 1) - (1 : Int32))).toNatClampNeg := ⟨_, rfl⟩
    have hir1 := H.1
    replace H := H.2 r1 er1
    have tLr1 := le_14 t0 hir1 er1
    refine m_aalF (x := r1) hp dX14_trim_17 (lf_14_0 t0) rfl rfl (lu_14_0 t0) hir1 (fe_14 t0 hir1 er1) ?_
    refine m_getI hp fw_X14_24 dX14_trim_18 rfl tLr1 ?_
    refine r_if_ne (tgt := 37) dX14_trim_21 rfl (fun cH => ?_) (fun cH => ?_)
    · replace H := H.1 cH
      exact r_vret dX14_trim_37 rfl (Nat.le_refl _) (Nat.le_refl _) H
    · replace H := H.2 cH
      refine r_aload_n dX14_trim_24 rfl rfl ?_
      refine r_dup dX14_trim_25 rfl ?_
      refine m_getI hp fw_X14_20 dX14_trim_26 rfl t0 ?_
      refine r_iconst (v := (1 : Int32)) dX14_trim_29 rfl ?_
      refine r_isub dX14_trim_30 ?_
      refine m_putI hp fw_X14_20 dX14_trim_31 rfl rfl t0 (fun h2 eh2 => ?_)
      replace H := H h2 eh2
      refine r_goto (tgt := 0) dX14_trim_34 rfl ?_
      exact H
abbrev W_X14_degreeN (g : GX) (d : Nat) (av : List Value) (Q : QT) (n : Nat) (pc : Nat) (ls : LV) (stk : List Value) (h : Hp) : Prop := RJ g m_X14_degreeN (d + 1) 0 0 av Q pc ls stk n h 0 0
theorem s_X14_degreeN_0 {g : GX} {d : Nat} {av : List Value} {Q : QT} {n : Nat} {h : Hp} {a0 : Nat} (hp : g.2.2.2.2 = true) (t0 : lay a0 = (0, 14, 2)) (H : W_X14_degreeN g d av Q n 4 [some (.ref a0), some (.int (1 : Int32)), some (.int (0 : Int32))] [] h) : W_X14_degreeN g d av Q n 0 [some (.ref a0), none, none] [] h := by
  refine r_iconst (v := (1 : Int32)) dX14_degreeN_0 rfl ?_
  refine r_istore_n (ls2 := [some (.ref a0), some (.int (1 : Int32)), none]) dX14_degreeN_1 rfl (by decide) rfl ?_
  refine r_iconst (v := (0 : Int32)) dX14_degreeN_2 rfl ?_
  refine r_istore_n (ls2 := [some (.ref a0), some (.int (1 : Int32)), some (.int (0 : Int32))]) dX14_degreeN_3 rfl (by decide) rfl ?_
  exact H
theorem s_X14_degreeN_4 {g : GX} {d : Nat} {av : List Value} {Q : QT} {n : Nat} {h : Hp} {a0 : Nat} {x1 : Int32} {x2 : Int32} (hp : g.2.2.2.2 = true) (t0 : lay a0 = (0, 14, 2)) (H : (((ri h a0 1) ≤ x2) → (Q (some (.int (x1 - (1 : Int32)))) n h)) ∧ ((¬ (ri h a0 1) ≤ x2) → (vp_in x2 64 ∧ ∀ r1, r1 = (a0 + 2) + 2 * (x2).toNatClampNeg → (CallI g m_J3_max d [.int x1, .int (ri h r1 1)] n h (fun v2 h2 => (W_X14_degreeN g d av Q n 4 [some (.ref a0), some (.int v2), some (.int (x2 + (1 : Int32)))] [] h2)))))) : W_X14_degreeN g d av Q n 4 [some (.ref a0), some (.int x1), some (.int x2)] [] h := by
  refine r_iload_n dX14_degreeN_4 rfl rfl ?_
  refine r_aload_n dX14_degreeN_5 rfl rfl ?_
  refine m_getI hp fw_X14_20 dX14_degreeN_6 rfl t0 ?_
  refine r_icmp_ge (tgt := 32) dX14_degreeN_9 rfl (fun cH => ?_) (fun cH => ?_)
  · replace H := H.1 cH
    refine r_iload_n dX14_degreeN_32 rfl rfl ?_
    refine r_iconst (v := (1 : Int32)) dX14_degreeN_33 rfl ?_
    refine r_isub dX14_degreeN_34 ?_
    exact r_zret dX14_degreeN_35 rfl rfl (Nat.le_refl _) (Nat.le_refl _) H
  · replace H := H.2 cH
    refine r_iload_n dX14_degreeN_12 rfl rfl ?_
    refine r_aload_n dX14_degreeN_13 rfl rfl ?_
    refine m_getF (x := (a0 + 1)) hp fw_X14_11 dX14_degreeN_14 rfl t0 (ff_14_0 t0) ?_
    refine r_iload_n dX14_degreeN_17 rfl rfl ?_
    obtain ⟨r1, er1⟩ : ∃ y, y = (a0 + 2) + 2 * (x2).toNatClampNeg := ⟨_, rfl⟩
    have hir1 := H.1
    replace H := H.2 r1 er1
    have tLr1 := le_14 t0 hir1 er1
    refine m_aalF (x := r1) hp dX14_degreeN_18 (lf_14_0 t0) rfl rfl (lu_14_0 t0) hir1 (fe_14 t0 hir1 er1) ?_
    refine m_getI hp fw_X14_24 dX14_degreeN_19 rfl tLr1 ?_
    refine k_SI (As := [.int x1, .int (ri h r1 1)]) (stk := []) cs_X14_38 dX14_degreeN_22 rfl (Nat.le_of_ble_eq_true rfl) (H.mono (fun v2 h2 H => ?_)) ⟨Nat.le_refl _, Nat.le_refl _⟩
    refine r_istore_n (ls2 := [some (.ref a0), some (.int v2), some (.int x2)]) dX14_degreeN_25 rfl (by decide) rfl ?_
    refine r_iinc (v := (x2 + (1 : Int32))) (ls2 := [some (.ref a0), some (.int v2), some (.int (x2 + (1 : Int32)))]) dX14_degreeN_26 rfl rfl (by decide) rfl ?_
    refine r_goto (tgt := 4) dX14_degreeN_29 rfl ?_
    exact H
abbrev W_X14_degreeK (g : GX) (d : Nat) (av : List Value) (Q : QT) (n : Nat) (pc : Nat) (ls : LV) (stk : List Value) (h : Hp) : Prop := RJ g m_X14_degreeK (d + 1) 0 0 av Q pc ls stk n h 0 0
theorem s_X14_degreeK_0 {g : GX} {d : Nat} {av : List Value} {Q : QT} {n : Nat} {h : Hp} {a0 : Nat} (hp : g.2.2.2.2 = true) (t0 : lay a0 = (0, 14, 2)) (H : CallI g m_J3_max d [.int (0 : Int32), .int ((ri h a0 1) - (1 : Int32))] n h (fun v1 h1 => (Q (some (.int v1)) n h1))) : W_X14_degreeK g d av Q n 0 [some (.ref a0)] [] h := by
  refine r_iconst (v := (0 : Int32)) dX14_degreeK_0 rfl ?_
  refine r_aload_n dX14_degreeK_1 rfl rfl ?_
  refine m_getI hp fw_X14_20 dX14_degreeK_2 rfl t0 ?_
  refine r_iconst (v := (1 : Int32)) dX14_degreeK_5 rfl ?_
  refine r_isub dX14_degreeK_6 ?_
  refine k_SI (As := [.int (0 : Int32), .int ((ri h a0 1) - (1 : Int32))]) (stk := []) cs_X14_38 dX14_degreeK_7 rfl (Nat.le_of_ble_eq_true rfl) (H.mono (fun v1 h1 H => ?_)) ⟨Nat.le_refl _, Nat.le_refl _⟩
  exact r_zret dX14_degreeK_10 rfl rfl (Nat.le_refl _) (Nat.le_refl _) H
abbrev W_X14_head (g : GX) (d : Nat) (av : List Value) (Q : QT) (n : Nat) (pc : Nat) (ls : LV) (stk : List Value) (h : Hp) : Prop := RJ g m_X14_head (d + 1) 0 0 av Q pc ls stk n h 0 0
theorem s_X14_head_0 {g : GX} {d : Nat} {av : List Value} {Q : QT} {n : Nat} {h : Hp} {a0 : Nat} (hp : g.2.2.2.2 = true) (t0 : lay a0 = (0, 14, 2)) (H : ((¬ (ri h a0 1) = (0 : Int32)) → (CallR g m_X14_lead d [.ref a0] n h (fun v1 h1 => (lay v1 = (0, 13, 2) ∧ (CallI g m_X13_head d [.ref v1] n h1 (fun v2 h2 => (Q (some (.int v2)) n h2))))))) ∧ (((ri h a0 1) = (0 : Int32)) → (Q (some (.int (0 : Int32))) n h))) : W_X14_head g d av Q n 0 [some (.ref a0)] [] h := by
  refine r_aload_n dX14_head_0 rfl rfl ?_
  refine m_getI hp fw_X14_20 dX14_head_1 rfl t0 ?_
  refine r_if_ne (tgt := 11) dX14_head_4 rfl (fun cH => ?_) (fun cH => ?_)
  · replace H := H.1 cH
    refine r_aload_n dX14_head_11 rfl rfl ?_
    refine k_VR (As := []) (stk := []) hp cv_X14_30 dX14_head_12 rfl (Nat.le_of_ble_eq_true rfl) t0 (H.mono (fun v1 h1 H => ?_)) ⟨Nat.le_refl _, Nat.le_refl _⟩
    obtain ⟨tv1, H⟩ := H
    refine k_VI (As := []) (stk := []) hp cv_X14_34 dX14_head_15 rfl (Nat.le_of_ble_eq_true rfl) tv1 (H.mono (fun v2 h2 H => ?_)) ⟨Nat.le_refl _, Nat.le_refl _⟩
    exact r_zret dX14_head_18 rfl rfl (Nat.le_refl _) (Nat.le_refl _) H
  · replace H := H.2 cH
    refine r_iconst (v := (0 : Int32)) dX14_head_7 rfl ?_
    refine r_goto (tgt := 18) dX14_head_8 rfl ?_
    exact r_zret dX14_head_18 rfl rfl (Nat.le_refl _) (Nat.le_refl _) H
abbrev W_X14_lead (g : GX) (d : Nat) (av : List Value) (Q : QT) (n : Nat) (pc : Nat) (ls : LV) (stk : List Value) (h : Hp) : Prop := RJ g m_X14_lead d 0 0 av Q pc ls stk n h 0 0
theorem s_X14_lead_0 {g : GX} {d : Nat} {av : List Value} {Q : QT} {n : Nat} {h : Hp} {a0 : Nat} (hp : g.2.2.2.2 = true) (t0 : lay a0 = (0, 14, 2)) (H : vp_in ((ri h a0 1) - (1 : Int32)) 64 ∧ ∀ r1, r1 = (a0 + 2) + 2 * (((ri h a0 1) - (1 : Int32))).toNatClampNeg → (Q (some (.ref r1)) n h)) : W_X14_lead g d av Q n 0 [some (.ref a0)] [] h := by
  refine r_aload_n dX14_lead_0 rfl rfl ?_
  refine m_getF (x := (a0 + 1)) hp fw_X14_11 dX14_lead_1 rfl t0 (ff_14_0 t0) ?_
  refine r_aload_n dX14_lead_4 rfl rfl ?_
  refine m_getI hp fw_X14_20 dX14_lead_5 rfl t0 ?_
  refine r_iconst (v := (1 : Int32)) dX14_lead_8 rfl ?_
  refine r_isub dX14_lead_9 ?_
  obtain ⟨r1, er1⟩ : ∃ y, y = (a0 + 2) + 2 * (((ri h a0 1) - (1 : Int32))).toNatClampNeg := ⟨_, rfl⟩
  have hir1 := H.1
  replace H := H.2 r1 er1
  have tLr1 := le_14 t0 hir1 er1
  refine m_aalF (x := r1) hp dX14_lead_10 (lf_14_0 t0) rfl rfl (lu_14_0 t0) hir1 (fe_14 t0 hir1 er1) ?_
  exact r_aret dX14_lead_11 rfl (Or.inl ⟨_, rfl⟩) (Nat.le_refl _) (Nat.le_refl _) H
abbrev W_X14_isNumber (g : GX) (d : Nat) (av : List Value) (Q : QT) (n : Nat) (pc : Nat) (ls : LV) (stk : List Value) (h : Hp) : Prop := RJ g m_X14_isNumber d 0 0 av Q pc ls stk n h 0 0
theorem s_X14_isNumber_0 {g : GX} {d : Nat} {av : List Value} {Q : QT} {n : Nat} {h : Hp} {a0 : Nat} (hp : g.2.2.2.2 = true) (t0 : lay a0 = (0, 14, 2)) (H : (((ri h a0 1) = (0 : Int32)) → (Q (some (.int (1 : Int32))) n h)) ∧ ((¬ (ri h a0 1) = (0 : Int32)) → (((¬ (ri h a0 1) = (1 : Int32)) → (Q (some (.int (0 : Int32))) n h)) ∧ (((ri h a0 1) = (1 : Int32)) → (vp_in (0 : Int32) 64 ∧ ∀ r1, r1 = (a0 + 2) + 2 * ((0 : Int32)).toNatClampNeg → (((¬ (ri h r1 1) = (1 : Int32)) → (Q (some (.int (0 : Int32))) n h)) ∧ (((ri h r1 1) = (1 : Int32)) → (Q (some (.int (1 : Int32))) n h)))))))) : W_X14_isNumber g d av Q n 0 [some (.ref a0)] [] h := by
  refine r_aload_n dX14_isNumber_0 rfl rfl ?_
  refine m_getI hp fw_X14_20 dX14_isNumber_1 rfl t0 ?_
  refine r_if_eq (tgt := 28) dX14_isNumber_4 rfl (fun cH => ?_) (fun cH => ?_)
  · replace H := H.1 cH
    refine r_iconst (v := (1 : Int32)) dX14_isNumber_28 rfl ?_
    refine r_goto (tgt := 33) dX14_isNumber_29 rfl ?_
    exact r_zret dX14_isNumber_33 rfl rfl (Nat.le_refl _) (Nat.le_refl _) H
  · replace H := H.2 cH
    refine r_aload_n dX14_isNumber_7 rfl rfl ?_
    refine m_getI hp fw_X14_20 dX14_isNumber_8 rfl t0 ?_
    refine r_iconst (v := (1 : Int32)) dX14_isNumber_11 rfl ?_
    refine r_icmp_ne (tgt := 32) dX14_isNumber_12 rfl (fun cH => ?_) (fun cH => ?_)
    · replace H := H.1 cH
      refine r_iconst (v := (0 : Int32)) dX14_isNumber_32 rfl ?_
      exact r_zret dX14_isNumber_33 rfl rfl (Nat.le_refl _) (Nat.le_refl _) H
    · replace H := H.2 cH
      refine r_aload_n dX14_isNumber_15 rfl rfl ?_
      refine m_getF (x := (a0 + 1)) hp fw_X14_11 dX14_isNumber_16 rfl t0 (ff_14_0 t0) ?_
      refine r_iconst (v := (0 : Int32)) dX14_isNumber_19 rfl ?_
      obtain ⟨r1, er1⟩ : ∃ y, y = (a0 + 2) + 2 * ((0 : Int32)).toNatClampNeg := ⟨_, rfl⟩
      have hir1 := H.1
      replace H := H.2 r1 er1
      have tLr1 := le_14 t0 hir1 er1
      refine m_aalF (x := r1) hp dX14_isNumber_20 (lf_14_0 t0) rfl rfl (lu_14_0 t0) hir1 (fe_14 t0 hir1 er1) ?_
      refine m_getI hp fw_X14_24 dX14_isNumber_21 rfl tLr1 ?_
      refine r_iconst (v := (1 : Int32)) dX14_isNumber_24 rfl ?_
      refine r_icmp_ne (tgt := 32) dX14_isNumber_25 rfl (fun cH => ?_) (fun cH => ?_)
      · replace H := H.1 cH
        refine r_iconst (v := (0 : Int32)) dX14_isNumber_32 rfl ?_
        exact r_zret dX14_isNumber_33 rfl rfl (Nat.le_refl _) (Nat.le_refl _) H
      · replace H := H.2 cH
        refine r_iconst (v := (1 : Int32)) dX14_isNumber_28 rfl ?_
        refine r_goto (tgt := 33) dX14_isNumber_29 rfl ?_
        exact r_zret dX14_isNumber_33 rfl rfl (Nat.le_refl _) (Nat.le_refl _) H
