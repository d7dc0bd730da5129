set_option maxRecDepth 100000
theorem dX2_common_0 : decode cX2_common 0 = .ok (.aload_n 0, 1) := by decide +kernel
theorem dX2_common_1 : decode cX2_common 1 = .ok (.getfield 12, 3) := by decide +kernel
theorem dX2_common_4 : decode cX2_common 4 = .ok (.aload_n 1, 1) := by decide +kernel
theorem dX2_common_5 : decode cX2_common 5 = .ok (.invokevirtual 24, 3) := by decide +kernel
theorem dX2_common_8 : decode cX2_common 8 = .ok (.aload_n 0, 1) := by decide +kernel
theorem dX2_common_9 : decode cX2_common 9 = .ok (.getfield 18, 3) := by decide +kernel
theorem dX2_common_12 : decode cX2_common 12 = .ok (.aload_n 2, 1) := by decide +kernel
theorem dX2_common_13 : decode cX2_common 13 = .ok (.invokevirtual 24, 3) := by decide +kernel
theorem dX2_common_16 : decode cX2_common 16 = .ok (.aload_n 0, 1) := by decide +kernel
theorem dX2_common_17 : decode cX2_common 17 = .ok (.getfield 18, 3) := by decide +kernel
theorem dX2_common_20 : decode cX2_common 20 = .ok (.invokevirtual 28, 3) := by decide +kernel
theorem dX2_common_23 : decode cX2_common 23 = .ok (.ifCond .ne 51, 3) := by decide +kernel
theorem dX2_common_26 : decode cX2_common 26 = .ok (.aload_n 0, 1) := by decide +kernel
theorem dX2_common_27 : decode cX2_common 27 = .ok (.getfield 12, 3) := by decide +kernel
theorem dX2_common_30 : decode cX2_common 30 = .ok (.aload_n 0, 1) := by decide +kernel
theorem dX2_common_31 : decode cX2_common 31 = .ok (.getfield 18, 3) := by decide +kernel
theorem dX2_common_34 : decode cX2_common 34 = .ok (.aconst_null, 1) := by decide +kernel
theorem dX2_common_35 : decode cX2_common 35 = .ok (.invokevirtual 32, 3) := by decide +kernel
theorem dX2_common_38 : decode cX2_common 38 = .ok (.aload_n 0, 1) := by decide +kernel
theorem dX2_common_39 : decode cX2_common 39 = .ok (.getfield 21, 3) := by decide +kernel
theorem dX2_common_42 : decode cX2_common 42 = .ok (.aload_n 0, 1) := by decide +kernel
theorem dX2_common_43 : decode cX2_common 43 = .ok (.getfield 12, 3) := by decide +kernel
theorem dX2_common_46 : decode cX2_common 46 = .ok (.invokevirtual 24, 3) := by decide +kernel
theorem dX2_common_49 : decode cX2_common 49 = .ok (.aload_n 0, 1) := by decide +kernel
theorem dX2_common_50 : decode cX2_common 50 = .ok (.getfield 12, 3) := by decide +kernel
theorem dX2_common_53 : decode cX2_common 53 = .ok (.aload_n 0, 1) := by decide +kernel
theorem dX2_common_54 : decode cX2_common 54 = .ok (.getfield 18, 3) := by decide +kernel
theorem dX2_common_57 : decode cX2_common 57 = .ok (.invokevirtual 24, 3) := by decide +kernel
theorem dX2_common_60 : decode cX2_common 60 = .ok (.aload_n 0, 1) := by decide +kernel
theorem dX2_common_61 : decode cX2_common 61 = .ok (.getfield 18, 3) := by decide +kernel
theorem dX2_common_64 : decode cX2_common 64 = .ok (.aload_n 0, 1) := by decide +kernel
theorem dX2_common_65 : decode cX2_common 65 = .ok (.getfield 21, 3) := by decide +kernel
theorem dX2_common_68 : decode cX2_common 68 = .ok (.invokevirtual 24, 3) := by decide +kernel
theorem dX2_common_71 : decode cX2_common 71 = .ok (.goto (-55), 3) := by decide +kernel
theorem dX2_common_74 : decode cX2_common 74 = .ok (.aload_n 0, 1) := by decide +kernel
theorem dX2_common_75 : decode cX2_common 75 = .ok (.getfield 12, 3) := by decide +kernel
theorem dX2_common_78 : decode cX2_common 78 = .ok (.invokevirtual 36, 3) := by decide +kernel
theorem dX2_common_81 : decode cX2_common 81 = .ok (.aload_n 3, 1) := by decide +kernel
theorem dX2_common_82 : decode cX2_common 82 = .ok (.aload_n 0, 1) := by decide +kernel
theorem dX2_common_83 : decode cX2_common 83 = .ok (.getfield 12, 3) := by decide +kernel
theorem dX2_common_86 : decode cX2_common 86 = .ok (.invokevirtual 24, 3) := by decide +kernel
theorem dX2_common_89 : decode cX2_common 89 = .ok (.return_, 1) := by decide +kernel
theorem dX2_divideExactly_0 : decode cX2_divideExactly 0 = .ok (.aload_n 2, 1) := by decide +kernel
theorem dX2_divideExactly_1 : decode cX2_divideExactly 1 = .ok (.getfield 39, 3) := by decide +kernel
theorem dX2_divideExactly_4 : decode cX2_divideExactly 4 = .ok (.iconst 1, 1) := by decide +kernel
theorem dX2_divideExactly_5 : decode cX2_divideExactly 5 = .ok (.if_icmp .ne 17, 3) := by decide +kernel
theorem dX2_divideExactly_8 : decode cX2_divideExactly 8 = .ok (.aload_n 1, 1) := by decide +kernel
theorem dX2_divideExactly_9 : decode cX2_divideExactly 9 = .ok (.aload_n 2, 1) := by decide +kernel
theorem dX2_divideExactly_10 : decode cX2_divideExactly 10 = .ok (.getfield 43, 3) := by decide +kernel
theorem dX2_divideExactly_13 : decode cX2_divideExactly 13 = .ok (.iconst 0, 1) := by decide +kernel
theorem dX2_divideExactly_14 : decode cX2_divideExactly 14 = .ok (.iaload, 1) := by decide +kernel
theorem dX2_divideExactly_15 : decode cX2_divideExactly 15 = .ok (.invokestatic 47, 3) := by decide +kernel
theorem dX2_divideExactly_18 : decode cX2_divideExactly 18 = .ok (.invokevirtual 53, 3) := by decide +kernel
theorem dX2_divideExactly_21 : decode cX2_divideExactly 21 = .ok (.return_, 1) := by decide +kernel
theorem dX2_divideExactly_22 : decode cX2_divideExactly 22 = .ok (.aload_n 0, 1) := by decide +kernel
theorem dX2_divideExactly_23 : decode cX2_divideExactly 23 = .ok (.getfield 12, 3) := by decide +kernel
theorem dX2_divideExactly_26 : decode cX2_divideExactly 26 = .ok (.aload_n 1, 1) := by decide +kernel
theorem dX2_divideExactly_27 : decode cX2_divideExactly 27 = .ok (.invokevirtual 24, 3) := by decide +kernel
theorem dX2_divideExactly_30 : decode cX2_divideExactly 30 = .ok (.aload_n 0, 1) := by decide +kernel
theorem dX2_divideExactly_31 : decode cX2_divideExactly 31 = .ok (.getfield 12, 3) := by decide +kernel
theorem dX2_divideExactly_34 : decode cX2_divideExactly 34 = .ok (.aload_n 2, 1) := by decide +kernel
theorem dX2_divideExactly_35 : decode cX2_divideExactly 35 = .ok (.aload_n 1, 1) := by decide +kernel
theorem dX2_divideExactly_36 : decode cX2_divideExactly 36 = .ok (.invokevirtual 32, 3) := by decide +kernel
theorem dX2_divideExactly_39 : decode cX2_divideExactly 39 = .ok (.return_, 1) := by decide +kernel
abbrev W_X2_common (g : GX) (d : Nat) (av : List Value) (Q : QT) (n : Nat) (pc : Nat) (ls : LV) (stk : List Value) (h : Hp) : Prop := RJ g m_X2_common (d + 1) 0 0 av Q pc ls stk n h 0 0
theorem s_X2_common_0 {g : GX} {d : Nat} {av : List Value} {Q : QT} {n : Nat} {h : Hp} {a0 : Nat} {a1 : Nat} {a2 : Nat} {a3 : Nat} (hp : g.2.2.2.2 = true) (t0 : lay a0 = (0, 2, 3)) (t1 : lay a1 = (0, 3, 2)) (t2 : lay a2 = (0, 3, 2)) (t3 : lay a3 = (0, 3, 2)) (H : CallV g m_X3_copy d [.ref (a0 + 1), .ref a1] n h (fun h1 => (CallV g m_X3_copy d [.ref (a0 + 3), .ref a2] n h1 (fun h2 => (W_X2_common g d av Q n 16 [some (.ref a0), none, none, some (.ref a3)] [] h2))))) : W_X2_common g d av Q n 0 [some (.ref a0), some (.ref a1), some (.ref a2), some (.ref a3)] [] h := by
  refine r_aload_n dX2_common_0 rfl rfl ?_
  refine m_getF (x := (a0 + 1)) hp fw_X2_12 dX2_common_1 rfl t0 (ff_2_0 t0) ?_
  refine r_aload_n dX2_common_4 rfl rfl ?_
  refine k_VV (As := [.ref a1]) (stk := []) hp cv_X2_24 dX2_common_5 rfl (Nat.le_of_ble_eq_true rfl) (lf_2_0 t0) (H.mono (fun h1 H => ?_)) ⟨Nat.le_refl _, Nat.le_refl _⟩
  refine r_aload_n dX2_common_8 rfl rfl ?_
  refine m_getF (x := (a0 + 3)) hp fw_X2_18 dX2_common_9 rfl t0 (ff_2_1 t0) ?_
  refine r_aload_n dX2_common_12 rfl rfl ?_
  refine k_VV (As := [.ref a2]) (stk := []) hp cv_X2_24 dX2_common_13 rfl (Nat.le_of_ble_eq_true rfl) (lf_2_1 t0) (H.mono (fun h2 H => ?_)) ⟨Nat.le_refl _, Nat.le_refl _⟩
  refine r_prune [true, false, false, true] (ls2 := [some (.ref a0), none, none, some (.ref a3)]) rfl ?_
  exact H
theorem s_X2_common_16 {g : GX} {d : Nat} {av : List Value} {Q : QT} {n : Nat} {h : Hp} {a0 : Nat} {a3 : Nat} (hp : g.2.2.2.2 = true) (t0 : lay a0 = (0, 2, 3)) (t3 : lay a3 = (0, 3, 2)) (H : CallI g m_X3_isZero d [.ref (a0 + 3)] n h (fun v1 h1 => (((¬ v1 = (0 : Int32)) → (CallV g m_X3_monic d [.ref (a0 + 1)] n h1 (fun h2 => (CallV g m_X3_copy d [.ref a3, .ref (a0 + 1)] n h2 (fun h3 => (Q none n h3)))))) ∧ ((v1 = (0 : Int32)) → (CallV g m_X3_divide d [.ref (a0 + 1), .ref (a0 + 3), .null] n h1 (fun h4 => (CallV g m_X3_copy d [.ref (a0 + 5), .ref (a0 + 1)] n h4 (fun h5 => (CallV g m_X3_copy d [.ref (a0 + 1), .ref (a0 + 3)] n h5 (fun h6 => (CallV g m_X3_copy d [.ref (a0 + 3), .ref (a0 + 5)] n h6 (fun h7 => (W_X2_common g d av Q n 16 [some (.ref a0), none, none, some (.ref a3)] [] h7))))))))))))) : W_X2_common g d av Q n 16 [some (.ref a0), none, none, some (.ref a3)] [] h := by
  refine r_aload_n dX2_common_16 rfl rfl ?_
  refine m_getF (x := (a0 + 3)) hp fw_X2_18 dX2_common_17 rfl t0 (ff_2_1 t0) ?_
  refine k_VI (As := []) (stk := []) hp cv_X2_28 dX2_common_20 rfl (Nat.le_of_ble_eq_true rfl) (lf_2_1 t0) (H.mono (fun v1 h1 H => ?_)) ⟨Nat.le_refl _, Nat.le_refl _⟩
  refine r_if_ne (tgt := 74) dX2_common_23 rfl (fun cH => ?_) (fun cH => ?_)
  · replace H := H.1 cH
    refine r_aload_n dX2_common_74 rfl rfl ?_
    refine m_getF (x := (a0 + 1)) hp fw_X2_12 dX2_common_75 rfl t0 (ff_2_0 t0) ?_
    refine k_VV (As := []) (stk := []) hp cv_X2_36 dX2_common_78 rfl (Nat.le_of_ble_eq_true rfl) (lf_2_0 t0) (H.mono (fun h2 H => ?_)) ⟨Nat.le_refl _, Nat.le_refl _⟩
    refine r_aload_n dX2_common_81 rfl rfl ?_
    refine r_aload_n dX2_common_82 rfl rfl ?_
    refine m_getF (x := (a0 + 1)) hp fw_X2_12 dX2_common_83 rfl t0 (ff_2_0 t0) ?_
    refine k_VV (As := [.ref (a0 + 1)]) (stk := []) hp cv_X2_24 dX2_common_86 rfl (Nat.le_of_ble_eq_true rfl) t3 (H.mono (fun h3 H => ?_)) ⟨Nat.le_refl _, Nat.le_refl _⟩
    exact r_vret dX2_common_89 rfl (Nat.le_refl _) (Nat.le_refl _) H
  · replace H := H.2 cH
    refine r_aload_n dX2_common_26 rfl rfl ?_
    refine m_getF (x := (a0 + 1)) hp fw_X2_12 dX2_common_27 rfl t0 (ff_2_0 t0) ?_
    refine r_aload_n dX2_common_30 rfl rfl ?_
    refine m_getF (x := (a0 + 3)) hp fw_X2_18 dX2_common_31 rfl t0 (ff_2_1 t0) ?_
    refine r_null dX2_common_34 ?_
    refine k_VV (As := [.ref (a0 + 3), .null]) (stk := []) hp cv_X2_32 dX2_common_35 rfl (Nat.le_of_ble_eq_true rfl) (lf_2_0 t0) (H.mono (fun h4 H => ?_)) ⟨Nat.le_refl _, Nat.le_refl _⟩
    refine r_aload_n dX2_common_38 rfl rfl ?_
    refine m_getF (x := (a0 + 5)) hp fw_X2_21 dX2_common_39 rfl t0 (ff_2_2 t0) ?_
    refine r_aload_n dX2_common_42 rfl rfl ?_
    refine m_getF (x := (a0 + 1)) hp fw_X2_12 dX2_common_43 rfl t0 (ff_2_0 t0) ?_
    refine k_VV (As := [.ref (a0 + 1)]) (stk := []) hp cv_X2_24 dX2_common_46 rfl (Nat.le_of_ble_eq_true rfl) (lf_2_2 t0) (H.mono (fun h5 H => ?_)) ⟨Nat.le_refl _, Nat.le_refl _⟩
    refine r_aload_n dX2_common_49 rfl rfl ?_
    refine m_getF (x := (a0 + 1)) hp fw_X2_12 dX2_common_50 rfl t0 (ff_2_0 t0) ?_
    refine r_aload_n dX2_common_53 rfl rfl ?_
    refine m_getF (x := (a0 + 3)) hp fw_X2_18 dX2_common_54 rfl t0 (ff_2_1 t0) ?_
    refine k_VV (As := [.ref (a0 + 3)]) (stk := []) hp cv_X2_24 dX2_common_57 rfl (Nat.le_of_ble_eq_true rfl) (lf_2_0 t0) (H.mono (fun h6 H => ?_)) ⟨Nat.le_refl _, Nat.le_refl _⟩
    refine r_aload_n dX2_common_60 rfl rfl ?_
    refine m_getF (x := (a0 + 3)) hp fw_X2_18 dX2_common_61 rfl t0 (ff_2_1 t0) ?_
    refine r_aload_n dX2_common_64 rfl rfl ?_
    refine m_getF (x := (a0 + 5)) hp fw_X2_21 dX2_common_65 rfl t0 (ff_2_2 t0) ?_
    refine k_VV (As := [.ref (a0 + 5)]) (stk := []) hp cv_X2_24 dX2_common_68 rfl (Nat.le_of_ble_eq_true rfl) (lf_2_1 t0) (H.mono (fun h7 H => ?_)) ⟨Nat.le_refl _, Nat.le_refl _⟩
    refine r_goto (tgt := 16) dX2_common_71 rfl ?_
    exact H
abbrev W_X2_divideExactly (g : GX) (d : Nat) (av : List Value) (Q : QT) (n : Nat) (pc : Nat) (ls : LV) (stk : List Value) (h : Hp) : Prop := RJ g m_X2_divideExactly (d + 1) 0 0 av Q pc ls stk n h 0 0
theorem s_X2_divideExactly_0 {g : GX} {d : Nat} {av : List Value} {Q : QT} {n : Nat} {h : Hp} {a0 : Nat} {a1 : Nat} {a2 : Nat} (hp : g.2.2.2.2 = true) (t0 : lay a0 = (0, 2, 3)) (t1 : lay a1 = (0, 3, 2)) (t2 : lay a2 = (0, 3, 2)) (H : ((¬ (ri h a2 1) = (1 : Int32)) → (CallV g m_X3_copy d [.ref (a0 + 1), .ref a1] n h (fun h1 => (CallV g m_X3_divide d [.ref (a0 + 1), .ref a2, .ref a1] n h1 (fun h2 => (Q none n h2)))))) ∧ (((ri h a2 1) = (1 : Int32)) → (vp_in (0 : Int32) (rm (a2 + 1)) ∧ (CallI g m_X0_inverse d [.int (ri h (a2 + 1) ((0 : Int32)).toNatClampNeg)] n h (fun v3 h3 => (CallV g m_X3_scale d [.ref a1, .int v3] n h3 (fun h4 => (Q none n h4)))))))) : W_X2_divideExactly g d av Q n 0 [some (.ref a0), some (.ref a1), some (.ref a2)] [] h := by
  refine r_aload_n dX2_divideExactly_0 rfl rfl ?_
  refine m_getI hp fw_X2_39 dX2_divideExactly_1 rfl t2 ?_
  refine r_iconst (v := (1 : Int32)) dX2_divideExactly_4 rfl ?_
  refine r_icmp_ne (tgt := 22) dX2_divideExactly_5 rfl (fun cH => ?_) (fun cH => ?_)
  · replace H := H.1 cH
    refine r_aload_n dX2_divideExactly_22 rfl rfl ?_
    refine m_getF (x := (a0 + 1)) hp fw_X2_12 dX2_divideExactly_23 rfl t0 (ff_2_0 t0) ?_
    refine r_aload_n dX2_divideExactly_26 rfl rfl ?_
    refine k_VV (As := [.ref a1]) (stk := []) hp cv_X2_24 dX2_divideExactly_27 rfl (Nat.le_of_ble_eq_true rfl) (lf_2_0 t0) (H.mono (fun h1 H => ?_)) ⟨Nat.le_refl _, Nat.le_refl _⟩
    refine r_aload_n dX2_divideExactly_30 rfl rfl ?_
    refine m_getF (x := (a0 + 1)) hp fw_X2_12 dX2_divideExactly_31 rfl t0 (ff_2_0 t0) ?_
    refine r_aload_n dX2_divideExactly_34 rfl rfl ?_
    refine r_aload_n dX2_divideExactly_35 rfl rfl ?_
    refine k_VV (As := [.ref a2, .ref a1]) (stk := []) hp cv_X2_32 dX2_divideExactly_36 rfl (Nat.le_of_ble_eq_true rfl) (lf_2_0 t0) (H.mono (fun h2 H => ?_)) ⟨Nat.le_refl _, Nat.le_refl _⟩
    exact r_vret dX2_divideExactly_39 rfl (Nat.le_refl _) (Nat.le_refl _) H
  · replace H := H.2 cH
    refine r_aload_n dX2_divideExactly_8 rfl rfl ?_
    refine r_aload_n dX2_divideExactly_9 rfl rfl ?_
    refine m_getF (x := (a2 + 1)) hp fw_X2_43 dX2_divideExactly_10 rfl t2 (ff_3_0 t2) ?_
    refine r_iconst (v := (0 : Int32)) dX2_divideExactly_13 rfl ?_
    refine m_iald hp dX2_divideExactly_14 (lf_3_0 t2) H.1 ?_
    replace H := H.2
    refine k_SI (As := [.int (ri h (a2 + 1) ((0 : Int32)).toNatClampNeg)]) (stk := [.ref a1]) cs_X2_47 dX2_divideExactly_15 rfl (Nat.le_of_ble_eq_true rfl) (H.mono (fun v3 h3 H => ?_)) ⟨Nat.le_refl _, Nat.le_refl _⟩
    refine k_VV (As := [.int v3]) (stk := []) hp cv_X2_53 dX2_divideExactly_18 rfl (Nat.le_of_ble_eq_true rfl) t1 (H.mono (fun h4 H => ?_)) ⟨Nat.le_refl _, Nat.le_refl _⟩
    exact r_vret dX2_divideExactly_21 rfl (Nat.le_refl _) (Nat.le_refl _) H
theorem dX4_set_0 : decode cX4_set 0 = .ok (.aload_n 0, 1) := by decide +kernel
theorem dX4_set_1 : decode cX4_set 1 = .ok (.iconst 1, 1) := by decide +kernel
theorem dX4_set_2 : decode cX4_set 2 = .ok (.iconst 1, 1) := by decide +kernel
theorem dX4_set_3 : decode cX4_set 3 = .ok (.invokevirtual 27, 3) := by decide +kernel
theorem dX4_set_6 : decode cX4_set 6 = .ok (.aload_n 0, 1) := by decide +kernel
theorem dX4_set_7 : decode cX4_set 7 = .ok (.getfield 13, 3) := by decide +kernel
theorem dX4_set_10 : decode cX4_set 10 = .ok (.iconst 0, 1) := by decide +kernel
theorem dX4_set_11 : decode cX4_set 11 = .ok (.iload_n 1, 1) := by decide +kernel
theorem dX4_set_12 : decode cX4_set 12 = .ok (.iastore, 1) := by decide +kernel
theorem dX4_set_13 : decode cX4_set 13 = .ok (.aload_n 0, 1) := by decide +kernel
theorem dX4_set_14 : decode cX4_set 14 = .ok (.invokevirtual 31, 3) := by decide +kernel
theorem dX4_set_17 : decode cX4_set 17 = .ok (.return_, 1) := by decide +kernel
theorem dX4_open_0 : decode cX4_open 0 = .ok (.aload_n 0, 1) := by decide +kernel
theorem dX4_open_1 : decode cX4_open 1 = .ok (.iload_n 1, 1) := by decide +kernel
theorem dX4_open_2 : decode cX4_open 2 = .ok (.putfield 20, 3) := by decide +kernel
theorem dX4_open_5 : decode cX4_open 5 = .ok (.aload_n 0, 1) := by decide +kernel
theorem dX4_open_6 : decode cX4_open 6 = .ok (.iload_n 2, 1) := by decide +kernel
theorem dX4_open_7 : decode cX4_open 7 = .ok (.putfield 17, 3) := by decide +kernel
theorem dX4_open_10 : decode cX4_open 10 = .ok (.iconst 0, 1) := by decide +kernel
theorem dX4_open_11 : decode cX4_open 11 = .ok (.istore_n 3, 1) := by decide +kernel
theorem dX4_open_12 : decode cX4_open 12 = .ok (.iload_n 3, 1) := by decide +kernel
theorem dX4_open_13 : decode cX4_open 13 = .ok (.aload_n 0, 1) := by decide +kernel
theorem dX4_open_14 : decode cX4_open 14 = .ok (.getfield 17, 3) := by decide +kernel
theorem dX4_open_17 : decode cX4_open 17 = .ok (.if_icmp .ge 42, 3) := by decide +kernel
theorem dX4_open_20 : decode cX4_open 20 = .ok (.iconst 0, 1) := by decide +kernel
theorem dX4_open_21 : decode cX4_open 21 = .ok (.istore 4, 2) := by decide +kernel
theorem dX4_open_23 : decode cX4_open 23 = .ok (.iload 4, 2) := by decide +kernel
theorem dX4_open_25 : decode cX4_open 25 = .ok (.aload_n 0, 1) := by decide +kernel
theorem dX4_open_26 : decode cX4_open 26 = .ok (.getfield 20, 3) := by decide +kernel
theorem dX4_open_29 : decode cX4_open 29 = .ok (.if_icmp .ge 24, 3) := by decide +kernel
theorem dX4_open_32 : decode cX4_open 32 = .ok (.aload_n 0, 1) := by decide +kernel
theorem dX4_open_33 : decode cX4_open 33 = .ok (.getfield 13, 3) := by decide +kernel
theorem dX4_open_36 : decode cX4_open 36 = .ok (.iload_n 3, 1) := by decide +kernel
theorem dX4_open_37 : decode cX4_open 37 = .ok (.aload_n 0, 1) := by decide +kernel
theorem dX4_open_38 : decode cX4_open 38 = .ok (.getfield 7, 3) := by decide +kernel
theorem dX4_open_41 : decode cX4_open 41 = .ok (.imul, 1) := by decide +kernel
theorem dX4_open_42 : decode cX4_open 42 = .ok (.iload 4, 2) := by decide +kernel
theorem dX4_open_44 : decode cX4_open 44 = .ok (.iadd, 1) := by decide +kernel
theorem dX4_open_45 : decode cX4_open 45 = .ok (.iconst 0, 1) := by decide +kernel
theorem dX4_open_46 : decode cX4_open 46 = .ok (.iastore, 1) := by decide +kernel
theorem dX4_open_47 : decode cX4_open 47 = .ok (.iinc 4 1, 3) := by decide +kernel
theorem dX4_open_50 : decode cX4_open 50 = .ok (.goto (-27), 3) := by decide +kernel
theorem dX4_open_53 : decode cX4_open 53 = .ok (.iinc 3 1, 3) := by decide +kernel
theorem dX4_open_56 : decode cX4_open 56 = .ok (.goto (-44), 3) := by decide +kernel
theorem dX4_open_59 : decode cX4_open 59 = .ok (.return_, 1) := by decide +kernel
theorem dX4_trim_0 : decode cX4_trim 0 = .ok (.aload_n 0, 1) := by decide +kernel
theorem dX4_trim_1 : decode cX4_trim 1 = .ok (.getfield 17, 3) := by decide +kernel
theorem dX4_trim_4 : decode cX4_trim 4 = .ok (.ifCond .le 29, 3) := by decide +kernel
theorem dX4_trim_7 : decode cX4_trim 7 = .ok (.aload_n 0, 1) := by decide +kernel
theorem dX4_trim_8 : decode cX4_trim 8 = .ok (.aload_n 0, 1) := by decide +kernel
theorem dX4_trim_9 : decode cX4_trim 9 = .ok (.getfield 17, 3) := by decide +kernel
theorem dX4_trim_12 : decode cX4_trim 12 = .ok (.iconst 1, 1) := by decide +kernel
theorem dX4_trim_13 : decode cX4_trim 13 = .ok (.isub, 1) := by decide +kernel
theorem dX4_trim_14 : decode cX4_trim 14 = .ok (.invokevirtual 23, 3) := by decide +kernel
theorem dX4_trim_17 : decode cX4_trim 17 = .ok (.ifCond .eq 16, 3) := by decide +kernel
theorem dX4_trim_20 : decode cX4_trim 20 = .ok (.aload_n 0, 1) := by decide +kernel
theorem dX4_trim_21 : decode cX4_trim 21 = .ok (.dup, 1) := by decide +kernel
theorem dX4_trim_22 : decode cX4_trim 22 = .ok (.getfield 17, 3) := by decide +kernel
theorem dX4_trim_25 : decode cX4_trim 25 = .ok (.iconst 1, 1) := by decide +kernel
theorem dX4_trim_26 : decode cX4_trim 26 = .ok (.isub, 1) := by decide +kernel
theorem dX4_trim_27 : decode cX4_trim 27 = .ok (.putfield 17, 3) := by decide +kernel
theorem dX4_trim_30 : decode cX4_trim 30 = .ok (.goto (-30), 3) := by decide +kernel
theorem dX4_trim_33 : decode cX4_trim 33 = .ok (.iconst 1, 1) := by decide +kernel
theorem dX4_trim_34 : decode cX4_trim 34 = .ok (.istore_n 1, 1) := by decide +kernel
theorem dX4_trim_35 : decode cX4_trim 35 = .ok (.aload_n 0, 1) := by decide +kernel
theorem dX4_trim_36 : decode cX4_trim 36 = .ok (.getfield 20, 3) := by decide +kernel
theorem dX4_trim_39 : decode cX4_trim 39 = .ok (.ifCond .le 75, 3) := by decide +kernel
theorem dX4_trim_42 : decode cX4_trim 42 = .ok (.iload_n 1, 1) := by decide +kernel
theorem dX4_trim_43 : decode cX4_trim 43 = .ok (.ifCond .eq 71, 3) := by decide +kernel
theorem dX4_trim_46 : decode cX4_trim 46 = .ok (.iconst 0, 1) := by decide +kernel
theorem dX4_trim_47 : decode cX4_trim 47 = .ok (.istore_n 2, 1) := by decide +kernel
theorem dX4_trim_48 : decode cX4_trim 48 = .ok (.iload_n 2, 1) := by decide +kernel
theorem dX4_trim_49 : decode cX4_trim 49 = .ok (.aload_n 0, 1) := by decide +kernel
theorem dX4_trim_50 : decode cX4_trim 50 = .ok (.getfield 17, 3) := by decide +kernel
theorem dX4_trim_53 : decode cX4_trim 53 = .ok (.if_icmp .ge 40, 3) := by decide +kernel
theorem dX4_trim_56 : decode cX4_trim 56 = .ok (.iload_n 1, 1) := by decide +kernel
theorem dX4_trim_57 : decode cX4_trim 57 = .ok (.ifCond .eq 36, 3) := by decide +kernel
theorem dX4_trim_60 : decode cX4_trim 60 = .ok (.aload_n 0, 1) := by decide +kernel
theorem dX4_trim_61 : decode cX4_trim 61 = .ok (.getfield 13, 3) := by decide +kernel
theorem dX4_trim_64 : decode cX4_trim 64 = .ok (.iload_n 2, 1) := by decide +kernel
theorem dX4_trim_65 : decode cX4_trim 65 = .ok (.aload_n 0, 1) := by decide +kernel
theorem dX4_trim_66 : decode cX4_trim 66 = .ok (.getfield 7, 3) := by decide +kernel
theorem dX4_trim_69 : decode cX4_trim 69 = .ok (.imul, 1) := by decide +kernel
theorem dX4_trim_70 : decode cX4_trim 70 = .ok (.aload_n 0, 1) := by decide +kernel
theorem dX4_trim_71 : decode cX4_trim 71 = .ok (.getfield 20, 3) := by decide +kernel
theorem dX4_trim_74 : decode cX4_trim 74 = .ok (.iadd, 1) := by decide +kernel
theorem dX4_trim_75 : decode cX4_trim 75 = .ok (.iconst 1, 1) := by decide +kernel
theorem dX4_trim_76 : decode cX4_trim 76 = .ok (.isub, 1) := by decide +kernel
theorem dX4_trim_77 : decode cX4_trim 77 = .ok (.iaload, 1) := by decide +kernel
theorem dX4_trim_78 : decode cX4_trim 78 = .ok (.ifCond .ne 7, 3) := by decide +kernel
theorem dX4_trim_81 : decode cX4_trim 81 = .ok (.iconst 1, 1) := by decide +kernel
theorem dX4_trim_82 : decode cX4_trim 82 = .ok (.goto 4, 3) := by decide +kernel
theorem dX4_trim_85 : decode cX4_trim 85 = .ok (.iconst 0, 1) := by decide +kernel
theorem dX4_trim_86 : decode cX4_trim 86 = .ok (.istore_n 1, 1) := by decide +kernel
theorem dX4_trim_87 : decode cX4_trim 87 = .ok (.iinc 2 1, 3) := by decide +kernel
theorem dX4_trim_90 : decode cX4_trim 90 = .ok (.goto (-42), 3) := by decide +kernel
theorem dX4_trim_93 : decode cX4_trim 93 = .ok (.aload_n 0, 1) := by decide +kernel
theorem dX4_trim_94 : decode cX4_trim 94 = .ok (.dup, 1) := by decide +kernel
theorem dX4_trim_95 : decode cX4_trim 95 = .ok (.getfield 20, 3) := by decide +kernel
theorem dX4_trim_98 : decode cX4_trim 98 = .ok (.iload_n 1, 1) := by decide +kernel
theorem dX4_trim_99 : decode cX4_trim 99 = .ok (.ifCond .eq 7, 3) := by decide +kernel
theorem dX4_trim_102 : decode cX4_trim 102 = .ok (.iconst 1, 1) := by decide +kernel
theorem dX4_trim_103 : decode cX4_trim 103 = .ok (.goto 4, 3) := by decide +kernel
theorem dX4_trim_106 : decode cX4_trim 106 = .ok (.iconst 0, 1) := by decide +kernel
theorem dX4_trim_107 : decode cX4_trim 107 = .ok (.isub, 1) := by decide +kernel
theorem dX4_trim_108 : decode cX4_trim 108 = .ok (.putfield 20, 3) := by decide +kernel
theorem dX4_trim_111 : decode cX4_trim 111 = .ok (.goto (-76), 3) := by decide +kernel
theorem dX4_trim_114 : decode cX4_trim 114 = .ok (.aload_n 0, 1) := by decide +kernel
theorem dX4_trim_115 : decode cX4_trim 115 = .ok (.aload_n 0, 1) := by decide +kernel
theorem dX4_trim_116 : decode cX4_trim 116 = .ok (.getfield 20, 3) := by decide +kernel
theorem dX4_trim_119 : decode cX4_trim 119 = .ok (.ifCond .ne 7, 3) := by decide +kernel
theorem dX4_trim_122 : decode cX4_trim 122 = .ok (.iconst 0, 1) := by decide +kernel
theorem dX4_trim_123 : decode cX4_trim 123 = .ok (.goto 7, 3) := by decide +kernel
theorem dX4_trim_126 : decode cX4_trim 126 = .ok (.aload_n 0, 1) := by decide +kernel
theorem dX4_trim_127 : decode cX4_trim 127 = .ok (.getfield 17, 3) := by decide +kernel
theorem dX4_trim_130 : decode cX4_trim 130 = .ok (.putfield 17, 3) := by decide +kernel
theorem dX4_trim_133 : decode cX4_trim 133 = .ok (.return_, 1) := by decide +kernel
theorem dX4_isEmptyRow_0 : decode cX4_isEmptyRow 0 = .ok (.iconst 0, 1) := by decide +kernel
theorem dX4_isEmptyRow_1 : decode cX4_isEmptyRow 1 = .ok (.istore_n 2, 1) := by decide +kernel
theorem dX4_isEmptyRow_2 : decode cX4_isEmptyRow 2 = .ok (.iload_n 2, 1) := by decide +kernel
theorem dX4_isEmptyRow_3 : decode cX4_isEmptyRow 3 = .ok (.aload_n 0, 1) := by decide +kernel
theorem dX4_isEmptyRow_4 : decode cX4_isEmptyRow 4 = .ok (.getfield 20, 3) := by decide +kernel
theorem dX4_isEmptyRow_7 : decode cX4_isEmptyRow 7 = .ok (.if_icmp .ge 27, 3) := by decide +kernel
theorem dX4_isEmptyRow_10 : decode cX4_isEmptyRow 10 = .ok (.aload_n 0, 1) := by decide +kernel
theorem dX4_isEmptyRow_11 : decode cX4_isEmptyRow 11 = .ok (.getfield 13, 3) := by decide +kernel
theorem dX4_isEmptyRow_14 : decode cX4_isEmptyRow 14 = .ok (.iload_n 1, 1) := by decide +kernel
theorem dX4_isEmptyRow_15 : decode cX4_isEmptyRow 15 = .ok (.aload_n 0, 1) := by decide +kernel
theorem dX4_isEmptyRow_16 : decode cX4_isEmptyRow 16 = .ok (.getfield 7, 3) := by decide +kernel
theorem dX4_isEmptyRow_19 : decode cX4_isEmptyRow 19 = .ok (.imul, 1) := by decide +kernel
theorem dX4_isEmptyRow_20 : decode cX4_isEmptyRow 20 = .ok (.iload_n 2, 1) := by decide +kernel
theorem dX4_isEmptyRow_21 : decode cX4_isEmptyRow 21 = .ok (.iadd, 1) := by decide +kernel
theorem dX4_isEmptyRow_22 : decode cX4_isEmptyRow 22 = .ok (.iaload, 1) := by decide +kernel
theorem dX4_isEmptyRow_23 : decode cX4_isEmptyRow 23 = .ok (.ifCond .eq 5, 3) := by decide +kernel
theorem dX4_isEmptyRow_26 : decode cX4_isEmptyRow 26 = .ok (.iconst 0, 1) := by decide +kernel
theorem dX4_isEmptyRow_27 : decode cX4_isEmptyRow 27 = .ok (.ireturn, 1) := by decide +kernel
theorem dX4_isEmptyRow_28 : decode cX4_isEmptyRow 28 = .ok (.iinc 2 1, 3) := by decide +kernel
theorem dX4_isEmptyRow_31 : decode cX4_isEmptyRow 31 = .ok (.goto (-29), 3) := by decide +kernel
theorem dX4_isEmptyRow_34 : decode cX4_isEmptyRow 34 = .ok (.iconst 1, 1) := by decide +kernel
theorem dX4_isEmptyRow_35 : decode cX4_isEmptyRow 35 = .ok (.ireturn, 1) := by decide +kernel
theorem dX4_get_0 : decode cX4_get 0 = .ok (.iload_n 1, 1) := by decide +kernel
theorem dX4_get_1 : decode cX4_get 1 = .ok (.ifCond .lt 39, 3) := by decide +kernel
theorem dX4_get_4 : decode cX4_get 4 = .ok (.iload_n 1, 1) := by decide +kernel
theorem dX4_get_5 : decode cX4_get 5 = .ok (.aload_n 0, 1) := by decide +kernel
theorem dX4_get_6 : decode cX4_get 6 = .ok (.getfield 20, 3) := by decide +kernel
theorem dX4_get_9 : decode cX4_get 9 = .ok (.if_icmp .ge 31, 3) := by decide +kernel
theorem dX4_get_12 : decode cX4_get 12 = .ok (.iload_n 2, 1) := by decide +kernel
theorem dX4_get_13 : decode cX4_get 13 = .ok (.ifCond .lt 27, 3) := by decide +kernel
theorem dX4_get_16 : decode cX4_get 16 = .ok (.iload_n 2, 1) := by decide +kernel
theorem dX4_get_17 : decode cX4_get 17 = .ok (.aload_n 0, 1) := by decide +kernel
theorem dX4_get_18 : decode cX4_get 18 = .ok (.getfield 17, 3) := by decide +kernel
theorem dX4_get_21 : decode cX4_get 21 = .ok (.if_icmp .ge 19, 3) := by decide +kernel
theorem dX4_get_24 : decode cX4_get 24 = .ok (.aload_n 0, 1) := by decide +kernel
theorem dX4_get_25 : decode cX4_get 25 = .ok (.getfield 13, 3) := by decide +kernel
theorem dX4_get_28 : decode cX4_get 28 = .ok (.iload_n 2, 1) := by decide +kernel
theorem dX4_get_29 : decode cX4_get 29 = .ok (.aload_n 0, 1) := by decide +kernel
theorem dX4_get_30 : decode cX4_get 30 = .ok (.getfield 7, 3) := by decide +kernel
theorem dX4_get_33 : decode cX4_get 33 = .ok (.imul, 1) := by decide +kernel
theorem dX4_get_34 : decode cX4_get 34 = .ok (.iload_n 1, 1) := by decide +kernel
theorem dX4_get_35 : decode cX4_get 35 = .ok (.iadd, 1) := by decide +kernel
theorem dX4_get_36 : decode cX4_get 36 = .ok (.iaload, 1) := by decide +kernel
theorem dX4_get_37 : decode cX4_get 37 = .ok (.goto 4, 3) := by decide +kernel
theorem dX4_get_40 : decode cX4_get 40 = .ok (.iconst 0, 1) := by decide +kernel
theorem dX4_get_41 : decode cX4_get 41 = .ok (.ireturn, 1) := by decide +kernel
theorem dX4_scale_0 : decode cX4_scale 0 = .ok (.iconst 0, 1) := by decide +kernel
theorem dX4_scale_1 : decode cX4_scale 1 = .ok (.istore_n 2, 1) := by decide +kernel
theorem dX4_scale_2 : decode cX4_scale 2 = .ok (.iload_n 2, 1) := by decide +kernel
theorem dX4_scale_3 : decode cX4_scale 3 = .ok (.aload_n 0, 1) := by decide +kernel
theorem dX4_scale_4 : decode cX4_scale 4 = .ok (.getfield 17, 3) := by decide +kernel
theorem dX4_scale_7 : decode cX4_scale 7 = .ok (.if_icmp .ge 55, 3) := by decide +kernel
theorem dX4_scale_10 : decode cX4_scale 10 = .ok (.iconst 0, 1) := by decide +kernel
theorem dX4_scale_11 : decode cX4_scale 11 = .ok (.istore_n 3, 1) := by decide +kernel
theorem dX4_scale_12 : decode cX4_scale 12 = .ok (.iload_n 3, 1) := by decide +kernel
theorem dX4_scale_13 : decode cX4_scale 13 = .ok (.aload_n 0, 1) := by decide +kernel
theorem dX4_scale_14 : decode cX4_scale 14 = .ok (.getfield 20, 3) := by decide +kernel
theorem dX4_scale_17 : decode cX4_scale 17 = .ok (.if_icmp .ge 39, 3) := by decide +kernel
theorem dX4_scale_20 : decode cX4_scale 20 = .ok (.aload_n 0, 1) := by decide +kernel
theorem dX4_scale_21 : decode cX4_scale 21 = .ok (.getfield 13, 3) := by decide +kernel
theorem dX4_scale_24 : decode cX4_scale 24 = .ok (.iload_n 2, 1) := by decide +kernel
theorem dX4_scale_25 : decode cX4_scale 25 = .ok (.aload_n 0, 1) := by decide +kernel
theorem dX4_scale_26 : decode cX4_scale 26 = .ok (.getfield 7, 3) := by decide +kernel
theorem dX4_scale_29 : decode cX4_scale 29 = .ok (.imul, 1) := by decide +kernel
theorem dX4_scale_30 : decode cX4_scale 30 = .ok (.iload_n 3, 1) := by decide +kernel
theorem dX4_scale_31 : decode cX4_scale 31 = .ok (.iadd, 1) := by decide +kernel
theorem dX4_scale_32 : decode cX4_scale 32 = .ok (.aload_n 0, 1) := by decide +kernel
theorem dX4_scale_33 : decode cX4_scale 33 = .ok (.getfield 13, 3) := by decide +kernel
theorem dX4_scale_36 : decode cX4_scale 36 = .ok (.iload_n 2, 1) := by decide +kernel
theorem dX4_scale_37 : decode cX4_scale 37 = .ok (.aload_n 0, 1) := by decide +kernel
theorem dX4_scale_38 : decode cX4_scale 38 = .ok (.getfield 7, 3) := by decide +kernel
theorem dX4_scale_41 : decode cX4_scale 41 = .ok (.imul, 1) := by decide +kernel
theorem dX4_scale_42 : decode cX4_scale 42 = .ok (.iload_n 3, 1) := by decide +kernel
theorem dX4_scale_43 : decode cX4_scale 43 = .ok (.iadd, 1) := by decide +kernel
theorem dX4_scale_44 : decode cX4_scale 44 = .ok (.iaload, 1) := by decide +kernel
theorem dX4_scale_45 : decode cX4_scale 45 = .ok (.iload_n 1, 1) := by decide +kernel
theorem dX4_scale_46 : decode cX4_scale 46 = .ok (.invokestatic 51, 3) := by decide +kernel
theorem dX4_scale_49 : decode cX4_scale 49 = .ok (.iastore, 1) := by decide +kernel
theorem dX4_scale_50 : decode cX4_scale 50 = .ok (.iinc 3 1, 3) := by decide +kernel
theorem dX4_scale_53 : decode cX4_scale 53 = .ok (.goto (-41), 3) := by decide +kernel
theorem dX4_scale_56 : decode cX4_scale 56 = .ok (.iinc 2 1, 3) := by decide +kernel
theorem dX4_scale_59 : decode cX4_scale 59 = .ok (.goto (-57), 3) := by decide +kernel
theorem dX4_scale_62 : decode cX4_scale 62 = .ok (.aload_n 0, 1) := by decide +kernel
theorem dX4_scale_63 : decode cX4_scale 63 = .ok (.invokevirtual 31, 3) := by decide +kernel
theorem dX4_scale_66 : decode cX4_scale 66 = .ok (.return_, 1) := by decide +kernel
theorem dX4_isZero_0 : decode cX4_isZero 0 = .ok (.aload_n 0, 1) := by decide +kernel
theorem dX4_isZero_1 : decode cX4_isZero 1 = .ok (.getfield 17, 3) := by decide +kernel
theorem dX4_isZero_4 : decode cX4_isZero 4 = .ok (.ifCond .ne 7, 3) := by decide +kernel
theorem dX4_isZero_7 : decode cX4_isZero 7 = .ok (.iconst 1, 1) := by decide +kernel
theorem dX4_isZero_8 : decode cX4_isZero 8 = .ok (.goto 4, 3) := by decide +kernel
theorem dX4_isZero_11 : decode cX4_isZero 11 = .ok (.iconst 0, 1) := by decide +kernel
theorem dX4_isZero_12 : decode cX4_isZero 12 = .ok (.ireturn, 1) := by decide +kernel
theorem dX4_copy_0 : decode cX4_copy 0 = .ok (.aload_n 0, 1) := by decide +kernel
theorem dX4_copy_1 : decode cX4_copy 1 = .ok (.aload_n 1, 1) := by decide +kernel
theorem dX4_copy_2 : decode cX4_copy 2 = .ok (.getfield 20, 3) := by decide +kernel
theorem dX4_copy_5 : decode cX4_copy 5 = .ok (.putfield 20, 3) := by decide +kernel
theorem dX4_copy_8 : decode cX4_copy 8 = .ok (.aload_n 0, 1) := by decide +kernel
theorem dX4_copy_9 : decode cX4_copy 9 = .ok (.aload_n 1, 1) := by decide +kernel
theorem dX4_copy_10 : decode cX4_copy 10 = .ok (.getfield 17, 3) := by decide +kernel
theorem dX4_copy_13 : decode cX4_copy 13 = .ok (.putfield 17, 3) := by decide +kernel
theorem dX4_copy_16 : decode cX4_copy 16 = .ok (.iconst 0, 1) := by decide +kernel
theorem dX4_copy_17 : decode cX4_copy 17 = .ok (.istore_n 2, 1) := by decide +kernel
theorem dX4_copy_18 : decode cX4_copy 18 = .ok (.iload_n 2, 1) := by decide +kernel
theorem dX4_copy_19 : decode cX4_copy 19 = .ok (.aload_n 0, 1) := by decide +kernel
theorem dX4_copy_20 : decode cX4_copy 20 = .ok (.getfield 17, 3) := by decide +kernel
theorem dX4_copy_23 : decode cX4_copy 23 = .ok (.if_icmp .ge 36, 3) := by decide +kernel
theorem dX4_copy_26 : decode cX4_copy 26 = .ok (.aload_n 1, 1) := by decide +kernel
theorem dX4_copy_27 : decode cX4_copy 27 = .ok (.getfield 13, 3) := by decide +kernel
theorem dX4_copy_30 : decode cX4_copy 30 = .ok (.iload_n 2, 1) := by decide +kernel
theorem dX4_copy_31 : decode cX4_copy 31 = .ok (.aload_n 1, 1) := by decide +kernel
theorem dX4_copy_32 : decode cX4_copy 32 = .ok (.getfield 7, 3) := by decide +kernel
theorem dX4_copy_35 : decode cX4_copy 35 = .ok (.imul, 1) := by decide +kernel
theorem dX4_copy_36 : decode cX4_copy 36 = .ok (.aload_n 0, 1) := by decide +kernel
theorem dX4_copy_37 : decode cX4_copy 37 = .ok (.getfield 13, 3) := by decide +kernel
theorem dX4_copy_40 : decode cX4_copy 40 = .ok (.iload_n 2, 1) := by decide +kernel
theorem dX4_copy_41 : decode cX4_copy 41 = .ok (.aload_n 0, 1) := by decide +kernel
theorem dX4_copy_42 : decode cX4_copy 42 = .ok (.getfield 7, 3) := by decide +kernel
theorem dX4_copy_45 : decode cX4_copy 45 = .ok (.imul, 1) := by decide +kernel
theorem dX4_copy_46 : decode cX4_copy 46 = .ok (.aload_n 0, 1) := by decide +kernel
theorem dX4_copy_47 : decode cX4_copy 47 = .ok (.getfield 20, 3) := by decide +kernel
theorem dX4_copy_50 : decode cX4_copy 50 = .ok (.invokestatic 34, 3) := by decide +kernel
theorem dX4_copy_53 : decode cX4_copy 53 = .ok (.iinc 2 1, 3) := by decide +kernel
theorem dX4_copy_56 : decode cX4_copy 56 = .ok (.goto (-38), 3) := by decide +kernel
theorem dX4_copy_59 : decode cX4_copy 59 = .ok (.return_, 1) := by decide +kernel
theorem dX4_product_0 : decode cX4_product 0 = .ok (.aload_n 0, 1) := by decide +kernel
theorem dX4_product_1 : decode cX4_product 1 = .ok (.invokevirtual 76, 3) := by decide +kernel
theorem dX4_product_4 : decode cX4_product 4 = .ok (.aload_n 0, 1) := by decide +kernel
theorem dX4_product_5 : decode cX4_product 5 = .ok (.aload_n 1, 1) := by decide +kernel
theorem dX4_product_6 : decode cX4_product 6 = .ok (.aload_n 2, 1) := by decide +kernel
theorem dX4_product_7 : decode cX4_product 7 = .ok (.invokevirtual 79, 3) := by decide +kernel
theorem dX4_product_10 : decode cX4_product 10 = .ok (.return_, 1) := by decide +kernel
theorem dX4_clear_0 : decode cX4_clear 0 = .ok (.aload_n 0, 1) := by decide +kernel
theorem dX4_clear_1 : decode cX4_clear 1 = .ok (.iconst 0, 1) := by decide +kernel
theorem dX4_clear_2 : decode cX4_clear 2 = .ok (.putfield 20, 3) := by decide +kernel
theorem dX4_clear_5 : decode cX4_clear 5 = .ok (.aload_n 0, 1) := by decide +kernel
theorem dX4_clear_6 : decode cX4_clear 6 = .ok (.iconst 0, 1) := by decide +kernel
theorem dX4_clear_7 : decode cX4_clear 7 = .ok (.putfield 17, 3) := by decide +kernel
theorem dX4_clear_10 : decode cX4_clear 10 = .ok (.return_, 1) := by decide +kernel
theorem dX4_addProduct_0 : decode cX4_addProduct 0 = .ok (.aload_n 1, 1) := by decide +kernel
theorem dX4_addProduct_1 : decode cX4_addProduct 1 = .ok (.invokevirtual 68, 3) := by decide +kernel
theorem dX4_addProduct_4 : decode cX4_addProduct 4 = .ok (.ifCond .ne 10, 3) := by decide +kernel
theorem dX4_addProduct_7 : decode cX4_addProduct 7 = .ok (.aload_n 2, 1) := by decide +kernel
theorem dX4_addProduct_8 : decode cX4_addProduct 8 = .ok (.invokevirtual 68, 3) := by decide +kernel
theorem dX4_addProduct_11 : decode cX4_addProduct 11 = .ok (.ifCond .eq 4, 3) := by decide +kernel
theorem dX4_addProduct_14 : decode cX4_addProduct 14 = .ok (.return_, 1) := by decide +kernel
theorem dX4_addProduct_15 : decode cX4_addProduct 15 = .ok (.aload_n 0, 1) := by decide +kernel
theorem dX4_addProduct_16 : decode cX4_addProduct 16 = .ok (.aload_n 1, 1) := by decide +kernel
theorem dX4_addProduct_17 : decode cX4_addProduct 17 = .ok (.getfield 20, 3) := by decide +kernel
theorem dX4_addProduct_20 : decode cX4_addProduct 20 = .ok (.aload_n 2, 1) := by decide +kernel
theorem dX4_addProduct_21 : decode cX4_addProduct 21 = .ok (.getfield 20, 3) := by decide +kernel
theorem dX4_addProduct_24 : decode cX4_addProduct 24 = .ok (.iadd, 1) := by decide +kernel
theorem dX4_addProduct_25 : decode cX4_addProduct 25 = .ok (.iconst 1, 1) := by decide +kernel
theorem dX4_addProduct_26 : decode cX4_addProduct 26 = .ok (.isub, 1) := by decide +kernel
theorem dX4_addProduct_27 : decode cX4_addProduct 27 = .ok (.aload_n 1, 1) := by decide +kernel
theorem dX4_addProduct_28 : decode cX4_addProduct 28 = .ok (.getfield 17, 3) := by decide +kernel
theorem dX4_addProduct_31 : decode cX4_addProduct 31 = .ok (.aload_n 2, 1) := by decide +kernel
theorem dX4_addProduct_32 : decode cX4_addProduct 32 = .ok (.getfield 17, 3) := by decide +kernel
theorem dX4_addProduct_35 : decode cX4_addProduct 35 = .ok (.iadd, 1) := by decide +kernel
theorem dX4_addProduct_36 : decode cX4_addProduct 36 = .ok (.iconst 1, 1) := by decide +kernel
theorem dX4_addProduct_37 : decode cX4_addProduct 37 = .ok (.isub, 1) := by decide +kernel
theorem dX4_addProduct_38 : decode cX4_addProduct 38 = .ok (.invokevirtual 57, 3) := by decide +kernel
theorem dX4_addProduct_41 : decode cX4_addProduct 41 = .ok (.iconst 0, 1) := by decide +kernel
theorem dX4_addProduct_42 : decode cX4_addProduct 42 = .ok (.istore_n 3, 1) := by decide +kernel
theorem dX4_addProduct_43 : decode cX4_addProduct 43 = .ok (.iload_n 3, 1) := by decide +kernel
theorem dX4_addProduct_44 : decode cX4_addProduct 44 = .ok (.aload_n 1, 1) := by decide +kernel
theorem dX4_addProduct_45 : decode cX4_addProduct 45 = .ok (.getfield 17, 3) := by decide +kernel
theorem dX4_addProduct_48 : decode cX4_addProduct 48 = .ok (.if_icmp .ge 58, 3) := by decide +kernel
theorem dX4_addProduct_51 : decode cX4_addProduct 51 = .ok (.iconst 0, 1) := by decide +kernel
theorem dX4_addProduct_52 : decode cX4_addProduct 52 = .ok (.istore 4, 2) := by decide +kernel
theorem dX4_addProduct_54 : decode cX4_addProduct 54 = .ok (.iload 4, 2) := by decide +kernel
theorem dX4_addProduct_56 : decode cX4_addProduct 56 = .ok (.aload_n 1, 1) := by decide +kernel
theorem dX4_addProduct_57 : decode cX4_addProduct 57 = .ok (.getfield 20, 3) := by decide +kernel
theorem dX4_addProduct_60 : decode cX4_addProduct 60 = .ok (.if_icmp .ge 40, 3) := by decide +kernel
theorem dX4_addProduct_63 : decode cX4_addProduct 63 = .ok (.aload_n 1, 1) := by decide +kernel
theorem dX4_addProduct_64 : decode cX4_addProduct 64 = .ok (.getfield 13, 3) := by decide +kernel
theorem dX4_addProduct_67 : decode cX4_addProduct 67 = .ok (.iload_n 3, 1) := by decide +kernel
theorem dX4_addProduct_68 : decode cX4_addProduct 68 = .ok (.aload_n 1, 1) := by decide +kernel
theorem dX4_addProduct_69 : decode cX4_addProduct 69 = .ok (.getfield 7, 3) := by decide +kernel
theorem dX4_addProduct_72 : decode cX4_addProduct 72 = .ok (.imul, 1) := by decide +kernel
theorem dX4_addProduct_73 : decode cX4_addProduct 73 = .ok (.iload 4, 2) := by decide +kernel
theorem dX4_addProduct_75 : decode cX4_addProduct 75 = .ok (.iadd, 1) := by decide +kernel
theorem dX4_addProduct_76 : decode cX4_addProduct 76 = .ok (.iaload, 1) := by decide +kernel
theorem dX4_addProduct_77 : decode cX4_addProduct 77 = .ok (.istore 5, 2) := by decide +kernel
theorem dX4_addProduct_79 : decode cX4_addProduct 79 = .ok (.iload 5, 2) := by decide +kernel
theorem dX4_addProduct_81 : decode cX4_addProduct 81 = .ok (.ifCond .eq 13, 3) := by decide +kernel
theorem dX4_addProduct_84 : decode cX4_addProduct 84 = .ok (.aload_n 0, 1) := by decide +kernel
theorem dX4_addProduct_85 : decode cX4_addProduct 85 = .ok (.aload_n 2, 1) := by decide +kernel
theorem dX4_addProduct_86 : decode cX4_addProduct 86 = .ok (.iload 5, 2) := by decide +kernel
theorem dX4_addProduct_88 : decode cX4_addProduct 88 = .ok (.iload 4, 2) := by decide +kernel
theorem dX4_addProduct_90 : decode cX4_addProduct 90 = .ok (.iload_n 3, 1) := by decide +kernel
theorem dX4_addProduct_91 : decode cX4_addProduct 91 = .ok (.invokevirtual 72, 3) := by decide +kernel
theorem dX4_addProduct_94 : decode cX4_addProduct 94 = .ok (.iinc 4 1, 3) := by decide +kernel
theorem dX4_addProduct_97 : decode cX4_addProduct 97 = .ok (.goto (-43), 3) := by decide +kernel
theorem dX4_addProduct_100 : decode cX4_addProduct 100 = .ok (.iinc 3 1, 3) := by decide +kernel
theorem dX4_addProduct_103 : decode cX4_addProduct 103 = .ok (.goto (-60), 3) := by decide +kernel
theorem dX4_addProduct_106 : decode cX4_addProduct 106 = .ok (.aload_n 0, 1) := by decide +kernel
theorem dX4_addProduct_107 : decode cX4_addProduct 107 = .ok (.invokevirtual 31, 3) := by decide +kernel
theorem dX4_addProduct_110 : decode cX4_addProduct 110 = .ok (.return_, 1) := by decide +kernel
theorem dX4_grow_0 : decode cX4_grow 0 = .ok (.aload_n 0, 1) := by decide +kernel
theorem dX4_grow_1 : decode cX4_grow 1 = .ok (.getfield 20, 3) := by decide +kernel
theorem dX4_grow_4 : decode cX4_grow 4 = .ok (.istore_n 3, 1) := by decide +kernel
theorem dX4_grow_5 : decode cX4_grow 5 = .ok (.aload_n 0, 1) := by decide +kernel
theorem dX4_grow_6 : decode cX4_grow 6 = .ok (.getfield 17, 3) := by decide +kernel
theorem dX4_grow_9 : decode cX4_grow 9 = .ok (.istore 4, 2) := by decide +kernel
theorem dX4_grow_11 : decode cX4_grow 11 = .ok (.aload_n 0, 1) := by decide +kernel
theorem dX4_grow_12 : decode cX4_grow 12 = .ok (.aload_n 0, 1) := by decide +kernel
theorem dX4_grow_13 : decode cX4_grow 13 = .ok (.getfield 20, 3) := by decide +kernel
theorem dX4_grow_16 : decode cX4_grow 16 = .ok (.iload_n 1, 1) := by decide +kernel
theorem dX4_grow_17 : decode cX4_grow 17 = .ok (.invokestatic 63, 3) := by decide +kernel
theorem dX4_grow_20 : decode cX4_grow 20 = .ok (.putfield 20, 3) := by decide +kernel
theorem dX4_grow_23 : decode cX4_grow 23 = .ok (.aload_n 0, 1) := by decide +kernel
theorem dX4_grow_24 : decode cX4_grow 24 = .ok (.aload_n 0, 1) := by decide +kernel
theorem dX4_grow_25 : decode cX4_grow 25 = .ok (.getfield 17, 3) := by decide +kernel
theorem dX4_grow_28 : decode cX4_grow 28 = .ok (.iload_n 2, 1) := by decide +kernel
theorem dX4_grow_29 : decode cX4_grow 29 = .ok (.invokestatic 63, 3) := by decide +kernel
theorem dX4_grow_32 : decode cX4_grow 32 = .ok (.putfield 17, 3) := by decide +kernel
theorem dX4_grow_35 : decode cX4_grow 35 = .ok (.iconst 0, 1) := by decide +kernel
theorem dX4_grow_36 : decode cX4_grow 36 = .ok (.istore 5, 2) := by decide +kernel
theorem dX4_grow_38 : decode cX4_grow 38 = .ok (.iload 5, 2) := by decide +kernel
theorem dX4_grow_40 : decode cX4_grow 40 = .ok (.aload_n 0, 1) := by decide +kernel
theorem dX4_grow_41 : decode cX4_grow 41 = .ok (.getfield 17, 3) := by decide +kernel
theorem dX4_grow_44 : decode cX4_grow 44 = .ok (.if_icmp .ge 54, 3) := by decide +kernel
theorem dX4_grow_47 : decode cX4_grow 47 = .ok (.iload 5, 2) := by decide +kernel
theorem dX4_grow_49 : decode cX4_grow 49 = .ok (.iload 4, 2) := by decide +kernel
theorem dX4_grow_51 : decode cX4_grow 51 = .ok (.if_icmp .ge 7, 3) := by decide +kernel
theorem dX4_grow_54 : decode cX4_grow 54 = .ok (.iload_n 3, 1) := by decide +kernel
theorem dX4_grow_55 : decode cX4_grow 55 = .ok (.goto 4, 3) := by decide +kernel
theorem dX4_grow_58 : decode cX4_grow 58 = .ok (.iconst 0, 1) := by decide +kernel
theorem dX4_grow_59 : decode cX4_grow 59 = .ok (.istore 6, 2) := by decide +kernel
theorem dX4_grow_61 : decode cX4_grow 61 = .ok (.iload 6, 2) := by decide +kernel
theorem dX4_grow_63 : decode cX4_grow 63 = .ok (.aload_n 0, 1) := by decide +kernel
theorem dX4_grow_64 : decode cX4_grow 64 = .ok (.getfield 20, 3) := by decide +kernel
theorem dX4_grow_67 : decode cX4_grow 67 = .ok (.if_icmp .ge 25, 3) := by decide +kernel
theorem dX4_grow_70 : decode cX4_grow 70 = .ok (.aload_n 0, 1) := by decide +kernel
theorem dX4_grow_71 : decode cX4_grow 71 = .ok (.getfield 13, 3) := by decide +kernel
theorem dX4_grow_74 : decode cX4_grow 74 = .ok (.iload 5, 2) := by decide +kernel
theorem dX4_grow_76 : decode cX4_grow 76 = .ok (.aload_n 0, 1) := by decide +kernel
theorem dX4_grow_77 : decode cX4_grow 77 = .ok (.getfield 7, 3) := by decide +kernel
theorem dX4_grow_80 : decode cX4_grow 80 = .ok (.imul, 1) := by decide +kernel
theorem dX4_grow_81 : decode cX4_grow 81 = .ok (.iload 6, 2) := by decide +kernel
theorem dX4_grow_83 : decode cX4_grow 83 = .ok (.iadd, 1) := by decide +kernel
theorem dX4_grow_84 : decode cX4_grow 84 = .ok (.iconst 0, 1) := by decide +kernel
theorem dX4_grow_85 : decode cX4_grow 85 = .ok (.iastore, 1) := by decide +kernel
theorem dX4_grow_86 : decode cX4_grow 86 = .ok (.iinc 6 1, 3) := by decide +kernel
theorem dX4_grow_89 : decode cX4_grow 89 = .ok (.goto (-28), 3) := by decide +kernel
theorem dX4_grow_92 : decode cX4_grow 92 = .ok (.iinc 5 1, 3) := by decide +kernel
theorem dX4_grow_95 : decode cX4_grow 95 = .ok (.goto (-57), 3) := by decide +kernel
theorem dX4_grow_98 : decode cX4_grow 98 = .ok (.return_, 1) := by decide +kernel
theorem dX4_addRows_0 : decode cX4_addRows 0 = .ok (.iconst 0, 1) := by decide +kernel
theorem dX4_addRows_1 : decode cX4_addRows 1 = .ok (.istore 5, 2) := by decide +kernel
theorem dX4_addRows_3 : decode cX4_addRows 3 = .ok (.iload 5, 2) := by decide +kernel
theorem dX4_addRows_5 : decode cX4_addRows 5 = .ok (.aload_n 1, 1) := by decide +kernel
theorem dX4_addRows_6 : decode cX4_addRows 6 = .ok (.getfield 17, 3) := by decide +kernel
theorem dX4_addRows_9 : decode cX4_addRows 9 = .ok (.if_icmp .ge 87, 3) := by decide +kernel
theorem dX4_addRows_12 : decode cX4_addRows 12 = .ok (.iload 5, 2) := by decide +kernel
theorem dX4_addRows_14 : decode cX4_addRows 14 = .ok (.iload 4, 2) := by decide +kernel
theorem dX4_addRows_16 : decode cX4_addRows 16 = .ok (.iadd, 1) := by decide +kernel
theorem dX4_addRows_17 : decode cX4_addRows 17 = .ok (.aload_n 0, 1) := by decide +kernel
theorem dX4_addRows_18 : decode cX4_addRows 18 = .ok (.getfield 7, 3) := by decide +kernel
theorem dX4_addRows_21 : decode cX4_addRows 21 = .ok (.imul, 1) := by decide +kernel
theorem dX4_addRows_22 : decode cX4_addRows 22 = .ok (.iload_n 3, 1) := by decide +kernel
theorem dX4_addRows_23 : decode cX4_addRows 23 = .ok (.iadd, 1) := by decide +kernel
theorem dX4_addRows_24 : decode cX4_addRows 24 = .ok (.istore 6, 2) := by decide +kernel
theorem dX4_addRows_26 : decode cX4_addRows 26 = .ok (.iload 5, 2) := by decide +kernel
theorem dX4_addRows_28 : decode cX4_addRows 28 = .ok (.aload_n 1, 1) := by decide +kernel
theorem dX4_addRows_29 : decode cX4_addRows 29 = .ok (.getfield 7, 3) := by decide +kernel
theorem dX4_addRows_32 : decode cX4_addRows 32 = .ok (.imul, 1) := by decide +kernel
theorem dX4_addRows_33 : decode cX4_addRows 33 = .ok (.istore 7, 2) := by decide +kernel
theorem dX4_addRows_35 : decode cX4_addRows 35 = .ok (.iconst 0, 1) := by decide +kernel
theorem dX4_addRows_36 : decode cX4_addRows 36 = .ok (.istore 8, 2) := by decide +kernel
theorem dX4_addRows_38 : decode cX4_addRows 38 = .ok (.iload 8, 2) := by decide +kernel
theorem dX4_addRows_40 : decode cX4_addRows 40 = .ok (.aload_n 1, 1) := by decide +kernel
theorem dX4_addRows_41 : decode cX4_addRows 41 = .ok (.getfield 20, 3) := by decide +kernel
theorem dX4_addRows_44 : decode cX4_addRows 44 = .ok (.if_icmp .ge 46, 3) := by decide +kernel
theorem dX4_addRows_47 : decode cX4_addRows 47 = .ok (.aload_n 0, 1) := by decide +kernel
theorem dX4_addRows_48 : decode cX4_addRows 48 = .ok (.getfield 13, 3) := by decide +kernel
theorem dX4_addRows_51 : decode cX4_addRows 51 = .ok (.iload 6, 2) := by decide +kernel
theorem dX4_addRows_53 : decode cX4_addRows 53 = .ok (.iload 8, 2) := by decide +kernel
theorem dX4_addRows_55 : decode cX4_addRows 55 = .ok (.iadd, 1) := by decide +kernel
theorem dX4_addRows_56 : decode cX4_addRows 56 = .ok (.aload_n 0, 1) := by decide +kernel
theorem dX4_addRows_57 : decode cX4_addRows 57 = .ok (.getfield 13, 3) := by decide +kernel
theorem dX4_addRows_60 : decode cX4_addRows 60 = .ok (.iload 6, 2) := by decide +kernel
theorem dX4_addRows_62 : decode cX4_addRows 62 = .ok (.iload 8, 2) := by decide +kernel
theorem dX4_addRows_64 : decode cX4_addRows 64 = .ok (.iadd, 1) := by decide +kernel
theorem dX4_addRows_65 : decode cX4_addRows 65 = .ok (.iaload, 1) := by decide +kernel
theorem dX4_addRows_66 : decode cX4_addRows 66 = .ok (.aload_n 1, 1) := by decide +kernel
theorem dX4_addRows_67 : decode cX4_addRows 67 = .ok (.getfield 13, 3) := by decide +kernel
theorem dX4_addRows_70 : decode cX4_addRows 70 = .ok (.iload 7, 2) := by decide +kernel
theorem dX4_addRows_72 : decode cX4_addRows 72 = .ok (.iload 8, 2) := by decide +kernel
theorem dX4_addRows_74 : decode cX4_addRows 74 = .ok (.iadd, 1) := by decide +kernel
theorem dX4_addRows_75 : decode cX4_addRows 75 = .ok (.iaload, 1) := by decide +kernel
theorem dX4_addRows_76 : decode cX4_addRows 76 = .ok (.iload_n 2, 1) := by decide +kernel
theorem dX4_addRows_77 : decode cX4_addRows 77 = .ok (.invokestatic 51, 3) := by decide +kernel
theorem dX4_addRows_80 : decode cX4_addRows 80 = .ok (.invokestatic 60, 3) := by decide +kernel
theorem dX4_addRows_83 : decode cX4_addRows 83 = .ok (.iastore, 1) := by decide +kernel
theorem dX4_addRows_84 : decode cX4_addRows 84 = .ok (.iinc 8 1, 3) := by decide +kernel
theorem dX4_addRows_87 : decode cX4_addRows 87 = .ok (.goto (-49), 3) := by decide +kernel
theorem dX4_addRows_90 : decode cX4_addRows 90 = .ok (.iinc 5 1, 3) := by decide +kernel
theorem dX4_addRows_93 : decode cX4_addRows 93 = .ok (.goto (-90), 3) := by decide +kernel
theorem dX4_addRows_96 : decode cX4_addRows 96 = .ok (.return_, 1) := by decide +kernel
theorem dX4_add_0 : decode cX4_add 0 = .ok (.aload_n 0, 1) := by decide +kernel
theorem dX4_add_1 : decode cX4_add 1 = .ok (.aload_n 1, 1) := by decide +kernel
theorem dX4_add_2 : decode cX4_add 2 = .ok (.getfield 20, 3) := by decide +kernel
theorem dX4_add_5 : decode cX4_add 5 = .ok (.aload_n 1, 1) := by decide +kernel
theorem dX4_add_6 : decode cX4_add 6 = .ok (.getfield 17, 3) := by decide +kernel
theorem dX4_add_9 : decode cX4_add 9 = .ok (.invokevirtual 57, 3) := by decide +kernel
theorem dX4_add_12 : decode cX4_add 12 = .ok (.iconst 0, 1) := by decide +kernel
theorem dX4_add_13 : decode cX4_add 13 = .ok (.istore_n 3, 1) := by decide +kernel
theorem dX4_add_14 : decode cX4_add 14 = .ok (.iload_n 3, 1) := by decide +kernel
theorem dX4_add_15 : decode cX4_add 15 = .ok (.aload_n 1, 1) := by decide +kernel
theorem dX4_add_16 : decode cX4_add 16 = .ok (.getfield 17, 3) := by decide +kernel
theorem dX4_add_19 : decode cX4_add 19 = .ok (.if_icmp .ge 76, 3) := by decide +kernel
theorem dX4_add_22 : decode cX4_add 22 = .ok (.iconst 0, 1) := by decide +kernel
theorem dX4_add_23 : decode cX4_add 23 = .ok (.istore 4, 2) := by decide +kernel
theorem dX4_add_25 : decode cX4_add 25 = .ok (.iload 4, 2) := by decide +kernel
theorem dX4_add_27 : decode cX4_add 27 = .ok (.aload_n 1, 1) := by decide +kernel
theorem dX4_add_28 : decode cX4_add 28 = .ok (.getfield 20, 3) := by decide +kernel
theorem dX4_add_31 : decode cX4_add 31 = .ok (.if_icmp .ge 58, 3) := by decide +kernel
theorem dX4_add_34 : decode cX4_add 34 = .ok (.aload_n 0, 1) := by decide +kernel
theorem dX4_add_35 : decode cX4_add 35 = .ok (.getfield 13, 3) := by decide +kernel
theorem dX4_add_38 : decode cX4_add 38 = .ok (.iload_n 3, 1) := by decide +kernel
theorem dX4_add_39 : decode cX4_add 39 = .ok (.aload_n 0, 1) := by decide +kernel
theorem dX4_add_40 : decode cX4_add 40 = .ok (.getfield 7, 3) := by decide +kernel
theorem dX4_add_43 : decode cX4_add 43 = .ok (.imul, 1) := by decide +kernel
theorem dX4_add_44 : decode cX4_add 44 = .ok (.iload 4, 2) := by decide +kernel
theorem dX4_add_46 : decode cX4_add 46 = .ok (.iadd, 1) := by decide +kernel
theorem dX4_add_47 : decode cX4_add 47 = .ok (.aload_n 0, 1) := by decide +kernel
theorem dX4_add_48 : decode cX4_add 48 = .ok (.getfield 13, 3) := by decide +kernel
theorem dX4_add_51 : decode cX4_add 51 = .ok (.iload_n 3, 1) := by decide +kernel
theorem dX4_add_52 : decode cX4_add 52 = .ok (.aload_n 0, 1) := by decide +kernel
theorem dX4_add_53 : decode cX4_add 53 = .ok (.getfield 7, 3) := by decide +kernel
theorem dX4_add_56 : decode cX4_add 56 = .ok (.imul, 1) := by decide +kernel
theorem dX4_add_57 : decode cX4_add 57 = .ok (.iload 4, 2) := by decide +kernel
theorem dX4_add_59 : decode cX4_add 59 = .ok (.iadd, 1) := by decide +kernel
theorem dX4_add_60 : decode cX4_add 60 = .ok (.iaload, 1) := by decide +kernel
theorem dX4_add_61 : decode cX4_add 61 = .ok (.aload_n 1, 1) := by decide +kernel
theorem dX4_add_62 : decode cX4_add 62 = .ok (.getfield 13, 3) := by decide +kernel
theorem dX4_add_65 : decode cX4_add 65 = .ok (.iload_n 3, 1) := by decide +kernel
theorem dX4_add_66 : decode cX4_add 66 = .ok (.aload_n 1, 1) := by decide +kernel
theorem dX4_add_67 : decode cX4_add 67 = .ok (.getfield 7, 3) := by decide +kernel
theorem dX4_add_70 : decode cX4_add 70 = .ok (.imul, 1) := by decide +kernel
theorem dX4_add_71 : decode cX4_add 71 = .ok (.iload 4, 2) := by decide +kernel
theorem dX4_add_73 : decode cX4_add 73 = .ok (.iadd, 1) := by decide +kernel
theorem dX4_add_74 : decode cX4_add 74 = .ok (.iaload, 1) := by decide +kernel
theorem dX4_add_75 : decode cX4_add 75 = .ok (.iload_n 2, 1) := by decide +kernel
theorem dX4_add_76 : decode cX4_add 76 = .ok (.invokestatic 51, 3) := by decide +kernel
theorem dX4_add_79 : decode cX4_add 79 = .ok (.invokestatic 60, 3) := by decide +kernel
theorem dX4_add_82 : decode cX4_add 82 = .ok (.iastore, 1) := by decide +kernel
theorem dX4_add_83 : decode cX4_add 83 = .ok (.iinc 4 1, 3) := by decide +kernel
theorem dX4_add_86 : decode cX4_add 86 = .ok (.goto (-61), 3) := by decide +kernel
theorem dX4_add_89 : decode cX4_add 89 = .ok (.iinc 3 1, 3) := by decide +kernel
theorem dX4_add_92 : decode cX4_add 92 = .ok (.goto (-78), 3) := by decide +kernel
theorem dX4_add_95 : decode cX4_add 95 = .ok (.aload_n 0, 1) := by decide +kernel
theorem dX4_add_96 : decode cX4_add 96 = .ok (.invokevirtual 31, 3) := by decide +kernel
theorem dX4_add_99 : decode cX4_add 99 = .ok (.return_, 1) := by decide +kernel
theorem dX4_head_0 : decode cX4_head 0 = .ok (.aload_n 0, 1) := by decide +kernel
theorem dX4_head_1 : decode cX4_head 1 = .ok (.getfield 20, 3) := by decide +kernel
theorem dX4_head_4 : decode cX4_head 4 = .ok (.iconst 1, 1) := by decide +kernel
theorem dX4_head_5 : decode cX4_head 5 = .ok (.isub, 1) := by decide +kernel
theorem dX4_head_6 : decode cX4_head 6 = .ok (.istore_n 1, 1) := by decide +kernel
theorem dX4_head_7 : decode cX4_head 7 = .ok (.iload_n 1, 1) := by decide +kernel
theorem dX4_head_8 : decode cX4_head 8 = .ok (.ifCond .lt 30, 3) := by decide +kernel
theorem dX4_head_11 : decode cX4_head 11 = .ok (.aload_n 0, 1) := by decide +kernel
theorem dX4_head_12 : decode cX4_head 12 = .ok (.getfield 13, 3) := by decide +kernel
theorem dX4_head_15 : decode cX4_head 15 = .ok (.aload_n 0, 1) := by decide +kernel
theorem dX4_head_16 : decode cX4_head 16 = .ok (.getfield 17, 3) := by decide +kernel
theorem dX4_head_19 : decode cX4_head 19 = .ok (.iconst 1, 1) := by decide +kernel
theorem dX4_head_20 : decode cX4_head 20 = .ok (.isub, 1) := by decide +kernel
theorem dX4_head_21 : decode cX4_head 21 = .ok (.aload_n 0, 1) := by decide +kernel
theorem dX4_head_22 : decode cX4_head 22 = .ok (.getfield 7, 3) := by decide +kernel
theorem dX4_head_25 : decode cX4_head 25 = .ok (.imul, 1) := by decide +kernel
theorem dX4_head_26 : decode cX4_head 26 = .ok (.iload_n 1, 1) := by decide +kernel
theorem dX4_head_27 : decode cX4_head 27 = .ok (.iadd, 1) := by decide +kernel
theorem dX4_head_28 : decode cX4_head 28 = .ok (.iaload, 1) := by decide +kernel
theorem dX4_head_29 : decode cX4_head 29 = .ok (.ifCond .ne 9, 3) := by decide +kernel
theorem dX4_head_32 : decode cX4_head 32 = .ok (.iinc 1 (-1), 3) := by decide +kernel
theorem dX4_head_35 : decode cX4_head 35 = .ok (.goto (-28), 3) := by decide +kernel
theorem dX4_head_38 : decode cX4_head 38 = .ok (.iload_n 1, 1) := by decide +kernel
theorem dX4_head_39 : decode cX4_head 39 = .ok (.ifCond .ge 7, 3) := by decide +kernel
theorem dX4_head_42 : decode cX4_head 42 = .ok (.iconst 0, 1) := by decide +kernel
theorem dX4_head_43 : decode cX4_head 43 = .ok (.goto 21, 3) := by decide +kernel
theorem dX4_head_46 : decode cX4_head 46 = .ok (.aload_n 0, 1) := by decide +kernel
theorem dX4_head_47 : decode cX4_head 47 = .ok (.getfield 13, 3) := by decide +kernel
theorem dX4_head_50 : decode cX4_head 50 = .ok (.aload_n 0, 1) := by decide +kernel
theorem dX4_head_51 : decode cX4_head 51 = .ok (.getfield 17, 3) := by decide +kernel
theorem dX4_head_54 : decode cX4_head 54 = .ok (.iconst 1, 1) := by decide +kernel
theorem dX4_head_55 : decode cX4_head 55 = .ok (.isub, 1) := by decide +kernel
theorem dX4_head_56 : decode cX4_head 56 = .ok (.aload_n 0, 1) := by decide +kernel
theorem dX4_head_57 : decode cX4_head 57 = .ok (.getfield 7, 3) := by decide +kernel
theorem dX4_head_60 : decode cX4_head 60 = .ok (.imul, 1) := by decide +kernel
theorem dX4_head_61 : decode cX4_head 61 = .ok (.iload_n 1, 1) := by decide +kernel
theorem dX4_head_62 : decode cX4_head 62 = .ok (.iadd, 1) := by decide +kernel
theorem dX4_head_63 : decode cX4_head 63 = .ok (.iaload, 1) := by decide +kernel
theorem dX4_head_64 : decode cX4_head 64 = .ok (.ireturn, 1) := by decide +kernel
theorem dX4_row_0 : decode cX4_row 0 = .ok (.aload_n 2, 1) := by decide +kernel
theorem dX4_row_1 : decode cX4_row 1 = .ok (.iload_n 1, 1) := by decide +kernel
theorem dX4_row_2 : decode cX4_row 2 = .ok (.ifCond .lt 18, 3) := by decide +kernel
theorem dX4_row_5 : decode cX4_row 5 = .ok (.iload_n 1, 1) := by decide +kernel
theorem dX4_row_6 : decode cX4_row 6 = .ok (.aload_n 0, 1) := by decide +kernel
theorem dX4_row_7 : decode cX4_row 7 = .ok (.getfield 17, 3) := by decide +kernel
theorem dX4_row_10 : decode cX4_row 10 = .ok (.if_icmp .ge 10, 3) := by decide +kernel
theorem dX4_row_13 : decode cX4_row 13 = .ok (.aload_n 0, 1) := by decide +kernel
theorem dX4_row_14 : decode cX4_row 14 = .ok (.getfield 20, 3) := by decide +kernel
theorem dX4_row_17 : decode cX4_row 17 = .ok (.goto 4, 3) := by decide +kernel
theorem dX4_row_20 : decode cX4_row 20 = .ok (.iconst 0, 1) := by decide +kernel
theorem dX4_row_21 : decode cX4_row 21 = .ok (.putfield 40, 3) := by decide +kernel
theorem dX4_row_24 : decode cX4_row 24 = .ok (.iconst 0, 1) := by decide +kernel
theorem dX4_row_25 : decode cX4_row 25 = .ok (.istore_n 3, 1) := by decide +kernel
theorem dX4_row_26 : decode cX4_row 26 = .ok (.iload_n 3, 1) := by decide +kernel
theorem dX4_row_27 : decode cX4_row 27 = .ok (.aload_n 2, 1) := by decide +kernel
theorem dX4_row_28 : decode cX4_row 28 = .ok (.getfield 40, 3) := by decide +kernel
theorem dX4_row_31 : decode cX4_row 31 = .ok (.if_icmp .ge 28, 3) := by decide +kernel
theorem dX4_row_34 : decode cX4_row 34 = .ok (.aload_n 2, 1) := by decide +kernel
theorem dX4_row_35 : decode cX4_row 35 = .ok (.getfield 45, 3) := by decide +kernel
theorem dX4_row_38 : decode cX4_row 38 = .ok (.iload_n 3, 1) := by decide +kernel
theorem dX4_row_39 : decode cX4_row 39 = .ok (.aload_n 0, 1) := by decide +kernel
theorem dX4_row_40 : decode cX4_row 40 = .ok (.getfield 13, 3) := by decide +kernel
theorem dX4_row_43 : decode cX4_row 43 = .ok (.iload_n 1, 1) := by decide +kernel
theorem dX4_row_44 : decode cX4_row 44 = .ok (.aload_n 0, 1) := by decide +kernel
theorem dX4_row_45 : decode cX4_row 45 = .ok (.getfield 7, 3) := by decide +kernel
theorem dX4_row_48 : decode cX4_row 48 = .ok (.imul, 1) := by decide +kernel
theorem dX4_row_49 : decode cX4_row 49 = .ok (.iload_n 3, 1) := by decide +kernel
theorem dX4_row_50 : decode cX4_row 50 = .ok (.iadd, 1) := by decide +kernel
theorem dX4_row_51 : decode cX4_row 51 = .ok (.iaload, 1) := by decide +kernel
theorem dX4_row_52 : decode cX4_row 52 = .ok (.iastore, 1) := by decide +kernel
theorem dX4_row_53 : decode cX4_row 53 = .ok (.iinc 3 1, 3) := by decide +kernel
theorem dX4_row_56 : decode cX4_row 56 = .ok (.goto (-30), 3) := by decide +kernel
theorem dX4_row_59 : decode cX4_row 59 = .ok (.aload_n 2, 1) := by decide +kernel
theorem dX4_row_60 : decode cX4_row 60 = .ok (.invokevirtual 46, 3) := by decide +kernel
theorem dX4_row_63 : decode cX4_row 63 = .ok (.return_, 1) := by decide +kernel
theorem dX4_putRow_0 : decode cX4_putRow 0 = .ok (.iconst 0, 1) := by decide +kernel
theorem dX4_putRow_1 : decode cX4_putRow 1 = .ok (.istore_n 3, 1) := by decide +kernel
theorem dX4_putRow_2 : decode cX4_putRow 2 = .ok (.iload_n 3, 1) := by decide +kernel
theorem dX4_putRow_3 : decode cX4_putRow 3 = .ok (.aload_n 0, 1) := by decide +kernel
theorem dX4_putRow_4 : decode cX4_putRow 4 = .ok (.getfield 20, 3) := by decide +kernel
theorem dX4_putRow_7 : decode cX4_putRow 7 = .ok (.if_icmp .ge 27, 3) := by decide +kernel
theorem dX4_putRow_10 : decode cX4_putRow 10 = .ok (.aload_n 0, 1) := by decide +kernel
theorem dX4_putRow_11 : decode cX4_putRow 11 = .ok (.getfield 13, 3) := by decide +kernel
theorem dX4_putRow_14 : decode cX4_putRow 14 = .ok (.iload_n 1, 1) := by decide +kernel
theorem dX4_putRow_15 : decode cX4_putRow 15 = .ok (.aload_n 0, 1) := by decide +kernel
theorem dX4_putRow_16 : decode cX4_putRow 16 = .ok (.getfield 7, 3) := by decide +kernel
theorem dX4_putRow_19 : decode cX4_putRow 19 = .ok (.imul, 1) := by decide +kernel
theorem dX4_putRow_20 : decode cX4_putRow 20 = .ok (.iload_n 3, 1) := by decide +kernel
theorem dX4_putRow_21 : decode cX4_putRow 21 = .ok (.iadd, 1) := by decide +kernel
theorem dX4_putRow_22 : decode cX4_putRow 22 = .ok (.aload_n 2, 1) := by decide +kernel
theorem dX4_putRow_23 : decode cX4_putRow 23 = .ok (.iload_n 3, 1) := by decide +kernel
theorem dX4_putRow_24 : decode cX4_putRow 24 = .ok (.invokevirtual 47, 3) := by decide +kernel
theorem dX4_putRow_27 : decode cX4_putRow 27 = .ok (.iastore, 1) := by decide +kernel
theorem dX4_putRow_28 : decode cX4_putRow 28 = .ok (.iinc 3 1, 3) := by decide +kernel
theorem dX4_putRow_31 : decode cX4_putRow 31 = .ok (.goto (-29), 3) := by decide +kernel
theorem dX4_putRow_34 : decode cX4_putRow 34 = .ok (.return_, 1) := by decide +kernel
theorem dX4_atN_0 : decode cX4_atN 0 = .ok (.aload_n 2, 1) := by decide +kernel
theorem dX4_atN_1 : decode cX4_atN 1 = .ok (.aload_n 0, 1) := by decide +kernel
theorem dX4_atN_2 : decode cX4_atN 2 = .ok (.getfield 17, 3) := by decide +kernel
theorem dX4_atN_5 : decode cX4_atN 5 = .ok (.putfield 40, 3) := by decide +kernel
theorem dX4_atN_8 : decode cX4_atN 8 = .ok (.iconst 0, 1) := by decide +kernel
theorem dX4_atN_9 : decode cX4_atN 9 = .ok (.istore_n 3, 1) := by decide +kernel
theorem dX4_atN_10 : decode cX4_atN 10 = .ok (.iload_n 3, 1) := by decide +kernel
theorem dX4_atN_11 : decode cX4_atN 11 = .ok (.aload_n 0, 1) := by decide +kernel
theorem dX4_atN_12 : decode cX4_atN 12 = .ok (.getfield 17, 3) := by decide +kernel
theorem dX4_atN_15 : decode cX4_atN 15 = .ok (.if_icmp .ge 64, 3) := by decide +kernel
theorem dX4_atN_18 : decode cX4_atN 18 = .ok (.iconst 0, 1) := by decide +kernel
theorem dX4_atN_19 : decode cX4_atN 19 = .ok (.istore 4, 2) := by decide +kernel
theorem dX4_atN_21 : decode cX4_atN 21 = .ok (.aload_n 0, 1) := by decide +kernel
theorem dX4_atN_22 : decode cX4_atN 22 = .ok (.getfield 20, 3) := by decide +kernel
theorem dX4_atN_25 : decode cX4_atN 25 = .ok (.iconst 1, 1) := by decide +kernel
theorem dX4_atN_26 : decode cX4_atN 26 = .ok (.isub, 1) := by decide +kernel
theorem dX4_atN_27 : decode cX4_atN 27 = .ok (.istore 5, 2) := by decide +kernel
theorem dX4_atN_29 : decode cX4_atN 29 = .ok (.iload 5, 2) := by decide +kernel
theorem dX4_atN_31 : decode cX4_atN 31 = .ok (.ifCond .lt 34, 3) := by decide +kernel
theorem dX4_atN_34 : decode cX4_atN 34 = .ok (.iload 4, 2) := by decide +kernel
theorem dX4_atN_36 : decode cX4_atN 36 = .ok (.iload_n 1, 1) := by decide +kernel
theorem dX4_atN_37 : decode cX4_atN 37 = .ok (.invokestatic 51, 3) := by decide +kernel
theorem dX4_atN_40 : decode cX4_atN 40 = .ok (.aload_n 0, 1) := by decide +kernel
theorem dX4_atN_41 : decode cX4_atN 41 = .ok (.getfield 13, 3) := by decide +kernel
theorem dX4_atN_44 : decode cX4_atN 44 = .ok (.iload_n 3, 1) := by decide +kernel
theorem dX4_atN_45 : decode cX4_atN 45 = .ok (.aload_n 0, 1) := by decide +kernel
theorem dX4_atN_46 : decode cX4_atN 46 = .ok (.getfield 7, 3) := by decide +kernel
theorem dX4_atN_49 : decode cX4_atN 49 = .ok (.imul, 1) := by decide +kernel
theorem dX4_atN_50 : decode cX4_atN 50 = .ok (.iload 5, 2) := by decide +kernel
theorem dX4_atN_52 : decode cX4_atN 52 = .ok (.iadd, 1) := by decide +kernel
theorem dX4_atN_53 : decode cX4_atN 53 = .ok (.iaload, 1) := by decide +kernel
theorem dX4_atN_54 : decode cX4_atN 54 = .ok (.invokestatic 60, 3) := by decide +kernel
theorem dX4_atN_57 : decode cX4_atN 57 = .ok (.istore 4, 2) := by decide +kernel
theorem dX4_atN_59 : decode cX4_atN 59 = .ok (.iinc 5 (-1), 3) := by decide +kernel
theorem dX4_atN_62 : decode cX4_atN 62 = .ok (.goto (-33), 3) := by decide +kernel
theorem dX4_atN_65 : decode cX4_atN 65 = .ok (.aload_n 2, 1) := by decide +kernel
theorem dX4_atN_66 : decode cX4_atN 66 = .ok (.getfield 45, 3) := by decide +kernel
theorem dX4_atN_69 : decode cX4_atN 69 = .ok (.iload_n 3, 1) := by decide +kernel
theorem dX4_atN_70 : decode cX4_atN 70 = .ok (.iload 4, 2) := by decide +kernel
theorem dX4_atN_72 : decode cX4_atN 72 = .ok (.iastore, 1) := by decide +kernel
theorem dX4_atN_73 : decode cX4_atN 73 = .ok (.iinc 3 1, 3) := by decide +kernel
theorem dX4_atN_76 : decode cX4_atN 76 = .ok (.goto (-66), 3) := by decide +kernel
theorem dX4_atN_79 : decode cX4_atN 79 = .ok (.aload_n 2, 1) := by decide +kernel
theorem dX4_atN_80 : decode cX4_atN 80 = .ok (.invokevirtual 46, 3) := by decide +kernel
theorem dX4_atN_83 : decode cX4_atN 83 = .ok (.return_, 1) := by decide +kernel
theorem dX4_timesPoly_0 : decode cX4_timesPoly 0 = .ok (.aload_n 2, 1) := by decide +kernel
theorem dX4_timesPoly_1 : decode cX4_timesPoly 1 = .ok (.aload_n 0, 1) := by decide +kernel
theorem dX4_timesPoly_2 : decode cX4_timesPoly 2 = .ok (.invokevirtual 83, 3) := by decide +kernel
theorem dX4_timesPoly_5 : decode cX4_timesPoly 5 = .ok (.aload_n 0, 1) := by decide +kernel
theorem dX4_timesPoly_6 : decode cX4_timesPoly 6 = .ok (.invokevirtual 76, 3) := by decide +kernel
theorem dX4_timesPoly_9 : decode cX4_timesPoly 9 = .ok (.aload_n 1, 1) := by decide +kernel
theorem dX4_timesPoly_10 : decode cX4_timesPoly 10 = .ok (.invokevirtual 87, 3) := by decide +kernel
theorem dX4_timesPoly_13 : decode cX4_timesPoly 13 = .ok (.ifCond .ne 10, 3) := by decide +kernel
theorem dX4_timesPoly_16 : decode cX4_timesPoly 16 = .ok (.aload_n 2, 1) := by decide +kernel
theorem dX4_timesPoly_17 : decode cX4_timesPoly 17 = .ok (.invokevirtual 68, 3) := by decide +kernel
theorem dX4_timesPoly_20 : decode cX4_timesPoly 20 = .ok (.ifCond .eq 4, 3) := by decide +kernel
theorem dX4_timesPoly_23 : decode cX4_timesPoly 23 = .ok (.return_, 1) := by decide +kernel
theorem dX4_timesPoly_24 : decode cX4_timesPoly 24 = .ok (.aload_n 0, 1) := by decide +kernel
theorem dX4_timesPoly_25 : decode cX4_timesPoly 25 = .ok (.aload_n 2, 1) := by decide +kernel
theorem dX4_timesPoly_26 : decode cX4_timesPoly 26 = .ok (.getfield 20, 3) := by decide +kernel
theorem dX4_timesPoly_29 : decode cX4_timesPoly 29 = .ok (.aload_n 1, 1) := by decide +kernel
theorem dX4_timesPoly_30 : decode cX4_timesPoly 30 = .ok (.getfield 40, 3) := by decide +kernel
theorem dX4_timesPoly_33 : decode cX4_timesPoly 33 = .ok (.iadd, 1) := by decide +kernel
theorem dX4_timesPoly_34 : decode cX4_timesPoly 34 = .ok (.iconst 1, 1) := by decide +kernel
theorem dX4_timesPoly_35 : decode cX4_timesPoly 35 = .ok (.isub, 1) := by decide +kernel
theorem dX4_timesPoly_36 : decode cX4_timesPoly 36 = .ok (.aload_n 2, 1) := by decide +kernel
theorem dX4_timesPoly_37 : decode cX4_timesPoly 37 = .ok (.getfield 17, 3) := by decide +kernel
theorem dX4_timesPoly_40 : decode cX4_timesPoly 40 = .ok (.invokevirtual 57, 3) := by decide +kernel
theorem dX4_timesPoly_43 : decode cX4_timesPoly 43 = .ok (.iconst 0, 1) := by decide +kernel
theorem dX4_timesPoly_44 : decode cX4_timesPoly 44 = .ok (.istore_n 3, 1) := by decide +kernel
theorem dX4_timesPoly_45 : decode cX4_timesPoly 45 = .ok (.iload_n 3, 1) := by decide +kernel
theorem dX4_timesPoly_46 : decode cX4_timesPoly 46 = .ok (.aload_n 1, 1) := by decide +kernel
theorem dX4_timesPoly_47 : decode cX4_timesPoly 47 = .ok (.getfield 40, 3) := by decide +kernel
theorem dX4_timesPoly_50 : decode cX4_timesPoly 50 = .ok (.if_icmp .ge 31, 3) := by decide +kernel
theorem dX4_timesPoly_53 : decode cX4_timesPoly 53 = .ok (.aload_n 1, 1) := by decide +kernel
theorem dX4_timesPoly_54 : decode cX4_timesPoly 54 = .ok (.getfield 45, 3) := by decide +kernel
theorem dX4_timesPoly_57 : decode cX4_timesPoly 57 = .ok (.iload_n 3, 1) := by decide +kernel
theorem dX4_timesPoly_58 : decode cX4_timesPoly 58 = .ok (.iaload, 1) := by decide +kernel
theorem dX4_timesPoly_59 : decode cX4_timesPoly 59 = .ok (.ifCond .eq 16, 3) := by decide +kernel
theorem dX4_timesPoly_62 : decode cX4_timesPoly 62 = .ok (.aload_n 0, 1) := by decide +kernel
theorem dX4_timesPoly_63 : decode cX4_timesPoly 63 = .ok (.aload_n 2, 1) := by decide +kernel
theorem dX4_timesPoly_64 : decode cX4_timesPoly 64 = .ok (.aload_n 1, 1) := by decide +kernel
theorem dX4_timesPoly_65 : decode cX4_timesPoly 65 = .ok (.getfield 45, 3) := by decide +kernel
theorem dX4_timesPoly_68 : decode cX4_timesPoly 68 = .ok (.iload_n 3, 1) := by decide +kernel
theorem dX4_timesPoly_69 : decode cX4_timesPoly 69 = .ok (.iaload, 1) := by decide +kernel
theorem dX4_timesPoly_70 : decode cX4_timesPoly 70 = .ok (.iload_n 3, 1) := by decide +kernel
theorem dX4_timesPoly_71 : decode cX4_timesPoly 71 = .ok (.iconst 0, 1) := by decide +kernel
theorem dX4_timesPoly_72 : decode cX4_timesPoly 72 = .ok (.invokevirtual 72, 3) := by decide +kernel
theorem dX4_timesPoly_75 : decode cX4_timesPoly 75 = .ok (.iinc 3 1, 3) := by decide +kernel
theorem dX4_timesPoly_78 : decode cX4_timesPoly 78 = .ok (.goto (-33), 3) := by decide +kernel
theorem dX4_timesPoly_81 : decode cX4_timesPoly 81 = .ok (.aload_n 0, 1) := by decide +kernel
theorem dX4_timesPoly_82 : decode cX4_timesPoly 82 = .ok (.invokevirtual 31, 3) := by decide +kernel
theorem dX4_timesPoly_85 : decode cX4_timesPoly 85 = .ok (.return_, 1) := by decide +kernel
theorem dX4_degreeN_0 : decode cX4_degreeN 0 = .ok (.aload_n 0, 1) := by decide +kernel
theorem dX4_degreeN_1 : decode cX4_degreeN 1 = .ok (.getfield 20, 3) := by decide +kernel
theorem dX4_degreeN_4 : decode cX4_degreeN 4 = .ok (.ifCond .le 12, 3) := by decide +kernel
theorem dX4_degreeN_7 : decode cX4_degreeN 7 = .ok (.aload_n 0, 1) := by decide +kernel
theorem dX4_degreeN_8 : decode cX4_degreeN 8 = .ok (.getfield 20, 3) := by decide +kernel
theorem dX4_degreeN_11 : decode cX4_degreeN 11 = .ok (.iconst 1, 1) := by decide +kernel
theorem dX4_degreeN_12 : decode cX4_degreeN 12 = .ok (.isub, 1) := by decide +kernel
theorem dX4_degreeN_13 : decode cX4_degreeN 13 = .ok (.goto 4, 3) := by decide +kernel
theorem dX4_degreeN_16 : decode cX4_degreeN 16 = .ok (.iconst 0, 1) := by decide +kernel
theorem dX4_degreeN_17 : decode cX4_degreeN 17 = .ok (.ireturn, 1) := by decide +kernel
theorem dX4_degreeK_0 : decode cX4_degreeK 0 = .ok (.aload_n 0, 1) := by decide +kernel
theorem dX4_degreeK_1 : decode cX4_degreeK 1 = .ok (.getfield 17, 3) := by decide +kernel
theorem dX4_degreeK_4 : decode cX4_degreeK 4 = .ok (.ifCond .le 12, 3) := by decide +kernel
theorem dX4_degreeK_7 : decode cX4_degreeK 7 = .ok (.aload_n 0, 1) := by decide +kernel
theorem dX4_degreeK_8 : decode cX4_degreeK 8 = .ok (.getfield 17, 3) := by decide +kernel
theorem dX4_degreeK_11 : decode cX4_degreeK 11 = .ok (.iconst 1, 1) := by decide +kernel
theorem dX4_degreeK_12 : decode cX4_degreeK 12 = .ok (.isub, 1) := by decide +kernel
theorem dX4_degreeK_13 : decode cX4_degreeK 13 = .ok (.goto 4, 3) := by decide +kernel
theorem dX4_degreeK_16 : decode cX4_degreeK 16 = .ok (.iconst 0, 1) := by decide +kernel
theorem dX4_degreeK_17 : decode cX4_degreeK 17 = .ok (.ireturn, 1) := by decide +kernel
theorem dX4_value_0 : decode cX4_value 0 = .ok (.iconst 0, 1) := by decide +kernel
theorem dX4_value_1 : decode cX4_value 1 = .ok (.istore_n 3, 1) := by decide +kernel
theorem dX4_value_2 : decode cX4_value 2 = .ok (.aload_n 0, 1) := by decide +kernel
theorem dX4_value_3 : decode cX4_value 3 = .ok (.getfield 17, 3) := by decide +kernel
theorem dX4_value_6 : decode cX4_value 6 = .ok (.iconst 1, 1) := by decide +kernel
theorem dX4_value_7 : decode cX4_value 7 = .ok (.isub, 1) := by decide +kernel
theorem dX4_value_8 : decode cX4_value 8 = .ok (.istore 4, 2) := by decide +kernel
theorem dX4_value_10 : decode cX4_value 10 = .ok (.iload 4, 2) := by decide +kernel
theorem dX4_value_12 : decode cX4_value 12 = .ok (.ifCond .lt 68, 3) := by decide +kernel
theorem dX4_value_15 : decode cX4_value 15 = .ok (.iconst 0, 1) := by decide +kernel
theorem dX4_value_16 : decode cX4_value 16 = .ok (.istore 5, 2) := by decide +kernel
theorem dX4_value_18 : decode cX4_value 18 = .ok (.aload_n 0, 1) := by decide +kernel
theorem dX4_value_19 : decode cX4_value 19 = .ok (.getfield 20, 3) := by decide +kernel
theorem dX4_value_22 : decode cX4_value 22 = .ok (.iconst 1, 1) := by decide +kernel
theorem dX4_value_23 : decode cX4_value 23 = .ok (.isub, 1) := by decide +kernel
theorem dX4_value_24 : decode cX4_value 24 = .ok (.istore 6, 2) := by decide +kernel
theorem dX4_value_26 : decode cX4_value 26 = .ok (.iload 6, 2) := by decide +kernel
theorem dX4_value_28 : decode cX4_value 28 = .ok (.ifCond .lt 35, 3) := by decide +kernel
theorem dX4_value_31 : decode cX4_value 31 = .ok (.iload 5, 2) := by decide +kernel
theorem dX4_value_33 : decode cX4_value 33 = .ok (.iload_n 1, 1) := by decide +kernel
theorem dX4_value_34 : decode cX4_value 34 = .ok (.invokestatic 51, 3) := by decide +kernel
theorem dX4_value_37 : decode cX4_value 37 = .ok (.aload_n 0, 1) := by decide +kernel
theorem dX4_value_38 : decode cX4_value 38 = .ok (.getfield 13, 3) := by decide +kernel
theorem dX4_value_41 : decode cX4_value 41 = .ok (.iload 4, 2) := by decide +kernel
theorem dX4_value_43 : decode cX4_value 43 = .ok (.aload_n 0, 1) := by decide +kernel
theorem dX4_value_44 : decode cX4_value 44 = .ok (.getfield 7, 3) := by decide +kernel
theorem dX4_value_47 : decode cX4_value 47 = .ok (.imul, 1) := by decide +kernel
theorem dX4_value_48 : decode cX4_value 48 = .ok (.iload 6, 2) := by decide +kernel
theorem dX4_value_50 : decode cX4_value 50 = .ok (.iadd, 1) := by decide +kernel
theorem dX4_value_51 : decode cX4_value 51 = .ok (.iaload, 1) := by decide +kernel
theorem dX4_value_52 : decode cX4_value 52 = .ok (.invokestatic 60, 3) := by decide +kernel
theorem dX4_value_55 : decode cX4_value 55 = .ok (.istore 5, 2) := by decide +kernel
theorem dX4_value_57 : decode cX4_value 57 = .ok (.iinc 6 (-1), 3) := by decide +kernel
theorem dX4_value_60 : decode cX4_value 60 = .ok (.goto (-34), 3) := by decide +kernel
theorem dX4_value_63 : decode cX4_value 63 = .ok (.iload_n 3, 1) := by decide +kernel
theorem dX4_value_64 : decode cX4_value 64 = .ok (.iload_n 2, 1) := by decide +kernel
theorem dX4_value_65 : decode cX4_value 65 = .ok (.invokestatic 51, 3) := by decide +kernel
theorem dX4_value_68 : decode cX4_value 68 = .ok (.iload 5, 2) := by decide +kernel
theorem dX4_value_70 : decode cX4_value 70 = .ok (.invokestatic 60, 3) := by decide +kernel
theorem dX4_value_73 : decode cX4_value 73 = .ok (.istore_n 3, 1) := by decide +kernel
theorem dX4_value_74 : decode cX4_value 74 = .ok (.iinc 4 (-1), 3) := by decide +kernel
theorem dX4_value_77 : decode cX4_value 77 = .ok (.goto (-67), 3) := by decide +kernel
theorem dX4_value_80 : decode cX4_value 80 = .ok (.iload_n 3, 1) := by decide +kernel
theorem dX4_value_81 : decode cX4_value 81 = .ok (.ireturn, 1) := by decide +kernel
theorem dX4_shiftN_0 : decode cX4_shiftN 0 = .ok (.iconst 0, 1) := by decide +kernel
theorem dX4_shiftN_1 : decode cX4_shiftN 1 = .ok (.istore_n 2, 1) := by decide +kernel
theorem dX4_shiftN_2 : decode cX4_shiftN 2 = .ok (.iload_n 2, 1) := by decide +kernel
theorem dX4_shiftN_3 : decode cX4_shiftN 3 = .ok (.aload_n 0, 1) := by decide +kernel
theorem dX4_shiftN_4 : decode cX4_shiftN 4 = .ok (.getfield 17, 3) := by decide +kernel
theorem dX4_shiftN_7 : decode cX4_shiftN 7 = .ok (.if_icmp .ge 100, 3) := by decide +kernel
theorem dX4_shiftN_10 : decode cX4_shiftN 10 = .ok (.iload_n 1, 1) := by decide +kernel
theorem dX4_shiftN_11 : decode cX4_shiftN 11 = .ok (.ifCond .eq 96, 3) := by decide +kernel
theorem dX4_shiftN_14 : decode cX4_shiftN 14 = .ok (.iconst 0, 1) := by decide +kernel
theorem dX4_shiftN_15 : decode cX4_shiftN 15 = .ok (.istore_n 3, 1) := by decide +kernel
theorem dX4_shiftN_16 : decode cX4_shiftN 16 = .ok (.iload_n 3, 1) := by decide +kernel
theorem dX4_shiftN_17 : decode cX4_shiftN 17 = .ok (.aload_n 0, 1) := by decide +kernel
theorem dX4_shiftN_18 : decode cX4_shiftN 18 = .ok (.getfield 20, 3) := by decide +kernel
theorem dX4_shiftN_21 : decode cX4_shiftN 21 = .ok (.if_icmp .ge 80, 3) := by decide +kernel
theorem dX4_shiftN_24 : decode cX4_shiftN 24 = .ok (.aload_n 0, 1) := by decide +kernel
theorem dX4_shiftN_25 : decode cX4_shiftN 25 = .ok (.getfield 20, 3) := by decide +kernel
theorem dX4_shiftN_28 : decode cX4_shiftN 28 = .ok (.iconst 2, 1) := by decide +kernel
theorem dX4_shiftN_29 : decode cX4_shiftN 29 = .ok (.isub, 1) := by decide +kernel
theorem dX4_shiftN_30 : decode cX4_shiftN 30 = .ok (.istore 4, 2) := by decide +kernel
theorem dX4_shiftN_32 : decode cX4_shiftN 32 = .ok (.iload 4, 2) := by decide +kernel
theorem dX4_shiftN_34 : decode cX4_shiftN 34 = .ok (.iload_n 3, 1) := by decide +kernel
theorem dX4_shiftN_35 : decode cX4_shiftN 35 = .ok (.if_icmp .lt 60, 3) := by decide +kernel
theorem dX4_shiftN_38 : decode cX4_shiftN 38 = .ok (.aload_n 0, 1) := by decide +kernel
theorem dX4_shiftN_39 : decode cX4_shiftN 39 = .ok (.getfield 13, 3) := by decide +kernel
theorem dX4_shiftN_42 : decode cX4_shiftN 42 = .ok (.iload_n 2, 1) := by decide +kernel
theorem dX4_shiftN_43 : decode cX4_shiftN 43 = .ok (.aload_n 0, 1) := by decide +kernel
theorem dX4_shiftN_44 : decode cX4_shiftN 44 = .ok (.getfield 7, 3) := by decide +kernel
theorem dX4_shiftN_47 : decode cX4_shiftN 47 = .ok (.imul, 1) := by decide +kernel
theorem dX4_shiftN_48 : decode cX4_shiftN 48 = .ok (.iload 4, 2) := by decide +kernel
theorem dX4_shiftN_50 : decode cX4_shiftN 50 = .ok (.iadd, 1) := by decide +kernel
theorem dX4_shiftN_51 : decode cX4_shiftN 51 = .ok (.aload_n 0, 1) := by decide +kernel
theorem dX4_shiftN_52 : decode cX4_shiftN 52 = .ok (.getfield 13, 3) := by decide +kernel
theorem dX4_shiftN_55 : decode cX4_shiftN 55 = .ok (.iload_n 2, 1) := by decide +kernel
theorem dX4_shiftN_56 : decode cX4_shiftN 56 = .ok (.aload_n 0, 1) := by decide +kernel
theorem dX4_shiftN_57 : decode cX4_shiftN 57 = .ok (.getfield 7, 3) := by decide +kernel
theorem dX4_shiftN_60 : decode cX4_shiftN 60 = .ok (.imul, 1) := by decide +kernel
theorem dX4_shiftN_61 : decode cX4_shiftN 61 = .ok (.iload 4, 2) := by decide +kernel
theorem dX4_shiftN_63 : decode cX4_shiftN 63 = .ok (.iadd, 1) := by decide +kernel
theorem dX4_shiftN_64 : decode cX4_shiftN 64 = .ok (.iaload, 1) := by decide +kernel
theorem dX4_shiftN_65 : decode cX4_shiftN 65 = .ok (.aload_n 0, 1) := by decide +kernel
theorem dX4_shiftN_66 : decode cX4_shiftN 66 = .ok (.getfield 13, 3) := by decide +kernel
theorem dX4_shiftN_69 : decode cX4_shiftN 69 = .ok (.iload_n 2, 1) := by decide +kernel
theorem dX4_shiftN_70 : decode cX4_shiftN 70 = .ok (.aload_n 0, 1) := by decide +kernel
theorem dX4_shiftN_71 : decode cX4_shiftN 71 = .ok (.getfield 7, 3) := by decide +kernel
theorem dX4_shiftN_74 : decode cX4_shiftN 74 = .ok (.imul, 1) := by decide +kernel
theorem dX4_shiftN_75 : decode cX4_shiftN 75 = .ok (.iload 4, 2) := by decide +kernel
theorem dX4_shiftN_77 : decode cX4_shiftN 77 = .ok (.iadd, 1) := by decide +kernel
theorem dX4_shiftN_78 : decode cX4_shiftN 78 = .ok (.iconst 1, 1) := by decide +kernel
theorem dX4_shiftN_79 : decode cX4_shiftN 79 = .ok (.iadd, 1) := by decide +kernel
theorem dX4_shiftN_80 : decode cX4_shiftN 80 = .ok (.iaload, 1) := by decide +kernel
theorem dX4_shiftN_81 : decode cX4_shiftN 81 = .ok (.iload_n 1, 1) := by decide +kernel
theorem dX4_shiftN_82 : decode cX4_shiftN 82 = .ok (.invokestatic 51, 3) := by decide +kernel
theorem dX4_shiftN_85 : decode cX4_shiftN 85 = .ok (.invokestatic 60, 3) := by decide +kernel
theorem dX4_shiftN_88 : decode cX4_shiftN 88 = .ok (.iastore, 1) := by decide +kernel
theorem dX4_shiftN_89 : decode cX4_shiftN 89 = .ok (.iinc 4 (-1), 3) := by decide +kernel
theorem dX4_shiftN_92 : decode cX4_shiftN 92 = .ok (.goto (-60), 3) := by decide +kernel
theorem dX4_shiftN_95 : decode cX4_shiftN 95 = .ok (.iinc 3 1, 3) := by decide +kernel
theorem dX4_shiftN_98 : decode cX4_shiftN 98 = .ok (.goto (-82), 3) := by decide +kernel
theorem dX4_shiftN_101 : decode cX4_shiftN 101 = .ok (.iinc 2 1, 3) := by decide +kernel
theorem dX4_shiftN_104 : decode cX4_shiftN 104 = .ok (.goto (-102), 3) := by decide +kernel
theorem dX4_shiftN_107 : decode cX4_shiftN 107 = .ok (.aload_n 0, 1) := by decide +kernel
theorem dX4_shiftN_108 : decode cX4_shiftN 108 = .ok (.invokevirtual 31, 3) := by decide +kernel
theorem dX4_shiftN_111 : decode cX4_shiftN 111 = .ok (.return_, 1) := by decide +kernel
theorem dX4_shiftK_0 : decode cX4_shiftK 0 = .ok (.iconst 0, 1) := by decide +kernel
theorem dX4_shiftK_1 : decode cX4_shiftK 1 = .ok (.istore_n 2, 1) := by decide +kernel
theorem dX4_shiftK_2 : decode cX4_shiftK 2 = .ok (.iload_n 2, 1) := by decide +kernel
theorem dX4_shiftK_3 : decode cX4_shiftK 3 = .ok (.aload_n 0, 1) := by decide +kernel
theorem dX4_shiftK_4 : decode cX4_shiftK 4 = .ok (.getfield 17, 3) := by decide +kernel
theorem dX4_shiftK_7 : decode cX4_shiftK 7 = .ok (.if_icmp .ge 100, 3) := by decide +kernel
theorem dX4_shiftK_10 : decode cX4_shiftK 10 = .ok (.iload_n 1, 1) := by decide +kernel
theorem dX4_shiftK_11 : decode cX4_shiftK 11 = .ok (.ifCond .eq 96, 3) := by decide +kernel
theorem dX4_shiftK_14 : decode cX4_shiftK 14 = .ok (.aload_n 0, 1) := by decide +kernel
theorem dX4_shiftK_15 : decode cX4_shiftK 15 = .ok (.getfield 17, 3) := by decide +kernel
theorem dX4_shiftK_18 : decode cX4_shiftK 18 = .ok (.iconst 2, 1) := by decide +kernel
theorem dX4_shiftK_19 : decode cX4_shiftK 19 = .ok (.isub, 1) := by decide +kernel
theorem dX4_shiftK_20 : decode cX4_shiftK 20 = .ok (.istore_n 3, 1) := by decide +kernel
theorem dX4_shiftK_21 : decode cX4_shiftK 21 = .ok (.iload_n 3, 1) := by decide +kernel
theorem dX4_shiftK_22 : decode cX4_shiftK 22 = .ok (.iload_n 2, 1) := by decide +kernel
theorem dX4_shiftK_23 : decode cX4_shiftK 23 = .ok (.if_icmp .lt 78, 3) := by decide +kernel
theorem dX4_shiftK_26 : decode cX4_shiftK 26 = .ok (.iconst 0, 1) := by decide +kernel
theorem dX4_shiftK_27 : decode cX4_shiftK 27 = .ok (.istore 4, 2) := by decide +kernel
theorem dX4_shiftK_29 : decode cX4_shiftK 29 = .ok (.iload 4, 2) := by decide +kernel
theorem dX4_shiftK_31 : decode cX4_shiftK 31 = .ok (.aload_n 0, 1) := by decide +kernel
theorem dX4_shiftK_32 : decode cX4_shiftK 32 = .ok (.getfield 20, 3) := by decide +kernel
theorem dX4_shiftK_35 : decode cX4_shiftK 35 = .ok (.if_icmp .ge 60, 3) := by decide +kernel
theorem dX4_shiftK_38 : decode cX4_shiftK 38 = .ok (.aload_n 0, 1) := by decide +kernel
theorem dX4_shiftK_39 : decode cX4_shiftK 39 = .ok (.getfield 13, 3) := by decide +kernel
theorem dX4_shiftK_42 : decode cX4_shiftK 42 = .ok (.iload_n 3, 1) := by decide +kernel
theorem dX4_shiftK_43 : decode cX4_shiftK 43 = .ok (.aload_n 0, 1) := by decide +kernel
theorem dX4_shiftK_44 : decode cX4_shiftK 44 = .ok (.getfield 7, 3) := by decide +kernel
theorem dX4_shiftK_47 : decode cX4_shiftK 47 = .ok (.imul, 1) := by decide +kernel
theorem dX4_shiftK_48 : decode cX4_shiftK 48 = .ok (.iload 4, 2) := by decide +kernel
theorem dX4_shiftK_50 : decode cX4_shiftK 50 = .ok (.iadd, 1) := by decide +kernel
theorem dX4_shiftK_51 : decode cX4_shiftK 51 = .ok (.aload_n 0, 1) := by decide +kernel
theorem dX4_shiftK_52 : decode cX4_shiftK 52 = .ok (.getfield 13, 3) := by decide +kernel
theorem dX4_shiftK_55 : decode cX4_shiftK 55 = .ok (.iload_n 3, 1) := by decide +kernel
theorem dX4_shiftK_56 : decode cX4_shiftK 56 = .ok (.aload_n 0, 1) := by decide +kernel
theorem dX4_shiftK_57 : decode cX4_shiftK 57 = .ok (.getfield 7, 3) := by decide +kernel
theorem dX4_shiftK_60 : decode cX4_shiftK 60 = .ok (.imul, 1) := by decide +kernel
theorem dX4_shiftK_61 : decode cX4_shiftK 61 = .ok (.iload 4, 2) := by decide +kernel
theorem dX4_shiftK_63 : decode cX4_shiftK 63 = .ok (.iadd, 1) := by decide +kernel
theorem dX4_shiftK_64 : decode cX4_shiftK 64 = .ok (.iaload, 1) := by decide +kernel
theorem dX4_shiftK_65 : decode cX4_shiftK 65 = .ok (.aload_n 0, 1) := by decide +kernel
theorem dX4_shiftK_66 : decode cX4_shiftK 66 = .ok (.getfield 13, 3) := by decide +kernel
theorem dX4_shiftK_69 : decode cX4_shiftK 69 = .ok (.iload_n 3, 1) := by decide +kernel
theorem dX4_shiftK_70 : decode cX4_shiftK 70 = .ok (.iconst 1, 1) := by decide +kernel
theorem dX4_shiftK_71 : decode cX4_shiftK 71 = .ok (.iadd, 1) := by decide +kernel
theorem dX4_shiftK_72 : decode cX4_shiftK 72 = .ok (.aload_n 0, 1) := by decide +kernel
theorem dX4_shiftK_73 : decode cX4_shiftK 73 = .ok (.getfield 7, 3) := by decide +kernel
theorem dX4_shiftK_76 : decode cX4_shiftK 76 = .ok (.imul, 1) := by decide +kernel
theorem dX4_shiftK_77 : decode cX4_shiftK 77 = .ok (.iload 4, 2) := by decide +kernel
theorem dX4_shiftK_79 : decode cX4_shiftK 79 = .ok (.iadd, 1) := by decide +kernel
theorem dX4_shiftK_80 : decode cX4_shiftK 80 = .ok (.iaload, 1) := by decide +kernel
theorem dX4_shiftK_81 : decode cX4_shiftK 81 = .ok (.iload_n 1, 1) := by decide +kernel
theorem dX4_shiftK_82 : decode cX4_shiftK 82 = .ok (.invokestatic 51, 3) := by decide +kernel
theorem dX4_shiftK_85 : decode cX4_shiftK 85 = .ok (.invokestatic 60, 3) := by decide +kernel
theorem dX4_shiftK_88 : decode cX4_shiftK 88 = .ok (.iastore, 1) := by decide +kernel
theorem dX4_shiftK_89 : decode cX4_shiftK 89 = .ok (.iinc 4 1, 3) := by decide +kernel
theorem dX4_shiftK_92 : decode cX4_shiftK 92 = .ok (.goto (-63), 3) := by decide +kernel
theorem dX4_shiftK_95 : decode cX4_shiftK 95 = .ok (.iinc 3 (-1), 3) := by decide +kernel
theorem dX4_shiftK_98 : decode cX4_shiftK 98 = .ok (.goto (-77), 3) := by decide +kernel
theorem dX4_shiftK_101 : decode cX4_shiftK 101 = .ok (.iinc 2 1, 3) := by decide +kernel
theorem dX4_shiftK_104 : decode cX4_shiftK 104 = .ok (.goto (-102), 3) := by decide +kernel
theorem dX4_shiftK_107 : decode cX4_shiftK 107 = .ok (.aload_n 0, 1) := by decide +kernel
theorem dX4_shiftK_108 : decode cX4_shiftK 108 = .ok (.invokevirtual 31, 3) := by decide +kernel
theorem dX4_shiftK_111 : decode cX4_shiftK 111 = .ok (.return_, 1) := by decide +kernel
theorem dX4_turn_0 : decode cX4_turn 0 = .ok (.aload_n 0, 1) := by decide +kernel
theorem dX4_turn_1 : decode cX4_turn 1 = .ok (.aload_n 1, 1) := by decide +kernel
theorem dX4_turn_2 : decode cX4_turn 2 = .ok (.getfield 17, 3) := by decide +kernel
theorem dX4_turn_5 : decode cX4_turn 5 = .ok (.aload_n 1, 1) := by decide +kernel
theorem dX4_turn_6 : decode cX4_turn 6 = .ok (.getfield 20, 3) := by decide +kernel
theorem dX4_turn_9 : decode cX4_turn 9 = .ok (.invokevirtual 27, 3) := by decide +kernel
theorem dX4_turn_12 : decode cX4_turn 12 = .ok (.iconst 0, 1) := by decide +kernel
theorem dX4_turn_13 : decode cX4_turn 13 = .ok (.istore_n 2, 1) := by decide +kernel
theorem dX4_turn_14 : decode cX4_turn 14 = .ok (.iload_n 2, 1) := by decide +kernel
theorem dX4_turn_15 : decode cX4_turn 15 = .ok (.aload_n 1, 1) := by decide +kernel
theorem dX4_turn_16 : decode cX4_turn 16 = .ok (.getfield 17, 3) := by decide +kernel
theorem dX4_turn_19 : decode cX4_turn 19 = .ok (.if_icmp .ge 51, 3) := by decide +kernel
theorem dX4_turn_22 : decode cX4_turn 22 = .ok (.iconst 0, 1) := by decide +kernel
theorem dX4_turn_23 : decode cX4_turn 23 = .ok (.istore_n 3, 1) := by decide +kernel
theorem dX4_turn_24 : decode cX4_turn 24 = .ok (.iload_n 3, 1) := by decide +kernel
theorem dX4_turn_25 : decode cX4_turn 25 = .ok (.aload_n 1, 1) := by decide +kernel
theorem dX4_turn_26 : decode cX4_turn 26 = .ok (.getfield 20, 3) := by decide +kernel
theorem dX4_turn_29 : decode cX4_turn 29 = .ok (.if_icmp .ge 35, 3) := by decide +kernel
theorem dX4_turn_32 : decode cX4_turn 32 = .ok (.aload_n 0, 1) := by decide +kernel
theorem dX4_turn_33 : decode cX4_turn 33 = .ok (.getfield 13, 3) := by decide +kernel
theorem dX4_turn_36 : decode cX4_turn 36 = .ok (.iload_n 3, 1) := by decide +kernel
theorem dX4_turn_37 : decode cX4_turn 37 = .ok (.aload_n 0, 1) := by decide +kernel
theorem dX4_turn_38 : decode cX4_turn 38 = .ok (.getfield 7, 3) := by decide +kernel
theorem dX4_turn_41 : decode cX4_turn 41 = .ok (.imul, 1) := by decide +kernel
theorem dX4_turn_42 : decode cX4_turn 42 = .ok (.iload_n 2, 1) := by decide +kernel
theorem dX4_turn_43 : decode cX4_turn 43 = .ok (.iadd, 1) := by decide +kernel
theorem dX4_turn_44 : decode cX4_turn 44 = .ok (.aload_n 1, 1) := by decide +kernel
theorem dX4_turn_45 : decode cX4_turn 45 = .ok (.getfield 13, 3) := by decide +kernel
theorem dX4_turn_48 : decode cX4_turn 48 = .ok (.iload_n 2, 1) := by decide +kernel
theorem dX4_turn_49 : decode cX4_turn 49 = .ok (.aload_n 1, 1) := by decide +kernel
theorem dX4_turn_50 : decode cX4_turn 50 = .ok (.getfield 7, 3) := by decide +kernel
theorem dX4_turn_53 : decode cX4_turn 53 = .ok (.imul, 1) := by decide +kernel
theorem dX4_turn_54 : decode cX4_turn 54 = .ok (.iload_n 3, 1) := by decide +kernel
theorem dX4_turn_55 : decode cX4_turn 55 = .ok (.iadd, 1) := by decide +kernel
theorem dX4_turn_56 : decode cX4_turn 56 = .ok (.iaload, 1) := by decide +kernel
theorem dX4_turn_57 : decode cX4_turn 57 = .ok (.iastore, 1) := by decide +kernel
theorem dX4_turn_58 : decode cX4_turn 58 = .ok (.iinc 3 1, 3) := by decide +kernel
theorem dX4_turn_61 : decode cX4_turn 61 = .ok (.goto (-37), 3) := by decide +kernel
theorem dX4_turn_64 : decode cX4_turn 64 = .ok (.iinc 2 1, 3) := by decide +kernel
theorem dX4_turn_67 : decode cX4_turn 67 = .ok (.goto (-53), 3) := by decide +kernel
theorem dX4_turn_70 : decode cX4_turn 70 = .ok (.return_, 1) := by decide +kernel
abbrev W_X4_set (g : GX) (d : Nat) (av : List Value) (Q : QT) (n : Nat) (pc : Nat) (ls : LV) (stk : List Value) (h : Hp) : Prop := RJ g m_X4_set (d + 1) 0 0 av Q pc ls stk n h 0 0
theorem s_X4_set_0 {g : GX} {d : Nat} {av : List Value} {Q : QT} {n : Nat} {h : Hp} {a0 : Nat} {x1 : Int32} (hp : g.2.2.2.2 = true) (t0 : lay a0 = (0, 4, 4)) (H : CallV g m_X4_open d [.ref a0, .int (1 : Int32), .int (1 : Int32)] n h (fun h1 => (vp_in (0 : Int32) (rm (a0 + 1)) ∧ ∀ h2, h2 = wi h1 (a0 + 1) ((0 : Int32)).toNatClampNeg x1 → (CallV g m_X4_trim d [.ref a0] n h2 (fun h3 => (Q none n h3)))))) : W_X4_set g d av Q n 0 [some (.ref a0), some (.int x1)] [] h := by
  refine r_aload_n dX4_set_0 rfl rfl ?_
  refine r_iconst (v := (1 : Int32)) dX4_set_1 rfl ?_
  refine r_iconst (v := (1 : Int32)) dX4_set_2 rfl ?_
  refine k_VV (As := [.int (1 : Int32), .int (1 : Int32)]) (stk := []) hp cv_X4_27 dX4_set_3 rfl (Nat.le_of_ble_eq_true rfl) t0 (H.mono (fun h1 H => ?_)) ⟨Nat.le_refl _, Nat.le_refl _⟩
  refine r_aload_n dX4_set_6 rfl rfl ?_
  refine m_getF (x := (a0 + 1)) hp fw_X4_13 dX4_set_7 rfl t0 (ff_4_1 t0) ?_
  refine r_iconst (v := (0 : Int32)) dX4_set_10 rfl ?_
  refine r_iload_n dX4_set_11 rfl rfl ?_
  refine m_iast hp dX4_set_12 (lf_4_1 t0) H.1 (fun h2 eh2 => ?_)
  replace H := H.2 h2 eh2
  refine r_aload_n dX4_set_13 rfl rfl ?_
  refine k_VV (As := []) (stk := []) hp cv_X4_31 dX4_set_14 rfl (Nat.le_of_ble_eq_true rfl) t0 (H.mono (fun h3 H => ?_)) ⟨Nat.le_refl _, Nat.le_refl _⟩
  exact r_vret dX4_set_17 rfl (Nat.le_refl _) (Nat.le_refl _) H
abbrev W_X4_open (g : GX) (d : Nat) (av : List Value) (Q : QT) (n : Nat) (pc : Nat) (ls : LV) (stk : List Value) (h : Hp) : Prop := RJ g m_X4_open d 0 0 av Q pc ls stk n h 0 0
theorem s_X4_open_0 {g : GX} {d : Nat} {av : List Value} {Q : QT} {n : Nat} {h : Hp} {a0 : Nat} {x1 : Int32} {x2 : Int32} (hp : g.2.2.2.2 = true) (t0 : lay a0 = (0, 4, 4)) (H : ∀ h1, h1 = wi h a0 2 x1 → (∀ h2, h2 = wi h1 a0 3 x2 → (W_X4_open g d av Q n 12 [some (.ref a0), none, none, some (.int (0 : Int32)), none] [] h2))) : W_X4_open g d av Q n 0 [some (.ref a0), some (.int x1), some (.int x2), none, none] [] h := by
  refine r_aload_n dX4_open_0 rfl rfl ?_
  refine r_iload_n dX4_open_1 rfl rfl ?_
  refine m_putI hp fw_X4_20 dX4_open_2 rfl rfl t0 (fun h1 eh1 => ?_)
  replace H := H h1 eh1
  refine r_aload_n dX4_open_5 rfl rfl ?_
  refine r_iload_n dX4_open_6 rfl rfl ?_
  refine m_putI hp fw_X4_17 dX4_open_7 rfl rfl t0 (fun h2 eh2 => ?_)
  replace H := H h2 eh2
  refine r_iconst (v := (0 : Int32)) dX4_open_10 rfl ?_
  refine r_istore_n (ls2 := [some (.ref a0), some (.int x1), some (.int x2), some (.int (0 : Int32)), none]) dX4_open_11 rfl (by decide) rfl ?_
  refine r_prune [true, false, false, true, false] (ls2 := [some (.ref a0), none, none, some (.int (0 : Int32)), none]) rfl ?_
  exact H
theorem s_X4_open_12 {g : GX} {d : Nat} {av : List Value} {Q : QT} {n : Nat} {h : Hp} {a0 : Nat} {x3 : Int32} (hp : g.2.2.2.2 = true) (t0 : lay a0 = (0, 4, 4)) (H : (((ri h a0 3) ≤ x3) → (Q none n h)) ∧ ((¬ (ri h a0 3) ≤ x3) → (W_X4_open g d av Q n 23 [some (.ref a0), none, none, some (.int x3), some (.int (0 : Int32))] [] h))) : W_X4_open g d av Q n 12 [some (.ref a0), none, none, some (.int x3), none] [] h := by
  refine r_iload_n dX4_open_12 rfl rfl ?_
  refine r_aload_n dX4_open_13 rfl rfl ?_
  refine m_getI hp fw_X4_17 dX4_open_14 rfl t0 ?_
  refine r_icmp_ge (tgt := 59) dX4_open_17 rfl (fun cH => ?_) (fun cH => ?_)
  · replace H := H.1 cH
    exact r_vret dX4_open_59 rfl (Nat.le_refl _) (Nat.le_refl _) H
  · replace H := H.2 cH
    refine r_iconst (v := (0 : Int32)) dX4_open_20 rfl ?_
    refine r_istore (ls2 := [some (.ref a0), none, none, some (.int x3), some (.int (0 : Int32))]) dX4_open_21 (by decide) rfl ?_
    exact H
theorem s_X4_open_23 {g : GX} {d : Nat} {av : List Value} {Q : QT} {n : Nat} {h : Hp} {a0 : Nat} {x3 : Int32} {x4 : Int32} (hp : g.2.2.2.2 = true) (t0 : lay a0 = (0, 4, 4)) (H : (((ri h a0 2) ≤ x4) → (W_X4_open g d av Q n 12 [some (.ref a0), none, none, some (.int (x3 + (1 : Int32))), none] [] h)) ∧ ((¬ (ri h a0 2) ≤ x4) → (vp_in ((x3 * (ri h a0 0)) + x4) (rm (a0 + 1)) ∧ ∀ h1, h1 = wi h (a0 + 1) (((x3 * (ri h a0 0)) + x4)).toNatClampNeg (0 : Int32) → (W_X4_open g d av Q n 23 [some (.ref a0), none, none, some (.int x3), some (.int (x4 + (1 : Int32)))] [] h1)))) : W_X4_open g d av Q n 23 [some (.ref a0), none, none, some (.int x3), some (.int x4)] [] h := by
  refine r_iload dX4_open_23 rfl ?_
  refine r_aload_n dX4_open_25 rfl rfl ?_
  refine m_getI hp fw_X4_20 dX4_open_26 rfl t0 ?_
  refine r_icmp_ge (tgt := 53) dX4_open_29 rfl (fun cH => ?_) (fun cH => ?_)
  · replace H := H.1 cH
    refine r_iinc (v := (x3 + (1 : Int32))) (ls2 := [some (.ref a0), none, none, some (.int (x3 + (1 : Int32))), some (.int x4)]) dX4_open_53 rfl rfl (by decide) rfl ?_
    refine r_goto (tgt := 12) dX4_open_56 rfl ?_
    refine r_prune [true, false, false, true, false] (ls2 := [some (.ref a0), none, none, some (.int (x3 + (1 : Int32))), none]) rfl ?_
    exact H
  · replace H := H.2 cH
    refine r_aload_n dX4_open_32 rfl rfl ?_
    refine m_getF (x := (a0 + 1)) hp fw_X4_13 dX4_open_33 rfl t0 (ff_4_1 t0) ?_
    refine r_iload_n dX4_open_36 rfl rfl ?_
    refine r_aload_n dX4_open_37 rfl rfl ?_
    refine m_getI hp fw_X4_7 dX4_open_38 rfl t0 ?_
    refine r_imul dX4_open_41 ?_
    refine r_iload dX4_open_42 rfl ?_
    refine r_iadd dX4_open_44 ?_
    refine r_iconst (v := (0 : Int32)) dX4_open_45 rfl ?_
    refine m_iast hp dX4_open_46 (lf_4_1 t0) H.1 (fun h1 eh1 => ?_)
    replace H := H.2 h1 eh1
    refine r_iinc (v := (x4 + (1 : Int32))) (ls2 := [some (.ref a0), none, none, some (.int x3), some (.int (x4 + (1 : Int32)))]) dX4_open_47 rfl rfl (by decide) rfl ?_
    refine r_goto (tgt := 23) dX4_open_50 rfl ?_
    exact H
abbrev W_X4_trim (g : GX) (d : Nat) (av : List Value) (Q : QT) (n : Nat) (pc : Nat) (ls : LV) (stk : List Value) (h : Hp) : Prop := RJ g m_X4_trim (d + 1) 0 0 av Q pc ls stk n h 0 0
theorem s_X4_trim_0 {g : GX} {d : Nat} {av : List Value} {Q : QT} {n : Nat} {h : Hp} {a0 : Nat} (hp : g.2.2.2.2 = true) (t0 : lay a0 = (0, 4, 4)) (H : (((ri h a0 3) ≤ (0 : Int32)) → (W_X4_trim g d av Q n 33 [some (.ref a0), none, none] [] h)) ∧ ((¬ (ri h a0 3) ≤ (0 : Int32)) → (CallI g m_X4_isEmptyRow d [.ref a0, .int ((ri h a0 3) - (1 : Int32))] n h (fun v1 h1 => (((v1 = (0 : Int32)) → (W_X4_trim g d av Q n 33 [some (.ref a0), none, none] [] h1)) ∧ ((¬ v1 = (0 : Int32)) → (∀ h2, h2 = wi h1 a0 3 ((ri h1 a0 3) - (1 : Int32)) → (W_X4_trim g d av Q n 0 [some (.ref a0), none, none] [] h2)))))))) : W_X4_trim g d av Q n 0 [some (.ref a0), none, none] [] h := by
  refine r_aload_n dX4_trim_0 rfl rfl ?_
  refine m_getI hp fw_X4_17 dX4_trim_1 rfl t0 ?_
  refine r_if_le (tgt := 33) dX4_trim_4 rfl (fun cH => ?_) (fun cH => ?_)
  · replace H := H.1 cH
    exact H
  · replace H := H.2 cH
    refine r_aload_n dX4_trim_7 rfl rfl ?_
    refine r_aload_n dX4_trim_8 rfl rfl ?_
    refine m_getI hp fw_X4_17 dX4_trim_9 rfl t0 ?_
    refine r_iconst (v := (1 : Int32)) dX4_trim_12 rfl ?_
    refine r_isub dX4_trim_13 ?_
    refine k_VI (As := [.int ((ri h a0 3) - (1 : Int32))]) (stk := []) hp cv_X4_23 dX4_trim_14 rfl (Nat.le_of_ble_eq_true rfl) t0 (H.mono (fun v1 h1 H => ?_)) ⟨Nat.le_refl _, Nat.le_refl _⟩
    refine r_if_eq (tgt := 33) dX4_trim_17 rfl (fun cH => ?_) (fun cH => ?_)
    · replace H := H.1 cH
      exact H
    · replace H := H.2 cH
      refine r_aload_n dX4_trim_20 rfl rfl ?_
      refine r_dup dX4_trim_21 rfl ?_
      refine m_getI hp fw_X4_17 dX4_trim_22 rfl t0 ?_
      refine r_iconst (v := (1 : Int32)) dX4_trim_25 rfl ?_
      refine r_isub dX4_trim_26 ?_
      refine m_putI hp fw_X4_17 dX4_trim_27 rfl rfl t0 (fun h2 eh2 => ?_)
      replace H := H h2 eh2
      refine r_goto (tgt := 0) dX4_trim_30 rfl ?_
      exact H
theorem s_X4_trim_33 {g : GX} {d : Nat} {av : List Value} {Q : QT} {n : Nat} {h : Hp} {a0 : Nat} (hp : g.2.2.2.2 = true) (t0 : lay a0 = (0, 4, 4)) (H : W_X4_trim g d av Q n 35 [some (.ref a0), some (.int (1 : Int32)), none] [] h) : W_X4_trim g d av Q n 33 [some (.ref a0), none, none] [] h := by
  refine r_iconst (v := (1 : Int32)) dX4_trim_33 rfl ?_
  refine r_istore_n (ls2 := [some (.ref a0), some (.int (1 : Int32)), none]) dX4_trim_34 rfl (by decide) rfl ?_
  exact H
theorem s_X4_trim_35 {g : GX} {d : Nat} {av : List Value} {Q : QT} {n : Nat} {h : Hp} {a0 : Nat} {x1 : Int32} (hp : g.2.2.2.2 = true) (t0 : lay a0 = (0, 4, 4)) (H : (((ri h a0 2) ≤ (0 : Int32)) → (W_X4_trim g d av Q n 114 [some (.ref a0), none, none] [] h)) ∧ ((¬ (ri h a0 2) ≤ (0 : Int32)) → (((x1 = (0 : Int32)) → (W_X4_trim g d av Q n 114 [some (.ref a0), none, none] [] h)) ∧ ((¬ x1 = (0 : Int32)) → (W_X4_trim g d av Q n 48 [some (.ref a0), some (.int x1), some (.int (0 : Int32))] [] h))))) : W_X4_trim g d av Q n 35 [some (.ref a0), some (.int x1), none] [] h := by
  refine r_aload_n dX4_trim_35 rfl rfl ?_
  refine m_getI hp fw_X4_20 dX4_trim_36 rfl t0 ?_
  refine r_if_le (tgt := 114) dX4_trim_39 rfl (fun cH => ?_) (fun cH => ?_)
  · replace H := H.1 cH
    refine r_prune [true, false, false] (ls2 := [some (.ref a0), none, none]) rfl ?_
    exact H
  · replace H := H.2 cH
    refine r_iload_n dX4_trim_42 rfl rfl ?_
    refine r_if_eq (tgt := 114) dX4_trim_43 rfl (fun cH => ?_) (fun cH => ?_)
    · replace H := H.1 cH
      refine r_prune [true, false, false] (ls2 := [some (.ref a0), none, none]) rfl ?_
      exact H
    · replace H := H.2 cH
      refine r_iconst (v := (0 : Int32)) dX4_trim_46 rfl ?_
      refine r_istore_n (ls2 := [some (.ref a0), some (.int x1), some (.int (0 : Int32))]) dX4_trim_47 rfl (by decide) rfl ?_
      exact H
theorem s_X4_trim_48 {g : GX} {d : Nat} {av : List Value} {Q : QT} {n : Nat} {h : Hp} {a0 : Nat} {x1 : Int32} {x2 : Int32} (hp : g.2.2.2.2 = true) (t0 : lay a0 = (0, 4, 4)) (H : (((ri h a0 3) ≤ x2) → (W_X4_trim g d av Q n 93 [some (.ref a0), some (.int x1), none] [] h)) ∧ ((¬ (ri h a0 3) ≤ x2) → (((x1 = (0 : Int32)) → (W_X4_trim g d av Q n 93 [some (.ref a0), some (.int x1), none] [] h)) ∧ ((¬ x1 = (0 : Int32)) → (vp_in (((x2 * (ri h a0 0)) + (ri h a0 2)) - (1 : Int32)) (rm (a0 + 1)) ∧ (((¬ (ri h (a0 + 1) ((((x2 * (ri h a0 0)) + (ri h a0 2)) - (1 : Int32))).toNatClampNeg) = (0 : Int32)) → (W_X4_trim g d av Q n 86 [some (.ref a0), none, some (.int x2)] [.int (0 : Int32)] h)) ∧ (((ri h (a0 + 1) ((((x2 * (ri h a0 0)) + (ri h a0 2)) - (1 : Int32))).toNatClampNeg) = (0 : Int32)) → (W_X4_trim g d av Q n 86 [some (.ref a0), none, some (.int x2)] [.int (1 : Int32)] h)))))))) : W_X4_trim g d av Q n 48 [some (.ref a0), some (.int x1), some (.int x2)] [] h := by
  refine r_iload_n dX4_trim_48 rfl rfl ?_
  refine r_aload_n dX4_trim_49 rfl rfl ?_
  refine m_getI hp fw_X4_17 dX4_trim_50 rfl t0 ?_
  refine r_icmp_ge (tgt := 93) dX4_trim_53 rfl (fun cH => ?_) (fun cH => ?_)
  · replace H := H.1 cH
    refine r_prune [true, true, false] (ls2 := [some (.ref a0), some (.int x1), none]) rfl ?_
    exact H
  · replace H := H.2 cH
    refine r_iload_n dX4_trim_56 rfl rfl ?_
    refine r_if_eq (tgt := 93) dX4_trim_57 rfl (fun cH => ?_) (fun cH => ?_)
    · replace H := H.1 cH
      refine r_prune [true, true, false] (ls2 := [some (.ref a0), some (.int x1), none]) rfl ?_
      exact H
    · replace H := H.2 cH
      refine r_aload_n dX4_trim_60 rfl rfl ?_
      refine m_getF (x := (a0 + 1)) hp fw_X4_13 dX4_trim_61 rfl t0 (ff_4_1 t0) ?_
      refine r_iload_n dX4_trim_64 rfl rfl ?_
      refine r_aload_n dX4_trim_65 rfl rfl ?_
      refine m_getI hp fw_X4_7 dX4_trim_66 rfl t0 ?_
      refine r_imul dX4_trim_69 ?_
      refine r_aload_n dX4_trim_70 rfl rfl ?_
      refine m_getI hp fw_X4_20 dX4_trim_71 rfl t0 ?_
      refine r_iadd dX4_trim_74 ?_
      refine r_iconst (v := (1 : Int32)) dX4_trim_75 rfl ?_
      refine r_isub dX4_trim_76 ?_
      refine m_iald hp dX4_trim_77 (lf_4_1 t0) H.1 ?_
      replace H := H.2
      refine r_if_ne (tgt := 85) dX4_trim_78 rfl (fun cH => ?_) (fun cH => ?_)
      · replace H := H.1 cH
        refine r_iconst (v := (0 : Int32)) dX4_trim_85 rfl ?_
        refine r_prune [true, false, true] (ls2 := [some (.ref a0), none, some (.int x2)]) rfl ?_
        exact H
      · replace H := H.2 cH
        refine r_iconst (v := (1 : Int32)) dX4_trim_81 rfl ?_
        refine r_goto (tgt := 86) dX4_trim_82 rfl ?_
        refine r_prune [true, false, true] (ls2 := [some (.ref a0), none, some (.int x2)]) rfl ?_
        exact H
theorem s_X4_trim_86 {g : GX} {d : Nat} {av : List Value} {Q : QT} {n : Nat} {h : Hp} {a0 : Nat} {x2 : Int32} {xs0 : Int32} (hp : g.2.2.2.2 = true) (t0 : lay a0 = (0, 4, 4)) (H : W_X4_trim g d av Q n 48 [some (.ref a0), some (.int xs0), some (.int (x2 + (1 : Int32)))] [] h) : W_X4_trim g d av Q n 86 [some (.ref a0), none, some (.int x2)] [.int xs0] h := by
  refine r_istore_n (ls2 := [some (.ref a0), some (.int xs0), some (.int x2)]) dX4_trim_86 rfl (by decide) rfl ?_
  refine r_iinc (v := (x2 + (1 : Int32))) (ls2 := [some (.ref a0), some (.int xs0), some (.int (x2 + (1 : Int32)))]) dX4_trim_87 rfl rfl (by decide) rfl ?_
  refine r_goto (tgt := 48) dX4_trim_90 rfl ?_
  exact H
theorem s_X4_trim_93 {g : GX} {d : Nat} {av : List Value} {Q : QT} {n : Nat} {h : Hp} {a0 : Nat} {x1 : Int32} (hp : g.2.2.2.2 = true) (t0 : lay a0 = (0, 4, 4)) (H : ((x1 = (0 : Int32)) → (W_X4_trim g d av Q n 107 [some (.ref a0), some (.int x1), none] [.int (0 : Int32), .int (ri h a0 2), .ref a0] h)) ∧ ((¬ x1 = (0 : Int32)) → (W_X4_trim g d av Q n 107 [some (.ref a0), some (.int x1), none] [.int (1 : Int32), .int (ri h a0 2), .ref a0] h))) : W_X4_trim g d av Q n 93 [some (.ref a0), some (.int x1), none] [] h := by
  refine r_aload_n dX4_trim_93 rfl rfl ?_
  refine r_dup dX4_trim_94 rfl ?_
  refine m_getI hp fw_X4_20 dX4_trim_95 rfl t0 ?_
  refine r_iload_n dX4_trim_98 rfl rfl ?_
  refine r_if_eq (tgt := 106) dX4_trim_99 rfl (fun cH => ?_) (fun cH => ?_)
  · replace H := H.1 cH
    refine r_iconst (v := (0 : Int32)) dX4_trim_106 rfl ?_
    exact H
  · replace H := H.2 cH
    refine r_iconst (v := (1 : Int32)) dX4_trim_102 rfl ?_
    refine r_goto (tgt := 107) dX4_trim_103 rfl ?_
    exact H
theorem s_X4_trim_107 {g : GX} {d : Nat} {av : List Value} {Q : QT} {n : Nat} {h : Hp} {a0 : Nat} {x1 : Int32} {xs0 : Int32} {xs1 : Int32} {as2 : Nat} (hp : g.2.2.2.2 = true) (t0 : lay a0 = (0, 4, 4)) (ts2 : lay as2 = (0, 4, 4)) (H : ∀ h1, h1 = wi h as2 2 (xs1 - xs0) → (W_X4_trim g d av Q n 35 [some (.ref a0), some (.int x1), none] [] h1)) : W_X4_trim g d av Q n 107 [some (.ref a0), some (.int x1), none] [.int xs0, .int xs1, .ref as2] h := by
  refine r_isub dX4_trim_107 ?_
  refine m_putI hp fw_X4_20 dX4_trim_108 rfl rfl ts2 (fun h1 eh1 => ?_)
  replace H := H h1 eh1
  refine r_goto (tgt := 35) dX4_trim_111 rfl ?_
  exact H
theorem s_X4_trim_114 {g : GX} {d : Nat} {av : List Value} {Q : QT} {n : Nat} {h : Hp} {a0 : Nat} (hp : g.2.2.2.2 = true) (t0 : lay a0 = (0, 4, 4)) (H : ((¬ (ri h a0 2) = (0 : Int32)) → (W_X4_trim g d av Q n 130 [none, none, none] [.int (ri h a0 3), .ref a0] h)) ∧ (((ri h a0 2) = (0 : Int32)) → (W_X4_trim g d av Q n 130 [none, none, none] [.int (0 : Int32), .ref a0] h))) : W_X4_trim g d av Q n 114 [some (.ref a0), none, none] [] h := by
  refine r_aload_n dX4_trim_114 rfl rfl ?_
  refine r_aload_n dX4_trim_115 rfl rfl ?_
  refine m_getI hp fw_X4_20 dX4_trim_116 rfl t0 ?_
  refine r_if_ne (tgt := 126) dX4_trim_119 rfl (fun cH => ?_) (fun cH => ?_)
  · replace H := H.1 cH
    refine r_aload_n dX4_trim_126 rfl rfl ?_
    refine m_getI hp fw_X4_17 dX4_trim_127 rfl t0 ?_
    refine r_prune [false, false, false] (ls2 := [none, none, none]) rfl ?_
    exact H
  · replace H := H.2 cH
    refine r_iconst (v := (0 : Int32)) dX4_trim_122 rfl ?_
    refine r_goto (tgt := 130) dX4_trim_123 rfl ?_
    refine r_prune [false, false, false] (ls2 := [none, none, none]) rfl ?_
    exact H
theorem s_X4_trim_130 {g : GX} {d : Nat} {av : List Value} {Q : QT} {n : Nat} {h : Hp} {xs0 : Int32} {as1 : Nat} (hp : g.2.2.2.2 = true) (ts1 : lay as1 = (0, 4, 4)) (H : ∀ h1, h1 = wi h as1 3 xs0 → (Q none n h1)) : W_X4_trim g d av Q n 130 [none, none, none] [.int xs0, .ref as1] h := by
  refine m_putI hp fw_X4_17 dX4_trim_130 rfl rfl ts1 (fun h1 eh1 => ?_)
  replace H := H h1 eh1
  exact r_vret dX4_trim_133 rfl (Nat.le_refl _) (Nat.le_refl _) H
abbrev W_X4_isEmptyRow (g : GX) (d : Nat) (av : List Value) (Q : QT) (n : Nat) (pc : Nat) (ls : LV) (stk : List Value) (h : Hp) : Prop := RJ g m_X4_isEmptyRow d 0 0 av Q pc ls stk n h 0 0
theorem s_X4_isEmptyRow_0 {g : GX} {d : Nat} {av : List Value} {Q : QT} {n : Nat} {h : Hp} {a0 : Nat} {x1 : Int32} (hp : g.2.2.2.2 = true) (t0 : lay a0 = (0, 4, 4)) (H : W_X4_isEmptyRow g d av Q n 2 [some (.ref a0), some (.int x1), some (.int (0 : Int32))] [] h) : W_X4_isEmptyRow g d av Q n 0 [some (.ref a0), some (.int x1), none] [] h := by
  refine r_iconst (v := (0 : Int32)) dX4_isEmptyRow_0 rfl ?_
  refine r_istore_n (ls2 := [some (.ref a0), some (.int x1), some (.int (0 : Int32))]) dX4_isEmptyRow_1 rfl (by decide) rfl ?_
  exact H
theorem s_X4_isEmptyRow_2 {g : GX} {d : Nat} {av : List Value} {Q : QT} {n : Nat} {h : Hp} {a0 : Nat} {x1 : Int32} {x2 : Int32} (hp : g.2.2.2.2 = true) (t0 : lay a0 = (0, 4, 4)) (H : (((ri h a0 2) ≤ x2) → (Q (some (.int (1 : Int32))) n h)) ∧ ((¬ (ri h a0 2) ≤ x2) → (vp_in ((x1 * (ri h a0 0)) + x2) (rm (a0 + 1)) ∧ ((((ri h (a0 + 1) (((x1 * (ri h a0 0)) + x2)).toNatClampNeg) = (0 : Int32)) → (W_X4_isEmptyRow g d av Q n 2 [some (.ref a0), some (.int x1), some (.int (x2 + (1 : Int32)))] [] h)) ∧ ((¬ (ri h (a0 + 1) (((x1 * (ri h a0 0)) + x2)).toNatClampNeg) = (0 : Int32)) → (Q (some (.int (0 : Int32))) n h)))))) : W_X4_isEmptyRow g d av Q n 2 [some (.ref a0), some (.int x1), some (.int x2)] [] h := by
  refine r_iload_n dX4_isEmptyRow_2 rfl rfl ?_
  refine r_aload_n dX4_isEmptyRow_3 rfl rfl ?_
  refine m_getI hp fw_X4_20 dX4_isEmptyRow_4 rfl t0 ?_
  refine r_icmp_ge (tgt := 34) dX4_isEmptyRow_7 rfl (fun cH => ?_) (fun cH => ?_)
  · replace H := H.1 cH
    refine r_iconst (v := (1 : Int32)) dX4_isEmptyRow_34 rfl ?_
    exact r_zret dX4_isEmptyRow_35 rfl rfl (Nat.le_refl _) (Nat.le_refl _) H
  · replace H := H.2 cH
    refine r_aload_n dX4_isEmptyRow_10 rfl rfl ?_
    refine m_getF (x := (a0 + 1)) hp fw_X4_13 dX4_isEmptyRow_11 rfl t0 (ff_4_1 t0) ?_
    refine r_iload_n dX4_isEmptyRow_14 rfl rfl ?_
    refine r_aload_n dX4_isEmptyRow_15 rfl rfl ?_
    refine m_getI hp fw_X4_7 dX4_isEmptyRow_16 rfl t0 ?_
    refine r_imul dX4_isEmptyRow_19 ?_
    refine r_iload_n dX4_isEmptyRow_20 rfl rfl ?_
    refine r_iadd dX4_isEmptyRow_21 ?_
    refine m_iald hp dX4_isEmptyRow_22 (lf_4_1 t0) H.1 ?_
    replace H := H.2
    refine r_if_eq (tgt := 28) dX4_isEmptyRow_23 rfl (fun cH => ?_) (fun cH => ?_)
    · replace H := H.1 cH
      refine r_iinc (v := (x2 + (1 : Int32))) (ls2 := [some (.ref a0), some (.int x1), some (.int (x2 + (1 : Int32)))]) dX4_isEmptyRow_28 rfl rfl (by decide) rfl ?_
      refine r_goto (tgt := 2) dX4_isEmptyRow_31 rfl ?_
      exact H
    · replace H := H.2 cH
      refine r_iconst (v := (0 : Int32)) dX4_isEmptyRow_26 rfl ?_
      exact r_zret dX4_isEmptyRow_27 rfl rfl (Nat.le_refl _) (Nat.le_refl _) H
abbrev W_X4_get (g : GX) (d : Nat) (av : List Value) (Q : QT) (n : Nat) (pc : Nat) (ls : LV) (stk : List Value) (h : Hp) : Prop := RJ g m_X4_get d 0 0 av Q pc ls stk n h 0 0
theorem s_X4_get_0 {g : GX} {d : Nat} {av : List Value} {Q : QT} {n : Nat} {h : Hp} {a0 : Nat} {x1 : Int32} {x2 : Int32} (hp : g.2.2.2.2 = true) (t0 : lay a0 = (0, 4, 4)) (H : ((x1 < (0 : Int32)) → (Q (some (.int (0 : Int32))) n h)) ∧ ((¬ x1 < (0 : Int32)) → ((((ri h a0 2) ≤ x1) → (Q (some (.int (0 : Int32))) n h)) ∧ ((¬ (ri h a0 2) ≤ x1) → (((x2 < (0 : Int32)) → (Q (some (.int (0 : Int32))) n h)) ∧ ((¬ x2 < (0 : Int32)) → ((((ri h a0 3) ≤ x2) → (Q (some (.int (0 : Int32))) n h)) ∧ ((¬ (ri h a0 3) ≤ x2) → (vp_in ((x2 * (ri h a0 0)) + x1) (rm (a0 + 1)) ∧ (Q (some (.int (ri h (a0 + 1) (((x2 * (ri h a0 0)) + x1)).toNatClampNeg))) n h)))))))))) : W_X4_get g d av Q n 0 [some (.ref a0), some (.int x1), some (.int x2)] [] h := by
  refine r_iload_n dX4_get_0 rfl rfl ?_
  refine r_if_lt (tgt := 40) dX4_get_1 rfl (fun cH => ?_) (fun cH => ?_)
  · replace H := H.1 cH
    refine r_iconst (v := (0 : Int32)) dX4_get_40 rfl ?_
    exact r_zret dX4_get_41 rfl rfl (Nat.le_refl _) (Nat.le_refl _) H
  · replace H := H.2 cH
    refine r_iload_n dX4_get_4 rfl rfl ?_
    refine r_aload_n dX4_get_5 rfl rfl ?_
    refine m_getI hp fw_X4_20 dX4_get_6 rfl t0 ?_
    refine r_icmp_ge (tgt := 40) dX4_get_9 rfl (fun cH => ?_) (fun cH => ?_)
    · replace H := H.1 cH
      refine r_iconst (v := (0 : Int32)) dX4_get_40 rfl ?_
      exact r_zret dX4_get_41 rfl rfl (Nat.le_refl _) (Nat.le_refl _) H
    · replace H := H.2 cH
      refine r_iload_n dX4_get_12 rfl rfl ?_
      refine r_if_lt (tgt := 40) dX4_get_13 rfl (fun cH => ?_) (fun cH => ?_)
      · replace H := H.1 cH
        refine r_iconst (v := (0 : Int32)) dX4_get_40 rfl ?_
        exact r_zret dX4_get_41 rfl rfl (Nat.le_refl _) (Nat.le_refl _) H
      · replace H := H.2 cH
        refine r_iload_n dX4_get_16 rfl rfl ?_
        refine r_aload_n dX4_get_17 rfl rfl ?_
        refine m_getI hp fw_X4_17 dX4_get_18 rfl t0 ?_
        refine r_icmp_ge (tgt := 40) dX4_get_21 rfl (fun cH => ?_) (fun cH => ?_)
        · replace H := H.1 cH
          refine r_iconst (v := (0 : Int32)) dX4_get_40 rfl ?_
          exact r_zret dX4_get_41 rfl rfl (Nat.le_refl _) (Nat.le_refl _) H
        · replace H := H.2 cH
          refine r_aload_n dX4_get_24 rfl rfl ?_
          refine m_getF (x := (a0 + 1)) hp fw_X4_13 dX4_get_25 rfl t0 (ff_4_1 t0) ?_
          refine r_iload_n dX4_get_28 rfl rfl ?_
          refine r_aload_n dX4_get_29 rfl rfl ?_
          refine m_getI hp fw_X4_7 dX4_get_30 rfl t0 ?_
          refine r_imul dX4_get_33 ?_
          refine r_iload_n dX4_get_34 rfl rfl ?_
          refine r_iadd dX4_get_35 ?_
          refine m_iald hp dX4_get_36 (lf_4_1 t0) H.1 ?_
          replace H := H.2
          refine r_goto (tgt := 41) dX4_get_37 rfl ?_
          exact r_zret dX4_get_41 rfl rfl (Nat.le_refl _) (Nat.le_refl _) H
abbrev W_X4_scale (g : GX) (d : Nat) (av : List Value) (Q : QT) (n : Nat) (pc : Nat) (ls : LV) (stk : List Value) (h : Hp) : Prop := RJ g m_X4_scale (d + 1) 0 0 av Q pc ls stk n h 0 0
theorem s_X4_scale_0 {g : GX} {d : Nat} {av : List Value} {Q : QT} {n : Nat} {h : Hp} {a0 : Nat} {x1 : Int32} (hp : g.2.2.2.2 = true) (t0 : lay a0 = (0, 4, 4)) (H : W_X4_scale g d av Q n 2 [some (.ref a0), some (.int x1), some (.int (0 : Int32)), none] [] h) : W_X4_scale g d av Q n 0 [some (.ref a0), some (.int x1), none, none] [] h := by
  refine r_iconst (v := (0 : Int32)) dX4_scale_0 rfl ?_
  refine r_istore_n (ls2 := [some (.ref a0), some (.int x1), some (.int (0 : Int32)), none]) dX4_scale_1 rfl (by decide) rfl ?_
  exact H
theorem s_X4_scale_2 {g : GX} {d : Nat} {av : List Value} {Q : QT} {n : Nat} {h : Hp} {a0 : Nat} {x1 : Int32} {x2 : Int32} (hp : g.2.2.2.2 = true) (t0 : lay a0 = (0, 4, 4)) (H : (((ri h a0 3) ≤ x2) → (CallV g m_X4_trim d [.ref a0] n h (fun h1 => (Q none n h1)))) ∧ ((¬ (ri h a0 3) ≤ x2) → (W_X4_scale g d av Q n 12 [some (.ref a0), some (.int x1), some (.int x2), some (.int (0 : Int32))] [] h))) : W_X4_scale g d av Q n 2 [some (.ref a0), some (.int x1), some (.int x2), none] [] h := by
  refine r_iload_n dX4_scale_2 rfl rfl ?_
  refine r_aload_n dX4_scale_3 rfl rfl ?_
  refine m_getI hp fw_X4_17 dX4_scale_4 rfl t0 ?_
  refine r_icmp_ge (tgt := 62) dX4_scale_7 rfl (fun cH => ?_) (fun cH => ?_)
  · replace H := H.1 cH
    refine r_aload_n dX4_scale_62 rfl rfl ?_
    refine k_VV (As := []) (stk := []) hp cv_X4_31 dX4_scale_63 rfl (Nat.le_of_ble_eq_true rfl) t0 (H.mono (fun h1 H => ?_)) ⟨Nat.le_refl _, Nat.le_refl _⟩
    exact r_vret dX4_scale_66 rfl (Nat.le_refl _) (Nat.le_refl _) H
  · replace H := H.2 cH
    refine r_iconst (v := (0 : Int32)) dX4_scale_10 rfl ?_
    refine r_istore_n (ls2 := [some (.ref a0), some (.int x1), some (.int x2), some (.int (0 : Int32))]) dX4_scale_11 rfl (by decide) rfl ?_
    exact H
theorem s_X4_scale_12 {g : GX} {d : Nat} {av : List Value} {Q : QT} {n : Nat} {h : Hp} {a0 : Nat} {x1 : Int32} {x2 : Int32} {x3 : Int32} (hp : g.2.2.2.2 = true) (t0 : lay a0 = (0, 4, 4)) (H : (((ri h a0 2) ≤ x3) → (W_X4_scale g d av Q n 2 [some (.ref a0), some (.int x1), some (.int (x2 + (1 : Int32))), none] [] h)) ∧ ((¬ (ri h a0 2) ≤ x3) → (vp_in ((x2 * (ri h a0 0)) + x3) (rm (a0 + 1)) ∧ (CallI g m_X0_times d [.int (ri h (a0 + 1) (((x2 * (ri h a0 0)) + x3)).toNatClampNeg), .int x1] n h (fun v1 h1 => (vp_in ((x2 * (ri h a0 0)) + x3) (rm (a0 + 1)) ∧ ∀ h2, h2 = wi h1 (a0 + 1) (((x2 * (ri h a0 0)) + x3)).toNatClampNeg v1 → (W_X4_scale g d av Q n 12 [some (.ref a0), some (.int x1), some (.int x2), some (.int (x3 + (1 : Int32)))] [] h2))))))) : W_X4_scale g d av Q n 12 [some (.ref a0), some (.int x1), some (.int x2), some (.int x3)] [] h := by
  refine r_iload_n dX4_scale_12 rfl rfl ?_
  refine r_aload_n dX4_scale_13 rfl rfl ?_
  refine m_getI hp fw_X4_20 dX4_scale_14 rfl t0 ?_
  refine r_icmp_ge (tgt := 56) dX4_scale_17 rfl (fun cH => ?_) (fun cH => ?_)
  · replace H := H.1 cH
    refine r_iinc (v := (x2 + (1 : Int32))) (ls2 := [some (.ref a0), some (.int x1), some (.int (x2 + (1 : Int32))), some (.int x3)]) dX4_scale_56 rfl rfl (by decide) rfl ?_
    refine r_goto (tgt := 2) dX4_scale_59 rfl ?_
    refine r_prune [true, true, true, false] (ls2 := [some (.ref a0), some (.int x1), some (.int (x2 + (1 : Int32))), none]) rfl ?_
    exact H
  · replace H := H.2 cH
    refine r_aload_n dX4_scale_20 rfl rfl ?_
    refine m_getF (x := (a0 + 1)) hp fw_X4_13 dX4_scale_21 rfl t0 (ff_4_1 t0) ?_
    refine r_iload_n dX4_scale_24 rfl rfl ?_
    refine r_aload_n dX4_scale_25 rfl rfl ?_
    refine m_getI hp fw_X4_7 dX4_scale_26 rfl t0 ?_
    refine r_imul dX4_scale_29 ?_
    refine r_iload_n dX4_scale_30 rfl rfl ?_
    refine r_iadd dX4_scale_31 ?_
    refine r_aload_n dX4_scale_32 rfl rfl ?_
    refine m_getF (x := (a0 + 1)) hp fw_X4_13 dX4_scale_33 rfl t0 (ff_4_1 t0) ?_
    refine r_iload_n dX4_scale_36 rfl rfl ?_
    refine r_aload_n dX4_scale_37 rfl rfl ?_
    refine m_getI hp fw_X4_7 dX4_scale_38 rfl t0 ?_
    refine r_imul dX4_scale_41 ?_
    refine r_iload_n dX4_scale_42 rfl rfl ?_
    refine r_iadd dX4_scale_43 ?_
    refine m_iald hp dX4_scale_44 (lf_4_1 t0) H.1 ?_
    replace H := H.2
    refine r_iload_n dX4_scale_45 rfl rfl ?_
    refine k_SI (As := [.int (ri h (a0 + 1) (((x2 * (ri h a0 0)) + x3)).toNatClampNeg), .int x1]) (stk := [.int ((x2 * (ri h a0 0)) + x3), .ref (a0 + 1)]) cs_X4_51 dX4_scale_46 rfl (Nat.le_of_ble_eq_true rfl) (H.mono (fun v1 h1 H => ?_)) ⟨Nat.le_refl _, Nat.le_refl _⟩
    refine m_iast hp dX4_scale_49 (lf_4_1 t0) H.1 (fun h2 eh2 => ?_)
    replace H := H.2 h2 eh2
    refine r_iinc (v := (x3 + (1 : Int32))) (ls2 := [some (.ref a0), some (.int x1), some (.int x2), some (.int (x3 + (1 : Int32)))]) dX4_scale_50 rfl rfl (by decide) rfl ?_
    refine r_goto (tgt := 12) dX4_scale_53 rfl ?_
    exact H
abbrev W_X4_isZero (g : GX) (d : Nat) (av : List Value) (Q : QT) (n : Nat) (pc : Nat) (ls : LV) (stk : List Value) (h : Hp) : Prop := RJ g m_X4_isZero d 0 0 av Q pc ls stk n h 0 0
theorem s_X4_isZero_0 {g : GX} {d : Nat} {av : List Value} {Q : QT} {n : Nat} {h : Hp} {a0 : Nat} (hp : g.2.2.2.2 = true) (t0 : lay a0 = (0, 4, 4)) (H : ((¬ (ri h a0 3) = (0 : Int32)) → (Q (some (.int (0 : Int32))) n h)) ∧ (((ri h a0 3) = (0 : Int32)) → (Q (some (.int (1 : Int32))) n h))) : W_X4_isZero g d av Q n 0 [some (.ref a0)] [] h := by
  refine r_aload_n dX4_isZero_0 rfl rfl ?_
  refine m_getI hp fw_X4_17 dX4_isZero_1 rfl t0 ?_
  refine r_if_ne (tgt := 11) dX4_isZero_4 rfl (fun cH => ?_) (fun cH => ?_)
  · replace H := H.1 cH
    refine r_iconst (v := (0 : Int32)) dX4_isZero_11 rfl ?_
    exact r_zret dX4_isZero_12 rfl rfl (Nat.le_refl _) (Nat.le_refl _) H
  · replace H := H.2 cH
    refine r_iconst (v := (1 : Int32)) dX4_isZero_7 rfl ?_
    refine r_goto (tgt := 12) dX4_isZero_8 rfl ?_
    exact r_zret dX4_isZero_12 rfl rfl (Nat.le_refl _) (Nat.le_refl _) H
abbrev W_X4_copy (g : GX) (d : Nat) (av : List Value) (Q : QT) (n : Nat) (pc : Nat) (ls : LV) (stk : List Value) (h : Hp) : Prop := RJ g m_X4_copy (d + 1) 0 0 av Q pc ls stk n h 0 0
theorem s_X4_copy_0 {g : GX} {d : Nat} {av : List Value} {Q : QT} {n : Nat} {h : Hp} {a0 : Nat} {a1 : Nat} (hp : g.2.2.2.2 = true) (t0 : lay a0 = (0, 4, 4)) (t1 : lay a1 = (0, 4, 4)) (H : ∀ h1, h1 = wi h a0 2 (ri h a1 2) → (∀ h2, h2 = wi h1 a0 3 (ri h1 a1 3) → (W_X4_copy g d av Q n 18 [some (.ref a0), some (.ref a1), some (.int (0 : Int32))] [] h2))) : W_X4_copy g d av Q n 0 [some (.ref a0), some (.ref a1), none] [] h := by
  refine r_aload_n dX4_copy_0 rfl rfl ?_
  refine r_aload_n dX4_copy_1 rfl rfl ?_
  refine m_getI hp fw_X4_20 dX4_copy_2 rfl t1 ?_
  refine m_putI hp fw_X4_20 dX4_copy_5 rfl rfl t0 (fun h1 eh1 => ?_)
  replace H := H h1 eh1
  refine r_aload_n dX4_copy_8 rfl rfl ?_
  refine r_aload_n dX4_copy_9 rfl rfl ?_
  refine m_getI hp fw_X4_17 dX4_copy_10 rfl t1 ?_
  refine m_putI hp fw_X4_17 dX4_copy_13 rfl rfl t0 (fun h2 eh2 => ?_)
  replace H := H h2 eh2
  refine r_iconst (v := (0 : Int32)) dX4_copy_16 rfl ?_
  refine r_istore_n (ls2 := [some (.ref a0), some (.ref a1), some (.int (0 : Int32))]) dX4_copy_17 rfl (by decide) rfl ?_
  exact H
theorem s_X4_copy_18 {g : GX} {d : Nat} {av : List Value} {Q : QT} {n : Nat} {h : Hp} {a0 : Nat} {a1 : Nat} {x2 : Int32} (hp : g.2.2.2.2 = true) (t0 : lay a0 = (0, 4, 4)) (t1 : lay a1 = (0, 4, 4)) (H : (((ri h a0 3) ≤ x2) → (Q none n h)) ∧ ((¬ (ri h a0 3) ≤ x2) → (¬ (x2 * (ri h a1 0)) < 0 ∧ ¬ (x2 * (ri h a0 0)) < 0 ∧ ¬ (ri h a0 2) < 0 ∧ ((x2 * (ri h a1 0))).toNatClampNeg + ((ri h a0 2)).toNatClampNeg ≤ (rm (a1 + 1)) ∧ ((x2 * (ri h a0 0))).toNatClampNeg + ((ri h a0 2)).toNatClampNeg ≤ (rm (a0 + 1)) ∧ ∀ h1, h1 = cpy h (a1 + 1) ((x2 * (ri h a1 0))).toNatClampNeg (a0 + 1) ((x2 * (ri h a0 0))).toNatClampNeg ((ri h a0 2)).toNatClampNeg → (W_X4_copy g d av Q n 18 [some (.ref a0), some (.ref a1), some (.int (x2 + (1 : Int32)))] [] h1)))) : W_X4_copy g d av Q n 18 [some (.ref a0), some (.ref a1), some (.int x2)] [] h := by
  refine r_iload_n dX4_copy_18 rfl rfl ?_
  refine r_aload_n dX4_copy_19 rfl rfl ?_
  refine m_getI hp fw_X4_17 dX4_copy_20 rfl t0 ?_
  refine r_icmp_ge (tgt := 59) dX4_copy_23 rfl (fun cH => ?_) (fun cH => ?_)
  · replace H := H.1 cH
    exact r_vret dX4_copy_59 rfl (Nat.le_refl _) (Nat.le_refl _) H
  · replace H := H.2 cH
    refine r_aload_n dX4_copy_26 rfl rfl ?_
    refine m_getF (x := (a1 + 1)) hp fw_X4_13 dX4_copy_27 rfl t1 (ff_4_1 t1) ?_
    refine r_iload_n dX4_copy_30 rfl rfl ?_
    refine r_aload_n dX4_copy_31 rfl rfl ?_
    refine m_getI hp fw_X4_7 dX4_copy_32 rfl t1 ?_
    refine r_imul dX4_copy_35 ?_
    refine r_aload_n dX4_copy_36 rfl rfl ?_
    refine m_getF (x := (a0 + 1)) hp fw_X4_13 dX4_copy_37 rfl t0 (ff_4_1 t0) ?_
    refine r_iload_n dX4_copy_40 rfl rfl ?_
    refine r_aload_n dX4_copy_41 rfl rfl ?_
    refine m_getI hp fw_X4_7 dX4_copy_42 rfl t0 ?_
    refine r_imul dX4_copy_45 ?_
    refine r_aload_n dX4_copy_46 rfl rfl ?_
    refine m_getI hp fw_X4_20 dX4_copy_47 rfl t0 ?_
    obtain ⟨c1, c2, c3, c4, c5, H⟩ := H
    refine m_copy hp ar_X4_34 dX4_copy_50 rfl rfl (lf_4_1 t1) (lf_4_1 t0) c1 c2 c3 c4 c5 (fun _ _ => rfl) (Nat.le_of_ble_eq_true rfl) (Nat.le_add_left 1 d) (fun h1 eh1 => ?_)
    replace H := H h1 eh1
    refine r_iinc (v := (x2 + (1 : Int32))) (ls2 := [some (.ref a0), some (.ref a1), some (.int (x2 + (1 : Int32)))]) dX4_copy_53 rfl rfl (by decide) rfl ?_
    refine r_goto (tgt := 18) dX4_copy_56 rfl ?_
    exact H
abbrev W_X4_product (g : GX) (d : Nat) (av : List Value) (Q : QT) (n : Nat) (pc : Nat) (ls : LV) (stk : List Value) (h : Hp) : Prop := RJ g m_X4_product (d + 1) 0 0 av Q pc ls stk n h 0 0
theorem s_X4_product_0 {g : GX} {d : Nat} {av : List Value} {Q : QT} {n : Nat} {h : Hp} {a0 : Nat} {a1 : Nat} {a2 : Nat} (hp : g.2.2.2.2 = true) (t0 : lay a0 = (0, 4, 4)) (t1 : lay a1 = (0, 4, 4)) (t2 : lay a2 = (0, 4, 4)) (H : CallV g m_X4_clear d [.ref a0] n h (fun h1 => (CallV g m_X4_addProduct d [.ref a0, .ref a1, .ref a2] n h1 (fun h2 => (Q none n h2))))) : W_X4_product g d av Q n 0 [some (.ref a0), some (.ref a1), some (.ref a2)] [] h := by
  refine r_aload_n dX4_product_0 rfl rfl ?_
  refine k_VV (As := []) (stk := []) hp cv_X4_76 dX4_product_1 rfl (Nat.le_of_ble_eq_true rfl) t0 (H.mono (fun h1 H => ?_)) ⟨Nat.le_refl _, Nat.le_refl _⟩
  refine r_aload_n dX4_product_4 rfl rfl ?_
  refine r_aload_n dX4_product_5 rfl rfl ?_
  refine r_aload_n dX4_product_6 rfl rfl ?_
  refine k_VV (As := [.ref a1, .ref a2]) (stk := []) hp cv_X4_79 dX4_product_7 rfl (Nat.le_of_ble_eq_true rfl) t0 (H.mono (fun h2 H => ?_)) ⟨Nat.le_refl _, Nat.le_refl _⟩
  exact r_vret dX4_product_10 rfl (Nat.le_refl _) (Nat.le_refl _) H
abbrev W_X4_clear (g : GX) (d : Nat) (av : List Value) (Q : QT) (n : Nat) (pc : Nat) (ls : LV) (stk : List Value) (h : Hp) : Prop := RJ g m_X4_clear d 0 0 av Q pc ls stk n h 0 0
theorem s_X4_clear_0 {g : GX} {d : Nat} {av : List Value} {Q : QT} {n : Nat} {h : Hp} {a0 : Nat} (hp : g.2.2.2.2 = true) (t0 : lay a0 = (0, 4, 4)) (H : ∀ h1, h1 = wi h a0 2 (0 : Int32) → (∀ h2, h2 = wi h1 a0 3 (0 : Int32) → (Q none n h2))) : W_X4_clear g d av Q n 0 [some (.ref a0)] [] h := by
  refine r_aload_n dX4_clear_0 rfl rfl ?_
  refine r_iconst (v := (0 : Int32)) dX4_clear_1 rfl ?_
  refine m_putI hp fw_X4_20 dX4_clear_2 rfl rfl t0 (fun h1 eh1 => ?_)
  replace H := H h1 eh1
  refine r_aload_n dX4_clear_5 rfl rfl ?_
  refine r_iconst (v := (0 : Int32)) dX4_clear_6 rfl ?_
  refine m_putI hp fw_X4_17 dX4_clear_7 rfl rfl t0 (fun h2 eh2 => ?_)
  replace H := H h2 eh2
  exact r_vret dX4_clear_10 rfl (Nat.le_refl _) (Nat.le_refl _) H
abbrev W_X4_addProduct (g : GX) (d : Nat) (av : List Value) (Q : QT) (n : Nat) (pc : Nat) (ls : LV) (stk : List Value) (h : Hp) : Prop := RJ g m_X4_addProduct (d + 1) 0 0 av Q pc ls stk n h 0 0
theorem s_X4_addProduct_0 {g : GX} {d : Nat} {av : List Value} {Q : QT} {n : Nat} {h : Hp} {a0 : Nat} {a1 : Nat} {a2 : Nat} (hp : g.2.2.2.2 = true) (t0 : lay a0 = (0, 4, 4)) (t1 : lay a1 = (0, 4, 4)) (t2 : lay a2 = (0, 4, 4)) (H : CallI g m_X4_isZero d [.ref a1] n h (fun v1 h1 => (((¬ v1 = (0 : Int32)) → (Q none n h1)) ∧ ((v1 = (0 : Int32)) → (CallI g m_X4_isZero d [.ref a2] n h1 (fun v2 h2 => (((v2 = (0 : Int32)) → (CallV g m_X4_grow d [.ref a0, .int (((ri h2 a1 2) + (ri h2 a2 2)) - (1 : Int32)), .int (((ri h2 a1 3) + (ri h2 a2 3)) - (1 : Int32))] n h2 (fun h3 => (W_X4_addProduct g d av Q n 43 [some (.ref a0), some (.ref a1), some (.ref a2), some (.int (0 : Int32)), none, none] [] h3)))) ∧ ((¬ v2 = (0 : Int32)) → (Q none n h2))))))))) : W_X4_addProduct g d av Q n 0 [some (.ref a0), some (.ref a1), some (.ref a2), none, none, none] [] h := by
  refine r_aload_n dX4_addProduct_0 rfl rfl ?_
  refine k_VI (As := []) (stk := []) hp cv_X4_68 dX4_addProduct_1 rfl (Nat.le_of_ble_eq_true rfl) t1 (H.mono (fun v1 h1 H => ?_)) ⟨Nat.le_refl _, Nat.le_refl _⟩
  refine r_if_ne (tgt := 14) dX4_addProduct_4 rfl (fun cH => ?_) (fun cH => ?_)
  · replace H := H.1 cH
    exact r_vret dX4_addProduct_14 rfl (Nat.le_refl _) (Nat.le_refl _) H
  · replace H := H.2 cH
    refine r_aload_n dX4_addProduct_7 rfl rfl ?_
    refine k_VI (As := []) (stk := []) hp cv_X4_68 dX4_addProduct_8 rfl (Nat.le_of_ble_eq_true rfl) t2 (H.mono (fun v2 h2 H => ?_)) ⟨Nat.le_refl _, Nat.le_refl _⟩
    refine r_if_eq (tgt := 15) dX4_addProduct_11 rfl (fun cH => ?_) (fun cH => ?_)
    · replace H := H.1 cH
      refine r_aload_n dX4_addProduct_15 rfl rfl ?_
      refine r_aload_n dX4_addProduct_16 rfl rfl ?_
      refine m_getI hp fw_X4_20 dX4_addProduct_17 rfl t1 ?_
      refine r_aload_n dX4_addProduct_20 rfl rfl ?_
      refine m_getI hp fw_X4_20 dX4_addProduct_21 rfl t2 ?_
      refine r_iadd dX4_addProduct_24 ?_
      refine r_iconst (v := (1 : Int32)) dX4_addProduct_25 rfl ?_
      refine r_isub dX4_addProduct_26 ?_
      refine r_aload_n dX4_addProduct_27 rfl rfl ?_
      refine m_getI hp fw_X4_17 dX4_addProduct_28 rfl t1 ?_
      refine r_aload_n dX4_addProduct_31 rfl rfl ?_
      refine m_getI hp fw_X4_17 dX4_addProduct_32 rfl t2 ?_
      refine r_iadd dX4_addProduct_35 ?_
      refine r_iconst (v := (1 : Int32)) dX4_addProduct_36 rfl ?_
      refine r_isub dX4_addProduct_37 ?_
      refine k_VV (As := [.int (((ri h2 a1 2) + (ri h2 a2 2)) - (1 : Int32)), .int (((ri h2 a1 3) + (ri h2 a2 3)) - (1 : Int32))]) (stk := []) hp cv_X4_57 dX4_addProduct_38 rfl (Nat.le_of_ble_eq_true rfl) t0 (H.mono (fun h3 H => ?_)) ⟨Nat.le_refl _, Nat.le_refl _⟩
      refine r_iconst (v := (0 : Int32)) dX4_addProduct_41 rfl ?_
      refine r_istore_n (ls2 := [some (.ref a0), some (.ref a1), some (.ref a2), some (.int (0 : Int32)), none, none]) dX4_addProduct_42 rfl (by decide) rfl ?_
      exact H
    · replace H := H.2 cH
      exact r_vret dX4_addProduct_14 rfl (Nat.le_refl _) (Nat.le_refl _) H
theorem s_X4_addProduct_43 {g : GX} {d : Nat} {av : List Value} {Q : QT} {n : Nat} {h : Hp} {a0 : Nat} {a1 : Nat} {a2 : Nat} {x3 : Int32} (hp : g.2.2.2.2 = true) (t0 : lay a0 = (0, 4, 4)) (t1 : lay a1 = (0, 4, 4)) (t2 : lay a2 = (0, 4, 4)) (H : (((ri h a1 3) ≤ x3) → (CallV g m_X4_trim d [.ref a0] n h (fun h1 => (Q none n h1)))) ∧ ((¬ (ri h a1 3) ≤ x3) → (W_X4_addProduct g d av Q n 54 [some (.ref a0), some (.ref a1), some (.ref a2), some (.int x3), some (.int (0 : Int32)), none] [] h))) : W_X4_addProduct g d av Q n 43 [some (.ref a0), some (.ref a1), some (.ref a2), some (.int x3), none, none] [] h := by
  refine r_iload_n dX4_addProduct_43 rfl rfl ?_
  refine r_aload_n dX4_addProduct_44 rfl rfl ?_
  refine m_getI hp fw_X4_17 dX4_addProduct_45 rfl t1 ?_
  refine r_icmp_ge (tgt := 106) dX4_addProduct_48 rfl (fun cH => ?_) (fun cH => ?_)
  · replace H := H.1 cH
    refine r_aload_n dX4_addProduct_106 rfl rfl ?_
    refine k_VV (As := []) (stk := []) hp cv_X4_31 dX4_addProduct_107 rfl (Nat.le_of_ble_eq_true rfl) t0 (H.mono (fun h1 H => ?_)) ⟨Nat.le_refl _, Nat.le_refl _⟩
    exact r_vret dX4_addProduct_110 rfl (Nat.le_refl _) (Nat.le_refl _) H
  · replace H := H.2 cH
    refine r_iconst (v := (0 : Int32)) dX4_addProduct_51 rfl ?_
    refine r_istore (ls2 := [some (.ref a0), some (.ref a1), some (.ref a2), some (.int x3), some (.int (0 : Int32)), none]) dX4_addProduct_52 (by decide) rfl ?_
    exact H
theorem s_X4_addProduct_54 {g : GX} {d : Nat} {av : List Value} {Q : QT} {n : Nat} {h : Hp} {a0 : Nat} {a1 : Nat} {a2 : Nat} {x3 : Int32} {x4 : Int32} (hp : g.2.2.2.2 = true) (t0 : lay a0 = (0, 4, 4)) (t1 : lay a1 = (0, 4, 4)) (t2 : lay a2 = (0, 4, 4)) (H : (((ri h a1 2) ≤ x4) → (W_X4_addProduct g d av Q n 43 [some (.ref a0), some (.ref a1), some (.ref a2), some (.int (x3 + (1 : Int32))), none, none] [] h)) ∧ ((¬ (ri h a1 2) ≤ x4) → (vp_in ((x3 * (ri h a1 0)) + x4) (rm (a1 + 1)) ∧ ((((ri h (a1 + 1) (((x3 * (ri h a1 0)) + x4)).toNatClampNeg) = (0 : Int32)) → (W_X4_addProduct g d av Q n 94 [some (.ref a0), some (.ref a1), some (.ref a2), some (.int x3), some (.int x4), none] [] h)) ∧ ((¬ (ri h (a1 + 1) (((x3 * (ri h a1 0)) + x4)).toNatClampNeg) = (0 : Int32)) → (CallV g m_X4_addRows d [.ref a0, .ref a2, .int (ri h (a1 + 1) (((x3 * (ri h a1 0)) + x4)).toNatClampNeg), .int x4, .int x3] n h (fun h1 => (W_X4_addProduct g d av Q n 94 [some (.ref a0), some (.ref a1), some (.ref a2), some (.int x3), some (.int x4), none] [] h1)))))))) : W_X4_addProduct g d av Q n 54 [some (.ref a0), some (.ref a1), some (.ref a2), some (.int x3), some (.int x4), none] [] h := by
  refine r_iload dX4_addProduct_54 rfl ?_
  refine r_aload_n dX4_addProduct_56 rfl rfl ?_
  refine m_getI hp fw_X4_20 dX4_addProduct_57 rfl t1 ?_
  refine r_icmp_ge (tgt := 100) dX4_addProduct_60 rfl (fun cH => ?_) (fun cH => ?_)
  · replace H := H.1 cH
    refine r_iinc (v := (x3 + (1 : Int32))) (ls2 := [some (.ref a0), some (.ref a1), some (.ref a2), some (.int (x3 + (1 : Int32))), some (.int x4), none]) dX4_addProduct_100 rfl rfl (by decide) rfl ?_
    refine r_goto (tgt := 43) dX4_addProduct_103 rfl ?_
    refine r_prune [true, true, true, true, false, false] (ls2 := [some (.ref a0), some (.ref a1), some (.ref a2), some (.int (x3 + (1 : Int32))), none, none]) rfl ?_
    exact H
  · replace H := H.2 cH
    refine r_aload_n dX4_addProduct_63 rfl rfl ?_
    refine m_getF (x := (a1 + 1)) hp fw_X4_13 dX4_addProduct_64 rfl t1 (ff_4_1 t1) ?_
    refine r_iload_n dX4_addProduct_67 rfl rfl ?_
    refine r_aload_n dX4_addProduct_68 rfl rfl ?_
    refine m_getI hp fw_X4_7 dX4_addProduct_69 rfl t1 ?_
    refine r_imul dX4_addProduct_72 ?_
    refine r_iload dX4_addProduct_73 rfl ?_
    refine r_iadd dX4_addProduct_75 ?_
    refine m_iald hp dX4_addProduct_76 (lf_4_1 t1) H.1 ?_
    replace H := H.2
    refine r_istore (ls2 := [some (.ref a0), some (.ref a1), some (.ref a2), some (.int x3), some (.int x4), some (.int (ri h (a1 + 1) (((x3 * (ri h a1 0)) + x4)).toNatClampNeg))]) dX4_addProduct_77 (by decide) rfl ?_
    refine r_iload dX4_addProduct_79 rfl ?_
    refine r_if_eq (tgt := 94) dX4_addProduct_81 rfl (fun cH => ?_) (fun cH => ?_)
    · replace H := H.1 cH
      refine r_prune [true, true, true, true, true, false] (ls2 := [some (.ref a0), some (.ref a1), some (.ref a2), some (.int x3), some (.int x4), none]) rfl ?_
      exact H
    · replace H := H.2 cH
      refine r_aload_n dX4_addProduct_84 rfl rfl ?_
      refine r_aload_n dX4_addProduct_85 rfl rfl ?_
      refine r_iload dX4_addProduct_86 rfl ?_
      refine r_iload dX4_addProduct_88 rfl ?_
      refine r_iload_n dX4_addProduct_90 rfl rfl ?_
      refine k_VV (As := [.ref a2, .int (ri h (a1 + 1) (((x3 * (ri h a1 0)) + x4)).toNatClampNeg), .int x4, .int x3]) (stk := []) hp cv_X4_72 dX4_addProduct_91 rfl (Nat.le_of_ble_eq_true rfl) t0 (H.mono (fun h1 H => ?_)) ⟨Nat.le_refl _, Nat.le_refl _⟩
      refine r_prune [true, true, true, true, true, false] (ls2 := [some (.ref a0), some (.ref a1), some (.ref a2), some (.int x3), some (.int x4), none]) rfl ?_
      exact H
theorem s_X4_addProduct_94 {g : GX} {d : Nat} {av : List Value} {Q : QT} {n : Nat} {h : Hp} {a0 : Nat} {a1 : Nat} {a2 : Nat} {x3 : Int32} {x4 : Int32} (hp : g.2.2.2.2 = true) (t0 : lay a0 = (0, 4, 4)) (t1 : lay a1 = (0, 4, 4)) (t2 : lay a2 = (0, 4, 4)) (H : W_X4_addProduct g d av Q n 54 [some (.ref a0), some (.ref a1), some (.ref a2), some (.int x3), some (.int (x4 + (1 : Int32))), none] [] h) : W_X4_addProduct g d av Q n 94 [some (.ref a0), some (.ref a1), some (.ref a2), some (.int x3), some (.int x4), none] [] h := by
  refine r_iinc (v := (x4 + (1 : Int32))) (ls2 := [some (.ref a0), some (.ref a1), some (.ref a2), some (.int x3), some (.int (x4 + (1 : Int32))), none]) dX4_addProduct_94 rfl rfl (by decide) rfl ?_
  refine r_goto (tgt := 54) dX4_addProduct_97 rfl ?_
  exact H
abbrev W_X4_grow (g : GX) (d : Nat) (av : List Value) (Q : QT) (n : Nat) (pc : Nat) (ls : LV) (stk : List Value) (h : Hp) : Prop := RJ g m_X4_grow (d + 1) 0 0 av Q pc ls stk n h 0 0
theorem s_X4_grow_0 {g : GX} {d : Nat} {av : List Value} {Q : QT} {n : Nat} {h : Hp} {a0 : Nat} {x1 : Int32} {x2 : Int32} (hp : g.2.2.2.2 = true) (t0 : lay a0 = (0, 4, 4)) (H : CallI g m_J3_max d [.int (ri h a0 2), .int x1] n h (fun v1 h1 => (∀ h2, h2 = wi h1 a0 2 v1 → (CallI g m_J3_max d [.int (ri h2 a0 3), .int x2] n h2 (fun v3 h3 => (∀ h4, h4 = wi h3 a0 3 v3 → (W_X4_grow g d av Q n 38 [some (.ref a0), none, none, some (.int (ri h a0 2)), some (.int (ri h a0 3)), some (.int (0 : Int32)), none] [] h4))))))) : W_X4_grow g d av Q n 0 [some (.ref a0), some (.int x1), some (.int x2), none, none, none, none] [] h := by
  refine r_aload_n dX4_grow_0 rfl rfl ?_
  refine m_getI hp fw_X4_20 dX4_grow_1 rfl t0 ?_
  refine r_istore_n (ls2 := [some (.ref a0), some (.int x1), some (.int x2), some (.int (ri h a0 2)), none, none, none]) dX4_grow_4 rfl (by decide) rfl ?_
  refine r_aload_n dX4_grow_5 rfl rfl ?_
  refine m_getI hp fw_X4_17 dX4_grow_6 rfl t0 ?_
  refine r_istore (ls2 := [some (.ref a0), some (.int x1), some (.int x2), some (.int (ri h a0 2)), some (.int (ri h a0 3)), none, none]) dX4_grow_9 (by decide) rfl ?_
  refine r_aload_n dX4_grow_11 rfl rfl ?_
  refine r_aload_n dX4_grow_12 rfl rfl ?_
  refine m_getI hp fw_X4_20 dX4_grow_13 rfl t0 ?_
  refine r_iload_n dX4_grow_16 rfl rfl ?_
  refine k_SI (As := [.int (ri h a0 2), .int x1]) (stk := [.ref a0]) cs_X4_63 dX4_grow_17 rfl (Nat.le_of_ble_eq_true rfl) (H.mono (fun v1 h1 H => ?_)) ⟨Nat.le_refl _, Nat.le_refl _⟩
  refine m_putI hp fw_X4_20 dX4_grow_20 rfl rfl t0 (fun h2 eh2 => ?_)
  replace H := H h2 eh2
  refine r_aload_n dX4_grow_23 rfl rfl ?_
  refine r_aload_n dX4_grow_24 rfl rfl ?_
  refine m_getI hp fw_X4_17 dX4_grow_25 rfl t0 ?_
  refine r_iload_n dX4_grow_28 rfl rfl ?_
  refine k_SI (As := [.int (ri h2 a0 3), .int x2]) (stk := [.ref a0]) cs_X4_63 dX4_grow_29 rfl (Nat.le_of_ble_eq_true rfl) (H.mono (fun v3 h3 H => ?_)) ⟨Nat.le_refl _, Nat.le_refl _⟩
  refine m_putI hp fw_X4_17 dX4_grow_32 rfl rfl t0 (fun h4 eh4 => ?_)
  replace H := H h4 eh4
  refine r_iconst (v := (0 : Int32)) dX4_grow_35 rfl ?_
  refine r_istore (ls2 := [some (.ref a0), some (.int x1), some (.int x2), some (.int (ri h a0 2)), some (.int (ri h a0 3)), some (.int (0 : Int32)), none]) dX4_grow_36 (by decide) rfl ?_
  refine r_prune [true, false, false, true, true, true, false] (ls2 := [some (.ref a0), none, none, some (.int (ri h a0 2)), some (.int (ri h a0 3)), some (.int (0 : Int32)), none]) rfl ?_
  exact H
theorem s_X4_grow_38 {g : GX} {d : Nat} {av : List Value} {Q : QT} {n : Nat} {h : Hp} {a0 : Nat} {x3 : Int32} {x4 : Int32} {x5 : Int32} (hp : g.2.2.2.2 = true) (t0 : lay a0 = (0, 4, 4)) (H : (((ri h a0 3) ≤ x5) → (Q none n h)) ∧ ((¬ (ri h a0 3) ≤ x5) → (((x4 ≤ x5) → (W_X4_grow g d av Q n 59 [some (.ref a0), none, none, some (.int x3), some (.int x4), some (.int x5), none] [.int (0 : Int32)] h)) ∧ ((¬ x4 ≤ x5) → (W_X4_grow g d av Q n 59 [some (.ref a0), none, none, some (.int x3), some (.int x4), some (.int x5), none] [.int x3] h))))) : W_X4_grow g d av Q n 38 [some (.ref a0), none, none, some (.int x3), some (.int x4), some (.int x5), none] [] h := by
  refine r_iload dX4_grow_38 rfl ?_
  refine r_aload_n dX4_grow_40 rfl rfl ?_
  refine m_getI hp fw_X4_17 dX4_grow_41 rfl t0 ?_
  refine r_icmp_ge (tgt := 98) dX4_grow_44 rfl (fun cH => ?_) (fun cH => ?_)
  · replace H := H.1 cH
    exact r_vret dX4_grow_98 rfl (Nat.le_refl _) (Nat.le_refl _) H
  · replace H := H.2 cH
    refine r_iload dX4_grow_47 rfl ?_
    refine r_iload dX4_grow_49 rfl ?_
    refine r_icmp_ge (tgt := 58) dX4_grow_51 rfl (fun cH => ?_) (fun cH => ?_)
    · replace H := H.1 cH
      refine r_iconst (v := (0 : Int32)) dX4_grow_58 rfl ?_
      exact H
    · replace H := H.2 cH
      refine r_iload_n dX4_grow_54 rfl rfl ?_
      refine r_goto (tgt := 59) dX4_grow_55 rfl ?_
      exact H
theorem s_X4_grow_59 {g : GX} {d : Nat} {av : List Value} {Q : QT} {n : Nat} {h : Hp} {a0 : Nat} {x3 : Int32} {x4 : Int32} {x5 : Int32} {xs0 : Int32} (hp : g.2.2.2.2 = true) (t0 : lay a0 = (0, 4, 4)) (H : W_X4_grow g d av Q n 61 [some (.ref a0), none, none, some (.int x3), some (.int x4), some (.int x5), some (.int xs0)] [] h) : W_X4_grow g d av Q n 59 [some (.ref a0), none, none, some (.int x3), some (.int x4), some (.int x5), none] [.int xs0] h := by
  refine r_istore (ls2 := [some (.ref a0), none, none, some (.int x3), some (.int x4), some (.int x5), some (.int xs0)]) dX4_grow_59 (by decide) rfl ?_
  exact H
theorem s_X4_grow_61 {g : GX} {d : Nat} {av : List Value} {Q : QT} {n : Nat} {h : Hp} {a0 : Nat} {x3 : Int32} {x4 : Int32} {x5 : Int32} {x6 : Int32} (hp : g.2.2.2.2 = true) (t0 : lay a0 = (0, 4, 4)) (H : (((ri h a0 2) ≤ x6) → (W_X4_grow g d av Q n 38 [some (.ref a0), none, none, some (.int x3), some (.int x4), some (.int (x5 + (1 : Int32))), none] [] h)) ∧ ((¬ (ri h a0 2) ≤ x6) → (vp_in ((x5 * (ri h a0 0)) + x6) (rm (a0 + 1)) ∧ ∀ h1, h1 = wi h (a0 + 1) (((x5 * (ri h a0 0)) + x6)).toNatClampNeg (0 : Int32) → (W_X4_grow g d av Q n 61 [some (.ref a0), none, none, some (.int x3), some (.int x4), some (.int x5), some (.int (x6 + (1 : Int32)))] [] h1)))) : W_X4_grow g d av Q n 61 [some (.ref a0), none, none, some (.int x3), some (.int x4), some (.int x5), some (.int x6)] [] h := by
  refine r_iload dX4_grow_61 rfl ?_
  refine r_aload_n dX4_grow_63 rfl rfl ?_
  refine m_getI hp fw_X4_20 dX4_grow_64 rfl t0 ?_
  refine r_icmp_ge (tgt := 92) dX4_grow_67 rfl (fun cH => ?_) (fun cH => ?_)
  · replace H := H.1 cH
    refine r_iinc (v := (x5 + (1 : Int32))) (ls2 := [some (.ref a0), none, none, some (.int x3), some (.int x4), some (.int (x5 + (1 : Int32))), some (.int x6)]) dX4_grow_92 rfl rfl (by decide) rfl ?_
    refine r_goto (tgt := 38) dX4_grow_95 rfl ?_
    refine r_prune [true, false, false, true, true, true, false] (ls2 := [some (.ref a0), none, none, some (.int x3), some (.int x4), some (.int (x5 + (1 : Int32))), none]) rfl ?_
    exact H
  · replace H := H.2 cH
    refine r_aload_n dX4_grow_70 rfl rfl ?_
    refine m_getF (x := (a0 + 1)) hp fw_X4_13 dX4_grow_71 rfl t0 (ff_4_1 t0) ?_
    refine r_iload dX4_grow_74 rfl ?_
    refine r_aload_n dX4_grow_76 rfl rfl ?_
    refine m_getI hp fw_X4_7 dX4_grow_77 rfl t0 ?_
    refine r_imul dX4_grow_80 ?_
    refine r_iload dX4_grow_81 rfl ?_
    refine r_iadd dX4_grow_83 ?_
    refine r_iconst (v := (0 : Int32)) dX4_grow_84 rfl ?_
    refine m_iast hp dX4_grow_85 (lf_4_1 t0) H.1 (fun h1 eh1 => ?_)
    replace H := H.2 h1 eh1
    refine r_iinc (v := (x6 + (1 : Int32))) (ls2 := [some (.ref a0), none, none, some (.int x3), some (.int x4), some (.int x5), some (.int (x6 + (1 : Int32)))]) dX4_grow_86 rfl rfl (by decide) rfl ?_
    refine r_goto (tgt := 61) dX4_grow_89 rfl ?_
    exact H
abbrev W_X4_addRows (g : GX) (d : Nat) (av : List Value) (Q : QT) (n : Nat) (pc : Nat) (ls : LV) (stk : List Value) (h : Hp) : Prop := RJ g m_X4_addRows (d + 1) 0 0 av Q pc ls stk n h 0 0
theorem s_X4_addRows_0 {g : GX} {d : Nat} {av : List Value} {Q : QT} {n : Nat} {h : Hp} {a0 : Nat} {a1 : Nat} {x2 : Int32} {x3 : Int32} {x4 : Int32} (hp : g.2.2.2.2 = true) (t0 : lay a0 = (0, 4, 4)) (t1 : lay a1 = (0, 4, 4)) (H : W_X4_addRows g d av Q n 3 [some (.ref a0), some (.ref a1), some (.int x2), some (.int x3), some (.int x4), some (.int (0 : Int32)), none, none, none] [] h) : W_X4_addRows g d av Q n 0 [some (.ref a0), some (.ref a1), some (.int x2), some (.int x3), some (.int x4), none, none, none, none] [] h := by
  refine r_iconst (v := (0 : Int32)) dX4_addRows_0 rfl ?_
  refine r_istore (ls2 := [some (.ref a0), some (.ref a1), some (.int x2), some (.int x3), some (.int x4), some (.int (0 : Int32)), none, none, none]) dX4_addRows_1 (by decide) rfl ?_
  exact H
theorem s_X4_addRows_3 {g : GX} {d : Nat} {av : List Value} {Q : QT} {n : Nat} {h : Hp} {a0 : Nat} {a1 : Nat} {x2 : Int32} {x3 : Int32} {x4 : Int32} {x5 : Int32} (hp : g.2.2.2.2 = true) (t0 : lay a0 = (0, 4, 4)) (t1 : lay a1 = (0, 4, 4)) (H : (((ri h a1 3) ≤ x5) → (Q none n h)) ∧ ((¬ (ri h a1 3) ≤ x5) → (W_X4_addRows g d av Q n 38 [some (.ref a0), some (.ref a1), some (.int x2), some (.int x3), some (.int x4), some (.int x5), some (.int (((x5 + x4) * (ri h a0 0)) + x3)), some (.int (x5 * (ri h a1 0))), some (.int (0 : Int32))] [] h))) : W_X4_addRows g d av Q n 3 [some (.ref a0), some (.ref a1), some (.int x2), some (.int x3), some (.int x4), some (.int x5), none, none, none] [] h := by
  refine r_iload dX4_addRows_3 rfl ?_
  refine r_aload_n dX4_addRows_5 rfl rfl ?_
  refine m_getI hp fw_X4_17 dX4_addRows_6 rfl t1 ?_
  refine r_icmp_ge (tgt := 96) dX4_addRows_9 rfl (fun cH => ?_) (fun cH => ?_)
  · replace H := H.1 cH
    exact r_vret dX4_addRows_96 rfl (Nat.le_refl _) (Nat.le_refl _) H
  · replace H := H.2 cH
    refine r_iload dX4_addRows_12 rfl ?_
    refine r_iload dX4_addRows_14 rfl ?_
    refine r_iadd dX4_addRows_16 ?_
    refine r_aload_n dX4_addRows_17 rfl rfl ?_
    refine m_getI hp fw_X4_7 dX4_addRows_18 rfl t0 ?_
    refine r_imul dX4_addRows_21 ?_
    refine r_iload_n dX4_addRows_22 rfl rfl ?_
    refine r_iadd dX4_addRows_23 ?_
    refine r_istore (ls2 := [some (.ref a0), some (.ref a1), some (.int x2), some (.int x3), some (.int x4), some (.int x5), some (.int (((x5 + x4) * (ri h a0 0)) + x3)), none, none]) dX4_addRows_24 (by decide) rfl ?_
    refine r_iload dX4_addRows_26 rfl ?_
    refine r_aload_n dX4_addRows_28 rfl rfl ?_
    refine m_getI hp fw_X4_7 dX4_addRows_29 rfl t1 ?_
    refine r_imul dX4_addRows_32 ?_
    refine r_istore (ls2 := [some (.ref a0), some (.ref a1), some (.int x2), some (.int x3), some (.int x4), some (.int x5), some (.int (((x5 + x4) * (ri h a0 0)) + x3)), some (.int (x5 * (ri h a1 0))), none]) dX4_addRows_33 (by decide) rfl ?_
    refine r_iconst (v := (0 : Int32)) dX4_addRows_35 rfl ?_
    refine r_istore (ls2 := [some (.ref a0), some (.ref a1), some (.int x2), some (.int x3), some (.int x4), some (.int x5), some (.int (((x5 + x4) * (ri h a0 0)) + x3)), some (.int (x5 * (ri h a1 0))), some (.int (0 : Int32))]) dX4_addRows_36 (by decide) rfl ?_
    exact H
theorem s_X4_addRows_38 {g : GX} {d : Nat} {av : List Value} {Q : QT} {n : Nat} {h : Hp} {a0 : Nat} {a1 : Nat} {x2 : Int32} {x3 : Int32} {x4 : Int32} {x5 : Int32} {x6 : Int32} {x7 : Int32} {x8 : Int32} (hp : g.2.2.2.2 = true) (t0 : lay a0 = (0, 4, 4)) (t1 : lay a1 = (0, 4, 4)) (H : (((ri h a1 2) ≤ x8) → (W_X4_addRows g d av Q n 3 [some (.ref a0), some (.ref a1), some (.int x2), some (.int x3), some (.int x4), some (.int (x5 + (1 : Int32))), none, none, none] [] h)) ∧ ((¬ (ri h a1 2) ≤ x8) → (vp_in (x6 + x8) (rm (a0 + 1)) ∧ (vp_in (x7 + x8) (rm (a1 + 1)) ∧ (CallI g m_X0_times d [.int (ri h (a1 + 1) ((x7 + x8)).toNatClampNeg), .int x2] n h (fun v1 h1 => (CallI g m_X0_sum d [.int (ri h (a0 + 1) ((x6 + x8)).toNatClampNeg), .int v1] n h1 (fun v2 h2 => (vp_in (x6 + x8) (rm (a0 + 1)) ∧ ∀ h3, h3 = wi h2 (a0 + 1) ((x6 + x8)).toNatClampNeg v2 → (W_X4_addRows g d av Q n 38 [some (.ref a0), some (.ref a1), some (.int x2), some (.int x3), some (.int x4), some (.int x5), some (.int x6), some (.int x7), some (.int (x8 + (1 : Int32)))] [] h3)))))))))) : W_X4_addRows g d av Q n 38 [some (.ref a0), some (.ref a1), some (.int x2), some (.int x3), some (.int x4), some (.int x5), some (.int x6), some (.int x7), some (.int x8)] [] h := by
  refine r_iload dX4_addRows_38 rfl ?_
  refine r_aload_n dX4_addRows_40 rfl rfl ?_
  refine m_getI hp fw_X4_20 dX4_addRows_41 rfl t1 ?_
  refine r_icmp_ge (tgt := 90) dX4_addRows_44 rfl (fun cH => ?_) (fun cH => ?_)
  · replace H := H.1 cH
    refine r_iinc (v := (x5 + (1 : Int32))) (ls2 := [some (.ref a0), some (.ref a1), some (.int x2), some (.int x3), some (.int x4), some (.int (x5 + (1 : Int32))), some (.int x6), some (.int x7), some (.int x8)]) dX4_addRows_90 rfl rfl (by decide) rfl ?_
    refine r_goto (tgt := 3) dX4_addRows_93 rfl ?_
    refine r_prune [true, true, true, true, true, true, false, false, false] (ls2 := [some (.ref a0), some (.ref a1), some (.int x2), some (.int x3), some (.int x4), some (.int (x5 + (1 : Int32))), none, none, none]) rfl ?_
    exact H
  · replace H := H.2 cH
    refine r_aload_n dX4_addRows_47 rfl rfl ?_
    refine m_getF (x := (a0 + 1)) hp fw_X4_13 dX4_addRows_48 rfl t0 (ff_4_1 t0) ?_
    refine r_iload dX4_addRows_51 rfl ?_
    refine r_iload dX4_addRows_53 rfl ?_
    refine r_iadd dX4_addRows_55 ?_
    refine r_aload_n dX4_addRows_56 rfl rfl ?_
    refine m_getF (x := (a0 + 1)) hp fw_X4_13 dX4_addRows_57 rfl t0 (ff_4_1 t0) ?_
    refine r_iload dX4_addRows_60 rfl ?_
    refine r_iload dX4_addRows_62 rfl ?_
    refine r_iadd dX4_addRows_64 ?_
    refine m_iald hp dX4_addRows_65 (lf_4_1 t0) H.1 ?_
    replace H := H.2
    refine r_aload_n dX4_addRows_66 rfl rfl ?_
    refine m_getF (x := (a1 + 1)) hp fw_X4_13 dX4_addRows_67 rfl t1 (ff_4_1 t1) ?_
    refine r_iload dX4_addRows_70 rfl ?_
    refine r_iload dX4_addRows_72 rfl ?_
    refine r_iadd dX4_addRows_74 ?_
    refine m_iald hp dX4_addRows_75 (lf_4_1 t1) H.1 ?_
    replace H := H.2
    refine r_iload_n dX4_addRows_76 rfl rfl ?_
    refine k_SI (As := [.int (ri h (a1 + 1) ((x7 + x8)).toNatClampNeg), .int x2]) (stk := [.int (ri h (a0 + 1) ((x6 + x8)).toNatClampNeg), .int (x6 + x8), .ref (a0 + 1)]) cs_X4_51 dX4_addRows_77 rfl (Nat.le_of_ble_eq_true rfl) (H.mono (fun v1 h1 H => ?_)) ⟨Nat.le_refl _, Nat.le_refl _⟩
    refine k_SI (As := [.int (ri h (a0 + 1) ((x6 + x8)).toNatClampNeg), .int v1]) (stk := [.int (x6 + x8), .ref (a0 + 1)]) cs_X4_60 dX4_addRows_80 rfl (Nat.le_of_ble_eq_true rfl) (H.mono (fun v2 h2 H => ?_)) ⟨Nat.le_refl _, Nat.le_refl _⟩
    refine m_iast hp dX4_addRows_83 (lf_4_1 t0) H.1 (fun h3 eh3 => ?_)
    replace H := H.2 h3 eh3
    refine r_iinc (v := (x8 + (1 : Int32))) (ls2 := [some (.ref a0), some (.ref a1), some (.int x2), some (.int x3), some (.int x4), some (.int x5), some (.int x6), some (.int x7), some (.int (x8 + (1 : Int32)))]) dX4_addRows_84 rfl rfl (by decide) rfl ?_
    refine r_goto (tgt := 38) dX4_addRows_87 rfl ?_
    exact H
abbrev W_X4_add (g : GX) (d : Nat) (av : List Value) (Q : QT) (n : Nat) (pc : Nat) (ls : LV) (stk : List Value) (h : Hp) : Prop := RJ g m_X4_add (d + 1) 0 0 av Q pc ls stk n h 0 0
theorem s_X4_add_0 {g : GX} {d : Nat} {av : List Value} {Q : QT} {n : Nat} {h : Hp} {a0 : Nat} {a1 : Nat} {x2 : Int32} (hp : g.2.2.2.2 = true) (t0 : lay a0 = (0, 4, 4)) (t1 : lay a1 = (0, 4, 4)) (H : CallV g m_X4_grow d [.ref a0, .int (ri h a1 2), .int (ri h a1 3)] n h (fun h1 => (W_X4_add g d av Q n 14 [some (.ref a0), some (.ref a1), some (.int x2), some (.int (0 : Int32)), none] [] h1))) : W_X4_add g d av Q n 0 [some (.ref a0), some (.ref a1), some (.int x2), none, none] [] h := by
  refine r_aload_n dX4_add_0 rfl rfl ?_
  refine r_aload_n dX4_add_1 rfl rfl ?_
  refine m_getI hp fw_X4_20 dX4_add_2 rfl t1 ?_
  refine r_aload_n dX4_add_5 rfl rfl ?_
  refine m_getI hp fw_X4_17 dX4_add_6 rfl t1 ?_
  refine k_VV (As := [.int (ri h a1 2), .int (ri h a1 3)]) (stk := []) hp cv_X4_57 dX4_add_9 rfl (Nat.le_of_ble_eq_true rfl) t0 (H.mono (fun h1 H => ?_)) ⟨Nat.le_refl _, Nat.le_refl _⟩
  refine r_iconst (v := (0 : Int32)) dX4_add_12 rfl ?_
  refine r_istore_n (ls2 := [some (.ref a0), some (.ref a1), some (.int x2), some (.int (0 : Int32)), none]) dX4_add_13 rfl (by decide) rfl ?_
  exact H
theorem s_X4_add_14 {g : GX} {d : Nat} {av : List Value} {Q : QT} {n : Nat} {h : Hp} {a0 : Nat} {a1 : Nat} {x2 : Int32} {x3 : Int32} (hp : g.2.2.2.2 = true) (t0 : lay a0 = (0, 4, 4)) (t1 : lay a1 = (0, 4, 4)) (H : (((ri h a1 3) ≤ x3) → (CallV g m_X4_trim d [.ref a0] n h (fun h1 => (Q none n h1)))) ∧ ((¬ (ri h a1 3) ≤ x3) → (W_X4_add g d av Q n 25 [some (.ref a0), some (.ref a1), some (.int x2), some (.int x3), some (.int (0 : Int32))] [] h))) : W_X4_add g d av Q n 14 [some (.ref a0), some (.ref a1), some (.int x2), some (.int x3), none] [] h := by
  refine r_iload_n dX4_add_14 rfl rfl ?_
  refine r_aload_n dX4_add_15 rfl rfl ?_
  refine m_getI hp fw_X4_17 dX4_add_16 rfl t1 ?_
  refine r_icmp_ge (tgt := 95) dX4_add_19 rfl (fun cH => ?_) (fun cH => ?_)
  · replace H := H.1 cH
    refine r_aload_n dX4_add_95 rfl rfl ?_
    refine k_VV (As := []) (stk := []) hp cv_X4_31 dX4_add_96 rfl (Nat.le_of_ble_eq_true rfl) t0 (H.mono (fun h1 H => ?_)) ⟨Nat.le_refl _, Nat.le_refl _⟩
    exact r_vret dX4_add_99 rfl (Nat.le_refl _) (Nat.le_refl _) H
  · replace H := H.2 cH
    refine r_iconst (v := (0 : Int32)) dX4_add_22 rfl ?_
    refine r_istore (ls2 := [some (.ref a0), some (.ref a1), some (.int x2), some (.int x3), some (.int (0 : Int32))]) dX4_add_23 (by decide) rfl ?_
    exact H
theorem s_X4_add_25 {g : GX} {d : Nat} {av : List Value} {Q : QT} {n : Nat} {h : Hp} {a0 : Nat} {a1 : Nat} {x2 : Int32} {x3 : Int32} {x4 : Int32} (hp : g.2.2.2.2 = true) (t0 : lay a0 = (0, 4, 4)) (t1 : lay a1 = (0, 4, 4)) (H : (((ri h a1 2) ≤ x4) → (W_X4_add g d av Q n 14 [some (.ref a0), some (.ref a1), some (.int x2), some (.int (x3 + (1 : Int32))), none] [] h)) ∧ ((¬ (ri h a1 2) ≤ x4) → (vp_in ((x3 * (ri h a0 0)) + x4) (rm (a0 + 1)) ∧ (vp_in ((x3 * (ri h a1 0)) + x4) (rm (a1 + 1)) ∧ (CallI g m_X0_times d [.int (ri h (a1 + 1) (((x3 * (ri h a1 0)) + x4)).toNatClampNeg), .int x2] n h (fun v1 h1 => (CallI g m_X0_sum d [.int (ri h (a0 + 1) (((x3 * (ri h a0 0)) + x4)).toNatClampNeg), .int v1] n h1 (fun v2 h2 => (vp_in ((x3 * (ri h a0 0)) + x4) (rm (a0 + 1)) ∧ ∀ h3, h3 = wi h2 (a0 + 1) (((x3 * (ri h a0 0)) + x4)).toNatClampNeg v2 → (W_X4_add g d av Q n 25 [some (.ref a0), some (.ref a1), some (.int x2), some (.int x3), some (.int (x4 + (1 : Int32)))] [] h3)))))))))) : W_X4_add g d av Q n 25 [some (.ref a0), some (.ref a1), some (.int x2), some (.int x3), some (.int x4)] [] h := by
  refine r_iload dX4_add_25 rfl ?_
  refine r_aload_n dX4_add_27 rfl rfl ?_
  refine m_getI hp fw_X4_20 dX4_add_28 rfl t1 ?_
  refine r_icmp_ge (tgt := 89) dX4_add_31 rfl (fun cH => ?_) (fun cH => ?_)
  · replace H := H.1 cH
    refine r_iinc (v := (x3 + (1 : Int32))) (ls2 := [some (.ref a0), some (.ref a1), some (.int x2), some (.int (x3 + (1 : Int32))), some (.int x4)]) dX4_add_89 rfl rfl (by decide) rfl ?_
    refine r_goto (tgt := 14) dX4_add_92 rfl ?_
    refine r_prune [true, true, true, true, false] (ls2 := [some (.ref a0), some (.ref a1), some (.int x2), some (.int (x3 + (1 : Int32))), none]) rfl ?_
    exact H
  · replace H := H.2 cH
    refine r_aload_n dX4_add_34 rfl rfl ?_
    refine m_getF (x := (a0 + 1)) hp fw_X4_13 dX4_add_35 rfl t0 (ff_4_1 t0) ?_
    refine r_iload_n dX4_add_38 rfl rfl ?_
    refine r_aload_n dX4_add_39 rfl rfl ?_
    refine m_getI hp fw_X4_7 dX4_add_40 rfl t0 ?_
    refine r_imul dX4_add_43 ?_
    refine r_iload dX4_add_44 rfl ?_
    refine r_iadd dX4_add_46 ?_
    refine r_aload_n dX4_add_47 rfl rfl ?_
    refine m_getF (x := (a0 + 1)) hp fw_X4_13 dX4_add_48 rfl t0 (ff_4_1 t0) ?_
    refine r_iload_n dX4_add_51 rfl rfl ?_
    refine r_aload_n dX4_add_52 rfl rfl ?_
    refine m_getI hp fw_X4_7 dX4_add_53 rfl t0 ?_
    refine r_imul dX4_add_56 ?_
    refine r_iload dX4_add_57 rfl ?_
    refine r_iadd dX4_add_59 ?_
    refine m_iald hp dX4_add_60 (lf_4_1 t0) H.1 ?_
    replace H := H.2
    refine r_aload_n dX4_add_61 rfl rfl ?_
    refine m_getF (x := (a1 + 1)) hp fw_X4_13 dX4_add_62 rfl t1 (ff_4_1 t1) ?_
    refine r_iload_n dX4_add_65 rfl rfl ?_
    refine r_aload_n dX4_add_66 rfl rfl ?_
    refine m_getI hp fw_X4_7 dX4_add_67 rfl t1 ?_
    refine r_imul dX4_add_70 ?_
    refine r_iload dX4_add_71 rfl ?_
    refine r_iadd dX4_add_73 ?_
    refine m_iald hp dX4_add_74 (lf_4_1 t1) H.1 ?_
    replace H := H.2
    refine r_iload_n dX4_add_75 rfl rfl ?_
    refine k_SI (As := [.int (ri h (a1 + 1) (((x3 * (ri h a1 0)) + x4)).toNatClampNeg), .int x2]) (stk := [.int (ri h (a0 + 1) (((x3 * (ri h a0 0)) + x4)).toNatClampNeg), .int ((x3 * (ri h a0 0)) + x4), .ref (a0 + 1)]) cs_X4_51 dX4_add_76 rfl (Nat.le_of_ble_eq_true rfl) (H.mono (fun v1 h1 H => ?_)) ⟨Nat.le_refl _, Nat.le_refl _⟩
    refine k_SI (As := [.int (ri h (a0 + 1) (((x3 * (ri h a0 0)) + x4)).toNatClampNeg), .int v1]) (stk := [.int ((x3 * (ri h a0 0)) + x4), .ref (a0 + 1)]) cs_X4_60 dX4_add_79 rfl (Nat.le_of_ble_eq_true rfl) (H.mono (fun v2 h2 H => ?_)) ⟨Nat.le_refl _, Nat.le_refl _⟩
    refine m_iast hp dX4_add_82 (lf_4_1 t0) H.1 (fun h3 eh3 => ?_)
    replace H := H.2 h3 eh3
    refine r_iinc (v := (x4 + (1 : Int32))) (ls2 := [some (.ref a0), some (.ref a1), some (.int x2), some (.int x3), some (.int (x4 + (1 : Int32)))]) dX4_add_83 rfl rfl (by decide) rfl ?_
    refine r_goto (tgt := 25) dX4_add_86 rfl ?_
    exact H
abbrev W_X4_head (g : GX) (d : Nat) (av : List Value) (Q : QT) (n : Nat) (pc : Nat) (ls : LV) (stk : List Value) (h : Hp) : Prop := RJ g m_X4_head d 0 0 av Q pc ls stk n h 0 0
theorem s_X4_head_0 {g : GX} {d : Nat} {av : List Value} {Q : QT} {n : Nat} {h : Hp} {a0 : Nat} (hp : g.2.2.2.2 = true) (t0 : lay a0 = (0, 4, 4)) (H : W_X4_head g d av Q n 7 [some (.ref a0), some (.int ((ri h a0 2) - (1 : Int32)))] [] h) : W_X4_head g d av Q n 0 [some (.ref a0), none] [] h := by
  refine r_aload_n dX4_head_0 rfl rfl ?_
  refine m_getI hp fw_X4_20 dX4_head_1 rfl t0 ?_
  refine r_iconst (v := (1 : Int32)) dX4_head_4 rfl ?_
  refine r_isub dX4_head_5 ?_
  refine r_istore_n (ls2 := [some (.ref a0), some (.int ((ri h a0 2) - (1 : Int32)))]) dX4_head_6 rfl (by decide) rfl ?_
  exact H
theorem s_X4_head_7 {g : GX} {d : Nat} {av : List Value} {Q : QT} {n : Nat} {h : Hp} {a0 : Nat} {x1 : Int32} (hp : g.2.2.2.2 = true) (t0 : lay a0 = (0, 4, 4)) (H : ((x1 < (0 : Int32)) → (W_X4_head g d av Q n 38 [some (.ref a0), some (.int x1)] [] h)) ∧ ((¬ x1 < (0 : Int32)) → (vp_in ((((ri h a0 3) - (1 : Int32)) * (ri h a0 0)) + x1) (rm (a0 + 1)) ∧ (((¬ (ri h (a0 + 1) (((((ri h a0 3) - (1 : Int32)) * (ri h a0 0)) + x1)).toNatClampNeg) = (0 : Int32)) → (W_X4_head g d av Q n 38 [some (.ref a0), some (.int x1)] [] h)) ∧ (((ri h (a0 + 1) (((((ri h a0 3) - (1 : Int32)) * (ri h a0 0)) + x1)).toNatClampNeg) = (0 : Int32)) → (W_X4_head g d av Q n 7 [some (.ref a0), some (.int (x1 + (-1 : Int32)))] [] h)))))) : W_X4_head g d av Q n 7 [some (.ref a0), some (.int x1)] [] h := by
  refine r_iload_n dX4_head_7 rfl rfl ?_
  refine r_if_lt (tgt := 38) dX4_head_8 rfl (fun cH => ?_) (fun cH => ?_)
  · replace H := H.1 cH
    exact H
  · replace H := H.2 cH
    refine r_aload_n dX4_head_11 rfl rfl ?_
    refine m_getF (x := (a0 + 1)) hp fw_X4_13 dX4_head_12 rfl t0 (ff_4_1 t0) ?_
    refine r_aload_n dX4_head_15 rfl rfl ?_
    refine m_getI hp fw_X4_17 dX4_head_16 rfl t0 ?_
    refine r_iconst (v := (1 : Int32)) dX4_head_19 rfl ?_
    refine r_isub dX4_head_20 ?_
    refine r_aload_n dX4_head_21 rfl rfl ?_
    refine m_getI hp fw_X4_7 dX4_head_22 rfl t0 ?_
    refine r_imul dX4_head_25 ?_
    refine r_iload_n dX4_head_26 rfl rfl ?_
    refine r_iadd dX4_head_27 ?_
    refine m_iald hp dX4_head_28 (lf_4_1 t0) H.1 ?_
    replace H := H.2
    refine r_if_ne (tgt := 38) dX4_head_29 rfl (fun cH => ?_) (fun cH => ?_)
    · replace H := H.1 cH
      exact H
    · replace H := H.2 cH
      refine r_iinc (v := (x1 + (-1 : Int32))) (ls2 := [some (.ref a0), some (.int (x1 + (-1 : Int32)))]) dX4_head_32 rfl rfl (by decide) rfl ?_
      refine r_goto (tgt := 7) dX4_head_35 rfl ?_
      exact H
theorem s_X4_head_38 {g : GX} {d : Nat} {av : List Value} {Q : QT} {n : Nat} {h : Hp} {a0 : Nat} {x1 : Int32} (hp : g.2.2.2.2 = true) (t0 : lay a0 = (0, 4, 4)) (H : (((0 : Int32) ≤ x1) → (vp_in ((((ri h a0 3) - (1 : Int32)) * (ri h a0 0)) + x1) (rm (a0 + 1)) ∧ (Q (some (.int (ri h (a0 + 1) (((((ri h a0 3) - (1 : Int32)) * (ri h a0 0)) + x1)).toNatClampNeg))) n h))) ∧ ((¬ (0 : Int32) ≤ x1) → (Q (some (.int (0 : Int32))) n h))) : W_X4_head g d av Q n 38 [some (.ref a0), some (.int x1)] [] h := by
  refine r_iload_n dX4_head_38 rfl rfl ?_
  refine r_if_ge (tgt := 46) dX4_head_39 rfl (fun cH => ?_) (fun cH => ?_)
  · replace H := H.1 cH
    refine r_aload_n dX4_head_46 rfl rfl ?_
    refine m_getF (x := (a0 + 1)) hp fw_X4_13 dX4_head_47 rfl t0 (ff_4_1 t0) ?_
    refine r_aload_n dX4_head_50 rfl rfl ?_
    refine m_getI hp fw_X4_17 dX4_head_51 rfl t0 ?_
    refine r_iconst (v := (1 : Int32)) dX4_head_54 rfl ?_
    refine r_isub dX4_head_55 ?_
    refine r_aload_n dX4_head_56 rfl rfl ?_
    refine m_getI hp fw_X4_7 dX4_head_57 rfl t0 ?_
    refine r_imul dX4_head_60 ?_
    refine r_iload_n dX4_head_61 rfl rfl ?_
    refine r_iadd dX4_head_62 ?_
    refine m_iald hp dX4_head_63 (lf_4_1 t0) H.1 ?_
    replace H := H.2
    exact r_zret dX4_head_64 rfl rfl (Nat.le_refl _) (Nat.le_refl _) H
  · replace H := H.2 cH
    refine r_iconst (v := (0 : Int32)) dX4_head_42 rfl ?_
    refine r_goto (tgt := 64) dX4_head_43 rfl ?_
    exact r_zret dX4_head_64 rfl rfl (Nat.le_refl _) (Nat.le_refl _) H
abbrev W_X4_row (g : GX) (d : Nat) (av : List Value) (Q : QT) (n : Nat) (pc : Nat) (ls : LV) (stk : List Value) (h : Hp) : Prop := RJ g m_X4_row (d + 1) 0 0 av Q pc ls stk n h 0 0
theorem s_X4_row_0 {g : GX} {d : Nat} {av : List Value} {Q : QT} {n : Nat} {h : Hp} {a0 : Nat} {x1 : Int32} {a2 : Nat} (hp : g.2.2.2.2 = true) (t0 : lay a0 = (0, 4, 4)) (t2 : lay a2 = (0, 3, 2)) (H : ((x1 < (0 : Int32)) → (W_X4_row g d av Q n 20 [some (.ref a0), some (.int x1), some (.ref a2), none] [.ref a2] h)) ∧ ((¬ x1 < (0 : Int32)) → ((((ri h a0 3) ≤ x1) → (W_X4_row g d av Q n 20 [some (.ref a0), some (.int x1), some (.ref a2), none] [.ref a2] h)) ∧ ((¬ (ri h a0 3) ≤ x1) → (W_X4_row g d av Q n 21 [some (.ref a0), some (.int x1), some (.ref a2), none] [.int (ri h a0 2), .ref a2] h))))) : W_X4_row g d av Q n 0 [some (.ref a0), some (.int x1), some (.ref a2), none] [] h := by
  refine r_aload_n dX4_row_0 rfl rfl ?_
  refine r_iload_n dX4_row_1 rfl rfl ?_
  refine r_if_lt (tgt := 20) dX4_row_2 rfl (fun cH => ?_) (fun cH => ?_)
  · replace H := H.1 cH
    exact H
  · replace H := H.2 cH
    refine r_iload_n dX4_row_5 rfl rfl ?_
    refine r_aload_n dX4_row_6 rfl rfl ?_
    refine m_getI hp fw_X4_17 dX4_row_7 rfl t0 ?_
    refine r_icmp_ge (tgt := 20) dX4_row_10 rfl (fun cH => ?_) (fun cH => ?_)
    · replace H := H.1 cH
      exact H
    · replace H := H.2 cH
      refine r_aload_n dX4_row_13 rfl rfl ?_
      refine m_getI hp fw_X4_20 dX4_row_14 rfl t0 ?_
      refine r_goto (tgt := 21) dX4_row_17 rfl ?_
      exact H
theorem s_X4_row_20 {g : GX} {d : Nat} {av : List Value} {Q : QT} {n : Nat} {h : Hp} {a0 : Nat} {x1 : Int32} {a2 : Nat} {as0 : Nat} (hp : g.2.2.2.2 = true) (t0 : lay a0 = (0, 4, 4)) (t2 : lay a2 = (0, 3, 2)) (ts0 : lay as0 = (0, 3, 2)) (H : W_X4_row g d av Q n 21 [some (.ref a0), some (.int x1), some (.ref a2), none] [.int (0 : Int32), .ref as0] h) : W_X4_row g d av Q n 20 [some (.ref a0), some (.int x1), some (.ref a2), none] [.ref as0] h := by
  refine r_iconst (v := (0 : Int32)) dX4_row_20 rfl ?_
  exact H
theorem s_X4_row_21 {g : GX} {d : Nat} {av : List Value} {Q : QT} {n : Nat} {h : Hp} {a0 : Nat} {x1 : Int32} {a2 : Nat} {xs0 : Int32} {as1 : Nat} (hp : g.2.2.2.2 = true) (t0 : lay a0 = (0, 4, 4)) (t2 : lay a2 = (0, 3, 2)) (ts1 : lay as1 = (0, 3, 2)) (H : ∀ h1, h1 = wi h as1 1 xs0 → (W_X4_row g d av Q n 26 [some (.ref a0), some (.int x1), some (.ref a2), some (.int (0 : Int32))] [] h1)) : W_X4_row g d av Q n 21 [some (.ref a0), some (.int x1), some (.ref a2), none] [.int xs0, .ref as1] h := by
  refine m_putI hp fw_X4_40 dX4_row_21 rfl rfl ts1 (fun h1 eh1 => ?_)
  replace H := H h1 eh1
  refine r_iconst (v := (0 : Int32)) dX4_row_24 rfl ?_
  refine r_istore_n (ls2 := [some (.ref a0), some (.int x1), some (.ref a2), some (.int (0 : Int32))]) dX4_row_25 rfl (by decide) rfl ?_
  exact H
theorem s_X4_row_26 {g : GX} {d : Nat} {av : List Value} {Q : QT} {n : Nat} {h : Hp} {a0 : Nat} {x1 : Int32} {a2 : Nat} {x3 : Int32} (hp : g.2.2.2.2 = true) (t0 : lay a0 = (0, 4, 4)) (t2 : lay a2 = (0, 3, 2)) (H : (((ri h a2 1) ≤ x3) → (CallV g m_X3_trim d [.ref a2] n h (fun h1 => (Q none n h1)))) ∧ ((¬ (ri h a2 1) ≤ x3) → (vp_in ((x1 * (ri h a0 0)) + x3) (rm (a0 + 1)) ∧ (vp_in x3 (rm (a2 + 1)) ∧ ∀ h2, h2 = wi h (a2 + 1) (x3).toNatClampNeg (ri h (a0 + 1) (((x1 * (ri h a0 0)) + x3)).toNatClampNeg) → (W_X4_row g d av Q n 26 [some (.ref a0), some (.int x1), some (.ref a2), some (.int (x3 + (1 : Int32)))] [] h2))))) : W_X4_row g d av Q n 26 [some (.ref a0), some (.int x1), some (.ref a2), some (.int x3)] [] h := by
  refine r_iload_n dX4_row_26 rfl rfl ?_
  refine r_aload_n dX4_row_27 rfl rfl ?_
  refine m_getI hp fw_X4_40 dX4_row_28 rfl t2 ?_
  refine r_icmp_ge (tgt := 59) dX4_row_31 rfl (fun cH => ?_) (fun cH => ?_)
  · replace H := H.1 cH
    refine r_aload_n dX4_row_59 rfl rfl ?_
    refine k_VV (As := []) (stk := []) hp cv_X4_46 dX4_row_60 rfl (Nat.le_of_ble_eq_true rfl) t2 (H.mono (fun h1 H => ?_)) ⟨Nat.le_refl _, Nat.le_refl _⟩
    exact r_vret dX4_row_63 rfl (Nat.le_refl _) (Nat.le_refl _) H
  · replace H := H.2 cH
    refine r_aload_n dX4_row_34 rfl rfl ?_
    refine m_getF (x := (a2 + 1)) hp fw_X4_45 dX4_row_35 rfl t2 (ff_3_0 t2) ?_
    refine r_iload_n dX4_row_38 rfl rfl ?_
    refine r_aload_n dX4_row_39 rfl rfl ?_
    refine m_getF (x := (a0 + 1)) hp fw_X4_13 dX4_row_40 rfl t0 (ff_4_1 t0) ?_
    refine r_iload_n dX4_row_43 rfl rfl ?_
    refine r_aload_n dX4_row_44 rfl rfl ?_
    refine m_getI hp fw_X4_7 dX4_row_45 rfl t0 ?_
    refine r_imul dX4_row_48 ?_
    refine r_iload_n dX4_row_49 rfl rfl ?_
    refine r_iadd dX4_row_50 ?_
    refine m_iald hp dX4_row_51 (lf_4_1 t0) H.1 ?_
    replace H := H.2
    refine m_iast hp dX4_row_52 (lf_3_0 t2) H.1 (fun h2 eh2 => ?_)
    replace H := H.2 h2 eh2
    refine r_iinc (v := (x3 + (1 : Int32))) (ls2 := [some (.ref a0), some (.int x1), some (.ref a2), some (.int (x3 + (1 : Int32)))]) dX4_row_53 rfl rfl (by decide) rfl ?_
    refine r_goto (tgt := 26) dX4_row_56 rfl ?_
    exact H
abbrev W_X4_putRow (g : GX) (d : Nat) (av : List Value) (Q : QT) (n : Nat) (pc : Nat) (ls : LV) (stk : List Value) (h : Hp) : Prop := RJ g m_X4_putRow (d + 1) 0 0 av Q pc ls stk n h 0 0
theorem s_X4_putRow_0 {g : GX} {d : Nat} {av : List Value} {Q : QT} {n : Nat} {h : Hp} {a0 : Nat} {x1 : Int32} {a2 : Nat} (hp : g.2.2.2.2 = true) (t0 : lay a0 = (0, 4, 4)) (t2 : lay a2 = (0, 3, 2)) (H : W_X4_putRow g d av Q n 2 [some (.ref a0), some (.int x1), some (.ref a2), some (.int (0 : Int32))] [] h) : W_X4_putRow g d av Q n 0 [some (.ref a0), some (.int x1), some (.ref a2), none] [] h := by
  refine r_iconst (v := (0 : Int32)) dX4_putRow_0 rfl ?_
  refine r_istore_n (ls2 := [some (.ref a0), some (.int x1), some (.ref a2), some (.int (0 : Int32))]) dX4_putRow_1 rfl (by decide) rfl ?_
  exact H
theorem s_X4_putRow_2 {g : GX} {d : Nat} {av : List Value} {Q : QT} {n : Nat} {h : Hp} {a0 : Nat} {x1 : Int32} {a2 : Nat} {x3 : Int32} (hp : g.2.2.2.2 = true) (t0 : lay a0 = (0, 4, 4)) (t2 : lay a2 = (0, 3, 2)) (H : (((ri h a0 2) ≤ x3) → (Q none n h)) ∧ ((¬ (ri h a0 2) ≤ x3) → (CallI g m_X3_get d [.ref a2, .int x3] n h (fun v1 h1 => (vp_in ((x1 * (ri h a0 0)) + x3) (rm (a0 + 1)) ∧ ∀ h2, h2 = wi h1 (a0 + 1) (((x1 * (ri h a0 0)) + x3)).toNatClampNeg v1 → (W_X4_putRow g d av Q n 2 [some (.ref a0), some (.int x1), some (.ref a2), some (.int (x3 + (1 : Int32)))] [] h2)))))) : W_X4_putRow g d av Q n 2 [some (.ref a0), some (.int x1), some (.ref a2), some (.int x3)] [] h := by
  refine r_iload_n dX4_putRow_2 rfl rfl ?_
  refine r_aload_n dX4_putRow_3 rfl rfl ?_
  refine m_getI hp fw_X4_20 dX4_putRow_4 rfl t0 ?_
  refine r_icmp_ge (tgt := 34) dX4_putRow_7 rfl (fun cH => ?_) (fun cH => ?_)
  · replace H := H.1 cH
    exact r_vret dX4_putRow_34 rfl (Nat.le_refl _) (Nat.le_refl _) H
  · replace H := H.2 cH
    refine r_aload_n dX4_putRow_10 rfl rfl ?_
    refine m_getF (x := (a0 + 1)) hp fw_X4_13 dX4_putRow_11 rfl t0 (ff_4_1 t0) ?_
    refine r_iload_n dX4_putRow_14 rfl rfl ?_
    refine r_aload_n dX4_putRow_15 rfl rfl ?_
    refine m_getI hp fw_X4_7 dX4_putRow_16 rfl t0 ?_
    refine r_imul dX4_putRow_19 ?_
    refine r_iload_n dX4_putRow_20 rfl rfl ?_
    refine r_iadd dX4_putRow_21 ?_
    refine r_aload_n dX4_putRow_22 rfl rfl ?_
    refine r_iload_n dX4_putRow_23 rfl rfl ?_
    refine k_VI (As := [.int x3]) (stk := [.int ((x1 * (ri h a0 0)) + x3), .ref (a0 + 1)]) hp cv_X4_47 dX4_putRow_24 rfl (Nat.le_of_ble_eq_true rfl) t2 (H.mono (fun v1 h1 H => ?_)) ⟨Nat.le_refl _, Nat.le_refl _⟩
    refine m_iast hp dX4_putRow_27 (lf_4_1 t0) H.1 (fun h2 eh2 => ?_)
    replace H := H.2 h2 eh2
    refine r_iinc (v := (x3 + (1 : Int32))) (ls2 := [some (.ref a0), some (.int x1), some (.ref a2), some (.int (x3 + (1 : Int32)))]) dX4_putRow_28 rfl rfl (by decide) rfl ?_
    refine r_goto (tgt := 2) dX4_putRow_31 rfl ?_
    exact H
abbrev W_X4_atN (g : GX) (d : Nat) (av : List Value) (Q : QT) (n : Nat) (pc : Nat) (ls : LV) (stk : List Value) (h : Hp) : Prop := RJ g m_X4_atN (d + 1) 0 0 av Q pc ls stk n h 0 0
theorem s_X4_atN_0 {g : GX} {d : Nat} {av : List Value} {Q : QT} {n : Nat} {h : Hp} {a0 : Nat} {x1 : Int32} {a2 : Nat} (hp : g.2.2.2.2 = true) (t0 : lay a0 = (0, 4, 4)) (t2 : lay a2 = (0, 3, 2)) (H : ∀ h1, h1 = wi h a2 1 (ri h a0 3) → (W_X4_atN g d av Q n 10 [some (.ref a0), some (.int x1), some (.ref a2), some (.int (0 : Int32)), none, none] [] h1)) : W_X4_atN g d av Q n 0 [some (.ref a0), some (.int x1), some (.ref a2), none, none, none] [] h := by
  refine r_aload_n dX4_atN_0 rfl rfl ?_
  refine r_aload_n dX4_atN_1 rfl rfl ?_
  refine m_getI hp fw_X4_17 dX4_atN_2 rfl t0 ?_
  refine m_putI hp fw_X4_40 dX4_atN_5 rfl rfl t2 (fun h1 eh1 => ?_)
  replace H := H h1 eh1
  refine r_iconst (v := (0 : Int32)) dX4_atN_8 rfl ?_
  refine r_istore_n (ls2 := [some (.ref a0), some (.int x1), some (.ref a2), some (.int (0 : Int32)), none, none]) dX4_atN_9 rfl (by decide) rfl ?_
  exact H
theorem s_X4_atN_10 {g : GX} {d : Nat} {av : List Value} {Q : QT} {n : Nat} {h : Hp} {a0 : Nat} {x1 : Int32} {a2 : Nat} {x3 : Int32} (hp : g.2.2.2.2 = true) (t0 : lay a0 = (0, 4, 4)) (t2 : lay a2 = (0, 3, 2)) (H : (((ri h a0 3) ≤ x3) → (CallV g m_X3_trim d [.ref a2] n h (fun h1 => (Q none n h1)))) ∧ ((¬ (ri h a0 3) ≤ x3) → (W_X4_atN g d av Q n 29 [some (.ref a0), some (.int x1), some (.ref a2), some (.int x3), some (.int (0 : Int32)), some (.int ((ri h a0 2) - (1 : Int32)))] [] h))) : W_X4_atN g d av Q n 10 [some (.ref a0), some (.int x1), some (.ref a2), some (.int x3), none, none] [] h := by
  refine r_iload_n dX4_atN_10 rfl rfl ?_
  refine r_aload_n dX4_atN_11 rfl rfl ?_
  refine m_getI hp fw_X4_17 dX4_atN_12 rfl t0 ?_
  refine r_icmp_ge (tgt := 79) dX4_atN_15 rfl (fun cH => ?_) (fun cH => ?_)
  · replace H := H.1 cH
    refine r_aload_n dX4_atN_79 rfl rfl ?_
    refine k_VV (As := []) (stk := []) hp cv_X4_46 dX4_atN_80 rfl (Nat.le_of_ble_eq_true rfl) t2 (H.mono (fun h1 H => ?_)) ⟨Nat.le_refl _, Nat.le_refl _⟩
    exact r_vret dX4_atN_83 rfl (Nat.le_refl _) (Nat.le_refl _) H
  · replace H := H.2 cH
    refine r_iconst (v := (0 : Int32)) dX4_atN_18 rfl ?_
    refine r_istore (ls2 := [some (.ref a0), some (.int x1), some (.ref a2), some (.int x3), some (.int (0 : Int32)), none]) dX4_atN_19 (by decide) rfl ?_
    refine r_aload_n dX4_atN_21 rfl rfl ?_
    refine m_getI hp fw_X4_20 dX4_atN_22 rfl t0 ?_
    refine r_iconst (v := (1 : Int32)) dX4_atN_25 rfl ?_
    refine r_isub dX4_atN_26 ?_
    refine r_istore (ls2 := [some (.ref a0), some (.int x1), some (.ref a2), some (.int x3), some (.int (0 : Int32)), some (.int ((ri h a0 2) - (1 : Int32)))]) dX4_atN_27 (by decide) rfl ?_
    exact H
theorem s_X4_atN_29 {g : GX} {d : Nat} {av : List Value} {Q : QT} {n : Nat} {h : Hp} {a0 : Nat} {x1 : Int32} {a2 : Nat} {x3 : Int32} {x4 : Int32} {x5 : Int32} (hp : g.2.2.2.2 = true) (t0 : lay a0 = (0, 4, 4)) (t2 : lay a2 = (0, 3, 2)) (H : ((x5 < (0 : Int32)) → (vp_in x3 (rm (a2 + 1)) ∧ ∀ h1, h1 = wi h (a2 + 1) (x3).toNatClampNeg x4 → (W_X4_atN g d av Q n 10 [some (.ref a0), some (.int x1), some (.ref a2), some (.int (x3 + (1 : Int32))), none, none] [] h1))) ∧ ((¬ x5 < (0 : Int32)) → (CallI g m_X0_times d [.int x4, .int x1] n h (fun v2 h2 => (vp_in ((x3 * (ri h2 a0 0)) + x5) (rm (a0 + 1)) ∧ (CallI g m_X0_sum d [.int v2, .int (ri h2 (a0 + 1) (((x3 * (ri h2 a0 0)) + x5)).toNatClampNeg)] n h2 (fun v3 h3 => (W_X4_atN g d av Q n 29 [some (.ref a0), some (.int x1), some (.ref a2), some (.int x3), some (.int v3), some (.int (x5 + (-1 : Int32)))] [] h3)))))))) : W_X4_atN g d av Q n 29 [some (.ref a0), some (.int x1), some (.ref a2), some (.int x3), some (.int x4), some (.int x5)] [] h := by
  refine r_iload dX4_atN_29 rfl ?_
  refine r_if_lt (tgt := 65) dX4_atN_31 rfl (fun cH => ?_) (fun cH => ?_)
  · replace H := H.1 cH
    refine r_aload_n dX4_atN_65 rfl rfl ?_
    refine m_getF (x := (a2 + 1)) hp fw_X4_45 dX4_atN_66 rfl t2 (ff_3_0 t2) ?_
    refine r_iload_n dX4_atN_69 rfl rfl ?_
    refine r_iload dX4_atN_70 rfl ?_
    refine m_iast hp dX4_atN_72 (lf_3_0 t2) H.1 (fun h1 eh1 => ?_)
    replace H := H.2 h1 eh1
    refine r_iinc (v := (x3 + (1 : Int32))) (ls2 := [some (.ref a0), some (.int x1), some (.ref a2), some (.int (x3 + (1 : Int32))), some (.int x4), some (.int x5)]) dX4_atN_73 rfl rfl (by decide) rfl ?_
    refine r_goto (tgt := 10) dX4_atN_76 rfl ?_
    refine r_prune [true, true, true, true, false, false] (ls2 := [some (.ref a0), some (.int x1), some (.ref a2), some (.int (x3 + (1 : Int32))), none, none]) rfl ?_
    exact H
  · replace H := H.2 cH
    refine r_iload dX4_atN_34 rfl ?_
    refine r_iload_n dX4_atN_36 rfl rfl ?_
    refine k_SI (As := [.int x4, .int x1]) (stk := []) cs_X4_51 dX4_atN_37 rfl (Nat.le_of_ble_eq_true rfl) (H.mono (fun v2 h2 H => ?_)) ⟨Nat.le_refl _, Nat.le_refl _⟩
    refine r_aload_n dX4_atN_40 rfl rfl ?_
    refine m_getF (x := (a0 + 1)) hp fw_X4_13 dX4_atN_41 rfl t0 (ff_4_1 t0) ?_
    refine r_iload_n dX4_atN_44 rfl rfl ?_
    refine r_aload_n dX4_atN_45 rfl rfl ?_
    refine m_getI hp fw_X4_7 dX4_atN_46 rfl t0 ?_
    refine r_imul dX4_atN_49 ?_
    refine r_iload dX4_atN_50 rfl ?_
    refine r_iadd dX4_atN_52 ?_
    refine m_iald hp dX4_atN_53 (lf_4_1 t0) H.1 ?_
    replace H := H.2
    refine k_SI (As := [.int v2, .int (ri h2 (a0 + 1) (((x3 * (ri h2 a0 0)) + x5)).toNatClampNeg)]) (stk := []) cs_X4_60 dX4_atN_54 rfl (Nat.le_of_ble_eq_true rfl) (H.mono (fun v3 h3 H => ?_)) ⟨Nat.le_refl _, Nat.le_refl _⟩
    refine r_istore (ls2 := [some (.ref a0), some (.int x1), some (.ref a2), some (.int x3), some (.int v3), some (.int x5)]) dX4_atN_57 (by decide) rfl ?_
    refine r_iinc (v := (x5 + (-1 : Int32))) (ls2 := [some (.ref a0), some (.int x1), some (.ref a2), some (.int x3), some (.int v3), some (.int (x5 + (-1 : Int32)))]) dX4_atN_59 rfl rfl (by decide) rfl ?_
    refine r_goto (tgt := 29) dX4_atN_62 rfl ?_
    exact H
abbrev W_X4_timesPoly (g : GX) (d : Nat) (av : List Value) (Q : QT) (n : Nat) (pc : Nat) (ls : LV) (stk : List Value) (h : Hp) : Prop := RJ g m_X4_timesPoly (d + 1) 0 0 av Q pc ls stk n h 0 0
theorem s_X4_timesPoly_0 {g : GX} {d : Nat} {av : List Value} {Q : QT} {n : Nat} {h : Hp} {a0 : Nat} {a1 : Nat} {a2 : Nat} (hp : g.2.2.2.2 = true) (t0 : lay a0 = (0, 4, 4)) (t1 : lay a1 = (0, 3, 2)) (t2 : lay a2 = (0, 4, 4)) (H : CallV g m_X4_copy d [.ref a2, .ref a0] n h (fun h1 => (CallV g m_X4_clear d [.ref a0] n h1 (fun h2 => (CallI g m_X3_isZero d [.ref a1] n h2 (fun v3 h3 => (((¬ v3 = (0 : Int32)) → (Q none n h3)) ∧ ((v3 = (0 : Int32)) → (CallI g m_X4_isZero d [.ref a2] n h3 (fun v4 h4 => (((v4 = (0 : Int32)) → (CallV g m_X4_grow d [.ref a0, .int (((ri h4 a2 2) + (ri h4 a1 1)) - (1 : Int32)), .int (ri h4 a2 3)] n h4 (fun h5 => (W_X4_timesPoly g d av Q n 45 [some (.ref a0), some (.ref a1), some (.ref a2), some (.int (0 : Int32))] [] h5)))) ∧ ((¬ v4 = (0 : Int32)) → (Q none n h4))))))))))))) : W_X4_timesPoly g d av Q n 0 [some (.ref a0), some (.ref a1), some (.ref a2), none] [] h := by
  refine r_aload_n dX4_timesPoly_0 rfl rfl ?_
  refine r_aload_n dX4_timesPoly_1 rfl rfl ?_
  refine k_VV (As := [.ref a0]) (stk := []) hp cv_X4_83 dX4_timesPoly_2 rfl (Nat.le_of_ble_eq_true rfl) t2 (H.mono (fun h1 H => ?_)) ⟨Nat.le_refl _, Nat.le_refl _⟩
  refine r_aload_n dX4_timesPoly_5 rfl rfl ?_
  refine k_VV (As := []) (stk := []) hp cv_X4_76 dX4_timesPoly_6 rfl (Nat.le_of_ble_eq_true rfl) t0 (H.mono (fun h2 H => ?_)) ⟨Nat.le_refl _, Nat.le_refl _⟩
  refine r_aload_n dX4_timesPoly_9 rfl rfl ?_
  refine k_VI (As := []) (stk := []) hp cv_X4_87 dX4_timesPoly_10 rfl (Nat.le_of_ble_eq_true rfl) t1 (H.mono (fun v3 h3 H => ?_)) ⟨Nat.le_refl _, Nat.le_refl _⟩
  refine r_if_ne (tgt := 23) dX4_timesPoly_13 rfl (fun cH => ?_) (fun cH => ?_)
  · replace H := H.1 cH
    exact r_vret dX4_timesPoly_23 rfl (Nat.le_refl _) (Nat.le_refl _) H
  · replace H := H.2 cH
    refine r_aload_n dX4_timesPoly_16 rfl rfl ?_
    refine k_VI (As := []) (stk := []) hp cv_X4_68 dX4_timesPoly_17 rfl (Nat.le_of_ble_eq_true rfl) t2 (H.mono (fun v4 h4 H => ?_)) ⟨Nat.le_refl _, Nat.le_refl _⟩
    refine r_if_eq (tgt := 24) dX4_timesPoly_20 rfl (fun cH => ?_) (fun cH => ?_)
    · replace H := H.1 cH
      refine r_aload_n dX4_timesPoly_24 rfl rfl ?_
      refine r_aload_n dX4_timesPoly_25 rfl rfl ?_
      refine m_getI hp fw_X4_20 dX4_timesPoly_26 rfl t2 ?_
      refine r_aload_n dX4_timesPoly_29 rfl rfl ?_
      refine m_getI hp fw_X4_40 dX4_timesPoly_30 rfl t1 ?_
      refine r_iadd dX4_timesPoly_33 ?_
      refine r_iconst (v := (1 : Int32)) dX4_timesPoly_34 rfl ?_
      refine r_isub dX4_timesPoly_35 ?_
      refine r_aload_n dX4_timesPoly_36 rfl rfl ?_
      refine m_getI hp fw_X4_17 dX4_timesPoly_37 rfl t2 ?_
      refine k_VV (As := [.int (((ri h4 a2 2) + (ri h4 a1 1)) - (1 : Int32)), .int (ri h4 a2 3)]) (stk := []) hp cv_X4_57 dX4_timesPoly_40 rfl (Nat.le_of_ble_eq_true rfl) t0 (H.mono (fun h5 H => ?_)) ⟨Nat.le_refl _, Nat.le_refl _⟩
      refine r_iconst (v := (0 : Int32)) dX4_timesPoly_43 rfl ?_
      refine r_istore_n (ls2 := [some (.ref a0), some (.ref a1), some (.ref a2), some (.int (0 : Int32))]) dX4_timesPoly_44 rfl (by decide) rfl ?_
      exact H
    · replace H := H.2 cH
      exact r_vret dX4_timesPoly_23 rfl (Nat.le_refl _) (Nat.le_refl _) H
theorem s_X4_timesPoly_45 {g : GX} {d : Nat} {av : List Value} {Q : QT} {n : Nat} {h : Hp} {a0 : Nat} {a1 : Nat} {a2 : Nat} {x3 : Int32} (hp : g.2.2.2.2 = true) (t0 : lay a0 = (0, 4, 4)) (t1 : lay a1 = (0, 3, 2)) (t2 : lay a2 = (0, 4, 4)) (H : (((ri h a1 1) ≤ x3) → (CallV g m_X4_trim d [.ref a0] n h (fun h1 => (Q none n h1)))) ∧ ((¬ (ri h a1 1) ≤ x3) → (vp_in x3 (rm (a1 + 1)) ∧ ((((ri h (a1 + 1) (x3).toNatClampNeg) = (0 : Int32)) → (W_X4_timesPoly g d av Q n 75 [some (.ref a0), some (.ref a1), some (.ref a2), some (.int x3)] [] h)) ∧ ((¬ (ri h (a1 + 1) (x3).toNatClampNeg) = (0 : Int32)) → (vp_in x3 (rm (a1 + 1)) ∧ (CallV g m_X4_addRows d [.ref a0, .ref a2, .int (ri h (a1 + 1) (x3).toNatClampNeg), .int x3, .int (0 : Int32)] n h (fun h2 => (W_X4_timesPoly g d av Q n 75 [some (.ref a0), some (.ref a1), some (.ref a2), some (.int x3)] [] h2))))))))) : W_X4_timesPoly g d av Q n 45 [some (.ref a0), some (.ref a1), some (.ref a2), some (.int x3)] [] h := by
  refine r_iload_n dX4_timesPoly_45 rfl rfl ?_
  refine r_aload_n dX4_timesPoly_46 rfl rfl ?_
  refine m_getI hp fw_X4_40 dX4_timesPoly_47 rfl t1 ?_
  refine r_icmp_ge (tgt := 81) dX4_timesPoly_50 rfl (fun cH => ?_) (fun cH => ?_)
  · replace H := H.1 cH
    refine r_aload_n dX4_timesPoly_81 rfl rfl ?_
    refine k_VV (As := []) (stk := []) hp cv_X4_31 dX4_timesPoly_82 rfl (Nat.le_of_ble_eq_true rfl) t0 (H.mono (fun h1 H => ?_)) ⟨Nat.le_refl _, Nat.le_refl _⟩
    exact r_vret dX4_timesPoly_85 rfl (Nat.le_refl _) (Nat.le_refl _) H
  · replace H := H.2 cH
    refine r_aload_n dX4_timesPoly_53 rfl rfl ?_
    refine m_getF (x := (a1 + 1)) hp fw_X4_45 dX4_timesPoly_54 rfl t1 (ff_3_0 t1) ?_
    refine r_iload_n dX4_timesPoly_57 rfl rfl ?_
    refine m_iald hp dX4_timesPoly_58 (lf_3_0 t1) H.1 ?_
    replace H := H.2
    refine r_if_eq (tgt := 75) dX4_timesPoly_59 rfl (fun cH => ?_) (fun cH => ?_)
    · replace H := H.1 cH
      exact H
    · replace H := H.2 cH
      refine r_aload_n dX4_timesPoly_62 rfl rfl ?_
      refine r_aload_n dX4_timesPoly_63 rfl rfl ?_
      refine r_aload_n dX4_timesPoly_64 rfl rfl ?_
      refine m_getF (x := (a1 + 1)) hp fw_X4_45 dX4_timesPoly_65 rfl t1 (ff_3_0 t1) ?_
      refine r_iload_n dX4_timesPoly_68 rfl rfl ?_
      refine m_iald hp dX4_timesPoly_69 (lf_3_0 t1) H.1 ?_
      replace H := H.2
      refine r_iload_n dX4_timesPoly_70 rfl rfl ?_
      refine r_iconst (v := (0 : Int32)) dX4_timesPoly_71 rfl ?_
      refine k_VV (As := [.ref a2, .int (ri h (a1 + 1) (x3).toNatClampNeg), .int x3, .int (0 : Int32)]) (stk := []) hp cv_X4_72 dX4_timesPoly_72 rfl (Nat.le_of_ble_eq_true rfl) t0 (H.mono (fun h2 H => ?_)) ⟨Nat.le_refl _, Nat.le_refl _⟩
      exact H
theorem s_X4_timesPoly_75 {g : GX} {d : Nat} {av : List Value} {Q : QT} {n : Nat} {h : Hp} {a0 : Nat} {a1 : Nat} {a2 : Nat} {x3 : Int32} (hp : g.2.2.2.2 = true) (t0 : lay a0 = (0, 4, 4)) (t1 : lay a1 = (0, 3, 2)) (t2 : lay a2 = (0, 4, 4)) (H : W_X4_timesPoly g d av Q n 45 [some (.ref a0), some (.ref a1), some (.ref a2), some (.int (x3 + (1 : Int32)))] [] h) : W_X4_timesPoly g d av Q n 75 [some (.ref a0), some (.ref a1), some (.ref a2), some (.int x3)] [] h := by
  refine r_iinc (v := (x3 + (1 : Int32))) (ls2 := [some (.ref a0), some (.ref a1), some (.ref a2), some (.int (x3 + (1 : Int32)))]) dX4_timesPoly_75 rfl rfl (by decide) rfl ?_
  refine r_goto (tgt := 45) dX4_timesPoly_78 rfl ?_
  exact H
abbrev W_X4_degreeN (g : GX) (d : Nat) (av : List Value) (Q : QT) (n : Nat) (pc : Nat) (ls : LV) (stk : List Value) (h : Hp) : Prop := RJ g m_X4_degreeN d 0 0 av Q pc ls stk n h 0 0
theorem s_X4_degreeN_0 {g : GX} {d : Nat} {av : List Value} {Q : QT} {n : Nat} {h : Hp} {a0 : Nat} (hp : g.2.2.2.2 = true) (t0 : lay a0 = (0, 4, 4)) (H : (((ri h a0 2) ≤ (0 : Int32)) → (Q (some (.int (0 : Int32))) n h)) ∧ ((¬ (ri h a0 2) ≤ (0 : Int32)) → (Q (some (.int ((ri h a0 2) - (1 : Int32)))) n h))) : W_X4_degreeN g d av Q n 0 [some (.ref a0)] [] h := by
  refine r_aload_n dX4_degreeN_0 rfl rfl ?_
  refine m_getI hp fw_X4_20 dX4_degreeN_1 rfl t0 ?_
  refine r_if_le (tgt := 16) dX4_degreeN_4 rfl (fun cH => ?_) (fun cH => ?_)
  · replace H := H.1 cH
    refine r_iconst (v := (0 : Int32)) dX4_degreeN_16 rfl ?_
    exact r_zret dX4_degreeN_17 rfl rfl (Nat.le_refl _) (Nat.le_refl _) H
  · replace H := H.2 cH
    refine r_aload_n dX4_degreeN_7 rfl rfl ?_
    refine m_getI hp fw_X4_20 dX4_degreeN_8 rfl t0 ?_
    refine r_iconst (v := (1 : Int32)) dX4_degreeN_11 rfl ?_
    refine r_isub dX4_degreeN_12 ?_
    refine r_goto (tgt := 17) dX4_degreeN_13 rfl ?_
    exact r_zret dX4_degreeN_17 rfl rfl (Nat.le_refl _) (Nat.le_refl _) H
abbrev W_X4_degreeK (g : GX) (d : Nat) (av : List Value) (Q : QT) (n : Nat) (pc : Nat) (ls : LV) (stk : List Value) (h : Hp) : Prop := RJ g m_X4_degreeK d 0 0 av Q pc ls stk n h 0 0
theorem s_X4_degreeK_0 {g : GX} {d : Nat} {av : List Value} {Q : QT} {n : Nat} {h : Hp} {a0 : Nat} (hp : g.2.2.2.2 = true) (t0 : lay a0 = (0, 4, 4)) (H : (((ri h a0 3) ≤ (0 : Int32)) → (Q (some (.int (0 : Int32))) n h)) ∧ ((¬ (ri h a0 3) ≤ (0 : Int32)) → (Q (some (.int ((ri h a0 3) - (1 : Int32)))) n h))) : W_X4_degreeK g d av Q n 0 [some (.ref a0)] [] h := by
  refine r_aload_n dX4_degreeK_0 rfl rfl ?_
  refine m_getI hp fw_X4_17 dX4_degreeK_1 rfl t0 ?_
  refine r_if_le (tgt := 16) dX4_degreeK_4 rfl (fun cH => ?_) (fun cH => ?_)
  · replace H := H.1 cH
    refine r_iconst (v := (0 : Int32)) dX4_degreeK_16 rfl ?_
    exact r_zret dX4_degreeK_17 rfl rfl (Nat.le_refl _) (Nat.le_refl _) H
  · replace H := H.2 cH
    refine r_aload_n dX4_degreeK_7 rfl rfl ?_
    refine m_getI hp fw_X4_17 dX4_degreeK_8 rfl t0 ?_
    refine r_iconst (v := (1 : Int32)) dX4_degreeK_11 rfl ?_
    refine r_isub dX4_degreeK_12 ?_
    refine r_goto (tgt := 17) dX4_degreeK_13 rfl ?_
    exact r_zret dX4_degreeK_17 rfl rfl (Nat.le_refl _) (Nat.le_refl _) H
abbrev W_X4_value (g : GX) (d : Nat) (av : List Value) (Q : QT) (n : Nat) (pc : Nat) (ls : LV) (stk : List Value) (h : Hp) : Prop := RJ g m_X4_value (d + 1) 0 0 av Q pc ls stk n h 0 0
theorem s_X4_value_0 {g : GX} {d : Nat} {av : List Value} {Q : QT} {n : Nat} {h : Hp} {a0 : Nat} {x1 : Int32} {x2 : Int32} (hp : g.2.2.2.2 = true) (t0 : lay a0 = (0, 4, 4)) (H : W_X4_value g d av Q n 10 [some (.ref a0), some (.int x1), some (.int x2), some (.int (0 : Int32)), some (.int ((ri h a0 3) - (1 : Int32))), none, none] [] h) : W_X4_value g d av Q n 0 [some (.ref a0), some (.int x1), some (.int x2), none, none, none, none] [] h := by
  refine r_iconst (v := (0 : Int32)) dX4_value_0 rfl ?_
  refine r_istore_n (ls2 := [some (.ref a0), some (.int x1), some (.int x2), some (.int (0 : Int32)), none, none, none]) dX4_value_1 rfl (by decide) rfl ?_
  refine r_aload_n dX4_value_2 rfl rfl ?_
  refine m_getI hp fw_X4_17 dX4_value_3 rfl t0 ?_
  refine r_iconst (v := (1 : Int32)) dX4_value_6 rfl ?_
  refine r_isub dX4_value_7 ?_
  refine r_istore (ls2 := [some (.ref a0), some (.int x1), some (.int x2), some (.int (0 : Int32)), some (.int ((ri h a0 3) - (1 : Int32))), none, none]) dX4_value_8 (by decide) rfl ?_
  exact H
theorem s_X4_value_10 {g : GX} {d : Nat} {av : List Value} {Q : QT} {n : Nat} {h : Hp} {a0 : Nat} {x1 : Int32} {x2 : Int32} {x3 : Int32} {x4 : Int32} (hp : g.2.2.2.2 = true) (t0 : lay a0 = (0, 4, 4)) (H : ((x4 < (0 : Int32)) → (Q (some (.int x3)) n h)) ∧ ((¬ x4 < (0 : Int32)) → (W_X4_value g d av Q n 26 [some (.ref a0), some (.int x1), some (.int x2), some (.int x3), some (.int x4), some (.int (0 : Int32)), some (.int ((ri h a0 2) - (1 : Int32)))] [] h))) : W_X4_value g d av Q n 10 [some (.ref a0), some (.int x1), some (.int x2), some (.int x3), some (.int x4), none, none] [] h := by
  refine r_iload dX4_value_10 rfl ?_
  refine r_if_lt (tgt := 80) dX4_value_12 rfl (fun cH => ?_) (fun cH => ?_)
  · replace H := H.1 cH
    refine r_iload_n dX4_value_80 rfl rfl ?_
    exact r_zret dX4_value_81 rfl rfl (Nat.le_refl _) (Nat.le_refl _) H
  · replace H := H.2 cH
    refine r_iconst (v := (0 : Int32)) dX4_value_15 rfl ?_
    refine r_istore (ls2 := [some (.ref a0), some (.int x1), some (.int x2), some (.int x3), some (.int x4), some (.int (0 : Int32)), none]) dX4_value_16 (by decide) rfl ?_
    refine r_aload_n dX4_value_18 rfl rfl ?_
    refine m_getI hp fw_X4_20 dX4_value_19 rfl t0 ?_
    refine r_iconst (v := (1 : Int32)) dX4_value_22 rfl ?_
    refine r_isub dX4_value_23 ?_
    refine r_istore (ls2 := [some (.ref a0), some (.int x1), some (.int x2), some (.int x3), some (.int x4), some (.int (0 : Int32)), some (.int ((ri h a0 2) - (1 : Int32)))]) dX4_value_24 (by decide) rfl ?_
    exact H
theorem s_X4_value_26 {g : GX} {d : Nat} {av : List Value} {Q : QT} {n : Nat} {h : Hp} {a0 : Nat} {x1 : Int32} {x2 : Int32} {x3 : Int32} {x4 : Int32} {x5 : Int32} {x6 : Int32} (hp : g.2.2.2.2 = true) (t0 : lay a0 = (0, 4, 4)) (H : ((x6 < (0 : Int32)) → (CallI g m_X0_times d [.int x3, .int x2] n h (fun v1 h1 => (CallI g m_X0_sum d [.int v1, .int x5] n h1 (fun v2 h2 => (W_X4_value g d av Q n 10 [some (.ref a0), some (.int x1), some (.int x2), some (.int v2), some (.int (x4 + (-1 : Int32))), none, none] [] h2)))))) ∧ ((¬ x6 < (0 : Int32)) → (CallI g m_X0_times d [.int x5, .int x1] n h (fun v3 h3 => (vp_in ((x4 * (ri h3 a0 0)) + x6) (rm (a0 + 1)) ∧ (CallI g m_X0_sum d [.int v3, .int (ri h3 (a0 + 1) (((x4 * (ri h3 a0 0)) + x6)).toNatClampNeg)] n h3 (fun v4 h4 => (W_X4_value g d av Q n 26 [some (.ref a0), some (.int x1), some (.int x2), some (.int x3), some (.int x4), some (.int v4), some (.int (x6 + (-1 : Int32)))] [] h4)))))))) : W_X4_value g d av Q n 26 [some (.ref a0), some (.int x1), some (.int x2), some (.int x3), some (.int x4), some (.int x5), some (.int x6)] [] h := by
  refine r_iload dX4_value_26 rfl ?_
  refine r_if_lt (tgt := 63) dX4_value_28 rfl (fun cH => ?_) (fun cH => ?_)
  · replace H := H.1 cH
    refine r_iload_n dX4_value_63 rfl rfl ?_
    refine r_iload_n dX4_value_64 rfl rfl ?_
    refine k_SI (As := [.int x3, .int x2]) (stk := []) cs_X4_51 dX4_value_65 rfl (Nat.le_of_ble_eq_true rfl) (H.mono (fun v1 h1 H => ?_)) ⟨Nat.le_refl _, Nat.le_refl _⟩
    refine r_iload dX4_value_68 rfl ?_
    refine k_SI (As := [.int v1, .int x5]) (stk := []) cs_X4_60 dX4_value_70 rfl (Nat.le_of_ble_eq_true rfl) (H.mono (fun v2 h2 H => ?_)) ⟨Nat.le_refl _, Nat.le_refl _⟩
    refine r_istore_n (ls2 := [some (.ref a0), some (.int x1), some (.int x2), some (.int v2), some (.int x4), some (.int x5), some (.int x6)]) dX4_value_73 rfl (by decide) rfl ?_
    refine r_iinc (v := (x4 + (-1 : Int32))) (ls2 := [some (.ref a0), some (.int x1), some (.int x2), some (.int v2), some (.int (x4 + (-1 : Int32))), some (.int x5), some (.int x6)]) dX4_value_74 rfl rfl (by decide) rfl ?_
    refine r_goto (tgt := 10) dX4_value_77 rfl ?_
    refine r_prune [true, true, true, true, true, false, false] (ls2 := [some (.ref a0), some (.int x1), some (.int x2), some (.int v2), some (.int (x4 + (-1 : Int32))), none, none]) rfl ?_
    exact H
  · replace H := H.2 cH
    refine r_iload dX4_value_31 rfl ?_
    refine r_iload_n dX4_value_33 rfl rfl ?_
    refine k_SI (As := [.int x5, .int x1]) (stk := []) cs_X4_51 dX4_value_34 rfl (Nat.le_of_ble_eq_true rfl) (H.mono (fun v3 h3 H => ?_)) ⟨Nat.le_refl _, Nat.le_refl _⟩
    refine r_aload_n dX4_value_37 rfl rfl ?_
    refine m_getF (x := (a0 + 1)) hp fw_X4_13 dX4_value_38 rfl t0 (ff_4_1 t0) ?_
    refine r_iload dX4_value_41 rfl ?_
    refine r_aload_n dX4_value_43 rfl rfl ?_
    refine m_getI hp fw_X4_7 dX4_value_44 rfl t0 ?_
    refine r_imul dX4_value_47 ?_
    refine r_iload dX4_value_48 rfl ?_
    refine r_iadd dX4_value_50 ?_
    refine m_iald hp dX4_value_51 (lf_4_1 t0) H.1 ?_
    replace H := H.2
    refine k_SI (As := [.int v3, .int (ri h3 (a0 + 1) (((x4 * (ri h3 a0 0)) + x6)).toNatClampNeg)]) (stk := []) cs_X4_60 dX4_value_52 rfl (Nat.le_of_ble_eq_true rfl) (H.mono (fun v4 h4 H => ?_)) ⟨Nat.le_refl _, Nat.le_refl _⟩
    refine r_istore (ls2 := [some (.ref a0), some (.int x1), some (.int x2), some (.int x3), some (.int x4), some (.int v4), some (.int x6)]) dX4_value_55 (by decide) rfl ?_
    refine r_iinc (v := (x6 + (-1 : Int32))) (ls2 := [some (.ref a0), some (.int x1), some (.int x2), some (.int x3), some (.int x4), some (.int v4), some (.int (x6 + (-1 : Int32)))]) dX4_value_57 rfl rfl (by decide) rfl ?_
    refine r_goto (tgt := 26) dX4_value_60 rfl ?_
    exact H
abbrev W_X4_shiftN (g : GX) (d : Nat) (av : List Value) (Q : QT) (n : Nat) (pc : Nat) (ls : LV) (stk : List Value) (h : Hp) : Prop := RJ g m_X4_shiftN (d + 1) 0 0 av Q pc ls stk n h 0 0
theorem s_X4_shiftN_0 {g : GX} {d : Nat} {av : List Value} {Q : QT} {n : Nat} {h : Hp} {a0 : Nat} {x1 : Int32} (hp : g.2.2.2.2 = true) (t0 : lay a0 = (0, 4, 4)) (H : W_X4_shiftN g d av Q n 2 [some (.ref a0), some (.int x1), some (.int (0 : Int32)), none, none] [] h) : W_X4_shiftN g d av Q n 0 [some (.ref a0), some (.int x1), none, none, none] [] h := by
  refine r_iconst (v := (0 : Int32)) dX4_shiftN_0 rfl ?_
  refine r_istore_n (ls2 := [some (.ref a0), some (.int x1), some (.int (0 : Int32)), none, none]) dX4_shiftN_1 rfl (by decide) rfl ?_
  exact H
theorem s_X4_shiftN_2 {g : GX} {d : Nat} {av : List Value} {Q : QT} {n : Nat} {h : Hp} {a0 : Nat} {x1 : Int32} {x2 : Int32} (hp : g.2.2.2.2 = true) (t0 : lay a0 = (0, 4, 4)) (H : (((ri h a0 3) ≤ x2) → (W_X4_shiftN g d av Q n 107 [some (.ref a0), none, none, none, none] [] h)) ∧ ((¬ (ri h a0 3) ≤ x2) → (((x1 = (0 : Int32)) → (W_X4_shiftN g d av Q n 107 [some (.ref a0), none, none, none, none] [] h)) ∧ ((¬ x1 = (0 : Int32)) → (W_X4_shiftN g d av Q n 16 [some (.ref a0), some (.int x1), some (.int x2), some (.int (0 : Int32)), none] [] h))))) : W_X4_shiftN g d av Q n 2 [some (.ref a0), some (.int x1), some (.int x2), none, none] [] h := by
  refine r_iload_n dX4_shiftN_2 rfl rfl ?_
  refine r_aload_n dX4_shiftN_3 rfl rfl ?_
  refine m_getI hp fw_X4_17 dX4_shiftN_4 rfl t0 ?_
  refine r_icmp_ge (tgt := 107) dX4_shiftN_7 rfl (fun cH => ?_) (fun cH => ?_)
  · replace H := H.1 cH
    refine r_prune [true, false, false, false, false] (ls2 := [some (.ref a0), none, none, none, none]) rfl ?_
    exact H
  · replace H := H.2 cH
    refine r_iload_n dX4_shiftN_10 rfl rfl ?_
    refine r_if_eq (tgt := 107) dX4_shiftN_11 rfl (fun cH => ?_) (fun cH => ?_)
    · replace H := H.1 cH
      refine r_prune [true, false, false, false, false] (ls2 := [some (.ref a0), none, none, none, none]) rfl ?_
      exact H
    · replace H := H.2 cH
      refine r_iconst (v := (0 : Int32)) dX4_shiftN_14 rfl ?_
      refine r_istore_n (ls2 := [some (.ref a0), some (.int x1), some (.int x2), some (.int (0 : Int32)), none]) dX4_shiftN_15 rfl (by decide) rfl ?_
      exact H
theorem s_X4_shiftN_16 {g : GX} {d : Nat} {av : List Value} {Q : QT} {n : Nat} {h : Hp} {a0 : Nat} {x1 : Int32} {x2 : Int32} {x3 : Int32} (hp : g.2.2.2.2 = true) (t0 : lay a0 = (0, 4, 4)) (H : (((ri h a0 2) ≤ x3) → (W_X4_shiftN g d av Q n 2 [some (.ref a0), some (.int x1), some (.int (x2 + (1 : Int32))), none, none] [] h)) ∧ ((¬ (ri h a0 2) ≤ x3) → (W_X4_shiftN g d av Q n 32 [some (.ref a0), some (.int x1), some (.int x2), some (.int x3), some (.int ((ri h a0 2) - (2 : Int32)))] [] h))) : W_X4_shiftN g d av Q n 16 [some (.ref a0), some (.int x1), some (.int x2), some (.int x3), none] [] h := by
  refine r_iload_n dX4_shiftN_16 rfl rfl ?_
  refine r_aload_n dX4_shiftN_17 rfl rfl ?_
  refine m_getI hp fw_X4_20 dX4_shiftN_18 rfl t0 ?_
  refine r_icmp_ge (tgt := 101) dX4_shiftN_21 rfl (fun cH => ?_) (fun cH => ?_)
  · replace H := H.1 cH
    refine r_iinc (v := (x2 + (1 : Int32))) (ls2 := [some (.ref a0), some (.int x1), some (.int (x2 + (1 : Int32))), some (.int x3), none]) dX4_shiftN_101 rfl rfl (by decide) rfl ?_
    refine r_goto (tgt := 2) dX4_shiftN_104 rfl ?_
    refine r_prune [true, true, true, false, false] (ls2 := [some (.ref a0), some (.int x1), some (.int (x2 + (1 : Int32))), none, none]) rfl ?_
    exact H
  · replace H := H.2 cH
    refine r_aload_n dX4_shiftN_24 rfl rfl ?_
    refine m_getI hp fw_X4_20 dX4_shiftN_25 rfl t0 ?_
    refine r_iconst (v := (2 : Int32)) dX4_shiftN_28 rfl ?_
    refine r_isub dX4_shiftN_29 ?_
    refine r_istore (ls2 := [some (.ref a0), some (.int x1), some (.int x2), some (.int x3), some (.int ((ri h a0 2) - (2 : Int32)))]) dX4_shiftN_30 (by decide) rfl ?_
    exact H
theorem s_X4_shiftN_32 {g : GX} {d : Nat} {av : List Value} {Q : QT} {n : Nat} {h : Hp} {a0 : Nat} {x1 : Int32} {x2 : Int32} {x3 : Int32} {x4 : Int32} (hp : g.2.2.2.2 = true) (t0 : lay a0 = (0, 4, 4)) (H : ((x4 < x3) → (W_X4_shiftN g d av Q n 16 [some (.ref a0), some (.int x1), some (.int x2), some (.int (x3 + (1 : Int32))), none] [] h)) ∧ ((¬ x4 < x3) → (vp_in ((x2 * (ri h a0 0)) + x4) (rm (a0 + 1)) ∧ (vp_in (((x2 * (ri h a0 0)) + x4) + (1 : Int32)) (rm (a0 + 1)) ∧ (CallI g m_X0_times d [.int (ri h (a0 + 1) ((((x2 * (ri h a0 0)) + x4) + (1 : Int32))).toNatClampNeg), .int x1] n h (fun v1 h1 => (CallI g m_X0_sum d [.int (ri h (a0 + 1) (((x2 * (ri h a0 0)) + x4)).toNatClampNeg), .int v1] n h1 (fun v2 h2 => (vp_in ((x2 * (ri h a0 0)) + x4) (rm (a0 + 1)) ∧ ∀ h3, h3 = wi h2 (a0 + 1) (((x2 * (ri h a0 0)) + x4)).toNatClampNeg v2 → (W_X4_shiftN g d av Q n 32 [some (.ref a0), some (.int x1), some (.int x2), some (.int x3), some (.int (x4 + (-1 : Int32)))] [] h3)))))))))) : W_X4_shiftN g d av Q n 32 [some (.ref a0), some (.int x1), some (.int x2), some (.int x3), some (.int x4)] [] h := by
  refine r_iload dX4_shiftN_32 rfl ?_
  refine r_iload_n dX4_shiftN_34 rfl rfl ?_
  refine r_icmp_lt (tgt := 95) dX4_shiftN_35 rfl (fun cH => ?_) (fun cH => ?_)
  · replace H := H.1 cH
    refine r_iinc (v := (x3 + (1 : Int32))) (ls2 := [some (.ref a0), some (.int x1), some (.int x2), some (.int (x3 + (1 : Int32))), some (.int x4)]) dX4_shiftN_95 rfl rfl (by decide) rfl ?_
    refine r_goto (tgt := 16) dX4_shiftN_98 rfl ?_
    refine r_prune [true, true, true, true, false] (ls2 := [some (.ref a0), some (.int x1), some (.int x2), some (.int (x3 + (1 : Int32))), none]) rfl ?_
    exact H
  · replace H := H.2 cH
    refine r_aload_n dX4_shiftN_38 rfl rfl ?_
    refine m_getF (x := (a0 + 1)) hp fw_X4_13 dX4_shiftN_39 rfl t0 (ff_4_1 t0) ?_
    refine r_iload_n dX4_shiftN_42 rfl rfl ?_
    refine r_aload_n dX4_shiftN_43 rfl rfl ?_
    refine m_getI hp fw_X4_7 dX4_shiftN_44 rfl t0 ?_
    refine r_imul dX4_shiftN_47 ?_
    refine r_iload dX4_shiftN_48 rfl ?_
    refine r_iadd dX4_shiftN_50 ?_
    refine r_aload_n dX4_shiftN_51 rfl rfl ?_
    refine m_getF (x := (a0 + 1)) hp fw_X4_13 dX4_shiftN_52 rfl t0 (ff_4_1 t0) ?_
    refine r_iload_n dX4_shiftN_55 rfl rfl ?_
    refine r_aload_n dX4_shiftN_56 rfl rfl ?_
    refine m_getI hp fw_X4_7 dX4_shiftN_57 rfl t0 ?_
    refine r_imul dX4_shiftN_60 ?_
    refine r_iload dX4_shiftN_61 rfl ?_
    refine r_iadd dX4_shiftN_63 ?_
    refine m_iald hp dX4_shiftN_64 (lf_4_1 t0) H.1 ?_
    replace H := H.2
    refine r_aload_n dX4_shiftN_65 rfl rfl ?_
    refine m_getF (x := (a0 + 1)) hp fw_X4_13 dX4_shiftN_66 rfl t0 (ff_4_1 t0) ?_
    refine r_iload_n dX4_shiftN_69 rfl rfl ?_
    refine r_aload_n dX4_shiftN_70 rfl rfl ?_
    refine m_getI hp fw_X4_7 dX4_shiftN_71 rfl t0 ?_
    refine r_imul dX4_shiftN_74 ?_
    refine r_iload dX4_shiftN_75 rfl ?_
    refine r_iadd dX4_shiftN_77 ?_
    refine r_iconst (v := (1 : Int32)) dX4_shiftN_78 rfl ?_
    refine r_iadd dX4_shiftN_79 ?_
    refine m_iald hp dX4_shiftN_80 (lf_4_1 t0) H.1 ?_
    replace H := H.2
    refine r_iload_n dX4_shiftN_81 rfl rfl ?_
    refine k_SI (As := [.int (ri h (a0 + 1) ((((x2 * (ri h a0 0)) + x4) + (1 : Int32))).toNatClampNeg), .int x1]) (stk := [.int (ri h (a0 + 1) (((x2 * (ri h a0 0)) + x4)).toNatClampNeg), .int ((x2 * (ri h a0 0)) + x4), .ref (a0 + 1)]) cs_X4_51 dX4_shiftN_82 rfl (Nat.le_of_ble_eq_true rfl) (H.mono (fun v1 h1 H => ?_)) ⟨Nat.le_refl _, Nat.le_refl _⟩
    refine k_SI (As := [.int (ri h (a0 + 1) (((x2 * (ri h a0 0)) + x4)).toNatClampNeg), .int v1]) (stk := [.int ((x2 * (ri h a0 0)) + x4), .ref (a0 + 1)]) cs_X4_60 dX4_shiftN_85 rfl (Nat.le_of_ble_eq_true rfl) (H.mono (fun v2 h2 H => ?_)) ⟨Nat.le_refl _, Nat.le_refl _⟩
    refine m_iast hp dX4_shiftN_88 (lf_4_1 t0) H.1 (fun h3 eh3 => ?_)
    replace H := H.2 h3 eh3
    refine r_iinc (v := (x4 + (-1 : Int32))) (ls2 := [some (.ref a0), some (.int x1), some (.int x2), some (.int x3), some (.int (x4 + (-1 : Int32)))]) dX4_shiftN_89 rfl rfl (by decide) rfl ?_
    refine r_goto (tgt := 32) dX4_shiftN_92 rfl ?_
    exact H
theorem s_X4_shiftN_107 {g : GX} {d : Nat} {av : List Value} {Q : QT} {n : Nat} {h : Hp} {a0 : Nat} (hp : g.2.2.2.2 = true) (t0 : lay a0 = (0, 4, 4)) (H : CallV g m_X4_trim d [.ref a0] n h (fun h1 => (Q none n h1))) : W_X4_shiftN g d av Q n 107 [some (.ref a0), none, none, none, none] [] h := by
  refine r_aload_n dX4_shiftN_107 rfl rfl ?_
  refine k_VV (As := []) (stk := []) hp cv_X4_31 dX4_shiftN_108 rfl (Nat.le_of_ble_eq_true rfl) t0 (H.mono (fun h1 H => ?_)) ⟨Nat.le_refl _, Nat.le_refl _⟩
  exact r_vret dX4_shiftN_111 rfl (Nat.le_refl _) (Nat.le_refl _) H
abbrev W_X4_shiftK (g : GX) (d : Nat) (av : List Value) (Q : QT) (n : Nat) (pc : Nat) (ls : LV) (stk : List Value) (h : Hp) : Prop := RJ g m_X4_shiftK (d + 1) 0 0 av Q pc ls stk n h 0 0
theorem s_X4_shiftK_0 {g : GX} {d : Nat} {av : List Value} {Q : QT} {n : Nat} {h : Hp} {a0 : Nat} {x1 : Int32} (hp : g.2.2.2.2 = true) (t0 : lay a0 = (0, 4, 4)) (H : W_X4_shiftK g d av Q n 2 [some (.ref a0), some (.int x1), some (.int (0 : Int32)), none, none] [] h) : W_X4_shiftK g d av Q n 0 [some (.ref a0), some (.int x1), none, none, none] [] h := by
  refine r_iconst (v := (0 : Int32)) dX4_shiftK_0 rfl ?_
  refine r_istore_n (ls2 := [some (.ref a0), some (.int x1), some (.int (0 : Int32)), none, none]) dX4_shiftK_1 rfl (by decide) rfl ?_
  exact H
theorem s_X4_shiftK_2 {g : GX} {d : Nat} {av : List Value} {Q : QT} {n : Nat} {h : Hp} {a0 : Nat} {x1 : Int32} {x2 : Int32} (hp : g.2.2.2.2 = true) (t0 : lay a0 = (0, 4, 4)) (H : (((ri h a0 3) ≤ x2) → (W_X4_shiftK g d av Q n 107 [some (.ref a0), none, none, none, none] [] h)) ∧ ((¬ (ri h a0 3) ≤ x2) → (((x1 = (0 : Int32)) → (W_X4_shiftK g d av Q n 107 [some (.ref a0), none, none, none, none] [] h)) ∧ ((¬ x1 = (0 : Int32)) → (W_X4_shiftK g d av Q n 21 [some (.ref a0), some (.int x1), some (.int x2), some (.int ((ri h a0 3) - (2 : Int32))), none] [] h))))) : W_X4_shiftK g d av Q n 2 [some (.ref a0), some (.int x1), some (.int x2), none, none] [] h := by
  refine r_iload_n dX4_shiftK_2 rfl rfl ?_
  refine r_aload_n dX4_shiftK_3 rfl rfl ?_
  refine m_getI hp fw_X4_17 dX4_shiftK_4 rfl t0 ?_
  refine r_icmp_ge (tgt := 107) dX4_shiftK_7 rfl (fun cH => ?_) (fun cH => ?_)
  · replace H := H.1 cH
    refine r_prune [true, false, false, false, false] (ls2 := [some (.ref a0), none, none, none, none]) rfl ?_
    exact H
  · replace H := H.2 cH
    refine r_iload_n dX4_shiftK_10 rfl rfl ?_
    refine r_if_eq (tgt := 107) dX4_shiftK_11 rfl (fun cH => ?_) (fun cH => ?_)
    · replace H := H.1 cH
      refine r_prune [true, false, false, false, false] (ls2 := [some (.ref a0), none, none, none, none]) rfl ?_
      exact H
    · replace H := H.2 cH
      refine r_aload_n dX4_shiftK_14 rfl rfl ?_
      refine m_getI hp fw_X4_17 dX4_shiftK_15 rfl t0 ?_
      refine r_iconst (v := (2 : Int32)) dX4_shiftK_18 rfl ?_
      refine r_isub dX4_shiftK_19 ?_
      refine r_istore_n (ls2 := [some (.ref a0), some (.int x1), some (.int x2), some (.int ((ri h a0 3) - (2 : Int32))), none]) dX4_shiftK_20 rfl (by decide) rfl ?_
      exact H
theorem s_X4_shiftK_21 {g : GX} {d : Nat} {av : List Value} {Q : QT} {n : Nat} {h : Hp} {a0 : Nat} {x1 : Int32} {x2 : Int32} {x3 : Int32} (hp : g.2.2.2.2 = true) (t0 : lay a0 = (0, 4, 4)) (H : ((x3 < x2) → (W_X4_shiftK g d av Q n 2 [some (.ref a0), some (.int x1), some (.int (x2 + (1 : Int32))), none, none] [] h)) ∧ ((¬ x3 < x2) → (W_X4_shiftK g d av Q n 29 [some (.ref a0), some (.int x1), some (.int x2), some (.int x3), some (.int (0 : Int32))] [] h))) : W_X4_shiftK g d av Q n 21 [some (.ref a0), some (.int x1), some (.int x2), some (.int x3), none] [] h := by
  refine r_iload_n dX4_shiftK_21 rfl rfl ?_
  refine r_iload_n dX4_shiftK_22 rfl rfl ?_
  refine r_icmp_lt (tgt := 101) dX4_shiftK_23 rfl (fun cH => ?_) (fun cH => ?_)
  · replace H := H.1 cH
    refine r_iinc (v := (x2 + (1 : Int32))) (ls2 := [some (.ref a0), some (.int x1), some (.int (x2 + (1 : Int32))), some (.int x3), none]) dX4_shiftK_101 rfl rfl (by decide) rfl ?_
    refine r_goto (tgt := 2) dX4_shiftK_104 rfl ?_
    refine r_prune [true, true, true, false, false] (ls2 := [some (.ref a0), some (.int x1), some (.int (x2 + (1 : Int32))), none, none]) rfl ?_
    exact H
  · replace H := H.2 cH
    refine r_iconst (v := (0 : Int32)) dX4_shiftK_26 rfl ?_
    refine r_istore (ls2 := [some (.ref a0), some (.int x1), some (.int x2), some (.int x3), some (.int (0 : Int32))]) dX4_shiftK_27 (by decide) rfl ?_
    exact H
theorem s_X4_shiftK_29 {g : GX} {d : Nat} {av : List Value} {Q : QT} {n : Nat} {h : Hp} {a0 : Nat} {x1 : Int32} {x2 : Int32} {x3 : Int32} {x4 : Int32} (hp : g.2.2.2.2 = true) (t0 : lay a0 = (0, 4, 4)) (H : (((ri h a0 2) ≤ x4) → (W_X4_shiftK g d av Q n 21 [some (.ref a0), some (.int x1), some (.int x2), some (.int (x3 + (-1 : Int32))), none] [] h)) ∧ ((¬ (ri h a0 2) ≤ x4) → (vp_in ((x3 * (ri h a0 0)) + x4) (rm (a0 + 1)) ∧ (vp_in (((x3 + (1 : Int32)) * (ri h a0 0)) + x4) (rm (a0 + 1)) ∧ (CallI g m_X0_times d [.int (ri h (a0 + 1) ((((x3 + (1 : Int32)) * (ri h a0 0)) + x4)).toNatClampNeg), .int x1] n h (fun v1 h1 => (CallI g m_X0_sum d [.int (ri h (a0 + 1) (((x3 * (ri h a0 0)) + x4)).toNatClampNeg), .int v1] n h1 (fun v2 h2 => (vp_in ((x3 * (ri h a0 0)) + x4) (rm (a0 + 1)) ∧ ∀ h3, h3 = wi h2 (a0 + 1) (((x3 * (ri h a0 0)) + x4)).toNatClampNeg v2 → (W_X4_shiftK g d av Q n 29 [some (.ref a0), some (.int x1), some (.int x2), some (.int x3), some (.int (x4 + (1 : Int32)))] [] h3)))))))))) : W_X4_shiftK g d av Q n 29 [some (.ref a0), some (.int x1), some (.int x2), some (.int x3), some (.int x4)] [] h := by
  refine r_iload dX4_shiftK_29 rfl ?_
  refine r_aload_n dX4_shiftK_31 rfl rfl ?_
  refine m_getI hp fw_X4_20 dX4_shiftK_32 rfl t0 ?_
  refine r_icmp_ge (tgt := 95) dX4_shiftK_35 rfl (fun cH => ?_) (fun cH => ?_)
  · replace H := H.1 cH
    refine r_iinc (v := (x3 + (-1 : Int32))) (ls2 := [some (.ref a0), some (.int x1), some (.int x2), some (.int (x3 + (-1 : Int32))), some (.int x4)]) dX4_shiftK_95 rfl rfl (by decide) rfl ?_
    refine r_goto (tgt := 21) dX4_shiftK_98 rfl ?_
    refine r_prune [true, true, true, true, false] (ls2 := [some (.ref a0), some (.int x1), some (.int x2), some (.int (x3 + (-1 : Int32))), none]) rfl ?_
    exact H
  · replace H := H.2 cH
    refine r_aload_n dX4_shiftK_38 rfl rfl ?_
    refine m_getF (x := (a0 + 1)) hp fw_X4_13 dX4_shiftK_39 rfl t0 (ff_4_1 t0) ?_
    refine r_iload_n dX4_shiftK_42 rfl rfl ?_
    refine r_aload_n dX4_shiftK_43 rfl rfl ?_
    refine m_getI hp fw_X4_7 dX4_shiftK_44 rfl t0 ?_
    refine r_imul dX4_shiftK_47 ?_
    refine r_iload dX4_shiftK_48 rfl ?_
    refine r_iadd dX4_shiftK_50 ?_
    refine r_aload_n dX4_shiftK_51 rfl rfl ?_
    refine m_getF (x := (a0 + 1)) hp fw_X4_13 dX4_shiftK_52 rfl t0 (ff_4_1 t0) ?_
    refine r_iload_n dX4_shiftK_55 rfl rfl ?_
    refine r_aload_n dX4_shiftK_56 rfl rfl ?_
    refine m_getI hp fw_X4_7 dX4_shiftK_57 rfl t0 ?_
    refine r_imul dX4_shiftK_60 ?_
    refine r_iload dX4_shiftK_61 rfl ?_
    refine r_iadd dX4_shiftK_63 ?_
    refine m_iald hp dX4_shiftK_64 (lf_4_1 t0) H.1 ?_
    replace H := H.2
    refine r_aload_n dX4_shiftK_65 rfl rfl ?_
    refine m_getF (x := (a0 + 1)) hp fw_X4_13 dX4_shiftK_66 rfl t0 (ff_4_1 t0) ?_
    refine r_iload_n dX4_shiftK_69 rfl rfl ?_
    refine r_iconst (v := (1 : Int32)) dX4_shiftK_70 rfl ?_
    refine r_iadd dX4_shiftK_71 ?_
    refine r_aload_n dX4_shiftK_72 rfl rfl ?_
    refine m_getI hp fw_X4_7 dX4_shiftK_73 rfl t0 ?_
    refine r_imul dX4_shiftK_76 ?_
    refine r_iload dX4_shiftK_77 rfl ?_
    refine r_iadd dX4_shiftK_79 ?_
    refine m_iald hp dX4_shiftK_80 (lf_4_1 t0) H.1 ?_
    replace H := H.2
    refine r_iload_n dX4_shiftK_81 rfl rfl ?_
    refine k_SI (As := [.int (ri h (a0 + 1) ((((x3 + (1 : Int32)) * (ri h a0 0)) + x4)).toNatClampNeg), .int x1]) (stk := [.int (ri h (a0 + 1) (((x3 * (ri h a0 0)) + x4)).toNatClampNeg), .int ((x3 * (ri h a0 0)) + x4), .ref (a0 + 1)]) cs_X4_51 dX4_shiftK_82 rfl (Nat.le_of_ble_eq_true rfl) (H.mono (fun v1 h1 H => ?_)) ⟨Nat.le_refl _, Nat.le_refl _⟩
    refine k_SI (As := [.int (ri h (a0 + 1) (((x3 * (ri h a0 0)) + x4)).toNatClampNeg), .int v1]) (stk := [.int ((x3 * (ri h a0 0)) + x4), .ref (a0 + 1)]) cs_X4_60 dX4_shiftK_85 rfl (Nat.le_of_ble_eq_true rfl) (H.mono (fun v2 h2 H => ?_)) ⟨Nat.le_refl _, Nat.le_refl _⟩
    refine m_iast hp dX4_shiftK_88 (lf_4_1 t0) H.1 (fun h3 eh3 => ?_)
    replace H := H.2 h3 eh3
    refine r_iinc (v := (x4 + (1 : Int32))) (ls2 := [some (.ref a0), some (.int x1), some (.int x2), some (.int x3), some (.int (x4 + (1 : Int32)))]) dX4_shiftK_89 rfl rfl (by decide) rfl ?_
    refine r_goto (tgt := 29) dX4_shiftK_92 rfl ?_
    exact H
theorem s_X4_shiftK_107 {g : GX} {d : Nat} {av : List Value} {Q : QT} {n : Nat} {h : Hp} {a0 : Nat} (hp : g.2.2.2.2 = true) (t0 : lay a0 = (0, 4, 4)) (H : CallV g m_X4_trim d [.ref a0] n h (fun h1 => (Q none n h1))) : W_X4_shiftK g d av Q n 107 [some (.ref a0), none, none, none, none] [] h := by
  refine r_aload_n dX4_shiftK_107 rfl rfl ?_
  refine k_VV (As := []) (stk := []) hp cv_X4_31 dX4_shiftK_108 rfl (Nat.le_of_ble_eq_true rfl) t0 (H.mono (fun h1 H => ?_)) ⟨Nat.le_refl _, Nat.le_refl _⟩
  exact r_vret dX4_shiftK_111 rfl (Nat.le_refl _) (Nat.le_refl _) H
abbrev W_X4_turn (g : GX) (d : Nat) (av : List Value) (Q : QT) (n : Nat) (pc : Nat) (ls : LV) (stk : List Value) (h : Hp) : Prop := RJ g m_X4_turn (d + 1) 0 0 av Q pc ls stk n h 0 0
theorem s_X4_turn_0 {g : GX} {d : Nat} {av : List Value} {Q : QT} {n : Nat} {h : Hp} {a0 : Nat} {a1 : Nat} (hp : g.2.2.2.2 = true) (t0 : lay a0 = (0, 4, 4)) (t1 : lay a1 = (0, 4, 4)) (H : CallV g m_X4_open d [.ref a0, .int (ri h a1 3), .int (ri h a1 2)] n h (fun h1 => (W_X4_turn g d av Q n 14 [some (.ref a0), some (.ref a1), some (.int (0 : Int32)), none] [] h1))) : W_X4_turn g d av Q n 0 [some (.ref a0), some (.ref a1), none, none] [] h := by
  refine r_aload_n dX4_turn_0 rfl rfl ?_
  refine r_aload_n dX4_turn_1 rfl rfl ?_
  refine m_getI hp fw_X4_17 dX4_turn_2 rfl t1 ?_
  refine r_aload_n dX4_turn_5 rfl rfl ?_
  refine m_getI hp fw_X4_20 dX4_turn_6 rfl t1 ?_
  refine k_VV (As := [.int (ri h a1 3), .int (ri h a1 2)]) (stk := []) hp cv_X4_27 dX4_turn_9 rfl (Nat.le_of_ble_eq_true rfl) t0 (H.mono (fun h1 H => ?_)) ⟨Nat.le_refl _, Nat.le_refl _⟩
  refine r_iconst (v := (0 : Int32)) dX4_turn_12 rfl ?_
  refine r_istore_n (ls2 := [some (.ref a0), some (.ref a1), some (.int (0 : Int32)), none]) dX4_turn_13 rfl (by decide) rfl ?_
  exact H
theorem s_X4_turn_14 {g : GX} {d : Nat} {av : List Value} {Q : QT} {n : Nat} {h : Hp} {a0 : Nat} {a1 : Nat} {x2 : Int32} (hp : g.2.2.2.2 = true) (t0 : lay a0 = (0, 4, 4)) (t1 : lay a1 = (0, 4, 4)) (H : (((ri h a1 3) ≤ x2) → (Q none n h)) ∧ ((¬ (ri h a1 3) ≤ x2) → (W_X4_turn g d av Q n 24 [some (.ref a0), some (.ref a1), some (.int x2), some (.int (0 : Int32))] [] h))) : W_X4_turn g d av Q n 14 [some (.ref a0), some (.ref a1), some (.int x2), none] [] h := by
  refine r_iload_n dX4_turn_14 rfl rfl ?_
  refine r_aload_n dX4_turn_15 rfl rfl ?_
  refine m_getI hp fw_X4_17 dX4_turn_16 rfl t1 ?_
  refine r_icmp_ge (tgt := 70) dX4_turn_19 rfl (fun cH => ?_) (fun cH => ?_)
  · replace H := H.1 cH
    exact r_vret dX4_turn_70 rfl (Nat.le_refl _) (Nat.le_refl _) H
  · replace H := H.2 cH
    refine r_iconst (v := (0 : Int32)) dX4_turn_22 rfl ?_
    refine r_istore_n (ls2 := [some (.ref a0), some (.ref a1), some (.int x2), some (.int (0 : Int32))]) dX4_turn_23 rfl (by decide) rfl ?_
    exact H
theorem s_X4_turn_24 {g : GX} {d : Nat} {av : List Value} {Q : QT} {n : Nat} {h : Hp} {a0 : Nat} {a1 : Nat} {x2 : Int32} {x3 : Int32} (hp : g.2.2.2.2 = true) (t0 : lay a0 = (0, 4, 4)) (t1 : lay a1 = (0, 4, 4)) (H : (((ri h a1 2) ≤ x3) → (W_X4_turn g d av Q n 14 [some (.ref a0), some (.ref a1), some (.int (x2 + (1 : Int32))), none] [] h)) ∧ ((¬ (ri h a1 2) ≤ x3) → (vp_in ((x2 * (ri h a1 0)) + x3) (rm (a1 + 1)) ∧ (vp_in ((x3 * (ri h a0 0)) + x2) (rm (a0 + 1)) ∧ ∀ h1, h1 = wi h (a0 + 1) (((x3 * (ri h a0 0)) + x2)).toNatClampNeg (ri h (a1 + 1) (((x2 * (ri h a1 0)) + x3)).toNatClampNeg) → (W_X4_turn g d av Q n 24 [some (.ref a0), some (.ref a1), some (.int x2), some (.int (x3 + (1 : Int32)))] [] h1))))) : W_X4_turn g d av Q n 24 [some (.ref a0), some (.ref a1), some (.int x2), some (.int x3)] [] h := by
  refine r_iload_n dX4_turn_24 rfl rfl ?_
  refine r_aload_n dX4_turn_25 rfl rfl ?_
  refine m_getI hp fw_X4_20 dX4_turn_26 rfl t1 ?_
  refine r_icmp_ge (tgt := 64) dX4_turn_29 rfl (fun cH => ?_) (fun cH => ?_)
  · replace H := H.1 cH
    refine r_iinc (v := (x2 + (1 : Int32))) (ls2 := [some (.ref a0), some (.ref a1), some (.int (x2 + (1 : Int32))), some (.int x3)]) dX4_turn_64 rfl rfl (by decide) rfl ?_
    refine r_goto (tgt := 14) dX4_turn_67 rfl ?_
    refine r_prune [true, true, true, false] (ls2 := [some (.ref a0), some (.ref a1), some (.int (x2 + (1 : Int32))), none]) rfl ?_
    exact H
  · replace H := H.2 cH
    refine r_aload_n dX4_turn_32 rfl rfl ?_
    refine m_getF (x := (a0 + 1)) hp fw_X4_13 dX4_turn_33 rfl t0 (ff_4_1 t0) ?_
    refine r_iload_n dX4_turn_36 rfl rfl ?_
    refine r_aload_n dX4_turn_37 rfl rfl ?_
    refine m_getI hp fw_X4_7 dX4_turn_38 rfl t0 ?_
    refine r_imul dX4_turn_41 ?_
    refine r_iload_n dX4_turn_42 rfl rfl ?_
    refine r_iadd dX4_turn_43 ?_
    refine r_aload_n dX4_turn_44 rfl rfl ?_
    refine m_getF (x := (a1 + 1)) hp fw_X4_13 dX4_turn_45 rfl t1 (ff_4_1 t1) ?_
    refine r_iload_n dX4_turn_48 rfl rfl ?_
    refine r_aload_n dX4_turn_49 rfl rfl ?_
    refine m_getI hp fw_X4_7 dX4_turn_50 rfl t1 ?_
    refine r_imul dX4_turn_53 ?_
    refine r_iload_n dX4_turn_54 rfl rfl ?_
    refine r_iadd dX4_turn_55 ?_
    refine m_iald hp dX4_turn_56 (lf_4_1 t1) H.1 ?_
    replace H := H.2
    refine m_iast hp dX4_turn_57 (lf_4_1 t0) H.1 (fun h1 eh1 => ?_)
    replace H := H.2 h1 eh1
    refine r_iinc (v := (x3 + (1 : Int32))) (ls2 := [some (.ref a0), some (.ref a1), some (.int x2), some (.int (x3 + (1 : Int32)))]) dX4_turn_58 rfl rfl (by decide) rfl ?_
    refine r_goto (tgt := 24) dX4_turn_61 rfl ?_
    exact H
theorem dX6_set_0 : decode cX6_set 0 = .ok (.aload_n 0, 1) := by decide +kernel
theorem dX6_set_1 : decode cX6_set 1 = .ok (.getfield 14, 3) := by decide +kernel
theorem dX6_set_4 : decode cX6_set 4 = .ok (.iload_n 1, 1) := by decide +kernel
theorem dX6_set_5 : decode cX6_set 5 = .ok (.invokevirtual 23, 3) := by decide +kernel
theorem dX6_set_8 : decode cX6_set 8 = .ok (.aload_n 0, 1) := by decide +kernel
theorem dX6_set_9 : decode cX6_set 9 = .ok (.getfield 20, 3) := by decide +kernel
theorem dX6_set_12 : decode cX6_set 12 = .ok (.iconst 1, 1) := by decide +kernel
theorem dX6_set_13 : decode cX6_set 13 = .ok (.invokevirtual 23, 3) := by decide +kernel
theorem dX6_set_16 : decode cX6_set 16 = .ok (.return_, 1) := by decide +kernel
theorem dX6_isPolynomial_0 : decode cX6_isPolynomial 0 = .ok (.aload_n 0, 1) := by decide +kernel
theorem dX6_isPolynomial_1 : decode cX6_isPolynomial 1 = .ok (.getfield 20, 3) := by decide +kernel
theorem dX6_isPolynomial_4 : decode cX6_isPolynomial 4 = .ok (.getfield 35, 3) := by decide +kernel
theorem dX6_isPolynomial_7 : decode cX6_isPolynomial 7 = .ok (.iconst 1, 1) := by decide +kernel
theorem dX6_isPolynomial_8 : decode cX6_isPolynomial 8 = .ok (.if_icmp .ne 18, 3) := by decide +kernel
theorem dX6_isPolynomial_11 : decode cX6_isPolynomial 11 = .ok (.aload_n 0, 1) := by decide +kernel
theorem dX6_isPolynomial_12 : decode cX6_isPolynomial 12 = .ok (.getfield 20, 3) := by decide +kernel
theorem dX6_isPolynomial_15 : decode cX6_isPolynomial 15 = .ok (.getfield 39, 3) := by decide +kernel
theorem dX6_isPolynomial_18 : decode cX6_isPolynomial 18 = .ok (.iconst 1, 1) := by decide +kernel
theorem dX6_isPolynomial_19 : decode cX6_isPolynomial 19 = .ok (.if_icmp .ne 7, 3) := by decide +kernel
theorem dX6_isPolynomial_22 : decode cX6_isPolynomial 22 = .ok (.iconst 1, 1) := by decide +kernel
theorem dX6_isPolynomial_23 : decode cX6_isPolynomial 23 = .ok (.goto 4, 3) := by decide +kernel
theorem dX6_isPolynomial_26 : decode cX6_isPolynomial 26 = .ok (.iconst 0, 1) := by decide +kernel
theorem dX6_isPolynomial_27 : decode cX6_isPolynomial 27 = .ok (.ireturn, 1) := by decide +kernel
theorem dX6_isZero_0 : decode cX6_isZero 0 = .ok (.aload_n 0, 1) := by decide +kernel
theorem dX6_isZero_1 : decode cX6_isZero 1 = .ok (.getfield 14, 3) := by decide +kernel
theorem dX6_isZero_4 : decode cX6_isZero 4 = .ok (.invokevirtual 31, 3) := by decide +kernel
theorem dX6_isZero_7 : decode cX6_isZero 7 = .ok (.ireturn, 1) := by decide +kernel
theorem dX6_copy_0 : decode cX6_copy 0 = .ok (.aload_n 0, 1) := by decide +kernel
theorem dX6_copy_1 : decode cX6_copy 1 = .ok (.getfield 14, 3) := by decide +kernel
theorem dX6_copy_4 : decode cX6_copy 4 = .ok (.aload_n 1, 1) := by decide +kernel
theorem dX6_copy_5 : decode cX6_copy 5 = .ok (.getfield 14, 3) := by decide +kernel
theorem dX6_copy_8 : decode cX6_copy 8 = .ok (.invokevirtual 27, 3) := by decide +kernel
theorem dX6_copy_11 : decode cX6_copy 11 = .ok (.aload_n 0, 1) := by decide +kernel
theorem dX6_copy_12 : decode cX6_copy 12 = .ok (.getfield 20, 3) := by decide +kernel
theorem dX6_copy_15 : decode cX6_copy 15 = .ok (.aload_n 1, 1) := by decide +kernel
theorem dX6_copy_16 : decode cX6_copy 16 = .ok (.getfield 20, 3) := by decide +kernel
theorem dX6_copy_19 : decode cX6_copy 19 = .ok (.invokevirtual 27, 3) := by decide +kernel
theorem dX6_copy_22 : decode cX6_copy 22 = .ok (.return_, 1) := by decide +kernel
abbrev W_X6_set (g : GX) (d : Nat) (av : List Value) (Q : QT) (n : Nat) (pc : Nat) (ls : LV) (stk : List Value) (h : Hp) : Prop := RJ g m_X6_set (d + 1) 0 0 av Q pc ls stk n h 0 0
theorem s_X6_set_0 {g : GX} {d : Nat} {av : List Value} {Q : QT} {n : Nat} {h : Hp} {a0 : Nat} {x1 : Int32} (hp : g.2.2.2.2 = true) (t0 : lay a0 = (0, 6, 2)) (H : CallV g m_X4_set d [.ref (a0 + 1), .int x1] n h (fun h1 => (CallV g m_X4_set d [.ref (a0 + 3), .int (1 : Int32)] n h1 (fun h2 => (Q none n h2))))) : W_X6_set g d av Q n 0 [some (.ref a0), some (.int x1)] [] h := by
  refine r_aload_n dX6_set_0 rfl rfl ?_
  refine m_getF (x := (a0 + 1)) hp fw_X6_14 dX6_set_1 rfl t0 (ff_6_0 t0) ?_
  refine r_iload_n dX6_set_4 rfl rfl ?_
  refine k_VV (As := [.int x1]) (stk := []) hp cv_X6_23 dX6_set_5 rfl (Nat.le_of_ble_eq_true rfl) (lf_6_0 t0) (H.mono (fun h1 H => ?_)) ⟨Nat.le_refl _, Nat.le_refl _⟩
  refine r_aload_n dX6_set_8 rfl rfl ?_
  refine m_getF (x := (a0 + 3)) hp fw_X6_20 dX6_set_9 rfl t0 (ff_6_1 t0) ?_
  refine r_iconst (v := (1 : Int32)) dX6_set_12 rfl ?_
  refine k_VV (As := [.int (1 : Int32)]) (stk := []) hp cv_X6_23 dX6_set_13 rfl (Nat.le_of_ble_eq_true rfl) (lf_6_1 t0) (H.mono (fun h2 H => ?_)) ⟨Nat.le_refl _, Nat.le_refl _⟩
  exact r_vret dX6_set_16 rfl (Nat.le_refl _) (Nat.le_refl _) H
abbrev W_X6_isPolynomial (g : GX) (d : Nat) (av : List Value) (Q : QT) (n : Nat) (pc : Nat) (ls : LV) (stk : List Value) (h : Hp) : Prop := RJ g m_X6_isPolynomial d 0 0 av Q pc ls stk n h 0 0
theorem s_X6_isPolynomial_0 {g : GX} {d : Nat} {av : List Value} {Q : QT} {n : Nat} {h : Hp} {a0 : Nat} (hp : g.2.2.2.2 = true) (t0 : lay a0 = (0, 6, 2)) (H : ((¬ (ri h (a0 + 3) 2) = (1 : Int32)) → (Q (some (.int (0 : Int32))) n h)) ∧ (((ri h (a0 + 3) 2) = (1 : Int32)) → (((¬ (ri h (a0 + 3) 3) = (1 : Int32)) → (Q (some (.int (0 : Int32))) n h)) ∧ (((ri h (a0 + 3) 3) = (1 : Int32)) → (Q (some (.int (1 : Int32))) n h))))) : W_X6_isPolynomial g d av Q n 0 [some (.ref a0)] [] h := by
  refine r_aload_n dX6_isPolynomial_0 rfl rfl ?_
  refine m_getF (x := (a0 + 3)) hp fw_X6_20 dX6_isPolynomial_1 rfl t0 (ff_6_1 t0) ?_
  refine m_getI hp fw_X6_35 dX6_isPolynomial_4 rfl (lf_6_1 t0) ?_
  refine r_iconst (v := (1 : Int32)) dX6_isPolynomial_7 rfl ?_
  refine r_icmp_ne (tgt := 26) dX6_isPolynomial_8 rfl (fun cH => ?_) (fun cH => ?_)
  · replace H := H.1 cH
    refine r_iconst (v := (0 : Int32)) dX6_isPolynomial_26 rfl ?_
    exact r_zret dX6_isPolynomial_27 rfl rfl (Nat.le_refl _) (Nat.le_refl _) H
  · replace H := H.2 cH
    refine r_aload_n dX6_isPolynomial_11 rfl rfl ?_
    refine m_getF (x := (a0 + 3)) hp fw_X6_20 dX6_isPolynomial_12 rfl t0 (ff_6_1 t0) ?_
    refine m_getI hp fw_X6_39 dX6_isPolynomial_15 rfl (lf_6_1 t0) ?_
    refine r_iconst (v := (1 : Int32)) dX6_isPolynomial_18 rfl ?_
    refine r_icmp_ne (tgt := 26) dX6_isPolynomial_19 rfl (fun cH => ?_) (fun cH => ?_)
    · replace H := H.1 cH
      refine r_iconst (v := (0 : Int32)) dX6_isPolynomial_26 rfl ?_
      exact r_zret dX6_isPolynomial_27 rfl rfl (Nat.le_refl _) (Nat.le_refl _) H
    · replace H := H.2 cH
      refine r_iconst (v := (1 : Int32)) dX6_isPolynomial_22 rfl ?_
      refine r_goto (tgt := 27) dX6_isPolynomial_23 rfl ?_
      exact r_zret dX6_isPolynomial_27 rfl rfl (Nat.le_refl _) (Nat.le_refl _) H
abbrev W_X6_isZero (g : GX) (d : Nat) (av : List Value) (Q : QT) (n : Nat) (pc : Nat) (ls : LV) (stk : List Value) (h : Hp) : Prop := RJ g m_X6_isZero (d + 1) 0 0 av Q pc ls stk n h 0 0
theorem s_X6_isZero_0 {g : GX} {d : Nat} {av : List Value} {Q : QT} {n : Nat} {h : Hp} {a0 : Nat} (hp : g.2.2.2.2 = true) (t0 : lay a0 = (0, 6, 2)) (H : CallI g m_X4_isZero d [.ref (a0 + 1)] n h (fun v1 h1 => ((v1 = 0 ∨ v1 = 1) ∧ Q (some (.int v1)) n h1))) : W_X6_isZero g d av Q n 0 [some (.ref a0)] [] h := by
  refine r_aload_n dX6_isZero_0 rfl rfl ?_
  refine m_getF (x := (a0 + 1)) hp fw_X6_14 dX6_isZero_1 rfl t0 (ff_6_0 t0) ?_
  refine k_VI (As := []) (stk := []) hp cv_X6_31 dX6_isZero_4 rfl (Nat.le_of_ble_eq_true rfl) (lf_6_0 t0) (H.mono (fun v1 h1 H => ?_)) ⟨Nat.le_refl _, Nat.le_refl _⟩
  exact r_zret dX6_isZero_7 rfl (nar01 H.1) (Nat.le_refl _) (Nat.le_refl _) H.2
abbrev W_X6_copy (g : GX) (d : Nat) (av : List Value) (Q : QT) (n : Nat) (pc : Nat) (ls : LV) (stk : List Value) (h : Hp) : Prop := RJ g m_X6_copy (d + 1) 0 0 av Q pc ls stk n h 0 0
theorem s_X6_copy_0 {g : GX} {d : Nat} {av : List Value} {Q : QT} {n : Nat} {h : Hp} {a0 : Nat} {a1 : Nat} (hp : g.2.2.2.2 = true) (t0 : lay a0 = (0, 6, 2)) (t1 : lay a1 = (0, 6, 2)) (H : CallV g m_X4_copy d [.ref (a0 + 1), .ref (a1 + 1)] n h (fun h1 => (CallV g m_X4_copy d [.ref (a0 + 3), .ref (a1 + 3)] n h1 (fun h2 => (Q none n h2))))) : W_X6_copy g d av Q n 0 [some (.ref a0), some (.ref a1)] [] h := by
  refine r_aload_n dX6_copy_0 rfl rfl ?_
  refine m_getF (x := (a0 + 1)) hp fw_X6_14 dX6_copy_1 rfl t0 (ff_6_0 t0) ?_
  refine r_aload_n dX6_copy_4 rfl rfl ?_
  refine m_getF (x := (a1 + 1)) hp fw_X6_14 dX6_copy_5 rfl t1 (ff_6_0 t1) ?_
  refine k_VV (As := [.ref (a1 + 1)]) (stk := []) hp cv_X6_27 dX6_copy_8 rfl (Nat.le_of_ble_eq_true rfl) (lf_6_0 t0) (H.mono (fun h1 H => ?_)) ⟨Nat.le_refl _, Nat.le_refl _⟩
  refine r_aload_n dX6_copy_11 rfl rfl ?_
  refine m_getF (x := (a0 + 3)) hp fw_X6_20 dX6_copy_12 rfl t0 (ff_6_1 t0) ?_
  refine r_aload_n dX6_copy_15 rfl rfl ?_
  refine m_getF (x := (a1 + 3)) hp fw_X6_20 dX6_copy_16 rfl t1 (ff_6_1 t1) ?_
  refine k_VV (As := [.ref (a1 + 3)]) (stk := []) hp cv_X6_27 dX6_copy_19 rfl (Nat.le_of_ble_eq_true rfl) (lf_6_1 t0) (H.mono (fun h2 H => ?_)) ⟨Nat.le_refl _, Nat.le_refl _⟩
  exact r_vret dX6_copy_22 rfl (Nat.le_refl _) (Nat.le_refl _) H
theorem dX5_set_0 : decode cX5_set 0 = .ok (.aload_n 0, 1) := by decide +kernel
theorem dX5_set_1 : decode cX5_set 1 = .ok (.invokevirtual 39, 3) := by decide +kernel
theorem dX5_set_4 : decode cX5_set 4 = .ok (.aload_n 0, 1) := by decide +kernel
theorem dX5_set_5 : decode cX5_set 5 = .ok (.getfield 10, 3) := by decide +kernel
theorem dX5_set_8 : decode cX5_set 8 = .ok (.iload_n 1, 1) := by decide +kernel
theorem dX5_set_9 : decode cX5_set 9 = .ok (.invokevirtual 42, 3) := by decide +kernel
theorem dX5_set_12 : decode cX5_set 12 = .ok (.return_, 1) := by decide +kernel
theorem dX5_plain_0 : decode cX5_plain 0 = .ok (.aload_n 0, 1) := by decide +kernel
theorem dX5_plain_1 : decode cX5_plain 1 = .ok (.iconst 1, 1) := by decide +kernel
theorem dX5_plain_2 : decode cX5_plain 2 = .ok (.putfield 16, 3) := by decide +kernel
theorem dX5_plain_5 : decode cX5_plain 5 = .ok (.aload_n 0, 1) := by decide +kernel
theorem dX5_plain_6 : decode cX5_plain 6 = .ok (.iconst 1, 1) := by decide +kernel
theorem dX5_plain_7 : decode cX5_plain 7 = .ok (.putfield 20, 3) := by decide +kernel
theorem dX5_plain_10 : decode cX5_plain 10 = .ok (.aload_n 0, 1) := by decide +kernel
theorem dX5_plain_11 : decode cX5_plain 11 = .ok (.iconst 0, 1) := by decide +kernel
theorem dX5_plain_12 : decode cX5_plain 12 = .ok (.putfield 36, 3) := by decide +kernel
theorem dX5_plain_15 : decode cX5_plain 15 = .ok (.return_, 1) := by decide +kernel
theorem dX5_isTerm_0 : decode cX5_isTerm 0 = .ok (.aload_n 0, 1) := by decide +kernel
theorem dX5_isTerm_1 : decode cX5_isTerm 1 = .ok (.getfield 16, 3) := by decide +kernel
theorem dX5_isTerm_4 : decode cX5_isTerm 4 = .ok (.iconst 1, 1) := by decide +kernel
theorem dX5_isTerm_5 : decode cX5_isTerm 5 = .ok (.if_icmp .ne 18, 3) := by decide +kernel
theorem dX5_isTerm_8 : decode cX5_isTerm 8 = .ok (.aload_n 0, 1) := by decide +kernel
theorem dX5_isTerm_9 : decode cX5_isTerm 9 = .ok (.getfield 20, 3) := by decide +kernel
theorem dX5_isTerm_12 : decode cX5_isTerm 12 = .ok (.iconst 1, 1) := by decide +kernel
theorem dX5_isTerm_13 : decode cX5_isTerm 13 = .ok (.if_icmp .ne 10, 3) := by decide +kernel
theorem dX5_isTerm_16 : decode cX5_isTerm 16 = .ok (.aload_n 0, 1) := by decide +kernel
theorem dX5_isTerm_17 : decode cX5_isTerm 17 = .ok (.getfield 36, 3) := by decide +kernel
theorem dX5_isTerm_20 : decode cX5_isTerm 20 = .ok (.ifCond .le 7, 3) := by decide +kernel
theorem dX5_isTerm_23 : decode cX5_isTerm 23 = .ok (.iconst 1, 1) := by decide +kernel
theorem dX5_isTerm_24 : decode cX5_isTerm 24 = .ok (.goto 4, 3) := by decide +kernel
theorem dX5_isTerm_27 : decode cX5_isTerm 27 = .ok (.iconst 0, 1) := by decide +kernel
theorem dX5_isTerm_28 : decode cX5_isTerm 28 = .ok (.ireturn, 1) := by decide +kernel
theorem dX5_add_0 : decode cX5_add 0 = .ok (.iconst 0, 1) := by decide +kernel
theorem dX5_add_1 : decode cX5_add 1 = .ok (.istore 5, 2) := by decide +kernel
theorem dX5_add_3 : decode cX5_add 3 = .ok (.iload 5, 2) := by decide +kernel
theorem dX5_add_5 : decode cX5_add 5 = .ok (.aload_n 0, 1) := by decide +kernel
theorem dX5_add_6 : decode cX5_add 6 = .ok (.getfield 36, 3) := by decide +kernel
theorem dX5_add_9 : decode cX5_add 9 = .ok (.if_icmp .ge 64, 3) := by decide +kernel
theorem dX5_add_12 : decode cX5_add 12 = .ok (.aload_n 0, 1) := by decide +kernel
theorem dX5_add_13 : decode cX5_add 13 = .ok (.getfield 23, 3) := by decide +kernel
theorem dX5_add_16 : decode cX5_add 16 = .ok (.iload 5, 2) := by decide +kernel
theorem dX5_add_18 : decode cX5_add 18 = .ok (.iaload, 1) := by decide +kernel
theorem dX5_add_19 : decode cX5_add 19 = .ok (.iload_n 1, 1) := by decide +kernel
theorem dX5_add_20 : decode cX5_add 20 = .ok (.if_icmp .lt 47, 3) := by decide +kernel
theorem dX5_add_23 : decode cX5_add 23 = .ok (.aload_n 0, 1) := by decide +kernel
theorem dX5_add_24 : decode cX5_add 24 = .ok (.getfield 23, 3) := by decide +kernel
theorem dX5_add_27 : decode cX5_add 27 = .ok (.iload 5, 2) := by decide +kernel
theorem dX5_add_29 : decode cX5_add 29 = .ok (.iaload, 1) := by decide +kernel
theorem dX5_add_30 : decode cX5_add 30 = .ok (.iload_n 1, 1) := by decide +kernel
theorem dX5_add_31 : decode cX5_add 31 = .ok (.if_icmp .ne 42, 3) := by decide +kernel
theorem dX5_add_34 : decode cX5_add 34 = .ok (.aload_n 0, 1) := by decide +kernel
theorem dX5_add_35 : decode cX5_add 35 = .ok (.getfield 27, 3) := by decide +kernel
theorem dX5_add_38 : decode cX5_add 38 = .ok (.iload 5, 2) := by decide +kernel
theorem dX5_add_40 : decode cX5_add 40 = .ok (.iaload, 1) := by decide +kernel
theorem dX5_add_41 : decode cX5_add 41 = .ok (.iload_n 2, 1) := by decide +kernel
theorem dX5_add_42 : decode cX5_add 42 = .ok (.if_icmp .lt 25, 3) := by decide +kernel
theorem dX5_add_45 : decode cX5_add 45 = .ok (.aload_n 0, 1) := by decide +kernel
theorem dX5_add_46 : decode cX5_add 46 = .ok (.getfield 27, 3) := by decide +kernel
theorem dX5_add_49 : decode cX5_add 49 = .ok (.iload 5, 2) := by decide +kernel
theorem dX5_add_51 : decode cX5_add 51 = .ok (.iaload, 1) := by decide +kernel
theorem dX5_add_52 : decode cX5_add 52 = .ok (.iload_n 2, 1) := by decide +kernel
theorem dX5_add_53 : decode cX5_add 53 = .ok (.if_icmp .ne 20, 3) := by decide +kernel
theorem dX5_add_56 : decode cX5_add 56 = .ok (.aload_n 0, 1) := by decide +kernel
theorem dX5_add_57 : decode cX5_add 57 = .ok (.getfield 30, 3) := by decide +kernel
theorem dX5_add_60 : decode cX5_add 60 = .ok (.iload 5, 2) := by decide +kernel
theorem dX5_add_62 : decode cX5_add 62 = .ok (.iaload, 1) := by decide +kernel
theorem dX5_add_63 : decode cX5_add 63 = .ok (.iload_n 3, 1) := by decide +kernel
theorem dX5_add_64 : decode cX5_add 64 = .ok (.if_icmp .ge 9, 3) := by decide +kernel
theorem dX5_add_67 : decode cX5_add 67 = .ok (.iinc 5 1, 3) := by decide +kernel
theorem dX5_add_70 : decode cX5_add 70 = .ok (.goto (-67), 3) := by decide +kernel
theorem dX5_add_73 : decode cX5_add 73 = .ok (.iload 5, 2) := by decide +kernel
theorem dX5_add_75 : decode cX5_add 75 = .ok (.aload_n 0, 1) := by decide +kernel
theorem dX5_add_76 : decode cX5_add 76 = .ok (.getfield 36, 3) := by decide +kernel
theorem dX5_add_79 : decode cX5_add 79 = .ok (.if_icmp .ge 78, 3) := by decide +kernel
theorem dX5_add_82 : decode cX5_add 82 = .ok (.aload_n 0, 1) := by decide +kernel
theorem dX5_add_83 : decode cX5_add 83 = .ok (.getfield 23, 3) := by decide +kernel
theorem dX5_add_86 : decode cX5_add 86 = .ok (.iload 5, 2) := by decide +kernel
theorem dX5_add_88 : decode cX5_add 88 = .ok (.iaload, 1) := by decide +kernel
theorem dX5_add_89 : decode cX5_add 89 = .ok (.iload_n 1, 1) := by decide +kernel
theorem dX5_add_90 : decode cX5_add 90 = .ok (.if_icmp .ne 67, 3) := by decide +kernel
theorem dX5_add_93 : decode cX5_add 93 = .ok (.aload_n 0, 1) := by decide +kernel
theorem dX5_add_94 : decode cX5_add 94 = .ok (.getfield 27, 3) := by decide +kernel
theorem dX5_add_97 : decode cX5_add 97 = .ok (.iload 5, 2) := by decide +kernel
theorem dX5_add_99 : decode cX5_add 99 = .ok (.iaload, 1) := by decide +kernel
theorem dX5_add_100 : decode cX5_add 100 = .ok (.iload_n 2, 1) := by decide +kernel
theorem dX5_add_101 : decode cX5_add 101 = .ok (.if_icmp .ne 56, 3) := by decide +kernel
theorem dX5_add_104 : decode cX5_add 104 = .ok (.aload_n 0, 1) := by decide +kernel
theorem dX5_add_105 : decode cX5_add 105 = .ok (.getfield 30, 3) := by decide +kernel
theorem dX5_add_108 : decode cX5_add 108 = .ok (.iload 5, 2) := by decide +kernel
theorem dX5_add_110 : decode cX5_add 110 = .ok (.iaload, 1) := by decide +kernel
theorem dX5_add_111 : decode cX5_add 111 = .ok (.iload_n 3, 1) := by decide +kernel
theorem dX5_add_112 : decode cX5_add 112 = .ok (.if_icmp .ne 45, 3) := by decide +kernel
theorem dX5_add_115 : decode cX5_add 115 = .ok (.aload_n 0, 1) := by decide +kernel
theorem dX5_add_116 : decode cX5_add 116 = .ok (.getfield 33, 3) := by decide +kernel
theorem dX5_add_119 : decode cX5_add 119 = .ok (.iload 5, 2) := by decide +kernel
theorem dX5_add_121 : decode cX5_add 121 = .ok (.dup2, 1) := by decide +kernel
theorem dX5_add_122 : decode cX5_add 122 = .ok (.iaload, 1) := by decide +kernel
theorem dX5_add_123 : decode cX5_add 123 = .ok (.iload 4, 2) := by decide +kernel
theorem dX5_add_125 : decode cX5_add 125 = .ok (.iadd, 1) := by decide +kernel
theorem dX5_add_126 : decode cX5_add 126 = .ok (.iastore, 1) := by decide +kernel
theorem dX5_add_127 : decode cX5_add 127 = .ok (.aload_n 0, 1) := by decide +kernel
theorem dX5_add_128 : decode cX5_add 128 = .ok (.getfield 33, 3) := by decide +kernel
theorem dX5_add_131 : decode cX5_add 131 = .ok (.iload 5, 2) := by decide +kernel
theorem dX5_add_133 : decode cX5_add 133 = .ok (.iaload, 1) := by decide +kernel
theorem dX5_add_134 : decode cX5_add 134 = .ok (.ifCond .ne 22, 3) := by decide +kernel
theorem dX5_add_137 : decode cX5_add 137 = .ok (.aload_n 0, 1) := by decide +kernel
theorem dX5_add_138 : decode cX5_add 138 = .ok (.iload 5, 2) := by decide +kernel
theorem dX5_add_140 : decode cX5_add 140 = .ok (.iconst 1, 1) := by decide +kernel
theorem dX5_add_141 : decode cX5_add 141 = .ok (.iadd, 1) := by decide +kernel
theorem dX5_add_142 : decode cX5_add 142 = .ok (.iconst (-1), 1) := by decide +kernel
theorem dX5_add_143 : decode cX5_add 143 = .ok (.invokevirtual 60, 3) := by decide +kernel
theorem dX5_add_146 : decode cX5_add 146 = .ok (.aload_n 0, 1) := by decide +kernel
theorem dX5_add_147 : decode cX5_add 147 = .ok (.dup, 1) := by decide +kernel
theorem dX5_add_148 : decode cX5_add 148 = .ok (.getfield 36, 3) := by decide +kernel
theorem dX5_add_151 : decode cX5_add 151 = .ok (.iconst 1, 1) := by decide +kernel
theorem dX5_add_152 : decode cX5_add 152 = .ok (.isub, 1) := by decide +kernel
theorem dX5_add_153 : decode cX5_add 153 = .ok (.putfield 36, 3) := by decide +kernel
theorem dX5_add_156 : decode cX5_add 156 = .ok (.return_, 1) := by decide +kernel
theorem dX5_add_157 : decode cX5_add 157 = .ok (.aload_n 0, 1) := by decide +kernel
theorem dX5_add_158 : decode cX5_add 158 = .ok (.iload 5, 2) := by decide +kernel
theorem dX5_add_160 : decode cX5_add 160 = .ok (.iconst 1, 1) := by decide +kernel
theorem dX5_add_161 : decode cX5_add 161 = .ok (.invokevirtual 60, 3) := by decide +kernel
theorem dX5_add_164 : decode cX5_add 164 = .ok (.aload_n 0, 1) := by decide +kernel
theorem dX5_add_165 : decode cX5_add 165 = .ok (.dup, 1) := by decide +kernel
theorem dX5_add_166 : decode cX5_add 166 = .ok (.getfield 36, 3) := by decide +kernel
theorem dX5_add_169 : decode cX5_add 169 = .ok (.iconst 1, 1) := by decide +kernel
theorem dX5_add_170 : decode cX5_add 170 = .ok (.iadd, 1) := by decide +kernel
theorem dX5_add_171 : decode cX5_add 171 = .ok (.putfield 36, 3) := by decide +kernel
theorem dX5_add_174 : decode cX5_add 174 = .ok (.aload_n 0, 1) := by decide +kernel
theorem dX5_add_175 : decode cX5_add 175 = .ok (.getfield 23, 3) := by decide +kernel
theorem dX5_add_178 : decode cX5_add 178 = .ok (.iload 5, 2) := by decide +kernel
theorem dX5_add_180 : decode cX5_add 180 = .ok (.iload_n 1, 1) := by decide +kernel
theorem dX5_add_181 : decode cX5_add 181 = .ok (.iastore, 1) := by decide +kernel
theorem dX5_add_182 : decode cX5_add 182 = .ok (.aload_n 0, 1) := by decide +kernel
theorem dX5_add_183 : decode cX5_add 183 = .ok (.getfield 27, 3) := by decide +kernel
theorem dX5_add_186 : decode cX5_add 186 = .ok (.iload 5, 2) := by decide +kernel
theorem dX5_add_188 : decode cX5_add 188 = .ok (.iload_n 2, 1) := by decide +kernel
theorem dX5_add_189 : decode cX5_add 189 = .ok (.iastore, 1) := by decide +kernel
theorem dX5_add_190 : decode cX5_add 190 = .ok (.aload_n 0, 1) := by decide +kernel
theorem dX5_add_191 : decode cX5_add 191 = .ok (.getfield 30, 3) := by decide +kernel
theorem dX5_add_194 : decode cX5_add 194 = .ok (.iload 5, 2) := by decide +kernel
theorem dX5_add_196 : decode cX5_add 196 = .ok (.iload_n 3, 1) := by decide +kernel
theorem dX5_add_197 : decode cX5_add 197 = .ok (.iastore, 1) := by decide +kernel
theorem dX5_add_198 : decode cX5_add 198 = .ok (.aload_n 0, 1) := by decide +kernel
theorem dX5_add_199 : decode cX5_add 199 = .ok (.getfield 33, 3) := by decide +kernel
theorem dX5_add_202 : decode cX5_add 202 = .ok (.iload 5, 2) := by decide +kernel
theorem dX5_add_204 : decode cX5_add 204 = .ok (.iload 4, 2) := by decide +kernel
theorem dX5_add_206 : decode cX5_add 206 = .ok (.iastore, 1) := by decide +kernel
theorem dX5_add_207 : decode cX5_add 207 = .ok (.return_, 1) := by decide +kernel
theorem dX5_move_0 : decode cX5_move 0 = .ok (.aload_n 0, 1) := by decide +kernel
theorem dX5_move_1 : decode cX5_move 1 = .ok (.getfield 23, 3) := by decide +kernel
theorem dX5_move_4 : decode cX5_move 4 = .ok (.iload_n 1, 1) := by decide +kernel
theorem dX5_move_5 : decode cX5_move 5 = .ok (.aload_n 0, 1) := by decide +kernel
theorem dX5_move_6 : decode cX5_move 6 = .ok (.getfield 23, 3) := by decide +kernel
theorem dX5_move_9 : decode cX5_move 9 = .ok (.iload_n 1, 1) := by decide +kernel
theorem dX5_move_10 : decode cX5_move 10 = .ok (.iload_n 2, 1) := by decide +kernel
theorem dX5_move_11 : decode cX5_move 11 = .ok (.iadd, 1) := by decide +kernel
theorem dX5_move_12 : decode cX5_move 12 = .ok (.aload_n 0, 1) := by decide +kernel
theorem dX5_move_13 : decode cX5_move 13 = .ok (.getfield 36, 3) := by decide +kernel
theorem dX5_move_16 : decode cX5_move 16 = .ok (.iload_n 1, 1) := by decide +kernel
theorem dX5_move_17 : decode cX5_move 17 = .ok (.isub, 1) := by decide +kernel
theorem dX5_move_18 : decode cX5_move 18 = .ok (.invokestatic 54, 3) := by decide +kernel
theorem dX5_move_21 : decode cX5_move 21 = .ok (.aload_n 0, 1) := by decide +kernel
theorem dX5_move_22 : decode cX5_move 22 = .ok (.getfield 27, 3) := by decide +kernel
theorem dX5_move_25 : decode cX5_move 25 = .ok (.iload_n 1, 1) := by decide +kernel
theorem dX5_move_26 : decode cX5_move 26 = .ok (.aload_n 0, 1) := by decide +kernel
theorem dX5_move_27 : decode cX5_move 27 = .ok (.getfield 27, 3) := by decide +kernel
theorem dX5_move_30 : decode cX5_move 30 = .ok (.iload_n 1, 1) := by decide +kernel
theorem dX5_move_31 : decode cX5_move 31 = .ok (.iload_n 2, 1) := by decide +kernel
theorem dX5_move_32 : decode cX5_move 32 = .ok (.iadd, 1) := by decide +kernel
theorem dX5_move_33 : decode cX5_move 33 = .ok (.aload_n 0, 1) := by decide +kernel
theorem dX5_move_34 : decode cX5_move 34 = .ok (.getfield 36, 3) := by decide +kernel
theorem dX5_move_37 : decode cX5_move 37 = .ok (.iload_n 1, 1) := by decide +kernel
theorem dX5_move_38 : decode cX5_move 38 = .ok (.isub, 1) := by decide +kernel
theorem dX5_move_39 : decode cX5_move 39 = .ok (.invokestatic 54, 3) := by decide +kernel
theorem dX5_move_42 : decode cX5_move 42 = .ok (.aload_n 0, 1) := by decide +kernel
theorem dX5_move_43 : decode cX5_move 43 = .ok (.getfield 30, 3) := by decide +kernel
theorem dX5_move_46 : decode cX5_move 46 = .ok (.iload_n 1, 1) := by decide +kernel
theorem dX5_move_47 : decode cX5_move 47 = .ok (.aload_n 0, 1) := by decide +kernel
theorem dX5_move_48 : decode cX5_move 48 = .ok (.getfield 30, 3) := by decide +kernel
theorem dX5_move_51 : decode cX5_move 51 = .ok (.iload_n 1, 1) := by decide +kernel
theorem dX5_move_52 : decode cX5_move 52 = .ok (.iload_n 2, 1) := by decide +kernel
theorem dX5_move_53 : decode cX5_move 53 = .ok (.iadd, 1) := by decide +kernel
theorem dX5_move_54 : decode cX5_move 54 = .ok (.aload_n 0, 1) := by decide +kernel
theorem dX5_move_55 : decode cX5_move 55 = .ok (.getfield 36, 3) := by decide +kernel
theorem dX5_move_58 : decode cX5_move 58 = .ok (.iload_n 1, 1) := by decide +kernel
theorem dX5_move_59 : decode cX5_move 59 = .ok (.isub, 1) := by decide +kernel
theorem dX5_move_60 : decode cX5_move 60 = .ok (.invokestatic 54, 3) := by decide +kernel
theorem dX5_move_63 : decode cX5_move 63 = .ok (.aload_n 0, 1) := by decide +kernel
theorem dX5_move_64 : decode cX5_move 64 = .ok (.getfield 33, 3) := by decide +kernel
theorem dX5_move_67 : decode cX5_move 67 = .ok (.iload_n 1, 1) := by decide +kernel
theorem dX5_move_68 : decode cX5_move 68 = .ok (.aload_n 0, 1) := by decide +kernel
theorem dX5_move_69 : decode cX5_move 69 = .ok (.getfield 33, 3) := by decide +kernel
theorem dX5_move_72 : decode cX5_move 72 = .ok (.iload_n 1, 1) := by decide +kernel
theorem dX5_move_73 : decode cX5_move 73 = .ok (.iload_n 2, 1) := by decide +kernel
theorem dX5_move_74 : decode cX5_move 74 = .ok (.iadd, 1) := by decide +kernel
theorem dX5_move_75 : decode cX5_move 75 = .ok (.aload_n 0, 1) := by decide +kernel
theorem dX5_move_76 : decode cX5_move 76 = .ok (.getfield 36, 3) := by decide +kernel
theorem dX5_move_79 : decode cX5_move 79 = .ok (.iload_n 1, 1) := by decide +kernel
theorem dX5_move_80 : decode cX5_move 80 = .ok (.isub, 1) := by decide +kernel
theorem dX5_move_81 : decode cX5_move 81 = .ok (.invokestatic 54, 3) := by decide +kernel
theorem dX5_move_84 : decode cX5_move 84 = .ok (.return_, 1) := by decide +kernel
theorem dX5_copy_0 : decode cX5_copy 0 = .ok (.aload_n 0, 1) := by decide +kernel
theorem dX5_copy_1 : decode cX5_copy 1 = .ok (.getfield 10, 3) := by decide +kernel
theorem dX5_copy_4 : decode cX5_copy 4 = .ok (.aload_n 1, 1) := by decide +kernel
theorem dX5_copy_5 : decode cX5_copy 5 = .ok (.getfield 10, 3) := by decide +kernel
theorem dX5_copy_8 : decode cX5_copy 8 = .ok (.invokevirtual 46, 3) := by decide +kernel
theorem dX5_copy_11 : decode cX5_copy 11 = .ok (.aload_n 0, 1) := by decide +kernel
theorem dX5_copy_12 : decode cX5_copy 12 = .ok (.aload_n 1, 1) := by decide +kernel
theorem dX5_copy_13 : decode cX5_copy 13 = .ok (.invokevirtual 50, 3) := by decide +kernel
theorem dX5_copy_16 : decode cX5_copy 16 = .ok (.return_, 1) := by decide +kernel
theorem dX5_copyParts_0 : decode cX5_copyParts 0 = .ok (.aload_n 0, 1) := by decide +kernel
theorem dX5_copyParts_1 : decode cX5_copyParts 1 = .ok (.aload_n 1, 1) := by decide +kernel
theorem dX5_copyParts_2 : decode cX5_copyParts 2 = .ok (.getfield 16, 3) := by decide +kernel
theorem dX5_copyParts_5 : decode cX5_copyParts 5 = .ok (.putfield 16, 3) := by decide +kernel
theorem dX5_copyParts_8 : decode cX5_copyParts 8 = .ok (.aload_n 0, 1) := by decide +kernel
theorem dX5_copyParts_9 : decode cX5_copyParts 9 = .ok (.aload_n 1, 1) := by decide +kernel
theorem dX5_copyParts_10 : decode cX5_copyParts 10 = .ok (.getfield 20, 3) := by decide +kernel
theorem dX5_copyParts_13 : decode cX5_copyParts 13 = .ok (.putfield 20, 3) := by decide +kernel
theorem dX5_copyParts_16 : decode cX5_copyParts 16 = .ok (.aload_n 0, 1) := by decide +kernel
theorem dX5_copyParts_17 : decode cX5_copyParts 17 = .ok (.aload_n 1, 1) := by decide +kernel
theorem dX5_copyParts_18 : decode cX5_copyParts 18 = .ok (.getfield 36, 3) := by decide +kernel
theorem dX5_copyParts_21 : decode cX5_copyParts 21 = .ok (.putfield 36, 3) := by decide +kernel
theorem dX5_copyParts_24 : decode cX5_copyParts 24 = .ok (.aload_n 1, 1) := by decide +kernel
theorem dX5_copyParts_25 : decode cX5_copyParts 25 = .ok (.getfield 23, 3) := by decide +kernel
theorem dX5_copyParts_28 : decode cX5_copyParts 28 = .ok (.iconst 0, 1) := by decide +kernel
theorem dX5_copyParts_29 : decode cX5_copyParts 29 = .ok (.aload_n 0, 1) := by decide +kernel
theorem dX5_copyParts_30 : decode cX5_copyParts 30 = .ok (.getfield 23, 3) := by decide +kernel
theorem dX5_copyParts_33 : decode cX5_copyParts 33 = .ok (.iconst 0, 1) := by decide +kernel
theorem dX5_copyParts_34 : decode cX5_copyParts 34 = .ok (.aload_n 0, 1) := by decide +kernel
theorem dX5_copyParts_35 : decode cX5_copyParts 35 = .ok (.getfield 36, 3) := by decide +kernel
theorem dX5_copyParts_38 : decode cX5_copyParts 38 = .ok (.invokestatic 54, 3) := by decide +kernel
theorem dX5_copyParts_41 : decode cX5_copyParts 41 = .ok (.aload_n 1, 1) := by decide +kernel
theorem dX5_copyParts_42 : decode cX5_copyParts 42 = .ok (.getfield 27, 3) := by decide +kernel
theorem dX5_copyParts_45 : decode cX5_copyParts 45 = .ok (.iconst 0, 1) := by decide +kernel
theorem dX5_copyParts_46 : decode cX5_copyParts 46 = .ok (.aload_n 0, 1) := by decide +kernel
theorem dX5_copyParts_47 : decode cX5_copyParts 47 = .ok (.getfield 27, 3) := by decide +kernel
theorem dX5_copyParts_50 : decode cX5_copyParts 50 = .ok (.iconst 0, 1) := by decide +kernel
theorem dX5_copyParts_51 : decode cX5_copyParts 51 = .ok (.aload_n 0, 1) := by decide +kernel
theorem dX5_copyParts_52 : decode cX5_copyParts 52 = .ok (.getfield 36, 3) := by decide +kernel
theorem dX5_copyParts_55 : decode cX5_copyParts 55 = .ok (.invokestatic 54, 3) := by decide +kernel
theorem dX5_copyParts_58 : decode cX5_copyParts 58 = .ok (.aload_n 1, 1) := by decide +kernel
theorem dX5_copyParts_59 : decode cX5_copyParts 59 = .ok (.getfield 30, 3) := by decide +kernel
theorem dX5_copyParts_62 : decode cX5_copyParts 62 = .ok (.iconst 0, 1) := by decide +kernel
theorem dX5_copyParts_63 : decode cX5_copyParts 63 = .ok (.aload_n 0, 1) := by decide +kernel
theorem dX5_copyParts_64 : decode cX5_copyParts 64 = .ok (.getfield 30, 3) := by decide +kernel
theorem dX5_copyParts_67 : decode cX5_copyParts 67 = .ok (.iconst 0, 1) := by decide +kernel
theorem dX5_copyParts_68 : decode cX5_copyParts 68 = .ok (.aload_n 0, 1) := by decide +kernel
theorem dX5_copyParts_69 : decode cX5_copyParts 69 = .ok (.getfield 36, 3) := by decide +kernel
theorem dX5_copyParts_72 : decode cX5_copyParts 72 = .ok (.invokestatic 54, 3) := by decide +kernel
theorem dX5_copyParts_75 : decode cX5_copyParts 75 = .ok (.aload_n 1, 1) := by decide +kernel
theorem dX5_copyParts_76 : decode cX5_copyParts 76 = .ok (.getfield 33, 3) := by decide +kernel
theorem dX5_copyParts_79 : decode cX5_copyParts 79 = .ok (.iconst 0, 1) := by decide +kernel
theorem dX5_copyParts_80 : decode cX5_copyParts 80 = .ok (.aload_n 0, 1) := by decide +kernel
theorem dX5_copyParts_81 : decode cX5_copyParts 81 = .ok (.getfield 33, 3) := by decide +kernel
theorem dX5_copyParts_84 : decode cX5_copyParts 84 = .ok (.iconst 0, 1) := by decide +kernel
theorem dX5_copyParts_85 : decode cX5_copyParts 85 = .ok (.aload_n 0, 1) := by decide +kernel
theorem dX5_copyParts_86 : decode cX5_copyParts 86 = .ok (.getfield 36, 3) := by decide +kernel
theorem dX5_copyParts_89 : decode cX5_copyParts 89 = .ok (.invokestatic 54, 3) := by decide +kernel
theorem dX5_copyParts_92 : decode cX5_copyParts 92 = .ok (.return_, 1) := by decide +kernel
theorem dX5_sizes_0 : decode cX5_sizes 0 = .ok (.iconst 0, 1) := by decide +kernel
theorem dX5_sizes_1 : decode cX5_sizes 1 = .ok (.istore_n 1, 1) := by decide +kernel
theorem dX5_sizes_2 : decode cX5_sizes 2 = .ok (.iconst 0, 1) := by decide +kernel
theorem dX5_sizes_3 : decode cX5_sizes 3 = .ok (.istore_n 2, 1) := by decide +kernel
theorem dX5_sizes_4 : decode cX5_sizes 4 = .ok (.iload_n 2, 1) := by decide +kernel
theorem dX5_sizes_5 : decode cX5_sizes 5 = .ok (.aload_n 0, 1) := by decide +kernel
theorem dX5_sizes_6 : decode cX5_sizes 6 = .ok (.getfield 36, 3) := by decide +kernel
theorem dX5_sizes_9 : decode cX5_sizes 9 = .ok (.if_icmp .ge 21, 3) := by decide +kernel
theorem dX5_sizes_12 : decode cX5_sizes 12 = .ok (.iload_n 1, 1) := by decide +kernel
theorem dX5_sizes_13 : decode cX5_sizes 13 = .ok (.aload_n 0, 1) := by decide +kernel
theorem dX5_sizes_14 : decode cX5_sizes 14 = .ok (.getfield 33, 3) := by decide +kernel
theorem dX5_sizes_17 : decode cX5_sizes 17 = .ok (.iload_n 2, 1) := by decide +kernel
theorem dX5_sizes_18 : decode cX5_sizes 18 = .ok (.iaload, 1) := by decide +kernel
theorem dX5_sizes_19 : decode cX5_sizes 19 = .ok (.invokestatic 64, 3) := by decide +kernel
theorem dX5_sizes_22 : decode cX5_sizes 22 = .ok (.iadd, 1) := by decide +kernel
theorem dX5_sizes_23 : decode cX5_sizes 23 = .ok (.istore_n 1, 1) := by decide +kernel
theorem dX5_sizes_24 : decode cX5_sizes 24 = .ok (.iinc 2 1, 3) := by decide +kernel
theorem dX5_sizes_27 : decode cX5_sizes 27 = .ok (.goto (-23), 3) := by decide +kernel
theorem dX5_sizes_30 : decode cX5_sizes 30 = .ok (.iload_n 1, 1) := by decide +kernel
theorem dX5_sizes_31 : decode cX5_sizes 31 = .ok (.ireturn, 1) := by decide +kernel
abbrev W_X5_set (g : GX) (d : Nat) (av : List Value) (Q : QT) (n : Nat) (pc : Nat) (ls : LV) (stk : List Value) (h : Hp) : Prop := RJ g m_X5_set (d + 1) 0 0 av Q pc ls stk n h 0 0
theorem s_X5_set_0 {g : GX} {d : Nat} {av : List Value} {Q : QT} {n : Nat} {h : Hp} {a0 : Nat} {x1 : Int32} (hp : g.2.2.2.2 = true) (t0 : lay a0 = (0, 5, 8)) (H : CallV g m_X5_plain d [.ref a0] n h (fun h1 => (CallV g m_X6_set d [.ref (a0 + 1), .int x1] n h1 (fun h2 => (Q none n h2))))) : W_X5_set g d av Q n 0 [some (.ref a0), some (.int x1)] [] h := by
  refine r_aload_n dX5_set_0 rfl rfl ?_
  refine k_VV (As := []) (stk := []) hp cv_X5_39 dX5_set_1 rfl (Nat.le_of_ble_eq_true rfl) t0 (H.mono (fun h1 H => ?_)) ⟨Nat.le_refl _, Nat.le_refl _⟩
  refine r_aload_n dX5_set_4 rfl rfl ?_
  refine m_getF (x := (a0 + 1)) hp fw_X5_10 dX5_set_5 rfl t0 (ff_5_0 t0) ?_
  refine r_iload_n dX5_set_8 rfl rfl ?_
  refine k_VV (As := [.int x1]) (stk := []) hp cv_X5_42 dX5_set_9 rfl (Nat.le_of_ble_eq_true rfl) (lf_5_0 t0) (H.mono (fun h2 H => ?_)) ⟨Nat.le_refl _, Nat.le_refl _⟩
  exact r_vret dX5_set_12 rfl (Nat.le_refl _) (Nat.le_refl _) H
abbrev W_X5_plain (g : GX) (d : Nat) (av : List Value) (Q : QT) (n : Nat) (pc : Nat) (ls : LV) (stk : List Value) (h : Hp) : Prop := RJ g m_X5_plain d 0 0 av Q pc ls stk n h 0 0
theorem s_X5_plain_0 {g : GX} {d : Nat} {av : List Value} {Q : QT} {n : Nat} {h : Hp} {a0 : Nat} (hp : g.2.2.2.2 = true) (t0 : lay a0 = (0, 5, 8)) (H : ∀ h1, h1 = wi h a0 1 (1 : Int32) → (∀ h2, h2 = wi h1 a0 2 (1 : Int32) → (∀ h3, h3 = wi h2 a0 3 (0 : Int32) → (Q none n h3)))) : W_X5_plain g d av Q n 0 [some (.ref a0)] [] h := by
  refine r_aload_n dX5_plain_0 rfl rfl ?_
  refine r_iconst (v := (1 : Int32)) dX5_plain_1 rfl ?_
  refine m_putI hp fw_X5_16 dX5_plain_2 rfl rfl t0 (fun h1 eh1 => ?_)
  replace H := H h1 eh1
  refine r_aload_n dX5_plain_5 rfl rfl ?_
  refine r_iconst (v := (1 : Int32)) dX5_plain_6 rfl ?_
  refine m_putI hp fw_X5_20 dX5_plain_7 rfl rfl t0 (fun h2 eh2 => ?_)
  replace H := H h2 eh2
  refine r_aload_n dX5_plain_10 rfl rfl ?_
  refine r_iconst (v := (0 : Int32)) dX5_plain_11 rfl ?_
  refine m_putI hp fw_X5_36 dX5_plain_12 rfl rfl t0 (fun h3 eh3 => ?_)
  replace H := H h3 eh3
  exact r_vret dX5_plain_15 rfl (Nat.le_refl _) (Nat.le_refl _) H
abbrev W_X5_isTerm (g : GX) (d : Nat) (av : List Value) (Q : QT) (n : Nat) (pc : Nat) (ls : LV) (stk : List Value) (h : Hp) : Prop := RJ g m_X5_isTerm d 0 0 av Q pc ls stk n h 0 0
theorem s_X5_isTerm_0 {g : GX} {d : Nat} {av : List Value} {Q : QT} {n : Nat} {h : Hp} {a0 : Nat} (hp : g.2.2.2.2 = true) (t0 : lay a0 = (0, 5, 8)) (H : ((¬ (ri h a0 1) = (1 : Int32)) → (Q (some (.int (1 : Int32))) n h)) ∧ (((ri h a0 1) = (1 : Int32)) → (((¬ (ri h a0 2) = (1 : Int32)) → (Q (some (.int (1 : Int32))) n h)) ∧ (((ri h a0 2) = (1 : Int32)) → ((((ri h a0 3) ≤ (0 : Int32)) → (Q (some (.int (0 : Int32))) n h)) ∧ ((¬ (ri h a0 3) ≤ (0 : Int32)) → (Q (some (.int (1 : Int32))) n h))))))) : W_X5_isTerm g d av Q n 0 [some (.ref a0)] [] h := by
  refine r_aload_n dX5_isTerm_0 rfl rfl ?_
  refine m_getI hp fw_X5_16 dX5_isTerm_1 rfl t0 ?_
  refine r_iconst (v := (1 : Int32)) dX5_isTerm_4 rfl ?_
  refine r_icmp_ne (tgt := 23) dX5_isTerm_5 rfl (fun cH => ?_) (fun cH => ?_)
  · replace H := H.1 cH
    refine r_iconst (v := (1 : Int32)) dX5_isTerm_23 rfl ?_
    refine r_goto (tgt := 28) dX5_isTerm_24 rfl ?_
    exact r_zret dX5_isTerm_28 rfl rfl (Nat.le_refl _) (Nat.le_refl _) H
  · replace H := H.2 cH
    refine r_aload_n dX5_isTerm_8 rfl rfl ?_
    refine m_getI hp fw_X5_20 dX5_isTerm_9 rfl t0 ?_
    refine r_iconst (v := (1 : Int32)) dX5_isTerm_12 rfl ?_
    refine r_icmp_ne (tgt := 23) dX5_isTerm_13 rfl (fun cH => ?_) (fun cH => ?_)
    · replace H := H.1 cH
      refine r_iconst (v := (1 : Int32)) dX5_isTerm_23 rfl ?_
      refine r_goto (tgt := 28) dX5_isTerm_24 rfl ?_
      exact r_zret dX5_isTerm_28 rfl rfl (Nat.le_refl _) (Nat.le_refl _) H
    · replace H := H.2 cH
      refine r_aload_n dX5_isTerm_16 rfl rfl ?_
      refine m_getI hp fw_X5_36 dX5_isTerm_17 rfl t0 ?_
      refine r_if_le (tgt := 27) dX5_isTerm_20 rfl (fun cH => ?_) (fun cH => ?_)
      · replace H := H.1 cH
        refine r_iconst (v := (0 : Int32)) dX5_isTerm_27 rfl ?_
        exact r_zret dX5_isTerm_28 rfl rfl (Nat.le_refl _) (Nat.le_refl _) H
      · replace H := H.2 cH
        refine r_iconst (v := (1 : Int32)) dX5_isTerm_23 rfl ?_
        refine r_goto (tgt := 28) dX5_isTerm_24 rfl ?_
        exact r_zret dX5_isTerm_28 rfl rfl (Nat.le_refl _) (Nat.le_refl _) H
abbrev W_X5_add (g : GX) (d : Nat) (av : List Value) (Q : QT) (n : Nat) (pc : Nat) (ls : LV) (stk : List Value) (h : Hp) : Prop := RJ g m_X5_add (d + 1) 0 0 av Q pc ls stk n h 0 0
theorem s_X5_add_0 {g : GX} {d : Nat} {av : List Value} {Q : QT} {n : Nat} {h : Hp} {a0 : Nat} {x1 : Int32} {x2 : Int32} {x3 : Int32} {x4 : Int32} (hp : g.2.2.2.2 = true) (t0 : lay a0 = (0, 5, 8)) (H : W_X5_add g d av Q n 3 [some (.ref a0), some (.int x1), some (.int x2), some (.int x3), some (.int x4), some (.int (0 : Int32))] [] h) : W_X5_add g d av Q n 0 [some (.ref a0), some (.int x1), some (.int x2), some (.int x3), some (.int x4), none] [] h := by
  refine r_iconst (v := (0 : Int32)) dX5_add_0 rfl ?_
  refine r_istore (ls2 := [some (.ref a0), some (.int x1), some (.int x2), some (.int x3), some (.int x4), some (.int (0 : Int32))]) dX5_add_1 (by decide) rfl ?_
  exact H
theorem s_X5_add_3 {g : GX} {d : Nat} {av : List Value} {Q : QT} {n : Nat} {h : Hp} {a0 : Nat} {x1 : Int32} {x2 : Int32} {x3 : Int32} {x4 : Int32} {x5 : Int32} (hp : g.2.2.2.2 = true) (t0 : lay a0 = (0, 5, 8)) (H : (((ri h a0 3) ≤ x5) → (W_X5_add g d av Q n 73 [some (.ref a0), some (.int x1), some (.int x2), some (.int x3), some (.int x4), some (.int x5)] [] h)) ∧ ((¬ (ri h a0 3) ≤ x5) → (vp_in x5 60 ∧ ((((ri h (a0 + 6) (x5).toNatClampNeg) < x1) → (W_X5_add g d av Q n 67 [some (.ref a0), some (.int x1), some (.int x2), some (.int x3), some (.int x4), some (.int x5)] [] h)) ∧ ((¬ (ri h (a0 + 6) (x5).toNatClampNeg) < x1) → (vp_in x5 60 ∧ (((¬ (ri h (a0 + 6) (x5).toNatClampNeg) = x1) → (W_X5_add g d av Q n 73 [some (.ref a0), some (.int x1), some (.int x2), some (.int x3), some (.int x4), some (.int x5)] [] h)) ∧ (((ri h (a0 + 6) (x5).toNatClampNeg) = x1) → (vp_in x5 60 ∧ ((((ri h (a0 + 7) (x5).toNatClampNeg) < x2) → (W_X5_add g d av Q n 67 [some (.ref a0), some (.int x1), some (.int x2), some (.int x3), some (.int x4), some (.int x5)] [] h)) ∧ ((¬ (ri h (a0 + 7) (x5).toNatClampNeg) < x2) → (vp_in x5 60 ∧ (((¬ (ri h (a0 + 7) (x5).toNatClampNeg) = x2) → (W_X5_add g d av Q n 73 [some (.ref a0), some (.int x1), some (.int x2), some (.int x3), some (.int x4), some (.int x5)] [] h)) ∧ (((ri h (a0 + 7) (x5).toNatClampNeg) = x2) → (vp_in x5 60 ∧ (((x3 ≤ (ri h (a0 + 8) (x5).toNatClampNeg)) → (W_X5_add g d av Q n 73 [some (.ref a0), some (.int x1), some (.int x2), some (.int x3), some (.int x4), some (.int x5)] [] h)) ∧ ((¬ x3 ≤ (ri h (a0 + 8) (x5).toNatClampNeg)) → (W_X5_add g d av Q n 67 [some (.ref a0), some (.int x1), some (.int x2), some (.int x3), some (.int x4), some (.int x5)] [] h)))))))))))))))))) : W_X5_add g d av Q n 3 [some (.ref a0), some (.int x1), some (.int x2), some (.int x3), some (.int x4), some (.int x5)] [] h := by
  refine r_iload dX5_add_3 rfl ?_
  refine r_aload_n dX5_add_5 rfl rfl ?_
  refine m_getI hp fw_X5_36 dX5_add_6 rfl t0 ?_
  refine r_icmp_ge (tgt := 73) dX5_add_9 rfl (fun cH => ?_) (fun cH => ?_)
  · replace H := H.1 cH
    exact H
  · replace H := H.2 cH
    refine r_aload_n dX5_add_12 rfl rfl ?_
    refine m_getF (x := (a0 + 6)) hp fw_X5_23 dX5_add_13 rfl t0 (ff_5_4 t0) ?_
    refine r_iload dX5_add_16 rfl ?_
    refine m_iald hp dX5_add_18 (lf_5_4 t0) H.1 ?_
    replace H := H.2
    refine r_iload_n dX5_add_19 rfl rfl ?_
    refine r_icmp_lt (tgt := 67) dX5_add_20 rfl (fun cH => ?_) (fun cH => ?_)
    · replace H := H.1 cH
      exact H
    · replace H := H.2 cH
      refine r_aload_n dX5_add_23 rfl rfl ?_
      refine m_getF (x := (a0 + 6)) hp fw_X5_23 dX5_add_24 rfl t0 (ff_5_4 t0) ?_
      refine r_iload dX5_add_27 rfl ?_
      refine m_iald hp dX5_add_29 (lf_5_4 t0) H.1 ?_
      replace H := H.2
      refine r_iload_n dX5_add_30 rfl rfl ?_
      refine r_icmp_ne (tgt := 73) dX5_add_31 rfl (fun cH => ?_) (fun cH => ?_)
      · replace H := H.1 cH
        exact H
      · replace H := H.2 cH
        refine r_aload_n dX5_add_34 rfl rfl ?_
        refine m_getF (x := (a0 + 7)) hp fw_X5_27 dX5_add_35 rfl t0 (ff_5_5 t0) ?_
        refine r_iload dX5_add_38 rfl ?_
        refine m_iald hp dX5_add_40 (lf_5_5 t0) H.1 ?_
        replace H := H.2
        refine r_iload_n dX5_add_41 rfl rfl ?_
        refine r_icmp_lt (tgt := 67) dX5_add_42 rfl (fun cH => ?_) (fun cH => ?_)
        · replace H := H.1 cH
          exact H
        · replace H := H.2 cH
          refine r_aload_n dX5_add_45 rfl rfl ?_
          refine m_getF (x := (a0 + 7)) hp fw_X5_27 dX5_add_46 rfl t0 (ff_5_5 t0) ?_
          refine r_iload dX5_add_49 rfl ?_
          refine m_iald hp dX5_add_51 (lf_5_5 t0) H.1 ?_
          replace H := H.2
          refine r_iload_n dX5_add_52 rfl rfl ?_
          refine r_icmp_ne (tgt := 73) dX5_add_53 rfl (fun cH => ?_) (fun cH => ?_)
          · replace H := H.1 cH
            exact H
          · replace H := H.2 cH
            refine r_aload_n dX5_add_56 rfl rfl ?_
            refine m_getF (x := (a0 + 8)) hp fw_X5_30 dX5_add_57 rfl t0 (ff_5_6 t0) ?_
            refine r_iload dX5_add_60 rfl ?_
            refine m_iald hp dX5_add_62 (lf_5_6 t0) H.1 ?_
            replace H := H.2
            refine r_iload_n dX5_add_63 rfl rfl ?_
            refine r_icmp_ge (tgt := 73) dX5_add_64 rfl (fun cH => ?_) (fun cH => ?_)
            · replace H := H.1 cH
              exact H
            · replace H := H.2 cH
              exact H
theorem s_X5_add_67 {g : GX} {d : Nat} {av : List Value} {Q : QT} {n : Nat} {h : Hp} {a0 : Nat} {x1 : Int32} {x2 : Int32} {x3 : Int32} {x4 : Int32} {x5 : Int32} (hp : g.2.2.2.2 = true) (t0 : lay a0 = (0, 5, 8)) (H : W_X5_add g d av Q n 3 [some (.ref a0), some (.int x1), some (.int x2), some (.int x3), some (.int x4), some (.int (x5 + (1 : Int32)))] [] h) : W_X5_add g d av Q n 67 [some (.ref a0), some (.int x1), some (.int x2), some (.int x3), some (.int x4), some (.int x5)] [] h := by
  refine r_iinc (v := (x5 + (1 : Int32))) (ls2 := [some (.ref a0), some (.int x1), some (.int x2), some (.int x3), some (.int x4), some (.int (x5 + (1 : Int32)))]) dX5_add_67 rfl rfl (by decide) rfl ?_
  refine r_goto (tgt := 3) dX5_add_70 rfl ?_
  exact H
theorem s_X5_add_73 {g : GX} {d : Nat} {av : List Value} {Q : QT} {n : Nat} {h : Hp} {a0 : Nat} {x1 : Int32} {x2 : Int32} {x3 : Int32} {x4 : Int32} {x5 : Int32} (hp : g.2.2.2.2 = true) (t0 : lay a0 = (0, 5, 8)) (H : (((ri h a0 3) ≤ x5) → (W_X5_add g d av Q n 157 [some (.ref a0), some (.int x1), some (.int x2), some (.int x3), some (.int x4), some (.int x5)] [] h)) ∧ ((¬ (ri h a0 3) ≤ x5) → (vp_in x5 60 ∧ (((¬ (ri h (a0 + 6) (x5).toNatClampNeg) = x1) → (W_X5_add g d av Q n 157 [some (.ref a0), some (.int x1), some (.int x2), some (.int x3), some (.int x4), some (.int x5)] [] h)) ∧ (((ri h (a0 + 6) (x5).toNatClampNeg) = x1) → (vp_in x5 60 ∧ (((¬ (ri h (a0 + 7) (x5).toNatClampNeg) = x2) → (W_X5_add g d av Q n 157 [some (.ref a0), some (.int x1), some (.int x2), some (.int x3), some (.int x4), some (.int x5)] [] h)) ∧ (((ri h (a0 + 7) (x5).toNatClampNeg) = x2) → (vp_in x5 60 ∧ (((¬ (ri h (a0 + 8) (x5).toNatClampNeg) = x3) → (W_X5_add g d av Q n 157 [some (.ref a0), some (.int x1), some (.int x2), some (.int x3), some (.int x4), some (.int x5)] [] h)) ∧ (((ri h (a0 + 8) (x5).toNatClampNeg) = x3) → (vp_in x5 60 ∧ (vp_in x5 60 ∧ ∀ h1, h1 = wi h (a0 + 9) (x5).toNatClampNeg ((ri h (a0 + 9) (x5).toNatClampNeg) + x4) → (vp_in x5 60 ∧ (((¬ (ri h1 (a0 + 9) (x5).toNatClampNeg) = (0 : Int32)) → (Q none n h1)) ∧ (((ri h1 (a0 + 9) (x5).toNatClampNeg) = (0 : Int32)) → (CallV g m_X5_move d [.ref a0, .int (x5 + (1 : Int32)), .int (-1 : Int32)] n h1 (fun h2 => (∀ h3, h3 = wi h2 a0 3 ((ri h2 a0 3) - (1 : Int32)) → (Q none n h3)))))))))))))))))))) : W_X5_add g d av Q n 73 [some (.ref a0), some (.int x1), some (.int x2), some (.int x3), some (.int x4), some (.int x5)] [] h := by
  refine r_iload dX5_add_73 rfl ?_
  refine r_aload_n dX5_add_75 rfl rfl ?_
  refine m_getI hp fw_X5_36 dX5_add_76 rfl t0 ?_
  refine r_icmp_ge (tgt := 157) dX5_add_79 rfl (fun cH => ?_) (fun cH => ?_)
  · replace H := H.1 cH
    exact H
  · replace H := H.2 cH
    refine r_aload_n dX5_add_82 rfl rfl ?_
    refine m_getF (x := (a0 + 6)) hp fw_X5_23 dX5_add_83 rfl t0 (ff_5_4 t0) ?_
    refine r_iload dX5_add_86 rfl ?_
    refine m_iald hp dX5_add_88 (lf_5_4 t0) H.1 ?_
    replace H := H.2
    refine r_iload_n dX5_add_89 rfl rfl ?_
    refine r_icmp_ne (tgt := 157) dX5_add_90 rfl (fun cH => ?_) (fun cH => ?_)
    · replace H := H.1 cH
      exact H
    · replace H := H.2 cH
      refine r_aload_n dX5_add_93 rfl rfl ?_
      refine m_getF (x := (a0 + 7)) hp fw_X5_27 dX5_add_94 rfl t0 (ff_5_5 t0) ?_
      refine r_iload dX5_add_97 rfl ?_
      refine m_iald hp dX5_add_99 (lf_5_5 t0) H.1 ?_
      replace H := H.2
      refine r_iload_n dX5_add_100 rfl rfl ?_
      refine r_icmp_ne (tgt := 157) dX5_add_101 rfl (fun cH => ?_) (fun cH => ?_)
      · replace H := H.1 cH
        exact H
      · replace H := H.2 cH
        refine r_aload_n dX5_add_104 rfl rfl ?_
        refine m_getF (x := (a0 + 8)) hp fw_X5_30 dX5_add_105 rfl t0 (ff_5_6 t0) ?_
        refine r_iload dX5_add_108 rfl ?_
        refine m_iald hp dX5_add_110 (lf_5_6 t0) H.1 ?_
        replace H := H.2
        refine r_iload_n dX5_add_111 rfl rfl ?_
        refine r_icmp_ne (tgt := 157) dX5_add_112 rfl (fun cH => ?_) (fun cH => ?_)
        · replace H := H.1 cH
          exact H
        · replace H := H.2 cH
          refine r_aload_n dX5_add_115 rfl rfl ?_
          refine m_getF (x := (a0 + 9)) hp fw_X5_33 dX5_add_116 rfl t0 (ff_5_7 t0) ?_
          refine r_iload dX5_add_119 rfl ?_
          refine r_dup2 dX5_add_121 rfl rfl ?_
          refine m_iald hp dX5_add_122 (lf_5_7 t0) H.1 ?_
          replace H := H.2
          refine r_iload dX5_add_123 rfl ?_
          refine r_iadd dX5_add_125 ?_
          refine m_iast hp dX5_add_126 (lf_5_7 t0) H.1 (fun h1 eh1 => ?_)
          replace H := H.2 h1 eh1
          refine r_aload_n dX5_add_127 rfl rfl ?_
          refine m_getF (x := (a0 + 9)) hp fw_X5_33 dX5_add_128 rfl t0 (ff_5_7 t0) ?_
          refine r_iload dX5_add_131 rfl ?_
          refine m_iald hp dX5_add_133 (lf_5_7 t0) H.1 ?_
          replace H := H.2
          refine r_if_ne (tgt := 156) dX5_add_134 rfl (fun cH => ?_) (fun cH => ?_)
          · replace H := H.1 cH
            exact r_vret dX5_add_156 rfl (Nat.le_refl _) (Nat.le_refl _) H
          · replace H := H.2 cH
            refine r_aload_n dX5_add_137 rfl rfl ?_
            refine r_iload dX5_add_138 rfl ?_
            refine r_iconst (v := (1 : Int32)) dX5_add_140 rfl ?_
            refine r_iadd dX5_add_141 ?_
            refine r_iconst (v := (-1 : Int32)) dX5_add_142 rfl ?_
            refine k_VV (As := [.int (x5 + (1 : Int32)), .int (-1 : Int32)]) (stk := []) hp cv_X5_60 dX5_add_143 rfl (Nat.le_of_ble_eq_true rfl) t0 (H.mono (fun h2 H => ?_)) ⟨Nat.le_refl _, Nat.le_refl _⟩
            refine r_aload_n dX5_add_146 rfl rfl ?_
            refine r_dup dX5_add_147 rfl ?_
            refine m_getI hp fw_X5_36 dX5_add_148 rfl t0 ?_
            refine r_iconst (v := (1 : Int32)) dX5_add_151 rfl ?_
            refine r_isub dX5_add_152 ?_
            refine m_putI hp fw_X5_36 dX5_add_153 rfl rfl t0 (fun h3 eh3 => ?_)
            replace H := H h3 eh3
            exact r_vret dX5_add_156 rfl (Nat.le_refl _) (Nat.le_refl _) H
theorem s_X5_add_157 {g : GX} {d : Nat} {av : List Value} {Q : QT} {n : Nat} {h : Hp} {a0 : Nat} {x1 : Int32} {x2 : Int32} {x3 : Int32} {x4 : Int32} {x5 : Int32} (hp : g.2.2.2.2 = true) (t0 : lay a0 = (0, 5, 8)) (H : CallV g m_X5_move d [.ref a0, .int x5, .int (1 : Int32)] n h (fun h1 => (∀ h2, h2 = wi h1 a0 3 ((ri h1 a0 3) + (1 : Int32)) → (vp_in x5 60 ∧ ∀ h3, h3 = wi h2 (a0 + 6) (x5).toNatClampNeg x1 → (vp_in x5 60 ∧ ∀ h4, h4 = wi h3 (a0 + 7) (x5).toNatClampNeg x2 → (vp_in x5 60 ∧ ∀ h5, h5 = wi h4 (a0 + 8) (x5).toNatClampNeg x3 → (vp_in x5 60 ∧ ∀ h6, h6 = wi h5 (a0 + 9) (x5).toNatClampNeg x4 → (Q none n h6)))))))) : W_X5_add g d av Q n 157 [some (.ref a0), some (.int x1), some (.int x2), some (.int x3), some (.int x4), some (.int x5)] [] h := by
  refine r_aload_n dX5_add_157 rfl rfl ?_
  refine r_iload dX5_add_158 rfl ?_
  refine r_iconst (v := (1 : Int32)) dX5_add_160 rfl ?_
  refine k_VV (As := [.int x5, .int (1 : Int32)]) (stk := []) hp cv_X5_60 dX5_add_161 rfl (Nat.le_of_ble_eq_true rfl) t0 (H.mono (fun h1 H => ?_)) ⟨Nat.le_refl _, Nat.le_refl _⟩
  refine r_aload_n dX5_add_164 rfl rfl ?_
  refine r_dup dX5_add_165 rfl ?_
  refine m_getI hp fw_X5_36 dX5_add_166 rfl t0 ?_
  refine r_iconst (v := (1 : Int32)) dX5_add_169 rfl ?_
  refine r_iadd dX5_add_170 ?_
  refine m_putI hp fw_X5_36 dX5_add_171 rfl rfl t0 (fun h2 eh2 => ?_)
  replace H := H h2 eh2
  refine r_aload_n dX5_add_174 rfl rfl ?_
  refine m_getF (x := (a0 + 6)) hp fw_X5_23 dX5_add_175 rfl t0 (ff_5_4 t0) ?_
  refine r_iload dX5_add_178 rfl ?_
  refine r_iload_n dX5_add_180 rfl rfl ?_
  refine m_iast hp dX5_add_181 (lf_5_4 t0) H.1 (fun h3 eh3 => ?_)
  replace H := H.2 h3 eh3
  refine r_aload_n dX5_add_182 rfl rfl ?_
  refine m_getF (x := (a0 + 7)) hp fw_X5_27 dX5_add_183 rfl t0 (ff_5_5 t0) ?_
  refine r_iload dX5_add_186 rfl ?_
  refine r_iload_n dX5_add_188 rfl rfl ?_
  refine m_iast hp dX5_add_189 (lf_5_5 t0) H.1 (fun h4 eh4 => ?_)
  replace H := H.2 h4 eh4
  refine r_aload_n dX5_add_190 rfl rfl ?_
  refine m_getF (x := (a0 + 8)) hp fw_X5_30 dX5_add_191 rfl t0 (ff_5_6 t0) ?_
  refine r_iload dX5_add_194 rfl ?_
  refine r_iload_n dX5_add_196 rfl rfl ?_
  refine m_iast hp dX5_add_197 (lf_5_6 t0) H.1 (fun h5 eh5 => ?_)
  replace H := H.2 h5 eh5
  refine r_aload_n dX5_add_198 rfl rfl ?_
  refine m_getF (x := (a0 + 9)) hp fw_X5_33 dX5_add_199 rfl t0 (ff_5_7 t0) ?_
  refine r_iload dX5_add_202 rfl ?_
  refine r_iload dX5_add_204 rfl ?_
  refine m_iast hp dX5_add_206 (lf_5_7 t0) H.1 (fun h6 eh6 => ?_)
  replace H := H.2 h6 eh6
  exact r_vret dX5_add_207 rfl (Nat.le_refl _) (Nat.le_refl _) H
abbrev W_X5_move (g : GX) (d : Nat) (av : List Value) (Q : QT) (n : Nat) (pc : Nat) (ls : LV) (stk : List Value) (h : Hp) : Prop := RJ g m_X5_move (d + 1) 0 0 av Q pc ls stk n h 0 0
theorem s_X5_move_0 {g : GX} {d : Nat} {av : List Value} {Q : QT} {n : Nat} {h : Hp} {a0 : Nat} {x1 : Int32} {x2 : Int32} (hp : g.2.2.2.2 = true) (t0 : lay a0 = (0, 5, 8)) (H : ¬ x1 < 0 ∧ ¬ (x1 + x2) < 0 ∧ ¬ ((ri h a0 3) - x1) < 0 ∧ (x1).toNatClampNeg + (((ri h a0 3) - x1)).toNatClampNeg ≤ 60 ∧ ((x1 + x2)).toNatClampNeg + (((ri h a0 3) - x1)).toNatClampNeg ≤ 60 ∧ ∀ h1, h1 = cpy h (a0 + 6) (x1).toNatClampNeg (a0 + 6) ((x1 + x2)).toNatClampNeg (((ri h a0 3) - x1)).toNatClampNeg → (¬ x1 < 0 ∧ ¬ (x1 + x2) < 0 ∧ ¬ ((ri h1 a0 3) - x1) < 0 ∧ (x1).toNatClampNeg + (((ri h1 a0 3) - x1)).toNatClampNeg ≤ 60 ∧ ((x1 + x2)).toNatClampNeg + (((ri h1 a0 3) - x1)).toNatClampNeg ≤ 60 ∧ ∀ h2, h2 = cpy h1 (a0 + 7) (x1).toNatClampNeg (a0 + 7) ((x1 + x2)).toNatClampNeg (((ri h1 a0 3) - x1)).toNatClampNeg → (¬ x1 < 0 ∧ ¬ (x1 + x2) < 0 ∧ ¬ ((ri h2 a0 3) - x1) < 0 ∧ (x1).toNatClampNeg + (((ri h2 a0 3) - x1)).toNatClampNeg ≤ 60 ∧ ((x1 + x2)).toNatClampNeg + (((ri h2 a0 3) - x1)).toNatClampNeg ≤ 60 ∧ ∀ h3, h3 = cpy h2 (a0 + 8) (x1).toNatClampNeg (a0 + 8) ((x1 + x2)).toNatClampNeg (((ri h2 a0 3) - x1)).toNatClampNeg → (¬ x1 < 0 ∧ ¬ (x1 + x2) < 0 ∧ ¬ ((ri h3 a0 3) - x1) < 0 ∧ (x1).toNatClampNeg + (((ri h3 a0 3) - x1)).toNatClampNeg ≤ 60 ∧ ((x1 + x2)).toNatClampNeg + (((ri h3 a0 3) - x1)).toNatClampNeg ≤ 60 ∧ ∀ h4, h4 = cpy h3 (a0 + 9) (x1).toNatClampNeg (a0 + 9) ((x1 + x2)).toNatClampNeg (((ri h3 a0 3) - x1)).toNatClampNeg → (Q none n h4))))) : W_X5_move g d av Q n 0 [some (.ref a0), some (.int x1), some (.int x2)] [] h := by
  refine r_aload_n dX5_move_0 rfl rfl ?_
  refine m_getF (x := (a0 + 6)) hp fw_X5_23 dX5_move_1 rfl t0 (ff_5_4 t0) ?_
  refine r_iload_n dX5_move_4 rfl rfl ?_
  refine r_aload_n dX5_move_5 rfl rfl ?_
  refine m_getF (x := (a0 + 6)) hp fw_X5_23 dX5_move_6 rfl t0 (ff_5_4 t0) ?_
  refine r_iload_n dX5_move_9 rfl rfl ?_
  refine r_iload_n dX5_move_10 rfl rfl ?_
  refine r_iadd dX5_move_11 ?_
  refine r_aload_n dX5_move_12 rfl rfl ?_
  refine m_getI hp fw_X5_36 dX5_move_13 rfl t0 ?_
  refine r_iload_n dX5_move_16 rfl rfl ?_
  refine r_isub dX5_move_17 ?_
  obtain ⟨c1, c2, c3, c4, c5, H⟩ := H
  refine m_copy hp ar_X5_54 dX5_move_18 rfl rfl (lf_5_4 t0) (lf_5_4 t0) c1 c2 c3 c4 c5 (fun _ _ => rfl) (Nat.le_of_ble_eq_true rfl) (Nat.le_add_left 1 d) (fun h1 eh1 => ?_)
  replace H := H h1 eh1
  refine r_aload_n dX5_move_21 rfl rfl ?_
  refine m_getF (x := (a0 + 7)) hp fw_X5_27 dX5_move_22 rfl t0 (ff_5_5 t0) ?_
  refine r_iload_n dX5_move_25 rfl rfl ?_
  refine r_aload_n dX5_move_26 rfl rfl ?_
  refine m_getF (x := (a0 + 7)) hp fw_X5_27 dX5_move_27 rfl t0 (ff_5_5 t0) ?_
  refine r_iload_n dX5_move_30 rfl rfl ?_
  refine r_iload_n dX5_move_31 rfl rfl ?_
  refine r_iadd dX5_move_32 ?_
  refine r_aload_n dX5_move_33 rfl rfl ?_
  refine m_getI hp fw_X5_36 dX5_move_34 rfl t0 ?_
  refine r_iload_n dX5_move_37 rfl rfl ?_
  refine r_isub dX5_move_38 ?_
  obtain ⟨c1, c2, c3, c4, c5, H⟩ := H
  refine m_copy hp ar_X5_54 dX5_move_39 rfl rfl (lf_5_5 t0) (lf_5_5 t0) c1 c2 c3 c4 c5 (fun _ _ => rfl) (Nat.le_of_ble_eq_true rfl) (Nat.le_add_left 1 d) (fun h2 eh2 => ?_)
  replace H := H h2 eh2
  refine r_aload_n dX5_move_42 rfl rfl ?_
  refine m_getF (x := (a0 + 8)) hp fw_X5_30 dX5_move_43 rfl t0 (ff_5_6 t0) ?_
  refine r_iload_n dX5_move_46 rfl rfl ?_
  refine r_aload_n dX5_move_47 rfl rfl ?_
  refine m_getF (x := (a0 + 8)) hp fw_X5_30 dX5_move_48 rfl t0 (ff_5_6 t0) ?_
  refine r_iload_n dX5_move_51 rfl rfl ?_
  refine r_iload_n dX5_move_52 rfl rfl ?_
  refine r_iadd dX5_move_53 ?_
  refine r_aload_n dX5_move_54 rfl rfl ?_
  refine m_getI hp fw_X5_36 dX5_move_55 rfl t0 ?_
  refine r_iload_n dX5_move_58 rfl rfl ?_
  refine r_isub dX5_move_59 ?_
  obtain ⟨c1, c2, c3, c4, c5, H⟩ := H
  refine m_copy hp ar_X5_54 dX5_move_60 rfl rfl (lf_5_6 t0) (lf_5_6 t0) c1 c2 c3 c4 c5 (fun _ _ => rfl) (Nat.le_of_ble_eq_true rfl) (Nat.le_add_left 1 d) (fun h3 eh3 => ?_)
  replace H := H h3 eh3
  refine r_aload_n dX5_move_63 rfl rfl ?_
  refine m_getF (x := (a0 + 9)) hp fw_X5_33 dX5_move_64 rfl t0 (ff_5_7 t0) ?_
  refine r_iload_n dX5_move_67 rfl rfl ?_
  refine r_aload_n dX5_move_68 rfl rfl ?_
  refine m_getF (x := (a0 + 9)) hp fw_X5_33 dX5_move_69 rfl t0 (ff_5_7 t0) ?_
  refine r_iload_n dX5_move_72 rfl rfl ?_
  refine r_iload_n dX5_move_73 rfl rfl ?_
  refine r_iadd dX5_move_74 ?_
  refine r_aload_n dX5_move_75 rfl rfl ?_
  refine m_getI hp fw_X5_36 dX5_move_76 rfl t0 ?_
  refine r_iload_n dX5_move_79 rfl rfl ?_
  refine r_isub dX5_move_80 ?_
  obtain ⟨c1, c2, c3, c4, c5, H⟩ := H
  refine m_copy hp ar_X5_54 dX5_move_81 rfl rfl (lf_5_7 t0) (lf_5_7 t0) c1 c2 c3 c4 c5 (fun _ _ => rfl) (Nat.le_of_ble_eq_true rfl) (Nat.le_add_left 1 d) (fun h4 eh4 => ?_)
  replace H := H h4 eh4
  exact r_vret dX5_move_84 rfl (Nat.le_refl _) (Nat.le_refl _) H
abbrev W_X5_copy (g : GX) (d : Nat) (av : List Value) (Q : QT) (n : Nat) (pc : Nat) (ls : LV) (stk : List Value) (h : Hp) : Prop := RJ g m_X5_copy (d + 1) 0 0 av Q pc ls stk n h 0 0
theorem s_X5_copy_0 {g : GX} {d : Nat} {av : List Value} {Q : QT} {n : Nat} {h : Hp} {a0 : Nat} {a1 : Nat} (hp : g.2.2.2.2 = true) (t0 : lay a0 = (0, 5, 8)) (t1 : lay a1 = (0, 5, 8)) (H : CallV g m_X6_copy d [.ref (a0 + 1), .ref (a1 + 1)] n h (fun h1 => (CallV g m_X5_copyParts d [.ref a0, .ref a1] n h1 (fun h2 => (Q none n h2))))) : W_X5_copy g d av Q n 0 [some (.ref a0), some (.ref a1)] [] h := by
  refine r_aload_n dX5_copy_0 rfl rfl ?_
  refine m_getF (x := (a0 + 1)) hp fw_X5_10 dX5_copy_1 rfl t0 (ff_5_0 t0) ?_
  refine r_aload_n dX5_copy_4 rfl rfl ?_
  refine m_getF (x := (a1 + 1)) hp fw_X5_10 dX5_copy_5 rfl t1 (ff_5_0 t1) ?_
  refine k_VV (As := [.ref (a1 + 1)]) (stk := []) hp cv_X5_46 dX5_copy_8 rfl (Nat.le_of_ble_eq_true rfl) (lf_5_0 t0) (H.mono (fun h1 H => ?_)) ⟨Nat.le_refl _, Nat.le_refl _⟩
  refine r_aload_n dX5_copy_11 rfl rfl ?_
  refine r_aload_n dX5_copy_12 rfl rfl ?_
  refine k_VV (As := [.ref a1]) (stk := []) hp cv_X5_50 dX5_copy_13 rfl (Nat.le_of_ble_eq_true rfl) t0 (H.mono (fun h2 H => ?_)) ⟨Nat.le_refl _, Nat.le_refl _⟩
  exact r_vret dX5_copy_16 rfl (Nat.le_refl _) (Nat.le_refl _) H
abbrev W_X5_copyParts (g : GX) (d : Nat) (av : List Value) (Q : QT) (n : Nat) (pc : Nat) (ls : LV) (stk : List Value) (h : Hp) : Prop := RJ g m_X5_copyParts (d + 1) 0 0 av Q pc ls stk n h 0 0
theorem s_X5_copyParts_0 {g : GX} {d : Nat} {av : List Value} {Q : QT} {n : Nat} {h : Hp} {a0 : Nat} {a1 : Nat} (hp : g.2.2.2.2 = true) (t0 : lay a0 = (0, 5, 8)) (t1 : lay a1 = (0, 5, 8)) (H : ∀ h1, h1 = wi h a0 1 (ri h a1 1) → (∀ h2, h2 = wi h1 a0 2 (ri h1 a1 2) → (∀ h3, h3 = wi h2 a0 3 (ri h2 a1 3) → (¬ (0 : Int32) < 0 ∧ ¬ (0 : Int32) < 0 ∧ ¬ (ri h3 a0 3) < 0 ∧ ((0 : Int32)).toNatClampNeg + ((ri h3 a0 3)).toNatClampNeg ≤ 60 ∧ ((0 : Int32)).toNatClampNeg + ((ri h3 a0 3)).toNatClampNeg ≤ 60 ∧ ∀ h4, h4 = cpy h3 (a1 + 6) ((0 : Int32)).toNatClampNeg (a0 + 6) ((0 : Int32)).toNatClampNeg ((ri h3 a0 3)).toNatClampNeg → (¬ (0 : Int32) < 0 ∧ ¬ (0 : Int32) < 0 ∧ ¬ (ri h4 a0 3) < 0 ∧ ((0 : Int32)).toNatClampNeg + ((ri h4 a0 3)).toNatClampNeg ≤ 60 ∧ ((0 : Int32)).toNatClampNeg + ((ri h4 a0 3)).toNatClampNeg ≤ 60 ∧ ∀ h5, h5 = cpy h4 (a1 + 7) ((0 : Int32)).toNatClampNeg (a0 + 7) ((0 : Int32)).toNatClampNeg ((ri h4 a0 3)).toNatClampNeg → (¬ (0 : Int32) < 0 ∧ ¬ (0 : Int32) < 0 ∧ ¬ (ri h5 a0 3) < 0 ∧ ((0 : Int32)).toNatClampNeg + ((ri h5 a0 3)).toNatClampNeg ≤ 60 ∧ ((0 : Int32)).toNatClampNeg + ((ri h5 a0 3)).toNatClampNeg ≤ 60 ∧ ∀ h6, h6 = cpy h5 (a1 + 8) ((0 : Int32)).toNatClampNeg (a0 + 8) ((0 : Int32)).toNatClampNeg ((ri h5 a0 3)).toNatClampNeg → (¬ (0 : Int32) < 0 ∧ ¬ (0 : Int32) < 0 ∧ ¬ (ri h6 a0 3) < 0 ∧ ((0 : Int32)).toNatClampNeg + ((ri h6 a0 3)).toNatClampNeg ≤ 60 ∧ ((0 : Int32)).toNatClampNeg + ((ri h6 a0 3)).toNatClampNeg ≤ 60 ∧ ∀ h7, h7 = cpy h6 (a1 + 9) ((0 : Int32)).toNatClampNeg (a0 + 9) ((0 : Int32)).toNatClampNeg ((ri h6 a0 3)).toNatClampNeg → (Q none n h7)))))))) : W_X5_copyParts g d av Q n 0 [some (.ref a0), some (.ref a1)] [] h := by
  refine r_aload_n dX5_copyParts_0 rfl rfl ?_
  refine r_aload_n dX5_copyParts_1 rfl rfl ?_
  refine m_getI hp fw_X5_16 dX5_copyParts_2 rfl t1 ?_
  refine m_putI hp fw_X5_16 dX5_copyParts_5 rfl rfl t0 (fun h1 eh1 => ?_)
  replace H := H h1 eh1
  refine r_aload_n dX5_copyParts_8 rfl rfl ?_
  refine r_aload_n dX5_copyParts_9 rfl rfl ?_
  refine m_getI hp fw_X5_20 dX5_copyParts_10 rfl t1 ?_
  refine m_putI hp fw_X5_20 dX5_copyParts_13 rfl rfl t0 (fun h2 eh2 => ?_)
  replace H := H h2 eh2
  refine r_aload_n dX5_copyParts_16 rfl rfl ?_
  refine r_aload_n dX5_copyParts_17 rfl rfl ?_
  refine m_getI hp fw_X5_36 dX5_copyParts_18 rfl t1 ?_
  refine m_putI hp fw_X5_36 dX5_copyParts_21 rfl rfl t0 (fun h3 eh3 => ?_)
  replace H := H h3 eh3
  refine r_aload_n dX5_copyParts_24 rfl rfl ?_
  refine m_getF (x := (a1 + 6)) hp fw_X5_23 dX5_copyParts_25 rfl t1 (ff_5_4 t1) ?_
  refine r_iconst (v := (0 : Int32)) dX5_copyParts_28 rfl ?_
  refine r_aload_n dX5_copyParts_29 rfl rfl ?_
  refine m_getF (x := (a0 + 6)) hp fw_X5_23 dX5_copyParts_30 rfl t0 (ff_5_4 t0) ?_
  refine r_iconst (v := (0 : Int32)) dX5_copyParts_33 rfl ?_
  refine r_aload_n dX5_copyParts_34 rfl rfl ?_
  refine m_getI hp fw_X5_36 dX5_copyParts_35 rfl t0 ?_
  obtain ⟨c1, c2, c3, c4, c5, H⟩ := H
  refine m_copy hp ar_X5_54 dX5_copyParts_38 rfl rfl (lf_5_4 t1) (lf_5_4 t0) c1 c2 c3 c4 c5 (fun _ _ => rfl) (Nat.le_of_ble_eq_true rfl) (Nat.le_add_left 1 d) (fun h4 eh4 => ?_)
  replace H := H h4 eh4
  refine r_aload_n dX5_copyParts_41 rfl rfl ?_
  refine m_getF (x := (a1 + 7)) hp fw_X5_27 dX5_copyParts_42 rfl t1 (ff_5_5 t1) ?_
  refine r_iconst (v := (0 : Int32)) dX5_copyParts_45 rfl ?_
  refine r_aload_n dX5_copyParts_46 rfl rfl ?_
  refine m_getF (x := (a0 + 7)) hp fw_X5_27 dX5_copyParts_47 rfl t0 (ff_5_5 t0) ?_
  refine r_iconst (v := (0 : Int32)) dX5_copyParts_50 rfl ?_
  refine r_aload_n dX5_copyParts_51 rfl rfl ?_
  refine m_getI hp fw_X5_36 dX5_copyParts_52 rfl t0 ?_
  obtain ⟨c1, c2, c3, c4, c5, H⟩ := H
  refine m_copy hp ar_X5_54 dX5_copyParts_55 rfl rfl (lf_5_5 t1) (lf_5_5 t0) c1 c2 c3 c4 c5 (fun _ _ => rfl) (Nat.le_of_ble_eq_true rfl) (Nat.le_add_left 1 d) (fun h5 eh5 => ?_)
  replace H := H h5 eh5
  refine r_aload_n dX5_copyParts_58 rfl rfl ?_
  refine m_getF (x := (a1 + 8)) hp fw_X5_30 dX5_copyParts_59 rfl t1 (ff_5_6 t1) ?_
  refine r_iconst (v := (0 : Int32)) dX5_copyParts_62 rfl ?_
  refine r_aload_n dX5_copyParts_63 rfl rfl ?_
  refine m_getF (x := (a0 + 8)) hp fw_X5_30 dX5_copyParts_64 rfl t0 (ff_5_6 t0) ?_
  refine r_iconst (v := (0 : Int32)) dX5_copyParts_67 rfl ?_
  refine r_aload_n dX5_copyParts_68 rfl rfl ?_
  refine m_getI hp fw_X5_36 dX5_copyParts_69 rfl t0 ?_
  obtain ⟨c1, c2, c3, c4, c5, H⟩ := H
  refine m_copy hp ar_X5_54 dX5_copyParts_72 rfl rfl (lf_5_6 t1) (lf_5_6 t0) c1 c2 c3 c4 c5 (fun _ _ => rfl) (Nat.le_of_ble_eq_true rfl) (Nat.le_add_left 1 d) (fun h6 eh6 => ?_)
  replace H := H h6 eh6
  refine r_aload_n dX5_copyParts_75 rfl rfl ?_
  refine m_getF (x := (a1 + 9)) hp fw_X5_33 dX5_copyParts_76 rfl t1 (ff_5_7 t1) ?_
  refine r_iconst (v := (0 : Int32)) dX5_copyParts_79 rfl ?_
  refine r_aload_n dX5_copyParts_80 rfl rfl ?_
  refine m_getF (x := (a0 + 9)) hp fw_X5_33 dX5_copyParts_81 rfl t0 (ff_5_7 t0) ?_
  refine r_iconst (v := (0 : Int32)) dX5_copyParts_84 rfl ?_
  refine r_aload_n dX5_copyParts_85 rfl rfl ?_
  refine m_getI hp fw_X5_36 dX5_copyParts_86 rfl t0 ?_
  obtain ⟨c1, c2, c3, c4, c5, H⟩ := H
  refine m_copy hp ar_X5_54 dX5_copyParts_89 rfl rfl (lf_5_7 t1) (lf_5_7 t0) c1 c2 c3 c4 c5 (fun _ _ => rfl) (Nat.le_of_ble_eq_true rfl) (Nat.le_add_left 1 d) (fun h7 eh7 => ?_)
  replace H := H h7 eh7
  exact r_vret dX5_copyParts_92 rfl (Nat.le_refl _) (Nat.le_refl _) H
abbrev W_X5_sizes (g : GX) (d : Nat) (av : List Value) (Q : QT) (n : Nat) (pc : Nat) (ls : LV) (stk : List Value) (h : Hp) : Prop := RJ g m_X5_sizes (d + 1) 0 0 av Q pc ls stk n h 0 0
theorem s_X5_sizes_0 {g : GX} {d : Nat} {av : List Value} {Q : QT} {n : Nat} {h : Hp} {a0 : Nat} (hp : g.2.2.2.2 = true) (t0 : lay a0 = (0, 5, 8)) (H : W_X5_sizes g d av Q n 4 [some (.ref a0), some (.int (0 : Int32)), some (.int (0 : Int32))] [] h) : W_X5_sizes g d av Q n 0 [some (.ref a0), none, none] [] h := by
  refine r_iconst (v := (0 : Int32)) dX5_sizes_0 rfl ?_
  refine r_istore_n (ls2 := [some (.ref a0), some (.int (0 : Int32)), none]) dX5_sizes_1 rfl (by decide) rfl ?_
  refine r_iconst (v := (0 : Int32)) dX5_sizes_2 rfl ?_
  refine r_istore_n (ls2 := [some (.ref a0), some (.int (0 : Int32)), some (.int (0 : Int32))]) dX5_sizes_3 rfl (by decide) rfl ?_
  exact H
theorem s_X5_sizes_4 {g : GX} {d : Nat} {av : List Value} {Q : QT} {n : Nat} {h : Hp} {a0 : Nat} {x1 : Int32} {x2 : Int32} (hp : g.2.2.2.2 = true) (t0 : lay a0 = (0, 5, 8)) (H : (((ri h a0 3) ≤ x2) → (Q (some (.int x1)) n h)) ∧ ((¬ (ri h a0 3) ≤ x2) → (vp_in x2 60 ∧ (CallI g m_J3_abs d [.int (ri h (a0 + 9) (x2).toNatClampNeg)] n h (fun v1 h1 => (W_X5_sizes g d av Q n 4 [some (.ref a0), some (.int (x1 + v1)), some (.int (x2 + (1 : Int32)))] [] h1)))))) : W_X5_sizes g d av Q n 4 [some (.ref a0), some (.int x1), some (.int x2)] [] h := by
  refine r_iload_n dX5_sizes_4 rfl rfl ?_
  refine r_aload_n dX5_sizes_5 rfl rfl ?_
  refine m_getI hp fw_X5_36 dX5_sizes_6 rfl t0 ?_
  refine r_icmp_ge (tgt := 30) dX5_sizes_9 rfl (fun cH => ?_) (fun cH => ?_)
  · replace H := H.1 cH
    refine r_iload_n dX5_sizes_30 rfl rfl ?_
    exact r_zret dX5_sizes_31 rfl rfl (Nat.le_refl _) (Nat.le_refl _) H
  · replace H := H.2 cH
    refine r_iload_n dX5_sizes_12 rfl rfl ?_
    refine r_aload_n dX5_sizes_13 rfl rfl ?_
    refine m_getF (x := (a0 + 9)) hp fw_X5_33 dX5_sizes_14 rfl t0 (ff_5_7 t0) ?_
    refine r_iload_n dX5_sizes_17 rfl rfl ?_
    refine m_iald hp dX5_sizes_18 (lf_5_7 t0) H.1 ?_
    replace H := H.2
    refine k_SI (As := [.int (ri h (a0 + 9) (x2).toNatClampNeg)]) (stk := [.int x1]) cs_X5_64 dX5_sizes_19 rfl (Nat.le_of_ble_eq_true rfl) (H.mono (fun v1 h1 H => ?_)) ⟨Nat.le_refl _, Nat.le_refl _⟩
    refine r_iadd dX5_sizes_22 ?_
    refine r_istore_n (ls2 := [some (.ref a0), some (.int (x1 + v1)), some (.int x2)]) dX5_sizes_23 rfl (by decide) rfl ?_
    refine r_iinc (v := (x2 + (1 : Int32))) (ls2 := [some (.ref a0), some (.int (x1 + v1)), some (.int (x2 + (1 : Int32)))]) dX5_sizes_24 rfl rfl (by decide) rfl ?_
    refine r_goto (tgt := 4) dX5_sizes_27 rfl ?_
    exact H
