set_option maxRecDepth 100000
theorem dJ3_abs_0 : decode cJ3_abs 0 = .ok (.iload_n 0, 1) := by decide +kernel
theorem dJ3_abs_1 : decode cJ3_abs 1 = .ok (.ifCond .ge 8, 3) := by decide +kernel
theorem dJ3_abs_4 : decode cJ3_abs 4 = .ok (.iload_n 0, 1) := by decide +kernel
theorem dJ3_abs_5 : decode cJ3_abs 5 = .ok (.ineg, 1) := by decide +kernel
theorem dJ3_abs_6 : decode cJ3_abs 6 = .ok (.goto 4, 3) := by decide +kernel
theorem dJ3_abs_9 : decode cJ3_abs 9 = .ok (.iload_n 0, 1) := by decide +kernel
theorem dJ3_abs_10 : decode cJ3_abs 10 = .ok (.ireturn, 1) := by decide +kernel
theorem dJ3_max_0 : decode cJ3_max 0 = .ok (.iload_n 0, 1) := by decide +kernel
theorem dJ3_max_1 : decode cJ3_max 1 = .ok (.iload_n 1, 1) := by decide +kernel
theorem dJ3_max_2 : decode cJ3_max 2 = .ok (.if_icmp .lt 7, 3) := by decide +kernel
theorem dJ3_max_5 : decode cJ3_max 5 = .ok (.iload_n 0, 1) := by decide +kernel
theorem dJ3_max_6 : decode cJ3_max 6 = .ok (.goto 4, 3) := by decide +kernel
theorem dJ3_max_9 : decode cJ3_max 9 = .ok (.iload_n 1, 1) := by decide +kernel
theorem dJ3_max_10 : decode cJ3_max 10 = .ok (.ireturn, 1) := by decide +kernel
theorem dJ3_min_0 : decode cJ3_min 0 = .ok (.iload_n 0, 1) := by decide +kernel
theorem dJ3_min_1 : decode cJ3_min 1 = .ok (.iload_n 1, 1) := by decide +kernel
theorem dJ3_min_2 : decode cJ3_min 2 = .ok (.if_icmp .gt 7, 3) := by decide +kernel
theorem dJ3_min_5 : decode cJ3_min 5 = .ok (.iload_n 0, 1) := by decide +kernel
theorem dJ3_min_6 : decode cJ3_min 6 = .ok (.goto 4, 3) := by decide +kernel
theorem dJ3_min_9 : decode cJ3_min 9 = .ok (.iload_n 1, 1) := by decide +kernel
theorem dJ3_min_10 : decode cJ3_min 10 = .ok (.ireturn, 1) := by decide +kernel
theorem dJ3_floorMod_0 : decode cJ3_floorMod 0 = .ok (.iload_n 0, 1) := by decide +kernel
theorem dJ3_floorMod_1 : decode cJ3_floorMod 1 = .ok (.iload_n 1, 1) := by decide +kernel
theorem dJ3_floorMod_2 : decode cJ3_floorMod 2 = .ok (.irem, 1) := by decide +kernel
theorem dJ3_floorMod_3 : decode cJ3_floorMod 3 = .ok (.istore_n 2, 1) := by decide +kernel
theorem dJ3_floorMod_4 : decode cJ3_floorMod 4 = .ok (.iload_n 0, 1) := by decide +kernel
theorem dJ3_floorMod_5 : decode cJ3_floorMod 5 = .ok (.iload_n 1, 1) := by decide +kernel
theorem dJ3_floorMod_6 : decode cJ3_floorMod 6 = .ok (.ixor, 1) := by decide +kernel
theorem dJ3_floorMod_7 : decode cJ3_floorMod 7 = .ok (.ifCond .ge 11, 3) := by decide +kernel
theorem dJ3_floorMod_10 : decode cJ3_floorMod 10 = .ok (.iload_n 2, 1) := by decide +kernel
theorem dJ3_floorMod_11 : decode cJ3_floorMod 11 = .ok (.ifCond .eq 7, 3) := by decide +kernel
theorem dJ3_floorMod_14 : decode cJ3_floorMod 14 = .ok (.iload_n 2, 1) := by decide +kernel
theorem dJ3_floorMod_15 : decode cJ3_floorMod 15 = .ok (.iload_n 1, 1) := by decide +kernel
theorem dJ3_floorMod_16 : decode cJ3_floorMod 16 = .ok (.iadd, 1) := by decide +kernel
theorem dJ3_floorMod_17 : decode cJ3_floorMod 17 = .ok (.ireturn, 1) := by decide +kernel
theorem dJ3_floorMod_18 : decode cJ3_floorMod 18 = .ok (.iload_n 2, 1) := by decide +kernel
theorem dJ3_floorMod_19 : decode cJ3_floorMod 19 = .ok (.ireturn, 1) := by decide +kernel
abbrev W_J3_abs (g : GX) (d : Nat) (av : List Value) (Q : QT) (n : Nat) (pc : Nat) (ls : LV) (stk : List Value) (h : Hp) : Prop := RJ g m_J3_abs d 0 0 av Q pc ls stk n h 0 0
theorem s_J3_abs_0 {g : GX} {d : Nat} {av : List Value} {Q : QT} {n : Nat} {h : Hp} {x0 : Int32} (hp : g.2.2.2.2 = true)  (H : (((0 : Int32) ≤ x0) → (Q (some (.int x0)) n h)) ∧ ((¬ (0 : Int32) ≤ x0) → (Q (some (.int (-x0))) n h))) : W_J3_abs g d av Q n 0 [some (.int x0)] [] h := by
  refine r_iload_n dJ3_abs_0 rfl rfl ?_
  refine r_if_ge (tgt := 9) dJ3_abs_1 rfl (fun cH => ?_) (fun cH => ?_)
  · replace H := H.1 cH
    refine r_iload_n dJ3_abs_9 rfl rfl ?_
    exact r_zret dJ3_abs_10 rfl rfl (Nat.le_refl _) (Nat.le_refl _) H
  · replace H := H.2 cH
    refine r_iload_n dJ3_abs_4 rfl rfl ?_
    refine r_ineg dJ3_abs_5 ?_
    refine r_goto (tgt := 10) dJ3_abs_6 rfl ?_
    exact r_zret dJ3_abs_10 rfl rfl (Nat.le_refl _) (Nat.le_refl _) H
abbrev W_J3_max (g : GX) (d : Nat) (av : List Value) (Q : QT) (n : Nat) (pc : Nat) (ls : LV) (stk : List Value) (h : Hp) : Prop := RJ g m_J3_max d 0 0 av Q pc ls stk n h 0 0
theorem s_J3_max_0 {g : GX} {d : Nat} {av : List Value} {Q : QT} {n : Nat} {h : Hp} {x0 : Int32} {x1 : Int32} (hp : g.2.2.2.2 = true)  (H : ((x0 < x1) → (Q (some (.int x1)) n h)) ∧ ((¬ x0 < x1) → (Q (some (.int x0)) n h))) : W_J3_max g d av Q n 0 [some (.int x0), some (.int x1)] [] h := by
  refine r_iload_n dJ3_max_0 rfl rfl ?_
  refine r_iload_n dJ3_max_1 rfl rfl ?_
  refine r_icmp_lt (tgt := 9) dJ3_max_2 rfl (fun cH => ?_) (fun cH => ?_)
  · replace H := H.1 cH
    refine r_iload_n dJ3_max_9 rfl rfl ?_
    exact r_zret dJ3_max_10 rfl rfl (Nat.le_refl _) (Nat.le_refl _) H
  · replace H := H.2 cH
    refine r_iload_n dJ3_max_5 rfl rfl ?_
    refine r_goto (tgt := 10) dJ3_max_6 rfl ?_
    exact r_zret dJ3_max_10 rfl rfl (Nat.le_refl _) (Nat.le_refl _) H
abbrev W_J3_min (g : GX) (d : Nat) (av : List Value) (Q : QT) (n : Nat) (pc : Nat) (ls : LV) (stk : List Value) (h : Hp) : Prop := RJ g m_J3_min d 0 0 av Q pc ls stk n h 0 0
theorem s_J3_min_0 {g : GX} {d : Nat} {av : List Value} {Q : QT} {n : Nat} {h : Hp} {x0 : Int32} {x1 : Int32} (hp : g.2.2.2.2 = true)  (H : ((x1 < x0) → (Q (some (.int x1)) n h)) ∧ ((¬ x1 < x0) → (Q (some (.int x0)) n h))) : W_J3_min g d av Q n 0 [some (.int x0), some (.int x1)] [] h := by
  refine r_iload_n dJ3_min_0 rfl rfl ?_
  refine r_iload_n dJ3_min_1 rfl rfl ?_
  refine r_icmp_gt (tgt := 9) dJ3_min_2 rfl (fun cH => ?_) (fun cH => ?_)
  · replace H := H.1 cH
    refine r_iload_n dJ3_min_9 rfl rfl ?_
    exact r_zret dJ3_min_10 rfl rfl (Nat.le_refl _) (Nat.le_refl _) H
  · replace H := H.2 cH
    refine r_iload_n dJ3_min_5 rfl rfl ?_
    refine r_goto (tgt := 10) dJ3_min_6 rfl ?_
    exact r_zret dJ3_min_10 rfl rfl (Nat.le_refl _) (Nat.le_refl _) H
abbrev W_J3_floorMod (g : GX) (d : Nat) (av : List Value) (Q : QT) (n : Nat) (pc : Nat) (ls : LV) (stk : List Value) (h : Hp) : Prop := RJ g m_J3_floorMod d 0 0 av Q pc ls stk n h 0 0
theorem s_J3_floorMod_0 {g : GX} {d : Nat} {av : List Value} {Q : QT} {n : Nat} {h : Hp} {x0 : Int32} {x1 : Int32} (hp : g.2.2.2.2 = true)  (H : (¬ x1 = 0) ∧ ((((0 : Int32) ≤ (x0 ^^^ x1)) → (Q (some (.int (x0 - x0 / x1 * x1))) n h)) ∧ ((¬ (0 : Int32) ≤ (x0 ^^^ x1)) → ((((x0 - x0 / x1 * x1) = (0 : Int32)) → (Q (some (.int (x0 - x0 / x1 * x1))) n h)) ∧ ((¬ (x0 - x0 / x1 * x1) = (0 : Int32)) → (Q (some (.int ((x0 - x0 / x1 * x1) + x1))) n h)))))) : W_J3_floorMod g d av Q n 0 [some (.int x0), some (.int x1), none] [] h := by
  refine r_iload_n dJ3_floorMod_0 rfl rfl ?_
  refine r_iload_n dJ3_floorMod_1 rfl rfl ?_
  refine r_irem dJ3_floorMod_2 H.1 ?_
  replace H := H.2
  refine r_istore_n (ls2 := [some (.int x0), some (.int x1), some (.int (x0 - x0 / x1 * x1))]) dJ3_floorMod_3 rfl (by decide) rfl ?_
  refine r_iload_n dJ3_floorMod_4 rfl rfl ?_
  refine r_iload_n dJ3_floorMod_5 rfl rfl ?_
  refine r_ixor dJ3_floorMod_6 ?_
  refine r_if_ge (tgt := 18) dJ3_floorMod_7 rfl (fun cH => ?_) (fun cH => ?_)
  · replace H := H.1 cH
    refine r_iload_n dJ3_floorMod_18 rfl rfl ?_
    exact r_zret dJ3_floorMod_19 rfl rfl (Nat.le_refl _) (Nat.le_refl _) H
  · replace H := H.2 cH
    refine r_iload_n dJ3_floorMod_10 rfl rfl ?_
    refine r_if_eq (tgt := 18) dJ3_floorMod_11 rfl (fun cH => ?_) (fun cH => ?_)
    · replace H := H.1 cH
      refine r_iload_n dJ3_floorMod_18 rfl rfl ?_
      exact r_zret dJ3_floorMod_19 rfl rfl (Nat.le_refl _) (Nat.le_refl _) H
    · replace H := H.2 cH
      refine r_iload_n dJ3_floorMod_14 rfl rfl ?_
      refine r_iload_n dJ3_floorMod_15 rfl rfl ?_
      refine r_iadd dJ3_floorMod_16 ?_
      exact r_zret dJ3_floorMod_17 rfl rfl (Nat.le_refl _) (Nat.le_refl _) H
theorem dX0_sum_0 : decode cX0_sum 0 = .ok (.iload_n 0, 1) := by decide +kernel
theorem dX0_sum_1 : decode cX0_sum 1 = .ok (.i2l, 1) := by decide +kernel
theorem dX0_sum_2 : decode cX0_sum 2 = .ok (.iload_n 1, 1) := by decide +kernel
theorem dX0_sum_3 : decode cX0_sum 3 = .ok (.i2l, 1) := by decide +kernel
theorem dX0_sum_4 : decode cX0_sum 4 = .ok (.ladd, 1) := by decide +kernel
theorem dX0_sum_5 : decode cX0_sum 5 = .ok (.lstore_n 2, 1) := by decide +kernel
theorem dX0_sum_6 : decode cX0_sum 6 = .ok (.lload_n 2, 1) := by decide +kernel
theorem dX0_sum_7 : decode cX0_sum 7 = .ok (.ldc2_w 3, 3) := by decide +kernel
theorem dX0_sum_10 : decode cX0_sum 10 = .ok (.lcmp, 1) := by decide +kernel
theorem dX0_sum_11 : decode cX0_sum 11 = .ok (.ifCond .lt 11, 3) := by decide +kernel
theorem dX0_sum_14 : decode cX0_sum 14 = .ok (.lload_n 2, 1) := by decide +kernel
theorem dX0_sum_15 : decode cX0_sum 15 = .ok (.ldc2_w 3, 3) := by decide +kernel
theorem dX0_sum_18 : decode cX0_sum 18 = .ok (.lsub, 1) := by decide +kernel
theorem dX0_sum_19 : decode cX0_sum 19 = .ok (.goto 4, 3) := by decide +kernel
theorem dX0_sum_22 : decode cX0_sum 22 = .ok (.lload_n 2, 1) := by decide +kernel
theorem dX0_sum_23 : decode cX0_sum 23 = .ok (.l2i, 1) := by decide +kernel
theorem dX0_sum_24 : decode cX0_sum 24 = .ok (.ireturn, 1) := by decide +kernel
theorem dX0_less_0 : decode cX0_less 0 = .ok (.iload_n 0, 1) := by decide +kernel
theorem dX0_less_1 : decode cX0_less 1 = .ok (.iload_n 1, 1) := by decide +kernel
theorem dX0_less_2 : decode cX0_less 2 = .ok (.if_icmp .lt 9, 3) := by decide +kernel
theorem dX0_less_5 : decode cX0_less 5 = .ok (.iload_n 0, 1) := by decide +kernel
theorem dX0_less_6 : decode cX0_less 6 = .ok (.iload_n 1, 1) := by decide +kernel
theorem dX0_less_7 : decode cX0_less 7 = .ok (.isub, 1) := by decide +kernel
theorem dX0_less_8 : decode cX0_less 8 = .ok (.goto 9, 3) := by decide +kernel
theorem dX0_less_11 : decode cX0_less 11 = .ok (.iload_n 0, 1) := by decide +kernel
theorem dX0_less_12 : decode cX0_less 12 = .ok (.iload_n 1, 1) := by decide +kernel
theorem dX0_less_13 : decode cX0_less 13 = .ok (.isub, 1) := by decide +kernel
theorem dX0_less_14 : decode cX0_less 14 = .ok (.ldc 5, 2) := by decide +kernel
theorem dX0_less_16 : decode cX0_less 16 = .ok (.iadd, 1) := by decide +kernel
theorem dX0_less_17 : decode cX0_less 17 = .ok (.ireturn, 1) := by decide +kernel
theorem dX0_times_0 : decode cX0_times 0 = .ok (.iload_n 0, 1) := by decide +kernel
theorem dX0_times_1 : decode cX0_times 1 = .ok (.i2l, 1) := by decide +kernel
theorem dX0_times_2 : decode cX0_times 2 = .ok (.iload_n 1, 1) := by decide +kernel
theorem dX0_times_3 : decode cX0_times 3 = .ok (.i2l, 1) := by decide +kernel
theorem dX0_times_4 : decode cX0_times 4 = .ok (.lmul, 1) := by decide +kernel
theorem dX0_times_5 : decode cX0_times 5 = .ok (.ldc2_w 3, 3) := by decide +kernel
theorem dX0_times_8 : decode cX0_times 8 = .ok (.lrem, 1) := by decide +kernel
theorem dX0_times_9 : decode cX0_times 9 = .ok (.l2i, 1) := by decide +kernel
theorem dX0_times_10 : decode cX0_times 10 = .ok (.ireturn, 1) := by decide +kernel
theorem dX0_power_0 : decode cX0_power 0 = .ok (.iconst 1, 1) := by decide +kernel
theorem dX0_power_1 : decode cX0_power 1 = .ok (.istore_n 3, 1) := by decide +kernel
theorem dX0_power_2 : decode cX0_power 2 = .ok (.iload_n 0, 1) := by decide +kernel
theorem dX0_power_3 : decode cX0_power 3 = .ok (.istore 4, 2) := by decide +kernel
theorem dX0_power_5 : decode cX0_power 5 = .ok (.lload_n 1, 1) := by decide +kernel
theorem dX0_power_6 : decode cX0_power 6 = .ok (.lstore 5, 2) := by decide +kernel
theorem dX0_power_8 : decode cX0_power 8 = .ok (.lload 5, 2) := by decide +kernel
theorem dX0_power_10 : decode cX0_power 10 = .ok (.lconst 0, 1) := by decide +kernel
theorem dX0_power_11 : decode cX0_power 11 = .ok (.lcmp, 1) := by decide +kernel
theorem dX0_power_12 : decode cX0_power 12 = .ok (.ifCond .le 41, 3) := by decide +kernel
theorem dX0_power_15 : decode cX0_power 15 = .ok (.lload 5, 2) := by decide +kernel
theorem dX0_power_17 : decode cX0_power 17 = .ok (.lconst 1, 1) := by decide +kernel
theorem dX0_power_18 : decode cX0_power 18 = .ok (.land, 1) := by decide +kernel
theorem dX0_power_19 : decode cX0_power 19 = .ok (.lconst 1, 1) := by decide +kernel
theorem dX0_power_20 : decode cX0_power 20 = .ok (.lcmp, 1) := by decide +kernel
theorem dX0_power_21 : decode cX0_power 21 = .ok (.ifCond .ne 12, 3) := by decide +kernel
theorem dX0_power_24 : decode cX0_power 24 = .ok (.iload_n 3, 1) := by decide +kernel
theorem dX0_power_25 : decode cX0_power 25 = .ok (.iload 4, 2) := by decide +kernel
theorem dX0_power_27 : decode cX0_power 27 = .ok (.invokestatic 6, 3) := by decide +kernel
theorem dX0_power_30 : decode cX0_power 30 = .ok (.goto 4, 3) := by decide +kernel
theorem dX0_power_33 : decode cX0_power 33 = .ok (.iload_n 3, 1) := by decide +kernel
theorem dX0_power_34 : decode cX0_power 34 = .ok (.istore_n 3, 1) := by decide +kernel
theorem dX0_power_35 : decode cX0_power 35 = .ok (.iload 4, 2) := by decide +kernel
theorem dX0_power_37 : decode cX0_power 37 = .ok (.iload 4, 2) := by decide +kernel
theorem dX0_power_39 : decode cX0_power 39 = .ok (.invokestatic 6, 3) := by decide +kernel
theorem dX0_power_42 : decode cX0_power 42 = .ok (.istore 4, 2) := by decide +kernel
theorem dX0_power_44 : decode cX0_power 44 = .ok (.lload 5, 2) := by decide +kernel
theorem dX0_power_46 : decode cX0_power 46 = .ok (.iconst 1, 1) := by decide +kernel
theorem dX0_power_47 : decode cX0_power 47 = .ok (.lshr, 1) := by decide +kernel
theorem dX0_power_48 : decode cX0_power 48 = .ok (.lstore 5, 2) := by decide +kernel
theorem dX0_power_50 : decode cX0_power 50 = .ok (.goto (-42), 3) := by decide +kernel
theorem dX0_power_53 : decode cX0_power 53 = .ok (.iload_n 3, 1) := by decide +kernel
theorem dX0_power_54 : decode cX0_power 54 = .ok (.ireturn, 1) := by decide +kernel
theorem dX0_inverse_0 : decode cX0_inverse 0 = .ok (.iload_n 0, 1) := by decide +kernel
theorem dX0_inverse_1 : decode cX0_inverse 1 = .ok (.ldc2_w 10, 3) := by decide +kernel
theorem dX0_inverse_4 : decode cX0_inverse 4 = .ok (.invokestatic 12, 3) := by decide +kernel
theorem dX0_inverse_7 : decode cX0_inverse 7 = .ok (.ireturn, 1) := by decide +kernel
theorem dX0_rest_0 : decode cX0_rest 0 = .ok (.iload_n 0, 1) := by decide +kernel
theorem dX0_rest_1 : decode cX0_rest 1 = .ok (.ldc 5, 2) := by decide +kernel
theorem dX0_rest_3 : decode cX0_rest 3 = .ok (.invokestatic 16, 3) := by decide +kernel
theorem dX0_rest_6 : decode cX0_rest 6 = .ok (.ireturn, 1) := by decide +kernel
theorem dX0_small_0 : decode cX0_small 0 = .ok (.iload_n 0, 1) := by decide +kernel
theorem dX0_small_1 : decode cX0_small 1 = .ok (.ldc 21, 2) := by decide +kernel
theorem dX0_small_3 : decode cX0_small 3 = .ok (.if_icmp .le 10, 3) := by decide +kernel
theorem dX0_small_6 : decode cX0_small 6 = .ok (.iload_n 0, 1) := by decide +kernel
theorem dX0_small_7 : decode cX0_small 7 = .ok (.ldc 5, 2) := by decide +kernel
theorem dX0_small_9 : decode cX0_small 9 = .ok (.isub, 1) := by decide +kernel
theorem dX0_small_10 : decode cX0_small 10 = .ok (.goto 4, 3) := by decide +kernel
theorem dX0_small_13 : decode cX0_small 13 = .ok (.iload_n 0, 1) := by decide +kernel
theorem dX0_small_14 : decode cX0_small 14 = .ok (.ireturn, 1) := by decide +kernel
abbrev W_X0_sum (g : GX) (d : Nat) (av : List Value) (Q : QT) (n : Nat) (pc : Nat) (ls : LV) (stk : List Value) (h : Hp) : Prop := RJ g m_X0_sum d 0 0 av Q pc ls stk n h 0 0
theorem s_X0_sum_0 {g : GX} {d : Nat} {av : List Value} {Q : QT} {n : Nat} {h : Hp} {x0 : Int32} {x1 : Int32} (hp : g.2.2.2.2 = true)  (H : (((lg_cmp ((x0).toInt64 + (x1).toInt64) (2147483647 : Int64)) < (0 : Int32)) → (Q (some (.int (((x0).toInt64 + (x1).toInt64)).toInt32)) n h)) ∧ ((¬ (lg_cmp ((x0).toInt64 + (x1).toInt64) (2147483647 : Int64)) < (0 : Int32)) → (Q (some (.int ((((x0).toInt64 + (x1).toInt64) - (2147483647 : Int64))).toInt32)) n h))) : W_X0_sum g d av Q n 0 [some (.int x0), some (.int x1), none, none] [] h := by
  refine r_iload_n dX0_sum_0 rfl rfl ?_
  refine r_i2l dX0_sum_1 ?_
  refine r_iload_n dX0_sum_2 rfl rfl ?_
  refine r_i2l dX0_sum_3 ?_
  refine r_ladd dX0_sum_4 ?_
  refine r_lstore_n (ls2 := [some (.int x0), some (.int x1), some (.long ((x0).toInt64 + (x1).toInt64)), none]) dX0_sum_5 rfl (by decide) rfl ?_
  refine r_lload_n dX0_sum_6 rfl rfl ?_
  refine r_ldc2 (own := "") (v := (2147483647 : Int64)) dX0_sum_7 q867 ?_
  refine r_lcmp dX0_sum_10 ?_
  refine r_if_lt (tgt := 22) dX0_sum_11 rfl (fun cH => ?_) (fun cH => ?_)
  · replace H := H.1 cH
    refine r_lload_n dX0_sum_22 rfl rfl ?_
    refine r_l2i dX0_sum_23 ?_
    exact r_zret dX0_sum_24 rfl rfl (Nat.le_refl _) (Nat.le_refl _) H
  · replace H := H.2 cH
    refine r_lload_n dX0_sum_14 rfl rfl ?_
    refine r_ldc2 (own := "") (v := (2147483647 : Int64)) dX0_sum_15 q867 ?_
    refine r_lsub dX0_sum_18 ?_
    refine r_goto (tgt := 23) dX0_sum_19 rfl ?_
    refine r_l2i dX0_sum_23 ?_
    exact r_zret dX0_sum_24 rfl rfl (Nat.le_refl _) (Nat.le_refl _) H
abbrev W_X0_less (g : GX) (d : Nat) (av : List Value) (Q : QT) (n : Nat) (pc : Nat) (ls : LV) (stk : List Value) (h : Hp) : Prop := RJ g m_X0_less d 0 0 av Q pc ls stk n h 0 0
theorem s_X0_less_0 {g : GX} {d : Nat} {av : List Value} {Q : QT} {n : Nat} {h : Hp} {x0 : Int32} {x1 : Int32} (hp : g.2.2.2.2 = true)  (H : ((x0 < x1) → (Q (some (.int ((x0 - x1) + (2147483647 : Int32)))) n h)) ∧ ((¬ x0 < x1) → (Q (some (.int (x0 - x1))) n h))) : W_X0_less g d av Q n 0 [some (.int x0), some (.int x1)] [] h := by
  refine r_iload_n dX0_less_0 rfl rfl ?_
  refine r_iload_n dX0_less_1 rfl rfl ?_
  refine r_icmp_lt (tgt := 11) dX0_less_2 rfl (fun cH => ?_) (fun cH => ?_)
  · replace H := H.1 cH
    refine r_iload_n dX0_less_11 rfl rfl ?_
    refine r_iload_n dX0_less_12 rfl rfl ?_
    refine r_isub dX0_less_13 ?_
    refine r_ldc (own := "") (v := (2147483647 : Int32)) dX0_less_14 q907 ?_
    refine r_iadd dX0_less_16 ?_
    exact r_zret dX0_less_17 rfl rfl (Nat.le_refl _) (Nat.le_refl _) H
  · replace H := H.2 cH
    refine r_iload_n dX0_less_5 rfl rfl ?_
    refine r_iload_n dX0_less_6 rfl rfl ?_
    refine r_isub dX0_less_7 ?_
    refine r_goto (tgt := 17) dX0_less_8 rfl ?_
    exact r_zret dX0_less_17 rfl rfl (Nat.le_refl _) (Nat.le_refl _) H
abbrev W_X0_times (g : GX) (d : Nat) (av : List Value) (Q : QT) (n : Nat) (pc : Nat) (ls : LV) (stk : List Value) (h : Hp) : Prop := RJ g m_X0_times d 0 0 av Q pc ls stk n h 0 0
theorem s_X0_times_0 {g : GX} {d : Nat} {av : List Value} {Q : QT} {n : Nat} {h : Hp} {x0 : Int32} {x1 : Int32} (hp : g.2.2.2.2 = true)  (H : Q (some (.int ((((x0).toInt64 * (x1).toInt64) - ((x0).toInt64 * (x1).toInt64) / (2147483647 : Int64) * (2147483647 : Int64))).toInt32)) n h) : W_X0_times g d av Q n 0 [some (.int x0), some (.int x1)] [] h := by
  refine r_iload_n dX0_times_0 rfl rfl ?_
  refine r_i2l dX0_times_1 ?_
  refine r_iload_n dX0_times_2 rfl rfl ?_
  refine r_i2l dX0_times_3 ?_
  refine r_lmul dX0_times_4 ?_
  refine r_ldc2 (own := "") (v := (2147483647 : Int64)) dX0_times_5 q867 ?_
  refine r_lrem dX0_times_8 (by decide) ?_
  refine r_l2i dX0_times_9 ?_
  exact r_zret dX0_times_10 rfl rfl (Nat.le_refl _) (Nat.le_refl _) H
abbrev W_X0_power (g : GX) (d : Nat) (av : List Value) (Q : QT) (n : Nat) (pc : Nat) (ls : LV) (stk : List Value) (h : Hp) : Prop := RJ g m_X0_power (d + 1) 0 0 av Q pc ls stk n h 0 0
theorem s_X0_power_0 {g : GX} {d : Nat} {av : List Value} {Q : QT} {n : Nat} {h : Hp} {x0 : Int32} {y1 : Int64} (hp : g.2.2.2.2 = true)  (H : W_X0_power g d av Q n 8 [none, none, none, some (.int (1 : Int32)), some (.int x0), some (.long y1), none] [] h) : W_X0_power g d av Q n 0 [some (.int x0), some (.long y1), none, none, none, none, none] [] h := by
  refine r_iconst (v := (1 : Int32)) dX0_power_0 rfl ?_
  refine r_istore_n (ls2 := [some (.int x0), some (.long y1), none, some (.int (1 : Int32)), none, none, none]) dX0_power_1 rfl (by decide) rfl ?_
  refine r_iload_n dX0_power_2 rfl rfl ?_
  refine r_istore (ls2 := [some (.int x0), some (.long y1), none, some (.int (1 : Int32)), some (.int x0), none, none]) dX0_power_3 (by decide) rfl ?_
  refine r_lload_n dX0_power_5 rfl rfl ?_
  refine r_lstore (ls2 := [some (.int x0), some (.long y1), none, some (.int (1 : Int32)), some (.int x0), some (.long y1), none]) dX0_power_6 (by decide) rfl ?_
  refine r_prune [false, false, false, true, true, true, false] (ls2 := [none, none, none, some (.int (1 : Int32)), some (.int x0), some (.long y1), none]) rfl ?_
  exact H
theorem s_X0_power_8 {g : GX} {d : Nat} {av : List Value} {Q : QT} {n : Nat} {h : Hp} {x3 : Int32} {x4 : Int32} {y5 : Int64} (hp : g.2.2.2.2 = true)  (H : (((lg_cmp y5 (0 : Int64)) ≤ (0 : Int32)) → (Q (some (.int x3)) n h)) ∧ ((¬ (lg_cmp y5 (0 : Int64)) ≤ (0 : Int32)) → (((¬ (lg_cmp (y5 &&& (1 : Int64)) (1 : Int64)) = (0 : Int32)) → (W_X0_power g d av Q n 34 [none, none, none, none, some (.int x4), some (.long y5), none] [.int x3] h)) ∧ (((lg_cmp (y5 &&& (1 : Int64)) (1 : Int64)) = (0 : Int32)) → (CallI g m_X0_times d [.int x3, .int x4] n h (fun v1 h1 => (W_X0_power g d av Q n 34 [none, none, none, none, some (.int x4), some (.long y5), none] [.int v1] h1))))))) : W_X0_power g d av Q n 8 [none, none, none, some (.int x3), some (.int x4), some (.long y5), none] [] h := by
  refine r_lload dX0_power_8 rfl ?_
  refine r_lconst (v := (0 : Int64)) dX0_power_10 rfl ?_
  refine r_lcmp dX0_power_11 ?_
  refine r_if_le (tgt := 53) dX0_power_12 rfl (fun cH => ?_) (fun cH => ?_)
  · replace H := H.1 cH
    refine r_iload_n dX0_power_53 rfl rfl ?_
    exact r_zret dX0_power_54 rfl rfl (Nat.le_refl _) (Nat.le_refl _) H
  · replace H := H.2 cH
    refine r_lload dX0_power_15 rfl ?_
    refine r_lconst (v := (1 : Int64)) dX0_power_17 rfl ?_
    refine r_land dX0_power_18 ?_
    refine r_lconst (v := (1 : Int64)) dX0_power_19 rfl ?_
    refine r_lcmp dX0_power_20 ?_
    refine r_if_ne (tgt := 33) dX0_power_21 rfl (fun cH => ?_) (fun cH => ?_)
    · replace H := H.1 cH
      refine r_iload_n dX0_power_33 rfl rfl ?_
      refine r_prune [false, false, false, false, true, true, false] (ls2 := [none, none, none, none, some (.int x4), some (.long y5), none]) rfl ?_
      exact H
    · replace H := H.2 cH
      refine r_iload_n dX0_power_24 rfl rfl ?_
      refine r_iload dX0_power_25 rfl ?_
      refine k_SI (As := [.int x3, .int x4]) (stk := []) cs_X0_6 dX0_power_27 rfl (Nat.le_of_ble_eq_true rfl) (H.mono (fun v1 h1 H => ?_)) ⟨Nat.le_refl _, Nat.le_refl _⟩
      refine r_goto (tgt := 34) dX0_power_30 rfl ?_
      refine r_prune [false, false, false, false, true, true, false] (ls2 := [none, none, none, none, some (.int x4), some (.long y5), none]) rfl ?_
      exact H
theorem s_X0_power_34 {g : GX} {d : Nat} {av : List Value} {Q : QT} {n : Nat} {h : Hp} {x4 : Int32} {y5 : Int64} {xs0 : Int32} (hp : g.2.2.2.2 = true)  (H : CallI g m_X0_times d [.int x4, .int x4] n h (fun v1 h1 => (W_X0_power g d av Q n 8 [none, none, none, some (.int xs0), some (.int v1), some (.long (y5 >>> (((1 : Int32)).toInt64 &&& 63))), none] [] h1))) : W_X0_power g d av Q n 34 [none, none, none, none, some (.int x4), some (.long y5), none] [.int xs0] h := by
  refine r_istore_n (ls2 := [none, none, none, some (.int xs0), some (.int x4), some (.long y5), none]) dX0_power_34 rfl (by decide) rfl ?_
  refine r_iload dX0_power_35 rfl ?_
  refine r_iload dX0_power_37 rfl ?_
  refine k_SI (As := [.int x4, .int x4]) (stk := []) cs_X0_6 dX0_power_39 rfl (Nat.le_of_ble_eq_true rfl) (H.mono (fun v1 h1 H => ?_)) ⟨Nat.le_refl _, Nat.le_refl _⟩
  refine r_istore (ls2 := [none, none, none, some (.int xs0), some (.int v1), some (.long y5), none]) dX0_power_42 (by decide) rfl ?_
  refine r_lload dX0_power_44 rfl ?_
  refine r_iconst (v := (1 : Int32)) dX0_power_46 rfl ?_
  refine r_lshr dX0_power_47 ?_
  refine r_lstore (ls2 := [none, none, none, some (.int xs0), some (.int v1), some (.long (y5 >>> (((1 : Int32)).toInt64 &&& 63))), none]) dX0_power_48 (by decide) rfl ?_
  refine r_goto (tgt := 8) dX0_power_50 rfl ?_
  exact H
abbrev W_X0_inverse (g : GX) (d : Nat) (av : List Value) (Q : QT) (n : Nat) (pc : Nat) (ls : LV) (stk : List Value) (h : Hp) : Prop := RJ g m_X0_inverse (d + 1) 0 0 av Q pc ls stk n h 0 0
theorem s_X0_inverse_0 {g : GX} {d : Nat} {av : List Value} {Q : QT} {n : Nat} {h : Hp} {x0 : Int32} (hp : g.2.2.2.2 = true)  (H : CallI g m_X0_power d [.int x0, .long (2147483645 : Int64)] n h (fun v1 h1 => (Q (some (.int v1)) n h1))) : W_X0_inverse g d av Q n 0 [some (.int x0)] [] h := by
  refine r_iload_n dX0_inverse_0 rfl rfl ?_
  refine r_ldc2 (own := "") (v := (2147483645 : Int64)) dX0_inverse_1 q938 ?_
  refine k_SI (As := [.int x0, .long (2147483645 : Int64)]) (stk := []) cs_X0_12 dX0_inverse_4 rfl (Nat.le_of_ble_eq_true rfl) (H.mono (fun v1 h1 H => ?_)) ⟨Nat.le_refl _, Nat.le_refl _⟩
  exact r_zret dX0_inverse_7 rfl rfl (Nat.le_refl _) (Nat.le_refl _) H
abbrev W_X0_rest (g : GX) (d : Nat) (av : List Value) (Q : QT) (n : Nat) (pc : Nat) (ls : LV) (stk : List Value) (h : Hp) : Prop := RJ g m_X0_rest (d + 1) 0 0 av Q pc ls stk n h 0 0
theorem s_X0_rest_0 {g : GX} {d : Nat} {av : List Value} {Q : QT} {n : Nat} {h : Hp} {x0 : Int32} (hp : g.2.2.2.2 = true)  (H : CallI g m_J3_floorMod d [.int x0, .int (2147483647 : Int32)] n h (fun v1 h1 => (Q (some (.int v1)) n h1))) : W_X0_rest g d av Q n 0 [some (.int x0)] [] h := by
  refine r_iload_n dX0_rest_0 rfl rfl ?_
  refine r_ldc (own := "") (v := (2147483647 : Int32)) dX0_rest_1 q907 ?_
  refine k_SI (As := [.int x0, .int (2147483647 : Int32)]) (stk := []) cs_X0_16 dX0_rest_3 rfl (Nat.le_of_ble_eq_true rfl) (H.mono (fun v1 h1 H => ?_)) ⟨Nat.le_refl _, Nat.le_refl _⟩
  exact r_zret dX0_rest_6 rfl rfl (Nat.le_refl _) (Nat.le_refl _) H
abbrev W_X0_small (g : GX) (d : Nat) (av : List Value) (Q : QT) (n : Nat) (pc : Nat) (ls : LV) (stk : List Value) (h : Hp) : Prop := RJ g m_X0_small d 0 0 av Q pc ls stk n h 0 0
theorem s_X0_small_0 {g : GX} {d : Nat} {av : List Value} {Q : QT} {n : Nat} {h : Hp} {x0 : Int32} (hp : g.2.2.2.2 = true)  (H : ((x0 ≤ (1073741823 : Int32)) → (Q (some (.int x0)) n h)) ∧ ((¬ x0 ≤ (1073741823 : Int32)) → (Q (some (.int (x0 - (2147483647 : Int32)))) n h))) : W_X0_small g d av Q n 0 [some (.int x0)] [] h := by
  refine r_iload_n dX0_small_0 rfl rfl ?_
  refine r_ldc (own := "") (v := (1073741823 : Int32)) dX0_small_1 q906 ?_
  refine r_icmp_le (tgt := 13) dX0_small_3 rfl (fun cH => ?_) (fun cH => ?_)
  · replace H := H.1 cH
    refine r_iload_n dX0_small_13 rfl rfl ?_
    exact r_zret dX0_small_14 rfl rfl (Nat.le_refl _) (Nat.le_refl _) H
  · replace H := H.2 cH
    refine r_iload_n dX0_small_6 rfl rfl ?_
    refine r_ldc (own := "") (v := (2147483647 : Int32)) dX0_small_7 q907 ?_
    refine r_isub dX0_small_9 ?_
    refine r_goto (tgt := 14) dX0_small_10 rfl ?_
    exact r_zret dX0_small_14 rfl rfl (Nat.le_refl _) (Nat.le_refl _) H
theorem dX3_clear_0 : decode cX3_clear 0 = .ok (.aload_n 0, 1) := by decide +kernel
theorem dX3_clear_1 : decode cX3_clear 1 = .ok (.iconst 0, 1) := by decide +kernel
theorem dX3_clear_2 : decode cX3_clear 2 = .ok (.putfield 13, 3) := by decide +kernel
theorem dX3_clear_5 : decode cX3_clear 5 = .ok (.return_, 1) := by decide +kernel
theorem dX3_trim_0 : decode cX3_trim 0 = .ok (.aload_n 0, 1) := by decide +kernel
theorem dX3_trim_1 : decode cX3_trim 1 = .ok (.getfield 13, 3) := by decide +kernel
theorem dX3_trim_4 : decode cX3_trim 4 = .ok (.ifCond .le 30, 3) := by decide +kernel
theorem dX3_trim_7 : decode cX3_trim 7 = .ok (.aload_n 0, 1) := by decide +kernel
theorem dX3_trim_8 : decode cX3_trim 8 = .ok (.getfield 7, 3) := by decide +kernel
theorem dX3_trim_11 : decode cX3_trim 11 = .ok (.aload_n 0, 1) := by decide +kernel
theorem dX3_trim_12 : decode cX3_trim 12 = .ok (.getfield 13, 3) := by decide +kernel
theorem dX3_trim_15 : decode cX3_trim 15 = .ok (.iconst 1, 1) := by decide +kernel
theorem dX3_trim_16 : decode cX3_trim 16 = .ok (.isub, 1) := by decide +kernel
theorem dX3_trim_17 : decode cX3_trim 17 = .ok (.iaload, 1) := by decide +kernel
theorem dX3_trim_18 : decode cX3_trim 18 = .ok (.ifCond .ne 16, 3) := by decide +kernel
theorem dX3_trim_21 : decode cX3_trim 21 = .ok (.aload_n 0, 1) := by decide +kernel
theorem dX3_trim_22 : decode cX3_trim 22 = .ok (.dup, 1) := by decide +kernel
theorem dX3_trim_23 : decode cX3_trim 23 = .ok (.getfield 13, 3) := by decide +kernel
theorem dX3_trim_26 : decode cX3_trim 26 = .ok (.iconst 1, 1) := by decide +kernel
theorem dX3_trim_27 : decode cX3_trim 27 = .ok (.isub, 1) := by decide +kernel
theorem dX3_trim_28 : decode cX3_trim 28 = .ok (.putfield 13, 3) := by decide +kernel
theorem dX3_trim_31 : decode cX3_trim 31 = .ok (.goto (-31), 3) := by decide +kernel
theorem dX3_trim_34 : decode cX3_trim 34 = .ok (.return_, 1) := by decide +kernel
theorem dX3_copy_0 : decode cX3_copy 0 = .ok (.aload_n 1, 1) := by decide +kernel
theorem dX3_copy_1 : decode cX3_copy 1 = .ok (.getfield 7, 3) := by decide +kernel
theorem dX3_copy_4 : decode cX3_copy 4 = .ok (.iconst 0, 1) := by decide +kernel
theorem dX3_copy_5 : decode cX3_copy 5 = .ok (.aload_n 0, 1) := by decide +kernel
theorem dX3_copy_6 : decode cX3_copy 6 = .ok (.getfield 7, 3) := by decide +kernel
theorem dX3_copy_9 : decode cX3_copy 9 = .ok (.iconst 0, 1) := by decide +kernel
theorem dX3_copy_10 : decode cX3_copy 10 = .ok (.aload_n 1, 1) := by decide +kernel
theorem dX3_copy_11 : decode cX3_copy 11 = .ok (.getfield 13, 3) := by decide +kernel
theorem dX3_copy_14 : decode cX3_copy 14 = .ok (.invokestatic 17, 3) := by decide +kernel
theorem dX3_copy_17 : decode cX3_copy 17 = .ok (.aload_n 0, 1) := by decide +kernel
theorem dX3_copy_18 : decode cX3_copy 18 = .ok (.aload_n 1, 1) := by decide +kernel
theorem dX3_copy_19 : decode cX3_copy 19 = .ok (.getfield 13, 3) := by decide +kernel
theorem dX3_copy_22 : decode cX3_copy 22 = .ok (.putfield 13, 3) := by decide +kernel
theorem dX3_copy_25 : decode cX3_copy 25 = .ok (.return_, 1) := by decide +kernel
theorem dX3_isZero_0 : decode cX3_isZero 0 = .ok (.aload_n 0, 1) := by decide +kernel
theorem dX3_isZero_1 : decode cX3_isZero 1 = .ok (.getfield 13, 3) := by decide +kernel
theorem dX3_isZero_4 : decode cX3_isZero 4 = .ok (.ifCond .ne 7, 3) := by decide +kernel
theorem dX3_isZero_7 : decode cX3_isZero 7 = .ok (.iconst 1, 1) := by decide +kernel
theorem dX3_isZero_8 : decode cX3_isZero 8 = .ok (.goto 4, 3) := by decide +kernel
theorem dX3_isZero_11 : decode cX3_isZero 11 = .ok (.iconst 0, 1) := by decide +kernel
theorem dX3_isZero_12 : decode cX3_isZero 12 = .ok (.ireturn, 1) := by decide +kernel
theorem dX3_divide_0 : decode cX3_divide 0 = .ok (.aload_n 0, 1) := by decide +kernel
theorem dX3_divide_1 : decode cX3_divide 1 = .ok (.getfield 13, 3) := by decide +kernel
theorem dX3_divide_4 : decode cX3_divide 4 = .ok (.aload_n 1, 1) := by decide +kernel
theorem dX3_divide_5 : decode cX3_divide 5 = .ok (.getfield 13, 3) := by decide +kernel
theorem dX3_divide_8 : decode cX3_divide 8 = .ok (.isub, 1) := by decide +kernel
theorem dX3_divide_9 : decode cX3_divide 9 = .ok (.istore_n 3, 1) := by decide +kernel
theorem dX3_divide_10 : decode cX3_divide 10 = .ok (.aload_n 2, 1) := by decide +kernel
theorem dX3_divide_11 : decode cX3_divide 11 = .ok (.ifnull 14, 3) := by decide +kernel
theorem dX3_divide_14 : decode cX3_divide 14 = .ok (.aload_n 2, 1) := by decide +kernel
theorem dX3_divide_15 : decode cX3_divide 15 = .ok (.iconst 0, 1) := by decide +kernel
theorem dX3_divide_16 : decode cX3_divide 16 = .ok (.iload_n 3, 1) := by decide +kernel
theorem dX3_divide_17 : decode cX3_divide 17 = .ok (.iconst 1, 1) := by decide +kernel
theorem dX3_divide_18 : decode cX3_divide 18 = .ok (.iadd, 1) := by decide +kernel
theorem dX3_divide_19 : decode cX3_divide 19 = .ok (.invokestatic 39, 3) := by decide +kernel
theorem dX3_divide_22 : decode cX3_divide 22 = .ok (.putfield 13, 3) := by decide +kernel
theorem dX3_divide_25 : decode cX3_divide 25 = .ok (.aload_n 1, 1) := by decide +kernel
theorem dX3_divide_26 : decode cX3_divide 26 = .ok (.invokevirtual 44, 3) := by decide +kernel
theorem dX3_divide_29 : decode cX3_divide 29 = .ok (.invokestatic 48, 3) := by decide +kernel
theorem dX3_divide_32 : decode cX3_divide 32 = .ok (.istore 4, 2) := by decide +kernel
theorem dX3_divide_34 : decode cX3_divide 34 = .ok (.iload_n 3, 1) := by decide +kernel
theorem dX3_divide_35 : decode cX3_divide 35 = .ok (.istore 5, 2) := by decide +kernel
theorem dX3_divide_37 : decode cX3_divide 37 = .ok (.iload 5, 2) := by decide +kernel
theorem dX3_divide_39 : decode cX3_divide 39 = .ok (.ifCond .lt 101, 3) := by decide +kernel
theorem dX3_divide_42 : decode cX3_divide 42 = .ok (.aload_n 0, 1) := by decide +kernel
theorem dX3_divide_43 : decode cX3_divide 43 = .ok (.getfield 7, 3) := by decide +kernel
theorem dX3_divide_46 : decode cX3_divide 46 = .ok (.iload 5, 2) := by decide +kernel
theorem dX3_divide_48 : decode cX3_divide 48 = .ok (.aload_n 1, 1) := by decide +kernel
theorem dX3_divide_49 : decode cX3_divide 49 = .ok (.getfield 13, 3) := by decide +kernel
theorem dX3_divide_52 : decode cX3_divide 52 = .ok (.iadd, 1) := by decide +kernel
theorem dX3_divide_53 : decode cX3_divide 53 = .ok (.iconst 1, 1) := by decide +kernel
theorem dX3_divide_54 : decode cX3_divide 54 = .ok (.isub, 1) := by decide +kernel
theorem dX3_divide_55 : decode cX3_divide 55 = .ok (.iaload, 1) := by decide +kernel
theorem dX3_divide_56 : decode cX3_divide 56 = .ok (.iload 4, 2) := by decide +kernel
theorem dX3_divide_58 : decode cX3_divide 58 = .ok (.invokestatic 26, 3) := by decide +kernel
theorem dX3_divide_61 : decode cX3_divide 61 = .ok (.istore 6, 2) := by decide +kernel
theorem dX3_divide_63 : decode cX3_divide 63 = .ok (.aload_n 2, 1) := by decide +kernel
theorem dX3_divide_64 : decode cX3_divide 64 = .ok (.ifnull 12, 3) := by decide +kernel
theorem dX3_divide_67 : decode cX3_divide 67 = .ok (.aload_n 2, 1) := by decide +kernel
theorem dX3_divide_68 : decode cX3_divide 68 = .ok (.getfield 7, 3) := by decide +kernel
theorem dX3_divide_71 : decode cX3_divide 71 = .ok (.iload 5, 2) := by decide +kernel
theorem dX3_divide_73 : decode cX3_divide 73 = .ok (.iload 6, 2) := by decide +kernel
theorem dX3_divide_75 : decode cX3_divide 75 = .ok (.iastore, 1) := by decide +kernel
theorem dX3_divide_76 : decode cX3_divide 76 = .ok (.iconst 0, 1) := by decide +kernel
theorem dX3_divide_77 : decode cX3_divide 77 = .ok (.istore 7, 2) := by decide +kernel
theorem dX3_divide_79 : decode cX3_divide 79 = .ok (.iload 7, 2) := by decide +kernel
theorem dX3_divide_81 : decode cX3_divide 81 = .ok (.aload_n 1, 1) := by decide +kernel
theorem dX3_divide_82 : decode cX3_divide 82 = .ok (.getfield 13, 3) := by decide +kernel
theorem dX3_divide_85 : decode cX3_divide 85 = .ok (.if_icmp .ge 49, 3) := by decide +kernel
theorem dX3_divide_88 : decode cX3_divide 88 = .ok (.iload 6, 2) := by decide +kernel
theorem dX3_divide_90 : decode cX3_divide 90 = .ok (.ifCond .eq 44, 3) := by decide +kernel
theorem dX3_divide_93 : decode cX3_divide 93 = .ok (.aload_n 0, 1) := by decide +kernel
theorem dX3_divide_94 : decode cX3_divide 94 = .ok (.getfield 7, 3) := by decide +kernel
theorem dX3_divide_97 : decode cX3_divide 97 = .ok (.iload 5, 2) := by decide +kernel
theorem dX3_divide_99 : decode cX3_divide 99 = .ok (.iload 7, 2) := by decide +kernel
theorem dX3_divide_101 : decode cX3_divide 101 = .ok (.iadd, 1) := by decide +kernel
theorem dX3_divide_102 : decode cX3_divide 102 = .ok (.aload_n 0, 1) := by decide +kernel
theorem dX3_divide_103 : decode cX3_divide 103 = .ok (.getfield 7, 3) := by decide +kernel
theorem dX3_divide_106 : decode cX3_divide 106 = .ok (.iload 5, 2) := by decide +kernel
theorem dX3_divide_108 : decode cX3_divide 108 = .ok (.iload 7, 2) := by decide +kernel
theorem dX3_divide_110 : decode cX3_divide 110 = .ok (.iadd, 1) := by decide +kernel
theorem dX3_divide_111 : decode cX3_divide 111 = .ok (.iaload, 1) := by decide +kernel
theorem dX3_divide_112 : decode cX3_divide 112 = .ok (.iload 6, 2) := by decide +kernel
theorem dX3_divide_114 : decode cX3_divide 114 = .ok (.aload_n 1, 1) := by decide +kernel
theorem dX3_divide_115 : decode cX3_divide 115 = .ok (.getfield 7, 3) := by decide +kernel
theorem dX3_divide_118 : decode cX3_divide 118 = .ok (.iload 7, 2) := by decide +kernel
theorem dX3_divide_120 : decode cX3_divide 120 = .ok (.iaload, 1) := by decide +kernel
theorem dX3_divide_121 : decode cX3_divide 121 = .ok (.invokestatic 26, 3) := by decide +kernel
theorem dX3_divide_124 : decode cX3_divide 124 = .ok (.invokestatic 52, 3) := by decide +kernel
theorem dX3_divide_127 : decode cX3_divide 127 = .ok (.iastore, 1) := by decide +kernel
theorem dX3_divide_128 : decode cX3_divide 128 = .ok (.iinc 7 1, 3) := by decide +kernel
theorem dX3_divide_131 : decode cX3_divide 131 = .ok (.goto (-52), 3) := by decide +kernel
theorem dX3_divide_134 : decode cX3_divide 134 = .ok (.iinc 5 (-1), 3) := by decide +kernel
theorem dX3_divide_137 : decode cX3_divide 137 = .ok (.goto (-100), 3) := by decide +kernel
theorem dX3_divide_140 : decode cX3_divide 140 = .ok (.aload_n 0, 1) := by decide +kernel
theorem dX3_divide_141 : decode cX3_divide 141 = .ok (.aload_n 0, 1) := by decide +kernel
theorem dX3_divide_142 : decode cX3_divide 142 = .ok (.getfield 13, 3) := by decide +kernel
theorem dX3_divide_145 : decode cX3_divide 145 = .ok (.aload_n 1, 1) := by decide +kernel
theorem dX3_divide_146 : decode cX3_divide 146 = .ok (.getfield 13, 3) := by decide +kernel
theorem dX3_divide_149 : decode cX3_divide 149 = .ok (.iconst 1, 1) := by decide +kernel
theorem dX3_divide_150 : decode cX3_divide 150 = .ok (.isub, 1) := by decide +kernel
theorem dX3_divide_151 : decode cX3_divide 151 = .ok (.invokestatic 55, 3) := by decide +kernel
theorem dX3_divide_154 : decode cX3_divide 154 = .ok (.putfield 13, 3) := by decide +kernel
theorem dX3_divide_157 : decode cX3_divide 157 = .ok (.aload_n 0, 1) := by decide +kernel
theorem dX3_divide_158 : decode cX3_divide 158 = .ok (.invokevirtual 23, 3) := by decide +kernel
theorem dX3_divide_161 : decode cX3_divide 161 = .ok (.aload_n 2, 1) := by decide +kernel
theorem dX3_divide_162 : decode cX3_divide 162 = .ok (.ifnull 7, 3) := by decide +kernel
theorem dX3_divide_165 : decode cX3_divide 165 = .ok (.aload_n 2, 1) := by decide +kernel
theorem dX3_divide_166 : decode cX3_divide 166 = .ok (.invokevirtual 23, 3) := by decide +kernel
theorem dX3_divide_169 : decode cX3_divide 169 = .ok (.return_, 1) := by decide +kernel
theorem dX3_head_0 : decode cX3_head 0 = .ok (.aload_n 0, 1) := by decide +kernel
theorem dX3_head_1 : decode cX3_head 1 = .ok (.getfield 13, 3) := by decide +kernel
theorem dX3_head_4 : decode cX3_head 4 = .ok (.ifCond .le 17, 3) := by decide +kernel
theorem dX3_head_7 : decode cX3_head 7 = .ok (.aload_n 0, 1) := by decide +kernel
theorem dX3_head_8 : decode cX3_head 8 = .ok (.getfield 7, 3) := by decide +kernel
theorem dX3_head_11 : decode cX3_head 11 = .ok (.aload_n 0, 1) := by decide +kernel
theorem dX3_head_12 : decode cX3_head 12 = .ok (.getfield 13, 3) := by decide +kernel
theorem dX3_head_15 : decode cX3_head 15 = .ok (.iconst 1, 1) := by decide +kernel
theorem dX3_head_16 : decode cX3_head 16 = .ok (.isub, 1) := by decide +kernel
theorem dX3_head_17 : decode cX3_head 17 = .ok (.iaload, 1) := by decide +kernel
theorem dX3_head_18 : decode cX3_head 18 = .ok (.goto 4, 3) := by decide +kernel
theorem dX3_head_21 : decode cX3_head 21 = .ok (.iconst 0, 1) := by decide +kernel
theorem dX3_head_22 : decode cX3_head 22 = .ok (.ireturn, 1) := by decide +kernel
theorem dX3_monic_0 : decode cX3_monic 0 = .ok (.aload_n 0, 1) := by decide +kernel
theorem dX3_monic_1 : decode cX3_monic 1 = .ok (.getfield 13, 3) := by decide +kernel
theorem dX3_monic_4 : decode cX3_monic 4 = .ok (.ifCond .le 22, 3) := by decide +kernel
theorem dX3_monic_7 : decode cX3_monic 7 = .ok (.aload_n 0, 1) := by decide +kernel
theorem dX3_monic_8 : decode cX3_monic 8 = .ok (.invokevirtual 44, 3) := by decide +kernel
theorem dX3_monic_11 : decode cX3_monic 11 = .ok (.iconst 1, 1) := by decide +kernel
theorem dX3_monic_12 : decode cX3_monic 12 = .ok (.if_icmp .eq 14, 3) := by decide +kernel
theorem dX3_monic_15 : decode cX3_monic 15 = .ok (.aload_n 0, 1) := by decide +kernel
theorem dX3_monic_16 : decode cX3_monic 16 = .ok (.aload_n 0, 1) := by decide +kernel
theorem dX3_monic_17 : decode cX3_monic 17 = .ok (.invokevirtual 44, 3) := by decide +kernel
theorem dX3_monic_20 : decode cX3_monic 20 = .ok (.invokestatic 48, 3) := by decide +kernel
theorem dX3_monic_23 : decode cX3_monic 23 = .ok (.invokevirtual 58, 3) := by decide +kernel
theorem dX3_monic_26 : decode cX3_monic 26 = .ok (.return_, 1) := by decide +kernel
theorem dX3_scale_0 : decode cX3_scale 0 = .ok (.iconst 0, 1) := by decide +kernel
theorem dX3_scale_1 : decode cX3_scale 1 = .ok (.istore_n 2, 1) := by decide +kernel
theorem dX3_scale_2 : decode cX3_scale 2 = .ok (.iload_n 2, 1) := by decide +kernel
theorem dX3_scale_3 : decode cX3_scale 3 = .ok (.aload_n 0, 1) := by decide +kernel
theorem dX3_scale_4 : decode cX3_scale 4 = .ok (.getfield 13, 3) := by decide +kernel
theorem dX3_scale_7 : decode cX3_scale 7 = .ok (.if_icmp .ge 25, 3) := by decide +kernel
theorem dX3_scale_10 : decode cX3_scale 10 = .ok (.aload_n 0, 1) := by decide +kernel
theorem dX3_scale_11 : decode cX3_scale 11 = .ok (.getfield 7, 3) := by decide +kernel
theorem dX3_scale_14 : decode cX3_scale 14 = .ok (.iload_n 2, 1) := by decide +kernel
theorem dX3_scale_15 : decode cX3_scale 15 = .ok (.aload_n 0, 1) := by decide +kernel
theorem dX3_scale_16 : decode cX3_scale 16 = .ok (.getfield 7, 3) := by decide +kernel
theorem dX3_scale_19 : decode cX3_scale 19 = .ok (.iload_n 2, 1) := by decide +kernel
theorem dX3_scale_20 : decode cX3_scale 20 = .ok (.iaload, 1) := by decide +kernel
theorem dX3_scale_21 : decode cX3_scale 21 = .ok (.iload_n 1, 1) := by decide +kernel
theorem dX3_scale_22 : decode cX3_scale 22 = .ok (.invokestatic 26, 3) := by decide +kernel
theorem dX3_scale_25 : decode cX3_scale 25 = .ok (.iastore, 1) := by decide +kernel
theorem dX3_scale_26 : decode cX3_scale 26 = .ok (.iinc 2 1, 3) := by decide +kernel
theorem dX3_scale_29 : decode cX3_scale 29 = .ok (.goto (-27), 3) := by decide +kernel
theorem dX3_scale_32 : decode cX3_scale 32 = .ok (.aload_n 0, 1) := by decide +kernel
theorem dX3_scale_33 : decode cX3_scale 33 = .ok (.invokevirtual 23, 3) := by decide +kernel
theorem dX3_scale_36 : decode cX3_scale 36 = .ok (.return_, 1) := by decide +kernel
theorem dX3_get_0 : decode cX3_get 0 = .ok (.iload_n 1, 1) := by decide +kernel
theorem dX3_get_1 : decode cX3_get 1 = .ok (.ifCond .lt 20, 3) := by decide +kernel
theorem dX3_get_4 : decode cX3_get 4 = .ok (.iload_n 1, 1) := by decide +kernel
theorem dX3_get_5 : decode cX3_get 5 = .ok (.aload_n 0, 1) := by decide +kernel
theorem dX3_get_6 : decode cX3_get 6 = .ok (.getfield 13, 3) := by decide +kernel
theorem dX3_get_9 : decode cX3_get 9 = .ok (.if_icmp .ge 12, 3) := by decide +kernel
theorem dX3_get_12 : decode cX3_get 12 = .ok (.aload_n 0, 1) := by decide +kernel
theorem dX3_get_13 : decode cX3_get 13 = .ok (.getfield 7, 3) := by decide +kernel
theorem dX3_get_16 : decode cX3_get 16 = .ok (.iload_n 1, 1) := by decide +kernel
theorem dX3_get_17 : decode cX3_get 17 = .ok (.iaload, 1) := by decide +kernel
theorem dX3_get_18 : decode cX3_get 18 = .ok (.goto 4, 3) := by decide +kernel
theorem dX3_get_21 : decode cX3_get 21 = .ok (.iconst 0, 1) := by decide +kernel
theorem dX3_get_22 : decode cX3_get 22 = .ok (.ireturn, 1) := by decide +kernel
theorem dX3_degree_0 : decode cX3_degree 0 = .ok (.aload_n 0, 1) := by decide +kernel
theorem dX3_degree_1 : decode cX3_degree 1 = .ok (.getfield 13, 3) := by decide +kernel
theorem dX3_degree_4 : decode cX3_degree 4 = .ok (.ifCond .le 12, 3) := by decide +kernel
theorem dX3_degree_7 : decode cX3_degree 7 = .ok (.aload_n 0, 1) := by decide +kernel
theorem dX3_degree_8 : decode cX3_degree 8 = .ok (.getfield 13, 3) := by decide +kernel
theorem dX3_degree_11 : decode cX3_degree 11 = .ok (.iconst 1, 1) := by decide +kernel
theorem dX3_degree_12 : decode cX3_degree 12 = .ok (.isub, 1) := by decide +kernel
theorem dX3_degree_13 : decode cX3_degree 13 = .ok (.goto 4, 3) := by decide +kernel
theorem dX3_degree_16 : decode cX3_degree 16 = .ok (.iconst 0, 1) := by decide +kernel
theorem dX3_degree_17 : decode cX3_degree 17 = .ok (.ireturn, 1) := by decide +kernel
theorem dX3_value_0 : decode cX3_value 0 = .ok (.iconst 0, 1) := by decide +kernel
theorem dX3_value_1 : decode cX3_value 1 = .ok (.istore_n 2, 1) := by decide +kernel
theorem dX3_value_2 : decode cX3_value 2 = .ok (.aload_n 0, 1) := by decide +kernel
theorem dX3_value_3 : decode cX3_value 3 = .ok (.getfield 13, 3) := by decide +kernel
theorem dX3_value_6 : decode cX3_value 6 = .ok (.iconst 1, 1) := by decide +kernel
theorem dX3_value_7 : decode cX3_value 7 = .ok (.isub, 1) := by decide +kernel
theorem dX3_value_8 : decode cX3_value 8 = .ok (.istore_n 3, 1) := by decide +kernel
theorem dX3_value_9 : decode cX3_value 9 = .ok (.iload_n 3, 1) := by decide +kernel
theorem dX3_value_10 : decode cX3_value 10 = .ok (.ifCond .lt 24, 3) := by decide +kernel
theorem dX3_value_13 : decode cX3_value 13 = .ok (.iload_n 2, 1) := by decide +kernel
theorem dX3_value_14 : decode cX3_value 14 = .ok (.iload_n 1, 1) := by decide +kernel
theorem dX3_value_15 : decode cX3_value 15 = .ok (.invokestatic 26, 3) := by decide +kernel
theorem dX3_value_18 : decode cX3_value 18 = .ok (.aload_n 0, 1) := by decide +kernel
theorem dX3_value_19 : decode cX3_value 19 = .ok (.getfield 7, 3) := by decide +kernel
theorem dX3_value_22 : decode cX3_value 22 = .ok (.iload_n 3, 1) := by decide +kernel
theorem dX3_value_23 : decode cX3_value 23 = .ok (.iaload, 1) := by decide +kernel
theorem dX3_value_24 : decode cX3_value 24 = .ok (.invokestatic 32, 3) := by decide +kernel
theorem dX3_value_27 : decode cX3_value 27 = .ok (.istore_n 2, 1) := by decide +kernel
theorem dX3_value_28 : decode cX3_value 28 = .ok (.iinc 3 (-1), 3) := by decide +kernel
theorem dX3_value_31 : decode cX3_value 31 = .ok (.goto (-22), 3) := by decide +kernel
theorem dX3_value_34 : decode cX3_value 34 = .ok (.iload_n 2, 1) := by decide +kernel
theorem dX3_value_35 : decode cX3_value 35 = .ok (.ireturn, 1) := by decide +kernel
theorem dX3_product_0 : decode cX3_product 0 = .ok (.aload_n 0, 1) := by decide +kernel
theorem dX3_product_1 : decode cX3_product 1 = .ok (.iconst 0, 1) := by decide +kernel
theorem dX3_product_2 : decode cX3_product 2 = .ok (.putfield 13, 3) := by decide +kernel
theorem dX3_product_5 : decode cX3_product 5 = .ok (.aload_n 0, 1) := by decide +kernel
theorem dX3_product_6 : decode cX3_product 6 = .ok (.aload_n 1, 1) := by decide +kernel
theorem dX3_product_7 : decode cX3_product 7 = .ok (.aload_n 2, 1) := by decide +kernel
theorem dX3_product_8 : decode cX3_product 8 = .ok (.iconst 1, 1) := by decide +kernel
theorem dX3_product_9 : decode cX3_product 9 = .ok (.invokevirtual 35, 3) := by decide +kernel
theorem dX3_product_12 : decode cX3_product 12 = .ok (.return_, 1) := by decide +kernel
theorem dX3_addProduct_0 : decode cX3_addProduct 0 = .ok (.aload_n 1, 1) := by decide +kernel
theorem dX3_addProduct_1 : decode cX3_addProduct 1 = .ok (.getfield 13, 3) := by decide +kernel
theorem dX3_addProduct_4 : decode cX3_addProduct 4 = .ok (.ifCond .eq 10, 3) := by decide +kernel
theorem dX3_addProduct_7 : decode cX3_addProduct 7 = .ok (.aload_n 2, 1) := by decide +kernel
theorem dX3_addProduct_8 : decode cX3_addProduct 8 = .ok (.getfield 13, 3) := by decide +kernel
theorem dX3_addProduct_11 : decode cX3_addProduct 11 = .ok (.ifCond .ne 4, 3) := by decide +kernel
theorem dX3_addProduct_14 : decode cX3_addProduct 14 = .ok (.return_, 1) := by decide +kernel
theorem dX3_addProduct_15 : decode cX3_addProduct 15 = .ok (.aload_n 0, 1) := by decide +kernel
theorem dX3_addProduct_16 : decode cX3_addProduct 16 = .ok (.getfield 13, 3) := by decide +kernel
theorem dX3_addProduct_19 : decode cX3_addProduct 19 = .ok (.aload_n 1, 1) := by decide +kernel
theorem dX3_addProduct_20 : decode cX3_addProduct 20 = .ok (.getfield 13, 3) := by decide +kernel
theorem dX3_addProduct_23 : decode cX3_addProduct 23 = .ok (.aload_n 2, 1) := by decide +kernel
theorem dX3_addProduct_24 : decode cX3_addProduct 24 = .ok (.getfield 13, 3) := by decide +kernel
theorem dX3_addProduct_27 : decode cX3_addProduct 27 = .ok (.iadd, 1) := by decide +kernel
theorem dX3_addProduct_28 : decode cX3_addProduct 28 = .ok (.iconst 1, 1) := by decide +kernel
theorem dX3_addProduct_29 : decode cX3_addProduct 29 = .ok (.isub, 1) := by decide +kernel
theorem dX3_addProduct_30 : decode cX3_addProduct 30 = .ok (.if_icmp .ge 23, 3) := by decide +kernel
theorem dX3_addProduct_33 : decode cX3_addProduct 33 = .ok (.aload_n 0, 1) := by decide +kernel
theorem dX3_addProduct_34 : decode cX3_addProduct 34 = .ok (.getfield 7, 3) := by decide +kernel
theorem dX3_addProduct_37 : decode cX3_addProduct 37 = .ok (.aload_n 0, 1) := by decide +kernel
theorem dX3_addProduct_38 : decode cX3_addProduct 38 = .ok (.dup, 1) := by decide +kernel
theorem dX3_addProduct_39 : decode cX3_addProduct 39 = .ok (.getfield 13, 3) := by decide +kernel
theorem dX3_addProduct_42 : decode cX3_addProduct 42 = .ok (.dup_x1, 1) := by decide +kernel
theorem dX3_addProduct_43 : decode cX3_addProduct 43 = .ok (.iconst 1, 1) := by decide +kernel
theorem dX3_addProduct_44 : decode cX3_addProduct 44 = .ok (.iadd, 1) := by decide +kernel
theorem dX3_addProduct_45 : decode cX3_addProduct 45 = .ok (.putfield 13, 3) := by decide +kernel
theorem dX3_addProduct_48 : decode cX3_addProduct 48 = .ok (.iconst 0, 1) := by decide +kernel
theorem dX3_addProduct_49 : decode cX3_addProduct 49 = .ok (.iastore, 1) := by decide +kernel
theorem dX3_addProduct_50 : decode cX3_addProduct 50 = .ok (.goto (-35), 3) := by decide +kernel
theorem dX3_addProduct_53 : decode cX3_addProduct 53 = .ok (.iconst 0, 1) := by decide +kernel
theorem dX3_addProduct_54 : decode cX3_addProduct 54 = .ok (.istore 4, 2) := by decide +kernel
theorem dX3_addProduct_56 : decode cX3_addProduct 56 = .ok (.iload 4, 2) := by decide +kernel
theorem dX3_addProduct_58 : decode cX3_addProduct 58 = .ok (.aload_n 1, 1) := by decide +kernel
theorem dX3_addProduct_59 : decode cX3_addProduct 59 = .ok (.getfield 13, 3) := by decide +kernel
theorem dX3_addProduct_62 : decode cX3_addProduct 62 = .ok (.if_icmp .ge 80, 3) := by decide +kernel
theorem dX3_addProduct_65 : decode cX3_addProduct 65 = .ok (.aload_n 1, 1) := by decide +kernel
theorem dX3_addProduct_66 : decode cX3_addProduct 66 = .ok (.getfield 7, 3) := by decide +kernel
theorem dX3_addProduct_69 : decode cX3_addProduct 69 = .ok (.iload 4, 2) := by decide +kernel
theorem dX3_addProduct_71 : decode cX3_addProduct 71 = .ok (.iaload, 1) := by decide +kernel
theorem dX3_addProduct_72 : decode cX3_addProduct 72 = .ok (.iload_n 3, 1) := by decide +kernel
theorem dX3_addProduct_73 : decode cX3_addProduct 73 = .ok (.invokestatic 26, 3) := by decide +kernel
theorem dX3_addProduct_76 : decode cX3_addProduct 76 = .ok (.istore 5, 2) := by decide +kernel
theorem dX3_addProduct_78 : decode cX3_addProduct 78 = .ok (.iconst 0, 1) := by decide +kernel
theorem dX3_addProduct_79 : decode cX3_addProduct 79 = .ok (.istore 6, 2) := by decide +kernel
theorem dX3_addProduct_81 : decode cX3_addProduct 81 = .ok (.iload 6, 2) := by decide +kernel
theorem dX3_addProduct_83 : decode cX3_addProduct 83 = .ok (.aload_n 2, 1) := by decide +kernel
theorem dX3_addProduct_84 : decode cX3_addProduct 84 = .ok (.getfield 13, 3) := by decide +kernel
theorem dX3_addProduct_87 : decode cX3_addProduct 87 = .ok (.if_icmp .ge 49, 3) := by decide +kernel
theorem dX3_addProduct_90 : decode cX3_addProduct 90 = .ok (.iload 5, 2) := by decide +kernel
theorem dX3_addProduct_92 : decode cX3_addProduct 92 = .ok (.ifCond .eq 44, 3) := by decide +kernel
theorem dX3_addProduct_95 : decode cX3_addProduct 95 = .ok (.aload_n 0, 1) := by decide +kernel
theorem dX3_addProduct_96 : decode cX3_addProduct 96 = .ok (.getfield 7, 3) := by decide +kernel
theorem dX3_addProduct_99 : decode cX3_addProduct 99 = .ok (.iload 4, 2) := by decide +kernel
theorem dX3_addProduct_101 : decode cX3_addProduct 101 = .ok (.iload 6, 2) := by decide +kernel
theorem dX3_addProduct_103 : decode cX3_addProduct 103 = .ok (.iadd, 1) := by decide +kernel
theorem dX3_addProduct_104 : decode cX3_addProduct 104 = .ok (.aload_n 0, 1) := by decide +kernel
theorem dX3_addProduct_105 : decode cX3_addProduct 105 = .ok (.getfield 7, 3) := by decide +kernel
theorem dX3_addProduct_108 : decode cX3_addProduct 108 = .ok (.iload 4, 2) := by decide +kernel
theorem dX3_addProduct_110 : decode cX3_addProduct 110 = .ok (.iload 6, 2) := by decide +kernel
theorem dX3_addProduct_112 : decode cX3_addProduct 112 = .ok (.iadd, 1) := by decide +kernel
theorem dX3_addProduct_113 : decode cX3_addProduct 113 = .ok (.iaload, 1) := by decide +kernel
theorem dX3_addProduct_114 : decode cX3_addProduct 114 = .ok (.iload 5, 2) := by decide +kernel
theorem dX3_addProduct_116 : decode cX3_addProduct 116 = .ok (.aload_n 2, 1) := by decide +kernel
theorem dX3_addProduct_117 : decode cX3_addProduct 117 = .ok (.getfield 7, 3) := by decide +kernel
theorem dX3_addProduct_120 : decode cX3_addProduct 120 = .ok (.iload 6, 2) := by decide +kernel
theorem dX3_addProduct_122 : decode cX3_addProduct 122 = .ok (.iaload, 1) := by decide +kernel
theorem dX3_addProduct_123 : decode cX3_addProduct 123 = .ok (.invokestatic 26, 3) := by decide +kernel
theorem dX3_addProduct_126 : decode cX3_addProduct 126 = .ok (.invokestatic 32, 3) := by decide +kernel
theorem dX3_addProduct_129 : decode cX3_addProduct 129 = .ok (.iastore, 1) := by decide +kernel
theorem dX3_addProduct_130 : decode cX3_addProduct 130 = .ok (.iinc 6 1, 3) := by decide +kernel
theorem dX3_addProduct_133 : decode cX3_addProduct 133 = .ok (.goto (-52), 3) := by decide +kernel
theorem dX3_addProduct_136 : decode cX3_addProduct 136 = .ok (.iinc 4 1, 3) := by decide +kernel
theorem dX3_addProduct_139 : decode cX3_addProduct 139 = .ok (.goto (-83), 3) := by decide +kernel
theorem dX3_addProduct_142 : decode cX3_addProduct 142 = .ok (.aload_n 0, 1) := by decide +kernel
theorem dX3_addProduct_143 : decode cX3_addProduct 143 = .ok (.invokevirtual 23, 3) := by decide +kernel
theorem dX3_addProduct_146 : decode cX3_addProduct 146 = .ok (.return_, 1) := by decide +kernel
theorem dX3_shift_0 : decode cX3_shift 0 = .ok (.iconst 0, 1) := by decide +kernel
theorem dX3_shift_1 : decode cX3_shift 1 = .ok (.istore_n 2, 1) := by decide +kernel
theorem dX3_shift_2 : decode cX3_shift 2 = .ok (.iload_n 2, 1) := by decide +kernel
theorem dX3_shift_3 : decode cX3_shift 3 = .ok (.aload_n 0, 1) := by decide +kernel
theorem dX3_shift_4 : decode cX3_shift 4 = .ok (.getfield 13, 3) := by decide +kernel
theorem dX3_shift_7 : decode cX3_shift 7 = .ok (.if_icmp .ge 58, 3) := by decide +kernel
theorem dX3_shift_10 : decode cX3_shift 10 = .ok (.iload_n 1, 1) := by decide +kernel
theorem dX3_shift_11 : decode cX3_shift 11 = .ok (.ifCond .eq 54, 3) := by decide +kernel
theorem dX3_shift_14 : decode cX3_shift 14 = .ok (.aload_n 0, 1) := by decide +kernel
theorem dX3_shift_15 : decode cX3_shift 15 = .ok (.getfield 13, 3) := by decide +kernel
theorem dX3_shift_18 : decode cX3_shift 18 = .ok (.iconst 2, 1) := by decide +kernel
theorem dX3_shift_19 : decode cX3_shift 19 = .ok (.isub, 1) := by decide +kernel
theorem dX3_shift_20 : decode cX3_shift 20 = .ok (.istore_n 3, 1) := by decide +kernel
theorem dX3_shift_21 : decode cX3_shift 21 = .ok (.iload_n 3, 1) := by decide +kernel
theorem dX3_shift_22 : decode cX3_shift 22 = .ok (.iload_n 2, 1) := by decide +kernel
theorem dX3_shift_23 : decode cX3_shift 23 = .ok (.if_icmp .lt 36, 3) := by decide +kernel
theorem dX3_shift_26 : decode cX3_shift 26 = .ok (.aload_n 0, 1) := by decide +kernel
theorem dX3_shift_27 : decode cX3_shift 27 = .ok (.getfield 7, 3) := by decide +kernel
theorem dX3_shift_30 : decode cX3_shift 30 = .ok (.iload_n 3, 1) := by decide +kernel
theorem dX3_shift_31 : decode cX3_shift 31 = .ok (.aload_n 0, 1) := by decide +kernel
theorem dX3_shift_32 : decode cX3_shift 32 = .ok (.getfield 7, 3) := by decide +kernel
theorem dX3_shift_35 : decode cX3_shift 35 = .ok (.iload_n 3, 1) := by decide +kernel
theorem dX3_shift_36 : decode cX3_shift 36 = .ok (.iaload, 1) := by decide +kernel
theorem dX3_shift_37 : decode cX3_shift 37 = .ok (.aload_n 0, 1) := by decide +kernel
theorem dX3_shift_38 : decode cX3_shift 38 = .ok (.getfield 7, 3) := by decide +kernel
theorem dX3_shift_41 : decode cX3_shift 41 = .ok (.iload_n 3, 1) := by decide +kernel
theorem dX3_shift_42 : decode cX3_shift 42 = .ok (.iconst 1, 1) := by decide +kernel
theorem dX3_shift_43 : decode cX3_shift 43 = .ok (.iadd, 1) := by decide +kernel
theorem dX3_shift_44 : decode cX3_shift 44 = .ok (.iaload, 1) := by decide +kernel
theorem dX3_shift_45 : decode cX3_shift 45 = .ok (.iload_n 1, 1) := by decide +kernel
theorem dX3_shift_46 : decode cX3_shift 46 = .ok (.invokestatic 26, 3) := by decide +kernel
theorem dX3_shift_49 : decode cX3_shift 49 = .ok (.invokestatic 32, 3) := by decide +kernel
theorem dX3_shift_52 : decode cX3_shift 52 = .ok (.iastore, 1) := by decide +kernel
theorem dX3_shift_53 : decode cX3_shift 53 = .ok (.iinc 3 (-1), 3) := by decide +kernel
theorem dX3_shift_56 : decode cX3_shift 56 = .ok (.goto (-35), 3) := by decide +kernel
theorem dX3_shift_59 : decode cX3_shift 59 = .ok (.iinc 2 1, 3) := by decide +kernel
theorem dX3_shift_62 : decode cX3_shift 62 = .ok (.goto (-60), 3) := by decide +kernel
theorem dX3_shift_65 : decode cX3_shift 65 = .ok (.return_, 1) := by decide +kernel
theorem dX3_isSame_0 : decode cX3_isSame 0 = .ok (.aload_n 0, 1) := by decide +kernel
theorem dX3_isSame_1 : decode cX3_isSame 1 = .ok (.getfield 13, 3) := by decide +kernel
theorem dX3_isSame_4 : decode cX3_isSame 4 = .ok (.aload_n 1, 1) := by decide +kernel
theorem dX3_isSame_5 : decode cX3_isSame 5 = .ok (.getfield 13, 3) := by decide +kernel
theorem dX3_isSame_8 : decode cX3_isSame 8 = .ok (.if_icmp .ne 7, 3) := by decide +kernel
theorem dX3_isSame_11 : decode cX3_isSame 11 = .ok (.iconst 1, 1) := by decide +kernel
theorem dX3_isSame_12 : decode cX3_isSame 12 = .ok (.goto 4, 3) := by decide +kernel
theorem dX3_isSame_15 : decode cX3_isSame 15 = .ok (.iconst 0, 1) := by decide +kernel
theorem dX3_isSame_16 : decode cX3_isSame 16 = .ok (.istore_n 2, 1) := by decide +kernel
theorem dX3_isSame_17 : decode cX3_isSame 17 = .ok (.iconst 0, 1) := by decide +kernel
theorem dX3_isSame_18 : decode cX3_isSame 18 = .ok (.istore_n 3, 1) := by decide +kernel
theorem dX3_isSame_19 : decode cX3_isSame 19 = .ok (.iload_n 3, 1) := by decide +kernel
theorem dX3_isSame_20 : decode cX3_isSame 20 = .ok (.aload_n 0, 1) := by decide +kernel
theorem dX3_isSame_21 : decode cX3_isSame 21 = .ok (.getfield 13, 3) := by decide +kernel
theorem dX3_isSame_24 : decode cX3_isSame 24 = .ok (.if_icmp .ge 34, 3) := by decide +kernel
theorem dX3_isSame_27 : decode cX3_isSame 27 = .ok (.iload_n 2, 1) := by decide +kernel
theorem dX3_isSame_28 : decode cX3_isSame 28 = .ok (.ifCond .eq 30, 3) := by decide +kernel
theorem dX3_isSame_31 : decode cX3_isSame 31 = .ok (.aload_n 0, 1) := by decide +kernel
theorem dX3_isSame_32 : decode cX3_isSame 32 = .ok (.getfield 7, 3) := by decide +kernel
theorem dX3_isSame_35 : decode cX3_isSame 35 = .ok (.iload_n 3, 1) := by decide +kernel
theorem dX3_isSame_36 : decode cX3_isSame 36 = .ok (.iaload, 1) := by decide +kernel
theorem dX3_isSame_37 : decode cX3_isSame 37 = .ok (.aload_n 1, 1) := by decide +kernel
theorem dX3_isSame_38 : decode cX3_isSame 38 = .ok (.getfield 7, 3) := by decide +kernel
theorem dX3_isSame_41 : decode cX3_isSame 41 = .ok (.iload_n 3, 1) := by decide +kernel
theorem dX3_isSame_42 : decode cX3_isSame 42 = .ok (.iaload, 1) := by decide +kernel
theorem dX3_isSame_43 : decode cX3_isSame 43 = .ok (.if_icmp .ne 7, 3) := by decide +kernel
theorem dX3_isSame_46 : decode cX3_isSame 46 = .ok (.iconst 1, 1) := by decide +kernel
theorem dX3_isSame_47 : decode cX3_isSame 47 = .ok (.goto 4, 3) := by decide +kernel
theorem dX3_isSame_50 : decode cX3_isSame 50 = .ok (.iconst 0, 1) := by decide +kernel
theorem dX3_isSame_51 : decode cX3_isSame 51 = .ok (.istore_n 2, 1) := by decide +kernel
theorem dX3_isSame_52 : decode cX3_isSame 52 = .ok (.iinc 3 1, 3) := by decide +kernel
theorem dX3_isSame_55 : decode cX3_isSame 55 = .ok (.goto (-36), 3) := by decide +kernel
theorem dX3_isSame_58 : decode cX3_isSame 58 = .ok (.iload_n 2, 1) := by decide +kernel
theorem dX3_isSame_59 : decode cX3_isSame 59 = .ok (.ireturn, 1) := by decide +kernel
theorem dX3_add_0 : decode cX3_add 0 = .ok (.aload_n 0, 1) := by decide +kernel
theorem dX3_add_1 : decode cX3_add 1 = .ok (.getfield 13, 3) := by decide +kernel
theorem dX3_add_4 : decode cX3_add 4 = .ok (.aload_n 1, 1) := by decide +kernel
theorem dX3_add_5 : decode cX3_add 5 = .ok (.getfield 13, 3) := by decide +kernel
theorem dX3_add_8 : decode cX3_add 8 = .ok (.iload_n 3, 1) := by decide +kernel
theorem dX3_add_9 : decode cX3_add 9 = .ok (.iadd, 1) := by decide +kernel
theorem dX3_add_10 : decode cX3_add 10 = .ok (.if_icmp .ge 23, 3) := by decide +kernel
theorem dX3_add_13 : decode cX3_add 13 = .ok (.aload_n 0, 1) := by decide +kernel
theorem dX3_add_14 : decode cX3_add 14 = .ok (.getfield 7, 3) := by decide +kernel
theorem dX3_add_17 : decode cX3_add 17 = .ok (.aload_n 0, 1) := by decide +kernel
theorem dX3_add_18 : decode cX3_add 18 = .ok (.dup, 1) := by decide +kernel
theorem dX3_add_19 : decode cX3_add 19 = .ok (.getfield 13, 3) := by decide +kernel
theorem dX3_add_22 : decode cX3_add 22 = .ok (.dup_x1, 1) := by decide +kernel
theorem dX3_add_23 : decode cX3_add 23 = .ok (.iconst 1, 1) := by decide +kernel
theorem dX3_add_24 : decode cX3_add 24 = .ok (.iadd, 1) := by decide +kernel
theorem dX3_add_25 : decode cX3_add 25 = .ok (.putfield 13, 3) := by decide +kernel
theorem dX3_add_28 : decode cX3_add 28 = .ok (.iconst 0, 1) := by decide +kernel
theorem dX3_add_29 : decode cX3_add 29 = .ok (.iastore, 1) := by decide +kernel
theorem dX3_add_30 : decode cX3_add 30 = .ok (.goto (-30), 3) := by decide +kernel
theorem dX3_add_33 : decode cX3_add 33 = .ok (.iconst 0, 1) := by decide +kernel
theorem dX3_add_34 : decode cX3_add 34 = .ok (.istore 4, 2) := by decide +kernel
theorem dX3_add_36 : decode cX3_add 36 = .ok (.iload 4, 2) := by decide +kernel
theorem dX3_add_38 : decode cX3_add 38 = .ok (.aload_n 1, 1) := by decide +kernel
theorem dX3_add_39 : decode cX3_add 39 = .ok (.getfield 13, 3) := by decide +kernel
theorem dX3_add_42 : decode cX3_add 42 = .ok (.if_icmp .ge 41, 3) := by decide +kernel
theorem dX3_add_45 : decode cX3_add 45 = .ok (.aload_n 0, 1) := by decide +kernel
theorem dX3_add_46 : decode cX3_add 46 = .ok (.getfield 7, 3) := by decide +kernel
theorem dX3_add_49 : decode cX3_add 49 = .ok (.iload 4, 2) := by decide +kernel
theorem dX3_add_51 : decode cX3_add 51 = .ok (.iload_n 3, 1) := by decide +kernel
theorem dX3_add_52 : decode cX3_add 52 = .ok (.iadd, 1) := by decide +kernel
theorem dX3_add_53 : decode cX3_add 53 = .ok (.aload_n 0, 1) := by decide +kernel
theorem dX3_add_54 : decode cX3_add 54 = .ok (.getfield 7, 3) := by decide +kernel
theorem dX3_add_57 : decode cX3_add 57 = .ok (.iload 4, 2) := by decide +kernel
theorem dX3_add_59 : decode cX3_add 59 = .ok (.iload_n 3, 1) := by decide +kernel
theorem dX3_add_60 : decode cX3_add 60 = .ok (.iadd, 1) := by decide +kernel
theorem dX3_add_61 : decode cX3_add 61 = .ok (.iaload, 1) := by decide +kernel
theorem dX3_add_62 : decode cX3_add 62 = .ok (.aload_n 1, 1) := by decide +kernel
theorem dX3_add_63 : decode cX3_add 63 = .ok (.getfield 7, 3) := by decide +kernel
theorem dX3_add_66 : decode cX3_add 66 = .ok (.iload 4, 2) := by decide +kernel
theorem dX3_add_68 : decode cX3_add 68 = .ok (.iaload, 1) := by decide +kernel
theorem dX3_add_69 : decode cX3_add 69 = .ok (.iload_n 2, 1) := by decide +kernel
theorem dX3_add_70 : decode cX3_add 70 = .ok (.invokestatic 26, 3) := by decide +kernel
theorem dX3_add_73 : decode cX3_add 73 = .ok (.invokestatic 32, 3) := by decide +kernel
theorem dX3_add_76 : decode cX3_add 76 = .ok (.iastore, 1) := by decide +kernel
theorem dX3_add_77 : decode cX3_add 77 = .ok (.iinc 4 1, 3) := by decide +kernel
theorem dX3_add_80 : decode cX3_add 80 = .ok (.goto (-44), 3) := by decide +kernel
theorem dX3_add_83 : decode cX3_add 83 = .ok (.aload_n 0, 1) := by decide +kernel
theorem dX3_add_84 : decode cX3_add 84 = .ok (.invokevirtual 23, 3) := by decide +kernel
theorem dX3_add_87 : decode cX3_add 87 = .ok (.return_, 1) := by decide +kernel
theorem dX3_set_0 : decode cX3_set 0 = .ok (.aload_n 0, 1) := by decide +kernel
theorem dX3_set_1 : decode cX3_set 1 = .ok (.getfield 7, 3) := by decide +kernel
theorem dX3_set_4 : decode cX3_set 4 = .ok (.iconst 0, 1) := by decide +kernel
theorem dX3_set_5 : decode cX3_set 5 = .ok (.iload_n 1, 1) := by decide +kernel
theorem dX3_set_6 : decode cX3_set 6 = .ok (.iastore, 1) := by decide +kernel
theorem dX3_set_7 : decode cX3_set 7 = .ok (.aload_n 0, 1) := by decide +kernel
theorem dX3_set_8 : decode cX3_set 8 = .ok (.iload_n 1, 1) := by decide +kernel
theorem dX3_set_9 : decode cX3_set 9 = .ok (.ifCond .ne 7, 3) := by decide +kernel
theorem dX3_set_12 : decode cX3_set 12 = .ok (.iconst 0, 1) := by decide +kernel
theorem dX3_set_13 : decode cX3_set 13 = .ok (.goto 4, 3) := by decide +kernel
theorem dX3_set_16 : decode cX3_set 16 = .ok (.iconst 1, 1) := by decide +kernel
theorem dX3_set_17 : decode cX3_set 17 = .ok (.putfield 13, 3) := by decide +kernel
theorem dX3_set_20 : decode cX3_set 20 = .ok (.return_, 1) := by decide +kernel
theorem dX3_put_0 : decode cX3_put 0 = .ok (.aload_n 0, 1) := by decide +kernel
theorem dX3_put_1 : decode cX3_put 1 = .ok (.getfield 13, 3) := by decide +kernel
theorem dX3_put_4 : decode cX3_put 4 = .ok (.iload_n 1, 1) := by decide +kernel
theorem dX3_put_5 : decode cX3_put 5 = .ok (.if_icmp .gt 23, 3) := by decide +kernel
theorem dX3_put_8 : decode cX3_put 8 = .ok (.aload_n 0, 1) := by decide +kernel
theorem dX3_put_9 : decode cX3_put 9 = .ok (.getfield 7, 3) := by decide +kernel
theorem dX3_put_12 : decode cX3_put 12 = .ok (.aload_n 0, 1) := by decide +kernel
theorem dX3_put_13 : decode cX3_put 13 = .ok (.dup, 1) := by decide +kernel
theorem dX3_put_14 : decode cX3_put 14 = .ok (.getfield 13, 3) := by decide +kernel
theorem dX3_put_17 : decode cX3_put 17 = .ok (.dup_x1, 1) := by decide +kernel
theorem dX3_put_18 : decode cX3_put 18 = .ok (.iconst 1, 1) := by decide +kernel
theorem dX3_put_19 : decode cX3_put 19 = .ok (.iadd, 1) := by decide +kernel
theorem dX3_put_20 : decode cX3_put 20 = .ok (.putfield 13, 3) := by decide +kernel
theorem dX3_put_23 : decode cX3_put 23 = .ok (.iconst 0, 1) := by decide +kernel
theorem dX3_put_24 : decode cX3_put 24 = .ok (.iastore, 1) := by decide +kernel
theorem dX3_put_25 : decode cX3_put 25 = .ok (.goto (-25), 3) := by decide +kernel
theorem dX3_put_28 : decode cX3_put 28 = .ok (.aload_n 0, 1) := by decide +kernel
theorem dX3_put_29 : decode cX3_put 29 = .ok (.getfield 7, 3) := by decide +kernel
theorem dX3_put_32 : decode cX3_put 32 = .ok (.iload_n 1, 1) := by decide +kernel
theorem dX3_put_33 : decode cX3_put 33 = .ok (.iload_n 2, 1) := by decide +kernel
theorem dX3_put_34 : decode cX3_put 34 = .ok (.iastore, 1) := by decide +kernel
theorem dX3_put_35 : decode cX3_put 35 = .ok (.aload_n 0, 1) := by decide +kernel
theorem dX3_put_36 : decode cX3_put 36 = .ok (.invokevirtual 23, 3) := by decide +kernel
theorem dX3_put_39 : decode cX3_put 39 = .ok (.return_, 1) := by decide +kernel
abbrev W_X3_clear (g : GX) (d : Nat) (av : List Value) (Q : QT) (n : Nat) (pc : Nat) (ls : LV) (stk : List Value) (h : Hp) : Prop := RJ g m_X3_clear d 0 0 av Q pc ls stk n h 0 0
theorem s_X3_clear_0 {g : GX} {d : Nat} {av : List Value} {Q : QT} {n : Nat} {h : Hp} {a0 : Nat} (hp : g.2.2.2.2 = true) (t0 : lay a0 = (0, 3, 2)) (H : ∀ h1, h1 = wi h a0 1 (0 : Int32) → (Q none n h1)) : W_X3_clear g d av Q n 0 [some (.ref a0)] [] h := by
  refine r_aload_n dX3_clear_0 rfl rfl ?_
  refine r_iconst (v := (0 : Int32)) dX3_clear_1 rfl ?_
  refine m_putI hp fw_X3_13 dX3_clear_2 rfl rfl t0 (fun h1 eh1 => ?_)
  replace H := H h1 eh1
  exact r_vret dX3_clear_5 rfl (Nat.le_refl _) (Nat.le_refl _) H
abbrev W_X3_trim (g : GX) (d : Nat) (av : List Value) (Q : QT) (n : Nat) (pc : Nat) (ls : LV) (stk : List Value) (h : Hp) : Prop := RJ g m_X3_trim d 0 0 av Q pc ls stk n h 0 0
theorem s_X3_trim_0 {g : GX} {d : Nat} {av : List Value} {Q : QT} {n : Nat} {h : Hp} {a0 : Nat} (hp : g.2.2.2.2 = true) (t0 : lay a0 = (0, 3, 2)) (H : (((ri h a0 1) ≤ (0 : Int32)) → (Q none n h)) ∧ ((¬ (ri h a0 1) ≤ (0 : Int32)) → (vp_in ((ri h a0 1) - (1 : Int32)) (rm (a0 + 1)) ∧ (((¬ (ri h (a0 + 1) (((ri h a0 1) - (1 : Int32))).toNatClampNeg) = (0 : Int32)) → (Q none n h)) ∧ (((ri h (a0 + 1) (((ri h a0 1) - (1 : Int32))).toNatClampNeg) = (0 : Int32)) → (∀ h1, h1 = wi h a0 1 ((ri h a0 1) - (1 : Int32)) → (W_X3_trim g d av Q n 0 [some (.ref a0)] [] h1))))))) : W_X3_trim g d av Q n 0 [some (.ref a0)] [] h := by
  refine r_aload_n dX3_trim_0 rfl rfl ?_
  refine m_getI hp fw_X3_13 dX3_trim_1 rfl t0 ?_
  refine r_if_le (tgt := 34) dX3_trim_4 rfl (fun cH => ?_) (fun cH => ?_)
  · replace H := H.1 cH
    exact r_vret dX3_trim_34 rfl (Nat.le_refl _) (Nat.le_refl _) H
  · replace H := H.2 cH
    refine r_aload_n dX3_trim_7 rfl rfl ?_
    refine m_getF (x := (a0 + 1)) hp fw_X3_7 dX3_trim_8 rfl t0 (ff_3_0 t0) ?_
    refine r_aload_n dX3_trim_11 rfl rfl ?_
    refine m_getI hp fw_X3_13 dX3_trim_12 rfl t0 ?_
    refine r_iconst (v := (1 : Int32)) dX3_trim_15 rfl ?_
    refine r_isub dX3_trim_16 ?_
    refine m_iald hp dX3_trim_17 (lf_3_0 t0) H.1 ?_
    replace H := H.2
    refine r_if_ne (tgt := 34) dX3_trim_18 rfl (fun cH => ?_) (fun cH => ?_)
    · replace H := H.1 cH
      exact r_vret dX3_trim_34 rfl (Nat.le_refl _) (Nat.le_refl _) H
    · replace H := H.2 cH
      refine r_aload_n dX3_trim_21 rfl rfl ?_
      refine r_dup dX3_trim_22 rfl ?_
      refine m_getI hp fw_X3_13 dX3_trim_23 rfl t0 ?_
      refine r_iconst (v := (1 : Int32)) dX3_trim_26 rfl ?_
      refine r_isub dX3_trim_27 ?_
      refine m_putI hp fw_X3_13 dX3_trim_28 rfl rfl t0 (fun h1 eh1 => ?_)
      replace H := H h1 eh1
      refine r_goto (tgt := 0) dX3_trim_31 rfl ?_
      exact H
abbrev W_X3_copy (g : GX) (d : Nat) (av : List Value) (Q : QT) (n : Nat) (pc : Nat) (ls : LV) (stk : List Value) (h : Hp) : Prop := RJ g m_X3_copy (d + 1) 0 0 av Q pc ls stk n h 0 0
theorem s_X3_copy_0 {g : GX} {d : Nat} {av : List Value} {Q : QT} {n : Nat} {h : Hp} {a0 : Nat} {a1 : Nat} (hp : g.2.2.2.2 = true) (t0 : lay a0 = (0, 3, 2)) (t1 : lay a1 = (0, 3, 2)) (H : ¬ (0 : Int32) < 0 ∧ ¬ (0 : Int32) < 0 ∧ ¬ (ri h a1 1) < 0 ∧ ((0 : Int32)).toNatClampNeg + ((ri h a1 1)).toNatClampNeg ≤ (rm (a1 + 1)) ∧ ((0 : Int32)).toNatClampNeg + ((ri h a1 1)).toNatClampNeg ≤ (rm (a0 + 1)) ∧ ∀ h1, h1 = cpy h (a1 + 1) ((0 : Int32)).toNatClampNeg (a0 + 1) ((0 : Int32)).toNatClampNeg ((ri h a1 1)).toNatClampNeg → (∀ h2, h2 = wi h1 a0 1 (ri h1 a1 1) → (Q none n h2))) : W_X3_copy g d av Q n 0 [some (.ref a0), some (.ref a1)] [] h := by
  refine r_aload_n dX3_copy_0 rfl rfl ?_
  refine m_getF (x := (a1 + 1)) hp fw_X3_7 dX3_copy_1 rfl t1 (ff_3_0 t1) ?_
  refine r_iconst (v := (0 : Int32)) dX3_copy_4 rfl ?_
  refine r_aload_n dX3_copy_5 rfl rfl ?_
  refine m_getF (x := (a0 + 1)) hp fw_X3_7 dX3_copy_6 rfl t0 (ff_3_0 t0) ?_
  refine r_iconst (v := (0 : Int32)) dX3_copy_9 rfl ?_
  refine r_aload_n dX3_copy_10 rfl rfl ?_
  refine m_getI hp fw_X3_13 dX3_copy_11 rfl t1 ?_
  obtain ⟨c1, c2, c3, c4, c5, H⟩ := H
  refine m_copy hp ar_X3_17 dX3_copy_14 rfl rfl (lf_3_0 t1) (lf_3_0 t0) c1 c2 c3 c4 c5 (fun _ _ => rfl) (Nat.le_of_ble_eq_true rfl) (Nat.le_add_left 1 d) (fun h1 eh1 => ?_)
  replace H := H h1 eh1
  refine r_aload_n dX3_copy_17 rfl rfl ?_
  refine r_aload_n dX3_copy_18 rfl rfl ?_
  refine m_getI hp fw_X3_13 dX3_copy_19 rfl t1 ?_
  refine m_putI hp fw_X3_13 dX3_copy_22 rfl rfl t0 (fun h2 eh2 => ?_)
  replace H := H h2 eh2
  exact r_vret dX3_copy_25 rfl (Nat.le_refl _) (Nat.le_refl _) H
abbrev W_X3_isZero (g : GX) (d : Nat) (av : List Value) (Q : QT) (n : Nat) (pc : Nat) (ls : LV) (stk : List Value) (h : Hp) : Prop := RJ g m_X3_isZero d 0 0 av Q pc ls stk n h 0 0
theorem s_X3_isZero_0 {g : GX} {d : Nat} {av : List Value} {Q : QT} {n : Nat} {h : Hp} {a0 : Nat} (hp : g.2.2.2.2 = true) (t0 : lay a0 = (0, 3, 2)) (H : ((¬ (ri h a0 1) = (0 : Int32)) → (Q (some (.int (0 : Int32))) n h)) ∧ (((ri h a0 1) = (0 : Int32)) → (Q (some (.int (1 : Int32))) n h))) : W_X3_isZero g d av Q n 0 [some (.ref a0)] [] h := by
  refine r_aload_n dX3_isZero_0 rfl rfl ?_
  refine m_getI hp fw_X3_13 dX3_isZero_1 rfl t0 ?_
  refine r_if_ne (tgt := 11) dX3_isZero_4 rfl (fun cH => ?_) (fun cH => ?_)
  · replace H := H.1 cH
    refine r_iconst (v := (0 : Int32)) dX3_isZero_11 rfl ?_
    exact r_zret dX3_isZero_12 rfl rfl (Nat.le_refl _) (Nat.le_refl _) H
  · replace H := H.2 cH
    refine r_iconst (v := (1 : Int32)) dX3_isZero_7 rfl ?_
    refine r_goto (tgt := 12) dX3_isZero_8 rfl ?_
    exact r_zret dX3_isZero_12 rfl rfl (Nat.le_refl _) (Nat.le_refl _) H
abbrev W_X3_divide (g : GX) (d : Nat) (av : List Value) (Q : QT) (n : Nat) (pc : Nat) (ls : LV) (stk : List Value) (h : Hp) : Prop := RJ g m_X3_divide (d + 1) 0 0 av Q pc ls stk n h 0 0
theorem s_X3_divide_0 {g : GX} {d : Nat} {av : List Value} {Q : QT} {n : Nat} {h : Hp} {a0 : Nat} {a1 : Nat} {a2 : Nat} (hp : g.2.2.2.2 = true) (t0 : lay a0 = (0, 3, 2)) (t1 : lay a1 = (0, 3, 2)) (t2 : lay a2 = (0, 3, 2)) (H : CallI g m_J3_max d [.int (0 : Int32), .int (((ri h a0 1) - (ri h a1 1)) + (1 : Int32))] n h (fun v1 h1 => (∀ h2, h2 = wi h1 a2 1 v1 → (W_X3_divide g d av Q n 25 [some (.ref a0), some (.ref a1), some (.ref a2), some (.int ((ri h a0 1) - (ri h a1 1))), none, none, none, none] [] h2)))) : W_X3_divide g d av Q n 0 [some (.ref a0), some (.ref a1), some (.ref a2), none, none, none, none, none] [] h := by
  refine r_aload_n dX3_divide_0 rfl rfl ?_
  refine m_getI hp fw_X3_13 dX3_divide_1 rfl t0 ?_
  refine r_aload_n dX3_divide_4 rfl rfl ?_
  refine m_getI hp fw_X3_13 dX3_divide_5 rfl t1 ?_
  refine r_isub dX3_divide_8 ?_
  refine r_istore_n (ls2 := [some (.ref a0), some (.ref a1), some (.ref a2), some (.int ((ri h a0 1) - (ri h a1 1))), none, none, none, none]) dX3_divide_9 rfl (by decide) rfl ?_
  refine r_aload_n dX3_divide_10 rfl rfl ?_
  refine r_ifnull dX3_divide_11 ?_
  refine r_aload_n dX3_divide_14 rfl rfl ?_
  refine r_iconst (v := (0 : Int32)) dX3_divide_15 rfl ?_
  refine r_iload_n dX3_divide_16 rfl rfl ?_
  refine r_iconst (v := (1 : Int32)) dX3_divide_17 rfl ?_
  refine r_iadd dX3_divide_18 ?_
  refine k_SI (As := [.int (0 : Int32), .int (((ri h a0 1) - (ri h a1 1)) + (1 : Int32))]) (stk := [.ref a2]) cs_X3_39 dX3_divide_19 rfl (Nat.le_of_ble_eq_true rfl) (H.mono (fun v1 h1 H => ?_)) ⟨Nat.le_refl _, Nat.le_refl _⟩
  refine m_putI hp fw_X3_13 dX3_divide_22 rfl rfl t2 (fun h2 eh2 => ?_)
  replace H := H h2 eh2
  exact H
theorem s_X3_divide_25 {g : GX} {d : Nat} {av : List Value} {Q : QT} {n : Nat} {h : Hp} {a0 : Nat} {a1 : Nat} {a2 : Nat} {x3 : Int32} (hp : g.2.2.2.2 = true) (t0 : lay a0 = (0, 3, 2)) (t1 : lay a1 = (0, 3, 2)) (t2 : lay a2 = (0, 3, 2)) (H : CallI g m_X3_head d [.ref a1] n h (fun v1 h1 => (CallI g m_X0_inverse d [.int v1] n h1 (fun v2 h2 => (W_X3_divide g d av Q n 37 [some (.ref a0), some (.ref a1), some (.ref a2), none, some (.int v2), some (.int x3), none, none] [] h2))))) : W_X3_divide g d av Q n 25 [some (.ref a0), some (.ref a1), some (.ref a2), some (.int x3), none, none, none, none] [] h := by
  refine r_aload_n dX3_divide_25 rfl rfl ?_
  refine k_VI (As := []) (stk := []) hp cv_X3_44 dX3_divide_26 rfl (Nat.le_of_ble_eq_true rfl) t1 (H.mono (fun v1 h1 H => ?_)) ⟨Nat.le_refl _, Nat.le_refl _⟩
  refine k_SI (As := [.int v1]) (stk := []) cs_X3_48 dX3_divide_29 rfl (Nat.le_of_ble_eq_true rfl) (H.mono (fun v2 h2 H => ?_)) ⟨Nat.le_refl _, Nat.le_refl _⟩
  refine r_istore (ls2 := [some (.ref a0), some (.ref a1), some (.ref a2), some (.int x3), some (.int v2), none, none, none]) dX3_divide_32 (by decide) rfl ?_
  refine r_iload_n dX3_divide_34 rfl rfl ?_
  refine r_istore (ls2 := [some (.ref a0), some (.ref a1), some (.ref a2), some (.int x3), some (.int v2), some (.int x3), none, none]) dX3_divide_35 (by decide) rfl ?_
  refine r_prune [true, true, true, false, true, true, false, false] (ls2 := [some (.ref a0), some (.ref a1), some (.ref a2), none, some (.int v2), some (.int x3), none, none]) rfl ?_
  exact H
theorem s_X3_divide_37 {g : GX} {d : Nat} {av : List Value} {Q : QT} {n : Nat} {h : Hp} {a0 : Nat} {a1 : Nat} {a2 : Nat} {x4 : Int32} {x5 : Int32} (hp : g.2.2.2.2 = true) (t0 : lay a0 = (0, 3, 2)) (t1 : lay a1 = (0, 3, 2)) (t2 : lay a2 = (0, 3, 2)) (H : ((x5 < (0 : Int32)) → (CallI g m_J3_min d [.int (ri h a0 1), .int ((ri h a1 1) - (1 : Int32))] n h (fun v1 h1 => (∀ h2, h2 = wi h1 a0 1 v1 → (CallV g m_X3_trim d [.ref a0] n h2 (fun h3 => (CallV g m_X3_trim d [.ref a2] n h3 (fun h4 => (Q none n h4))))))))) ∧ ((¬ x5 < (0 : Int32)) → (vp_in ((x5 + (ri h a1 1)) - (1 : Int32)) (rm (a0 + 1)) ∧ (CallI g m_X0_times d [.int (ri h (a0 + 1) (((x5 + (ri h a1 1)) - (1 : Int32))).toNatClampNeg), .int x4] n h (fun v5 h5 => (vp_in x5 (rm (a2 + 1)) ∧ ∀ h6, h6 = wi h5 (a2 + 1) (x5).toNatClampNeg v5 → (W_X3_divide g d av Q n 76 [some (.ref a0), some (.ref a1), some (.ref a2), none, some (.int x4), some (.int x5), some (.int v5), none] [] h6))))))) : W_X3_divide g d av Q n 37 [some (.ref a0), some (.ref a1), some (.ref a2), none, some (.int x4), some (.int x5), none, none] [] h := by
  refine r_iload dX3_divide_37 rfl ?_
  refine r_if_lt (tgt := 140) dX3_divide_39 rfl (fun cH => ?_) (fun cH => ?_)
  · replace H := H.1 cH
    refine r_aload_n dX3_divide_140 rfl rfl ?_
    refine r_aload_n dX3_divide_141 rfl rfl ?_
    refine m_getI hp fw_X3_13 dX3_divide_142 rfl t0 ?_
    refine r_aload_n dX3_divide_145 rfl rfl ?_
    refine m_getI hp fw_X3_13 dX3_divide_146 rfl t1 ?_
    refine r_iconst (v := (1 : Int32)) dX3_divide_149 rfl ?_
    refine r_isub dX3_divide_150 ?_
    refine k_SI (As := [.int (ri h a0 1), .int ((ri h a1 1) - (1 : Int32))]) (stk := [.ref a0]) cs_X3_55 dX3_divide_151 rfl (Nat.le_of_ble_eq_true rfl) (H.mono (fun v1 h1 H => ?_)) ⟨Nat.le_refl _, Nat.le_refl _⟩
    refine m_putI hp fw_X3_13 dX3_divide_154 rfl rfl t0 (fun h2 eh2 => ?_)
    replace H := H h2 eh2
    refine r_aload_n dX3_divide_157 rfl rfl ?_
    refine k_VV (As := []) (stk := []) hp cv_X3_23 dX3_divide_158 rfl (Nat.le_of_ble_eq_true rfl) t0 (H.mono (fun h3 H => ?_)) ⟨Nat.le_refl _, Nat.le_refl _⟩
    refine r_aload_n dX3_divide_161 rfl rfl ?_
    refine r_ifnull dX3_divide_162 ?_
    refine r_aload_n dX3_divide_165 rfl rfl ?_
    refine k_VV (As := []) (stk := []) hp cv_X3_23 dX3_divide_166 rfl (Nat.le_of_ble_eq_true rfl) t2 (H.mono (fun h4 H => ?_)) ⟨Nat.le_refl _, Nat.le_refl _⟩
    exact r_vret dX3_divide_169 rfl (Nat.le_refl _) (Nat.le_refl _) H
  · replace H := H.2 cH
    refine r_aload_n dX3_divide_42 rfl rfl ?_
    refine m_getF (x := (a0 + 1)) hp fw_X3_7 dX3_divide_43 rfl t0 (ff_3_0 t0) ?_
    refine r_iload dX3_divide_46 rfl ?_
    refine r_aload_n dX3_divide_48 rfl rfl ?_
    refine m_getI hp fw_X3_13 dX3_divide_49 rfl t1 ?_
    refine r_iadd dX3_divide_52 ?_
    refine r_iconst (v := (1 : Int32)) dX3_divide_53 rfl ?_
    refine r_isub dX3_divide_54 ?_
    refine m_iald hp dX3_divide_55 (lf_3_0 t0) H.1 ?_
    replace H := H.2
    refine r_iload dX3_divide_56 rfl ?_
    refine k_SI (As := [.int (ri h (a0 + 1) (((x5 + (ri h a1 1)) - (1 : Int32))).toNatClampNeg), .int x4]) (stk := []) cs_X3_26 dX3_divide_58 rfl (Nat.le_of_ble_eq_true rfl) (H.mono (fun v5 h5 H => ?_)) ⟨Nat.le_refl _, Nat.le_refl _⟩
    refine r_istore (ls2 := [some (.ref a0), some (.ref a1), some (.ref a2), none, some (.int x4), some (.int x5), some (.int v5), none]) dX3_divide_61 (by decide) rfl ?_
    refine r_aload_n dX3_divide_63 rfl rfl ?_
    refine r_ifnull dX3_divide_64 ?_
    refine r_aload_n dX3_divide_67 rfl rfl ?_
    refine m_getF (x := (a2 + 1)) hp fw_X3_7 dX3_divide_68 rfl t2 (ff_3_0 t2) ?_
    refine r_iload dX3_divide_71 rfl ?_
    refine r_iload dX3_divide_73 rfl ?_
    refine m_iast hp dX3_divide_75 (lf_3_0 t2) H.1 (fun h6 eh6 => ?_)
    replace H := H.2 h6 eh6
    exact H
theorem s_X3_divide_76 {g : GX} {d : Nat} {av : List Value} {Q : QT} {n : Nat} {h : Hp} {a0 : Nat} {a1 : Nat} {a2 : Nat} {x4 : Int32} {x5 : Int32} {x6 : Int32} (hp : g.2.2.2.2 = true) (t0 : lay a0 = (0, 3, 2)) (t1 : lay a1 = (0, 3, 2)) (t2 : lay a2 = (0, 3, 2)) (H : W_X3_divide g d av Q n 79 [some (.ref a0), some (.ref a1), some (.ref a2), none, some (.int x4), some (.int x5), some (.int x6), some (.int (0 : Int32))] [] h) : W_X3_divide g d av Q n 76 [some (.ref a0), some (.ref a1), some (.ref a2), none, some (.int x4), some (.int x5), some (.int x6), none] [] h := by
  refine r_iconst (v := (0 : Int32)) dX3_divide_76 rfl ?_
  refine r_istore (ls2 := [some (.ref a0), some (.ref a1), some (.ref a2), none, some (.int x4), some (.int x5), some (.int x6), some (.int (0 : Int32))]) dX3_divide_77 (by decide) rfl ?_
  exact H
theorem s_X3_divide_79 {g : GX} {d : Nat} {av : List Value} {Q : QT} {n : Nat} {h : Hp} {a0 : Nat} {a1 : Nat} {a2 : Nat} {x4 : Int32} {x5 : Int32} {x6 : Int32} {x7 : Int32} (hp : g.2.2.2.2 = true) (t0 : lay a0 = (0, 3, 2)) (t1 : lay a1 = (0, 3, 2)) (t2 : lay a2 = (0, 3, 2)) (H : (((ri h a1 1) ≤ x7) → (W_X3_divide g d av Q n 134 [some (.ref a0), some (.ref a1), some (.ref a2), none, some (.int x4), some (.int x5), none, none] [] h)) ∧ ((¬ (ri h a1 1) ≤ x7) → (((x6 = (0 : Int32)) → (W_X3_divide g d av Q n 134 [some (.ref a0), some (.ref a1), some (.ref a2), none, some (.int x4), some (.int x5), none, none] [] h)) ∧ ((¬ x6 = (0 : Int32)) → (vp_in (x5 + x7) (rm (a0 + 1)) ∧ (vp_in x7 (rm (a1 + 1)) ∧ (CallI g m_X0_times d [.int x6, .int (ri h (a1 + 1) (x7).toNatClampNeg)] n h (fun v1 h1 => (CallI g m_X0_less d [.int (ri h (a0 + 1) ((x5 + x7)).toNatClampNeg), .int v1] n h1 (fun v2 h2 => (vp_in (x5 + x7) (rm (a0 + 1)) ∧ ∀ h3, h3 = wi h2 (a0 + 1) ((x5 + x7)).toNatClampNeg v2 → (W_X3_divide g d av Q n 79 [some (.ref a0), some (.ref a1), some (.ref a2), none, some (.int x4), some (.int x5), some (.int x6), some (.int (x7 + (1 : Int32)))] [] h3)))))))))))) : W_X3_divide g d av Q n 79 [some (.ref a0), some (.ref a1), some (.ref a2), none, some (.int x4), some (.int x5), some (.int x6), some (.int x7)] [] h := by
  refine r_iload dX3_divide_79 rfl ?_
  refine r_aload_n dX3_divide_81 rfl rfl ?_
  refine m_getI hp fw_X3_13 dX3_divide_82 rfl t1 ?_
  refine r_icmp_ge (tgt := 134) dX3_divide_85 rfl (fun cH => ?_) (fun cH => ?_)
  · replace H := H.1 cH
    refine r_prune [true, true, true, false, true, true, false, false] (ls2 := [some (.ref a0), some (.ref a1), some (.ref a2), none, some (.int x4), some (.int x5), none, none]) rfl ?_
    exact H
  · replace H := H.2 cH
    refine r_iload dX3_divide_88 rfl ?_
    refine r_if_eq (tgt := 134) dX3_divide_90 rfl (fun cH => ?_) (fun cH => ?_)
    · replace H := H.1 cH
      refine r_prune [true, true, true, false, true, true, false, false] (ls2 := [some (.ref a0), some (.ref a1), some (.ref a2), none, some (.int x4), some (.int x5), none, none]) rfl ?_
      exact H
    · replace H := H.2 cH
      refine r_aload_n dX3_divide_93 rfl rfl ?_
      refine m_getF (x := (a0 + 1)) hp fw_X3_7 dX3_divide_94 rfl t0 (ff_3_0 t0) ?_
      refine r_iload dX3_divide_97 rfl ?_
      refine r_iload dX3_divide_99 rfl ?_
      refine r_iadd dX3_divide_101 ?_
      refine r_aload_n dX3_divide_102 rfl rfl ?_
      refine m_getF (x := (a0 + 1)) hp fw_X3_7 dX3_divide_103 rfl t0 (ff_3_0 t0) ?_
      refine r_iload dX3_divide_106 rfl ?_
      refine r_iload dX3_divide_108 rfl ?_
      refine r_iadd dX3_divide_110 ?_
      refine m_iald hp dX3_divide_111 (lf_3_0 t0) H.1 ?_
      replace H := H.2
      refine r_iload dX3_divide_112 rfl ?_
      refine r_aload_n dX3_divide_114 rfl rfl ?_
      refine m_getF (x := (a1 + 1)) hp fw_X3_7 dX3_divide_115 rfl t1 (ff_3_0 t1) ?_
      refine r_iload dX3_divide_118 rfl ?_
      refine m_iald hp dX3_divide_120 (lf_3_0 t1) H.1 ?_
      replace H := H.2
      refine k_SI (As := [.int x6, .int (ri h (a1 + 1) (x7).toNatClampNeg)]) (stk := [.int (ri h (a0 + 1) ((x5 + x7)).toNatClampNeg), .int (x5 + x7), .ref (a0 + 1)]) cs_X3_26 dX3_divide_121 rfl (Nat.le_of_ble_eq_true rfl) (H.mono (fun v1 h1 H => ?_)) ⟨Nat.le_refl _, Nat.le_refl _⟩
      refine k_SI (As := [.int (ri h (a0 + 1) ((x5 + x7)).toNatClampNeg), .int v1]) (stk := [.int (x5 + x7), .ref (a0 + 1)]) cs_X3_52 dX3_divide_124 rfl (Nat.le_of_ble_eq_true rfl) (H.mono (fun v2 h2 H => ?_)) ⟨Nat.le_refl _, Nat.le_refl _⟩
      refine m_iast hp dX3_divide_127 (lf_3_0 t0) H.1 (fun h3 eh3 => ?_)
      replace H := H.2 h3 eh3
      refine r_iinc (v := (x7 + (1 : Int32))) (ls2 := [some (.ref a0), some (.ref a1), some (.ref a2), none, some (.int x4), some (.int x5), some (.int x6), some (.int (x7 + (1 : Int32)))]) dX3_divide_128 rfl rfl (by decide) rfl ?_
      refine r_goto (tgt := 79) dX3_divide_131 rfl ?_
      exact H
theorem s_X3_divide_134 {g : GX} {d : Nat} {av : List Value} {Q : QT} {n : Nat} {h : Hp} {a0 : Nat} {a1 : Nat} {a2 : Nat} {x4 : Int32} {x5 : Int32} (hp : g.2.2.2.2 = true) (t0 : lay a0 = (0, 3, 2)) (t1 : lay a1 = (0, 3, 2)) (t2 : lay a2 = (0, 3, 2)) (H : W_X3_divide g d av Q n 37 [some (.ref a0), some (.ref a1), some (.ref a2), none, some (.int x4), some (.int (x5 + (-1 : Int32))), none, none] [] h) : W_X3_divide g d av Q n 134 [some (.ref a0), some (.ref a1), some (.ref a2), none, some (.int x4), some (.int x5), none, none] [] h := by
  refine r_iinc (v := (x5 + (-1 : Int32))) (ls2 := [some (.ref a0), some (.ref a1), some (.ref a2), none, some (.int x4), some (.int (x5 + (-1 : Int32))), none, none]) dX3_divide_134 rfl rfl (by decide) rfl ?_
  refine r_goto (tgt := 37) dX3_divide_137 rfl ?_
  exact H
abbrev W_X3_head (g : GX) (d : Nat) (av : List Value) (Q : QT) (n : Nat) (pc : Nat) (ls : LV) (stk : List Value) (h : Hp) : Prop := RJ g m_X3_head d 0 0 av Q pc ls stk n h 0 0
theorem s_X3_head_0 {g : GX} {d : Nat} {av : List Value} {Q : QT} {n : Nat} {h : Hp} {a0 : Nat} (hp : g.2.2.2.2 = true) (t0 : lay a0 = (0, 3, 2)) (H : (((ri h a0 1) ≤ (0 : Int32)) → (Q (some (.int (0 : Int32))) n h)) ∧ ((¬ (ri h a0 1) ≤ (0 : Int32)) → (vp_in ((ri h a0 1) - (1 : Int32)) (rm (a0 + 1)) ∧ (Q (some (.int (ri h (a0 + 1) (((ri h a0 1) - (1 : Int32))).toNatClampNeg))) n h)))) : W_X3_head g d av Q n 0 [some (.ref a0)] [] h := by
  refine r_aload_n dX3_head_0 rfl rfl ?_
  refine m_getI hp fw_X3_13 dX3_head_1 rfl t0 ?_
  refine r_if_le (tgt := 21) dX3_head_4 rfl (fun cH => ?_) (fun cH => ?_)
  · replace H := H.1 cH
    refine r_iconst (v := (0 : Int32)) dX3_head_21 rfl ?_
    exact r_zret dX3_head_22 rfl rfl (Nat.le_refl _) (Nat.le_refl _) H
  · replace H := H.2 cH
    refine r_aload_n dX3_head_7 rfl rfl ?_
    refine m_getF (x := (a0 + 1)) hp fw_X3_7 dX3_head_8 rfl t0 (ff_3_0 t0) ?_
    refine r_aload_n dX3_head_11 rfl rfl ?_
    refine m_getI hp fw_X3_13 dX3_head_12 rfl t0 ?_
    refine r_iconst (v := (1 : Int32)) dX3_head_15 rfl ?_
    refine r_isub dX3_head_16 ?_
    refine m_iald hp dX3_head_17 (lf_3_0 t0) H.1 ?_
    replace H := H.2
    refine r_goto (tgt := 22) dX3_head_18 rfl ?_
    exact r_zret dX3_head_22 rfl rfl (Nat.le_refl _) (Nat.le_refl _) H
abbrev W_X3_monic (g : GX) (d : Nat) (av : List Value) (Q : QT) (n : Nat) (pc : Nat) (ls : LV) (stk : List Value) (h : Hp) : Prop := RJ g m_X3_monic (d + 1) 0 0 av Q pc ls stk n h 0 0
theorem s_X3_monic_0 {g : GX} {d : Nat} {av : List Value} {Q : QT} {n : Nat} {h : Hp} {a0 : Nat} (hp : g.2.2.2.2 = true) (t0 : lay a0 = (0, 3, 2)) (H : (((ri h a0 1) ≤ (0 : Int32)) → (Q none n h)) ∧ ((¬ (ri h a0 1) ≤ (0 : Int32)) → (CallI g m_X3_head d [.ref a0] n h (fun v1 h1 => (((v1 = (1 : Int32)) → (Q none n h1)) ∧ ((¬ v1 = (1 : Int32)) → (CallI g m_X3_head d [.ref a0] n h1 (fun v2 h2 => (CallI g m_X0_inverse d [.int v2] n h2 (fun v3 h3 => (CallV g m_X3_scale d [.ref a0, .int v3] n h3 (fun h4 => (Q none n h4))))))))))))) : W_X3_monic g d av Q n 0 [some (.ref a0)] [] h := by
  refine r_aload_n dX3_monic_0 rfl rfl ?_
  refine m_getI hp fw_X3_13 dX3_monic_1 rfl t0 ?_
  refine r_if_le (tgt := 26) dX3_monic_4 rfl (fun cH => ?_) (fun cH => ?_)
  · replace H := H.1 cH
    exact r_vret dX3_monic_26 rfl (Nat.le_refl _) (Nat.le_refl _) H
  · replace H := H.2 cH
    refine r_aload_n dX3_monic_7 rfl rfl ?_
    refine k_VI (As := []) (stk := []) hp cv_X3_44 dX3_monic_8 rfl (Nat.le_of_ble_eq_true rfl) t0 (H.mono (fun v1 h1 H => ?_)) ⟨Nat.le_refl _, Nat.le_refl _⟩
    refine r_iconst (v := (1 : Int32)) dX3_monic_11 rfl ?_
    refine r_icmp_eq (tgt := 26) dX3_monic_12 rfl (fun cH => ?_) (fun cH => ?_)
    · replace H := H.1 cH
      exact r_vret dX3_monic_26 rfl (Nat.le_refl _) (Nat.le_refl _) H
    · replace H := H.2 cH
      refine r_aload_n dX3_monic_15 rfl rfl ?_
      refine r_aload_n dX3_monic_16 rfl rfl ?_
      refine k_VI (As := []) (stk := [.ref a0]) hp cv_X3_44 dX3_monic_17 rfl (Nat.le_of_ble_eq_true rfl) t0 (H.mono (fun v2 h2 H => ?_)) ⟨Nat.le_refl _, Nat.le_refl _⟩
      refine k_SI (As := [.int v2]) (stk := [.ref a0]) cs_X3_48 dX3_monic_20 rfl (Nat.le_of_ble_eq_true rfl) (H.mono (fun v3 h3 H => ?_)) ⟨Nat.le_refl _, Nat.le_refl _⟩
      refine k_VV (As := [.int v3]) (stk := []) hp cv_X3_58 dX3_monic_23 rfl (Nat.le_of_ble_eq_true rfl) t0 (H.mono (fun h4 H => ?_)) ⟨Nat.le_refl _, Nat.le_refl _⟩
      exact r_vret dX3_monic_26 rfl (Nat.le_refl _) (Nat.le_refl _) H
abbrev W_X3_scale (g : GX) (d : Nat) (av : List Value) (Q : QT) (n : Nat) (pc : Nat) (ls : LV) (stk : List Value) (h : Hp) : Prop := RJ g m_X3_scale (d + 1) 0 0 av Q pc ls stk n h 0 0
theorem s_X3_scale_0 {g : GX} {d : Nat} {av : List Value} {Q : QT} {n : Nat} {h : Hp} {a0 : Nat} {x1 : Int32} (hp : g.2.2.2.2 = true) (t0 : lay a0 = (0, 3, 2)) (H : W_X3_scale g d av Q n 2 [some (.ref a0), some (.int x1), some (.int (0 : Int32))] [] h) : W_X3_scale g d av Q n 0 [some (.ref a0), some (.int x1), none] [] h := by
  refine r_iconst (v := (0 : Int32)) dX3_scale_0 rfl ?_
  refine r_istore_n (ls2 := [some (.ref a0), some (.int x1), some (.int (0 : Int32))]) dX3_scale_1 rfl (by decide) rfl ?_
  exact H
theorem s_X3_scale_2 {g : GX} {d : Nat} {av : List Value} {Q : QT} {n : Nat} {h : Hp} {a0 : Nat} {x1 : Int32} {x2 : Int32} (hp : g.2.2.2.2 = true) (t0 : lay a0 = (0, 3, 2)) (H : (((ri h a0 1) ≤ x2) → (CallV g m_X3_trim d [.ref a0] n h (fun h1 => (Q none n h1)))) ∧ ((¬ (ri h a0 1) ≤ x2) → (vp_in x2 (rm (a0 + 1)) ∧ (CallI g m_X0_times d [.int (ri h (a0 + 1) (x2).toNatClampNeg), .int x1] n h (fun v2 h2 => (vp_in x2 (rm (a0 + 1)) ∧ ∀ h3, h3 = wi h2 (a0 + 1) (x2).toNatClampNeg v2 → (W_X3_scale g d av Q n 2 [some (.ref a0), some (.int x1), some (.int (x2 + (1 : Int32)))] [] h3))))))) : W_X3_scale g d av Q n 2 [some (.ref a0), some (.int x1), some (.int x2)] [] h := by
  refine r_iload_n dX3_scale_2 rfl rfl ?_
  refine r_aload_n dX3_scale_3 rfl rfl ?_
  refine m_getI hp fw_X3_13 dX3_scale_4 rfl t0 ?_
  refine r_icmp_ge (tgt := 32) dX3_scale_7 rfl (fun cH => ?_) (fun cH => ?_)
  · replace H := H.1 cH
    refine r_aload_n dX3_scale_32 rfl rfl ?_
    refine k_VV (As := []) (stk := []) hp cv_X3_23 dX3_scale_33 rfl (Nat.le_of_ble_eq_true rfl) t0 (H.mono (fun h1 H => ?_)) ⟨Nat.le_refl _, Nat.le_refl _⟩
    exact r_vret dX3_scale_36 rfl (Nat.le_refl _) (Nat.le_refl _) H
  · replace H := H.2 cH
    refine r_aload_n dX3_scale_10 rfl rfl ?_
    refine m_getF (x := (a0 + 1)) hp fw_X3_7 dX3_scale_11 rfl t0 (ff_3_0 t0) ?_
    refine r_iload_n dX3_scale_14 rfl rfl ?_
    refine r_aload_n dX3_scale_15 rfl rfl ?_
    refine m_getF (x := (a0 + 1)) hp fw_X3_7 dX3_scale_16 rfl t0 (ff_3_0 t0) ?_
    refine r_iload_n dX3_scale_19 rfl rfl ?_
    refine m_iald hp dX3_scale_20 (lf_3_0 t0) H.1 ?_
    replace H := H.2
    refine r_iload_n dX3_scale_21 rfl rfl ?_
    refine k_SI (As := [.int (ri h (a0 + 1) (x2).toNatClampNeg), .int x1]) (stk := [.int x2, .ref (a0 + 1)]) cs_X3_26 dX3_scale_22 rfl (Nat.le_of_ble_eq_true rfl) (H.mono (fun v2 h2 H => ?_)) ⟨Nat.le_refl _, Nat.le_refl _⟩
    refine m_iast hp dX3_scale_25 (lf_3_0 t0) H.1 (fun h3 eh3 => ?_)
    replace H := H.2 h3 eh3
    refine r_iinc (v := (x2 + (1 : Int32))) (ls2 := [some (.ref a0), some (.int x1), some (.int (x2 + (1 : Int32)))]) dX3_scale_26 rfl rfl (by decide) rfl ?_
    refine r_goto (tgt := 2) dX3_scale_29 rfl ?_
    exact H
abbrev W_X3_get (g : GX) (d : Nat) (av : List Value) (Q : QT) (n : Nat) (pc : Nat) (ls : LV) (stk : List Value) (h : Hp) : Prop := RJ g m_X3_get d 0 0 av Q pc ls stk n h 0 0
theorem s_X3_get_0 {g : GX} {d : Nat} {av : List Value} {Q : QT} {n : Nat} {h : Hp} {a0 : Nat} {x1 : Int32} (hp : g.2.2.2.2 = true) (t0 : lay a0 = (0, 3, 2)) (H : ((x1 < (0 : Int32)) → (Q (some (.int (0 : Int32))) n h)) ∧ ((¬ x1 < (0 : Int32)) → ((((ri h a0 1) ≤ x1) → (Q (some (.int (0 : Int32))) n h)) ∧ ((¬ (ri h a0 1) ≤ x1) → (vp_in x1 (rm (a0 + 1)) ∧ (Q (some (.int (ri h (a0 + 1) (x1).toNatClampNeg))) n h)))))) : W_X3_get g d av Q n 0 [some (.ref a0), some (.int x1)] [] h := by
  refine r_iload_n dX3_get_0 rfl rfl ?_
  refine r_if_lt (tgt := 21) dX3_get_1 rfl (fun cH => ?_) (fun cH => ?_)
  · replace H := H.1 cH
    refine r_iconst (v := (0 : Int32)) dX3_get_21 rfl ?_
    exact r_zret dX3_get_22 rfl rfl (Nat.le_refl _) (Nat.le_refl _) H
  · replace H := H.2 cH
    refine r_iload_n dX3_get_4 rfl rfl ?_
    refine r_aload_n dX3_get_5 rfl rfl ?_
    refine m_getI hp fw_X3_13 dX3_get_6 rfl t0 ?_
    refine r_icmp_ge (tgt := 21) dX3_get_9 rfl (fun cH => ?_) (fun cH => ?_)
    · replace H := H.1 cH
      refine r_iconst (v := (0 : Int32)) dX3_get_21 rfl ?_
      exact r_zret dX3_get_22 rfl rfl (Nat.le_refl _) (Nat.le_refl _) H
    · replace H := H.2 cH
      refine r_aload_n dX3_get_12 rfl rfl ?_
      refine m_getF (x := (a0 + 1)) hp fw_X3_7 dX3_get_13 rfl t0 (ff_3_0 t0) ?_
      refine r_iload_n dX3_get_16 rfl rfl ?_
      refine m_iald hp dX3_get_17 (lf_3_0 t0) H.1 ?_
      replace H := H.2
      refine r_goto (tgt := 22) dX3_get_18 rfl ?_
      exact r_zret dX3_get_22 rfl rfl (Nat.le_refl _) (Nat.le_refl _) H
abbrev W_X3_degree (g : GX) (d : Nat) (av : List Value) (Q : QT) (n : Nat) (pc : Nat) (ls : LV) (stk : List Value) (h : Hp) : Prop := RJ g m_X3_degree d 0 0 av Q pc ls stk n h 0 0
theorem s_X3_degree_0 {g : GX} {d : Nat} {av : List Value} {Q : QT} {n : Nat} {h : Hp} {a0 : Nat} (hp : g.2.2.2.2 = true) (t0 : lay a0 = (0, 3, 2)) (H : (((ri h a0 1) ≤ (0 : Int32)) → (Q (some (.int (0 : Int32))) n h)) ∧ ((¬ (ri h a0 1) ≤ (0 : Int32)) → (Q (some (.int ((ri h a0 1) - (1 : Int32)))) n h))) : W_X3_degree g d av Q n 0 [some (.ref a0)] [] h := by
  refine r_aload_n dX3_degree_0 rfl rfl ?_
  refine m_getI hp fw_X3_13 dX3_degree_1 rfl t0 ?_
  refine r_if_le (tgt := 16) dX3_degree_4 rfl (fun cH => ?_) (fun cH => ?_)
  · replace H := H.1 cH
    refine r_iconst (v := (0 : Int32)) dX3_degree_16 rfl ?_
    exact r_zret dX3_degree_17 rfl rfl (Nat.le_refl _) (Nat.le_refl _) H
  · replace H := H.2 cH
    refine r_aload_n dX3_degree_7 rfl rfl ?_
    refine m_getI hp fw_X3_13 dX3_degree_8 rfl t0 ?_
    refine r_iconst (v := (1 : Int32)) dX3_degree_11 rfl ?_
    refine r_isub dX3_degree_12 ?_
    refine r_goto (tgt := 17) dX3_degree_13 rfl ?_
    exact r_zret dX3_degree_17 rfl rfl (Nat.le_refl _) (Nat.le_refl _) H
abbrev W_X3_value (g : GX) (d : Nat) (av : List Value) (Q : QT) (n : Nat) (pc : Nat) (ls : LV) (stk : List Value) (h : Hp) : Prop := RJ g m_X3_value (d + 1) 0 0 av Q pc ls stk n h 0 0
theorem s_X3_value_0 {g : GX} {d : Nat} {av : List Value} {Q : QT} {n : Nat} {h : Hp} {a0 : Nat} {x1 : Int32} (hp : g.2.2.2.2 = true) (t0 : lay a0 = (0, 3, 2)) (H : W_X3_value g d av Q n 9 [some (.ref a0), some (.int x1), some (.int (0 : Int32)), some (.int ((ri h a0 1) - (1 : Int32)))] [] h) : W_X3_value g d av Q n 0 [some (.ref a0), some (.int x1), none, none] [] h := by
  refine r_iconst (v := (0 : Int32)) dX3_value_0 rfl ?_
  refine r_istore_n (ls2 := [some (.ref a0), some (.int x1), some (.int (0 : Int32)), none]) dX3_value_1 rfl (by decide) rfl ?_
  refine r_aload_n dX3_value_2 rfl rfl ?_
  refine m_getI hp fw_X3_13 dX3_value_3 rfl t0 ?_
  refine r_iconst (v := (1 : Int32)) dX3_value_6 rfl ?_
  refine r_isub dX3_value_7 ?_
  refine r_istore_n (ls2 := [some (.ref a0), some (.int x1), some (.int (0 : Int32)), some (.int ((ri h a0 1) - (1 : Int32)))]) dX3_value_8 rfl (by decide) rfl ?_
  exact H
theorem s_X3_value_9 {g : GX} {d : Nat} {av : List Value} {Q : QT} {n : Nat} {h : Hp} {a0 : Nat} {x1 : Int32} {x2 : Int32} {x3 : Int32} (hp : g.2.2.2.2 = true) (t0 : lay a0 = (0, 3, 2)) (H : ((x3 < (0 : Int32)) → (Q (some (.int x2)) n h)) ∧ ((¬ x3 < (0 : Int32)) → (CallI g m_X0_times d [.int x2, .int x1] n h (fun v1 h1 => (vp_in x3 (rm (a0 + 1)) ∧ (CallI g m_X0_sum d [.int v1, .int (ri h1 (a0 + 1) (x3).toNatClampNeg)] n h1 (fun v2 h2 => (W_X3_value g d av Q n 9 [some (.ref a0), some (.int x1), some (.int v2), some (.int (x3 + (-1 : Int32)))] [] h2)))))))) : W_X3_value g d av Q n 9 [some (.ref a0), some (.int x1), some (.int x2), some (.int x3)] [] h := by
  refine r_iload_n dX3_value_9 rfl rfl ?_
  refine r_if_lt (tgt := 34) dX3_value_10 rfl (fun cH => ?_) (fun cH => ?_)
  · replace H := H.1 cH
    refine r_iload_n dX3_value_34 rfl rfl ?_
    exact r_zret dX3_value_35 rfl rfl (Nat.le_refl _) (Nat.le_refl _) H
  · replace H := H.2 cH
    refine r_iload_n dX3_value_13 rfl rfl ?_
    refine r_iload_n dX3_value_14 rfl rfl ?_
    refine k_SI (As := [.int x2, .int x1]) (stk := []) cs_X3_26 dX3_value_15 rfl (Nat.le_of_ble_eq_true rfl) (H.mono (fun v1 h1 H => ?_)) ⟨Nat.le_refl _, Nat.le_refl _⟩
    refine r_aload_n dX3_value_18 rfl rfl ?_
    refine m_getF (x := (a0 + 1)) hp fw_X3_7 dX3_value_19 rfl t0 (ff_3_0 t0) ?_
    refine r_iload_n dX3_value_22 rfl rfl ?_
    refine m_iald hp dX3_value_23 (lf_3_0 t0) H.1 ?_
    replace H := H.2
    refine k_SI (As := [.int v1, .int (ri h1 (a0 + 1) (x3).toNatClampNeg)]) (stk := []) cs_X3_32 dX3_value_24 rfl (Nat.le_of_ble_eq_true rfl) (H.mono (fun v2 h2 H => ?_)) ⟨Nat.le_refl _, Nat.le_refl _⟩
    refine r_istore_n (ls2 := [some (.ref a0), some (.int x1), some (.int v2), some (.int x3)]) dX3_value_27 rfl (by decide) rfl ?_
    refine r_iinc (v := (x3 + (-1 : Int32))) (ls2 := [some (.ref a0), some (.int x1), some (.int v2), some (.int (x3 + (-1 : Int32)))]) dX3_value_28 rfl rfl (by decide) rfl ?_
    refine r_goto (tgt := 9) dX3_value_31 rfl ?_
    exact H
abbrev W_X3_product (g : GX) (d : Nat) (av : List Value) (Q : QT) (n : Nat) (pc : Nat) (ls : LV) (stk : List Value) (h : Hp) : Prop := RJ g m_X3_product (d + 1) 0 0 av Q pc ls stk n h 0 0
theorem s_X3_product_0 {g : GX} {d : Nat} {av : List Value} {Q : QT} {n : Nat} {h : Hp} {a0 : Nat} {a1 : Nat} {a2 : Nat} (hp : g.2.2.2.2 = true) (t0 : lay a0 = (0, 3, 2)) (t1 : lay a1 = (0, 3, 2)) (t2 : lay a2 = (0, 3, 2)) (H : ∀ h1, h1 = wi h a0 1 (0 : Int32) → (CallV g m_X3_addProduct d [.ref a0, .ref a1, .ref a2, .int (1 : Int32)] n h1 (fun h2 => (Q none n h2)))) : W_X3_product g d av Q n 0 [some (.ref a0), some (.ref a1), some (.ref a2)] [] h := by
  refine r_aload_n dX3_product_0 rfl rfl ?_
  refine r_iconst (v := (0 : Int32)) dX3_product_1 rfl ?_
  refine m_putI hp fw_X3_13 dX3_product_2 rfl rfl t0 (fun h1 eh1 => ?_)
  replace H := H h1 eh1
  refine r_aload_n dX3_product_5 rfl rfl ?_
  refine r_aload_n dX3_product_6 rfl rfl ?_
  refine r_aload_n dX3_product_7 rfl rfl ?_
  refine r_iconst (v := (1 : Int32)) dX3_product_8 rfl ?_
  refine k_VV (As := [.ref a1, .ref a2, .int (1 : Int32)]) (stk := []) hp cv_X3_35 dX3_product_9 rfl (Nat.le_of_ble_eq_true rfl) t0 (H.mono (fun h2 H => ?_)) ⟨Nat.le_refl _, Nat.le_refl _⟩
  exact r_vret dX3_product_12 rfl (Nat.le_refl _) (Nat.le_refl _) H
abbrev W_X3_addProduct (g : GX) (d : Nat) (av : List Value) (Q : QT) (n : Nat) (pc : Nat) (ls : LV) (stk : List Value) (h : Hp) : Prop := RJ g m_X3_addProduct (d + 1) 0 0 av Q pc ls stk n h 0 0
theorem s_X3_addProduct_0 {g : GX} {d : Nat} {av : List Value} {Q : QT} {n : Nat} {h : Hp} {a0 : Nat} {a1 : Nat} {a2 : Nat} {x3 : Int32} (hp : g.2.2.2.2 = true) (t0 : lay a0 = (0, 3, 2)) (t1 : lay a1 = (0, 3, 2)) (t2 : lay a2 = (0, 3, 2)) (H : (((ri h a1 1) = (0 : Int32)) → (Q none n h)) ∧ ((¬ (ri h a1 1) = (0 : Int32)) → (((¬ (ri h a2 1) = (0 : Int32)) → (W_X3_addProduct g d av Q n 15 [some (.ref a0), some (.ref a1), some (.ref a2), some (.int x3), none, none, none] [] h)) ∧ (((ri h a2 1) = (0 : Int32)) → (Q none n h))))) : W_X3_addProduct g d av Q n 0 [some (.ref a0), some (.ref a1), some (.ref a2), some (.int x3), none, none, none] [] h := by
  refine r_aload_n dX3_addProduct_0 rfl rfl ?_
  refine m_getI hp fw_X3_13 dX3_addProduct_1 rfl t1 ?_
  refine r_if_eq (tgt := 14) dX3_addProduct_4 rfl (fun cH => ?_) (fun cH => ?_)
  · replace H := H.1 cH
    exact r_vret dX3_addProduct_14 rfl (Nat.le_refl _) (Nat.le_refl _) H
  · replace H := H.2 cH
    refine r_aload_n dX3_addProduct_7 rfl rfl ?_
    refine m_getI hp fw_X3_13 dX3_addProduct_8 rfl t2 ?_
    refine r_if_ne (tgt := 15) dX3_addProduct_11 rfl (fun cH => ?_) (fun cH => ?_)
    · replace H := H.1 cH
      exact H
    · replace H := H.2 cH
      exact r_vret dX3_addProduct_14 rfl (Nat.le_refl _) (Nat.le_refl _) H
theorem s_X3_addProduct_15 {g : GX} {d : Nat} {av : List Value} {Q : QT} {n : Nat} {h : Hp} {a0 : Nat} {a1 : Nat} {a2 : Nat} {x3 : Int32} (hp : g.2.2.2.2 = true) (t0 : lay a0 = (0, 3, 2)) (t1 : lay a1 = (0, 3, 2)) (t2 : lay a2 = (0, 3, 2)) (H : (((((ri h a1 1) + (ri h a2 1)) - (1 : Int32)) ≤ (ri h a0 1)) → (W_X3_addProduct g d av Q n 56 [some (.ref a0), some (.ref a1), some (.ref a2), some (.int x3), some (.int (0 : Int32)), none, none] [] h)) ∧ ((¬ (((ri h a1 1) + (ri h a2 1)) - (1 : Int32)) ≤ (ri h a0 1)) → (∀ h1, h1 = wi h a0 1 ((ri h a0 1) + (1 : Int32)) → (vp_in (ri h a0 1) (rm (a0 + 1)) ∧ ∀ h2, h2 = wi h1 (a0 + 1) ((ri h a0 1)).toNatClampNeg (0 : Int32) → (W_X3_addProduct g d av Q n 15 [some (.ref a0), some (.ref a1), some (.ref a2), some (.int x3), none, none, none] [] h2))))) : W_X3_addProduct g d av Q n 15 [some (.ref a0), some (.ref a1), some (.ref a2), some (.int x3), none, none, none] [] h := by
  refine r_aload_n dX3_addProduct_15 rfl rfl ?_
  refine m_getI hp fw_X3_13 dX3_addProduct_16 rfl t0 ?_
  refine r_aload_n dX3_addProduct_19 rfl rfl ?_
  refine m_getI hp fw_X3_13 dX3_addProduct_20 rfl t1 ?_
  refine r_aload_n dX3_addProduct_23 rfl rfl ?_
  refine m_getI hp fw_X3_13 dX3_addProduct_24 rfl t2 ?_
  refine r_iadd dX3_addProduct_27 ?_
  refine r_iconst (v := (1 : Int32)) dX3_addProduct_28 rfl ?_
  refine r_isub dX3_addProduct_29 ?_
  refine r_icmp_ge (tgt := 53) dX3_addProduct_30 rfl (fun cH => ?_) (fun cH => ?_)
  · replace H := H.1 cH
    refine r_iconst (v := (0 : Int32)) dX3_addProduct_53 rfl ?_
    refine r_istore (ls2 := [some (.ref a0), some (.ref a1), some (.ref a2), some (.int x3), some (.int (0 : Int32)), none, none]) dX3_addProduct_54 (by decide) rfl ?_
    exact H
  · replace H := H.2 cH
    refine r_aload_n dX3_addProduct_33 rfl rfl ?_
    refine m_getF (x := (a0 + 1)) hp fw_X3_7 dX3_addProduct_34 rfl t0 (ff_3_0 t0) ?_
    refine r_aload_n dX3_addProduct_37 rfl rfl ?_
    refine r_dup dX3_addProduct_38 rfl ?_
    refine m_getI hp fw_X3_13 dX3_addProduct_39 rfl t0 ?_
    refine r_dup_x1 dX3_addProduct_42 rfl rfl ?_
    refine r_iconst (v := (1 : Int32)) dX3_addProduct_43 rfl ?_
    refine r_iadd dX3_addProduct_44 ?_
    refine m_putI hp fw_X3_13 dX3_addProduct_45 rfl rfl t0 (fun h1 eh1 => ?_)
    replace H := H h1 eh1
    refine r_iconst (v := (0 : Int32)) dX3_addProduct_48 rfl ?_
    refine m_iast hp dX3_addProduct_49 (lf_3_0 t0) H.1 (fun h2 eh2 => ?_)
    replace H := H.2 h2 eh2
    refine r_goto (tgt := 15) dX3_addProduct_50 rfl ?_
    exact H
theorem s_X3_addProduct_56 {g : GX} {d : Nat} {av : List Value} {Q : QT} {n : Nat} {h : Hp} {a0 : Nat} {a1 : Nat} {a2 : Nat} {x3 : Int32} {x4 : Int32} (hp : g.2.2.2.2 = true) (t0 : lay a0 = (0, 3, 2)) (t1 : lay a1 = (0, 3, 2)) (t2 : lay a2 = (0, 3, 2)) (H : (((ri h a1 1) ≤ x4) → (CallV g m_X3_trim d [.ref a0] n h (fun h1 => (Q none n h1)))) ∧ ((¬ (ri h a1 1) ≤ x4) → (vp_in x4 (rm (a1 + 1)) ∧ (CallI g m_X0_times d [.int (ri h (a1 + 1) (x4).toNatClampNeg), .int x3] n h (fun v2 h2 => (W_X3_addProduct g d av Q n 81 [some (.ref a0), some (.ref a1), some (.ref a2), some (.int x3), some (.int x4), some (.int v2), some (.int (0 : Int32))] [] h2)))))) : W_X3_addProduct g d av Q n 56 [some (.ref a0), some (.ref a1), some (.ref a2), some (.int x3), some (.int x4), none, none] [] h := by
  refine r_iload dX3_addProduct_56 rfl ?_
  refine r_aload_n dX3_addProduct_58 rfl rfl ?_
  refine m_getI hp fw_X3_13 dX3_addProduct_59 rfl t1 ?_
  refine r_icmp_ge (tgt := 142) dX3_addProduct_62 rfl (fun cH => ?_) (fun cH => ?_)
  · replace H := H.1 cH
    refine r_aload_n dX3_addProduct_142 rfl rfl ?_
    refine k_VV (As := []) (stk := []) hp cv_X3_23 dX3_addProduct_143 rfl (Nat.le_of_ble_eq_true rfl) t0 (H.mono (fun h1 H => ?_)) ⟨Nat.le_refl _, Nat.le_refl _⟩
    exact r_vret dX3_addProduct_146 rfl (Nat.le_refl _) (Nat.le_refl _) H
  · replace H := H.2 cH
    refine r_aload_n dX3_addProduct_65 rfl rfl ?_
    refine m_getF (x := (a1 + 1)) hp fw_X3_7 dX3_addProduct_66 rfl t1 (ff_3_0 t1) ?_
    refine r_iload dX3_addProduct_69 rfl ?_
    refine m_iald hp dX3_addProduct_71 (lf_3_0 t1) H.1 ?_
    replace H := H.2
    refine r_iload_n dX3_addProduct_72 rfl rfl ?_
    refine k_SI (As := [.int (ri h (a1 + 1) (x4).toNatClampNeg), .int x3]) (stk := []) cs_X3_26 dX3_addProduct_73 rfl (Nat.le_of_ble_eq_true rfl) (H.mono (fun v2 h2 H => ?_)) ⟨Nat.le_refl _, Nat.le_refl _⟩
    refine r_istore (ls2 := [some (.ref a0), some (.ref a1), some (.ref a2), some (.int x3), some (.int x4), some (.int v2), none]) dX3_addProduct_76 (by decide) rfl ?_
    refine r_iconst (v := (0 : Int32)) dX3_addProduct_78 rfl ?_
    refine r_istore (ls2 := [some (.ref a0), some (.ref a1), some (.ref a2), some (.int x3), some (.int x4), some (.int v2), some (.int (0 : Int32))]) dX3_addProduct_79 (by decide) rfl ?_
    exact H
theorem s_X3_addProduct_81 {g : GX} {d : Nat} {av : List Value} {Q : QT} {n : Nat} {h : Hp} {a0 : Nat} {a1 : Nat} {a2 : Nat} {x3 : Int32} {x4 : Int32} {x5 : Int32} {x6 : Int32} (hp : g.2.2.2.2 = true) (t0 : lay a0 = (0, 3, 2)) (t1 : lay a1 = (0, 3, 2)) (t2 : lay a2 = (0, 3, 2)) (H : (((ri h a2 1) ≤ x6) → (W_X3_addProduct g d av Q n 136 [some (.ref a0), some (.ref a1), some (.ref a2), some (.int x3), some (.int x4), none, none] [] h)) ∧ ((¬ (ri h a2 1) ≤ x6) → (((x5 = (0 : Int32)) → (W_X3_addProduct g d av Q n 136 [some (.ref a0), some (.ref a1), some (.ref a2), some (.int x3), some (.int x4), none, none] [] h)) ∧ ((¬ x5 = (0 : Int32)) → (vp_in (x4 + x6) (rm (a0 + 1)) ∧ (vp_in x6 (rm (a2 + 1)) ∧ (CallI g m_X0_times d [.int x5, .int (ri h (a2 + 1) (x6).toNatClampNeg)] n h (fun v1 h1 => (CallI g m_X0_sum d [.int (ri h (a0 + 1) ((x4 + x6)).toNatClampNeg), .int v1] n h1 (fun v2 h2 => (vp_in (x4 + x6) (rm (a0 + 1)) ∧ ∀ h3, h3 = wi h2 (a0 + 1) ((x4 + x6)).toNatClampNeg v2 → (W_X3_addProduct g d av Q n 81 [some (.ref a0), some (.ref a1), some (.ref a2), some (.int x3), some (.int x4), some (.int x5), some (.int (x6 + (1 : Int32)))] [] h3)))))))))))) : W_X3_addProduct g d av Q n 81 [some (.ref a0), some (.ref a1), some (.ref a2), some (.int x3), some (.int x4), some (.int x5), some (.int x6)] [] h := by
  refine r_iload dX3_addProduct_81 rfl ?_
  refine r_aload_n dX3_addProduct_83 rfl rfl ?_
  refine m_getI hp fw_X3_13 dX3_addProduct_84 rfl t2 ?_
  refine r_icmp_ge (tgt := 136) dX3_addProduct_87 rfl (fun cH => ?_) (fun cH => ?_)
  · replace H := H.1 cH
    refine r_prune [true, true, true, true, true, false, false] (ls2 := [some (.ref a0), some (.ref a1), some (.ref a2), some (.int x3), some (.int x4), none, none]) rfl ?_
    exact H
  · replace H := H.2 cH
    refine r_iload dX3_addProduct_90 rfl ?_
    refine r_if_eq (tgt := 136) dX3_addProduct_92 rfl (fun cH => ?_) (fun cH => ?_)
    · replace H := H.1 cH
      refine r_prune [true, true, true, true, true, false, false] (ls2 := [some (.ref a0), some (.ref a1), some (.ref a2), some (.int x3), some (.int x4), none, none]) rfl ?_
      exact H
    · replace H := H.2 cH
      refine r_aload_n dX3_addProduct_95 rfl rfl ?_
      refine m_getF (x := (a0 + 1)) hp fw_X3_7 dX3_addProduct_96 rfl t0 (ff_3_0 t0) ?_
      refine r_iload dX3_addProduct_99 rfl ?_
      refine r_iload dX3_addProduct_101 rfl ?_
      refine r_iadd dX3_addProduct_103 ?_
      refine r_aload_n dX3_addProduct_104 rfl rfl ?_
      refine m_getF (x := (a0 + 1)) hp fw_X3_7 dX3_addProduct_105 rfl t0 (ff_3_0 t0) ?_
      refine r_iload dX3_addProduct_108 rfl ?_
      refine r_iload dX3_addProduct_110 rfl ?_
      refine r_iadd dX3_addProduct_112 ?_
      refine m_iald hp dX3_addProduct_113 (lf_3_0 t0) H.1 ?_
      replace H := H.2
      refine r_iload dX3_addProduct_114 rfl ?_
      refine r_aload_n dX3_addProduct_116 rfl rfl ?_
      refine m_getF (x := (a2 + 1)) hp fw_X3_7 dX3_addProduct_117 rfl t2 (ff_3_0 t2) ?_
      refine r_iload dX3_addProduct_120 rfl ?_
      refine m_iald hp dX3_addProduct_122 (lf_3_0 t2) H.1 ?_
      replace H := H.2
      refine k_SI (As := [.int x5, .int (ri h (a2 + 1) (x6).toNatClampNeg)]) (stk := [.int (ri h (a0 + 1) ((x4 + x6)).toNatClampNeg), .int (x4 + x6), .ref (a0 + 1)]) cs_X3_26 dX3_addProduct_123 rfl (Nat.le_of_ble_eq_true rfl) (H.mono (fun v1 h1 H => ?_)) ⟨Nat.le_refl _, Nat.le_refl _⟩
      refine k_SI (As := [.int (ri h (a0 + 1) ((x4 + x6)).toNatClampNeg), .int v1]) (stk := [.int (x4 + x6), .ref (a0 + 1)]) cs_X3_32 dX3_addProduct_126 rfl (Nat.le_of_ble_eq_true rfl) (H.mono (fun v2 h2 H => ?_)) ⟨Nat.le_refl _, Nat.le_refl _⟩
      refine m_iast hp dX3_addProduct_129 (lf_3_0 t0) H.1 (fun h3 eh3 => ?_)
      replace H := H.2 h3 eh3
      refine r_iinc (v := (x6 + (1 : Int32))) (ls2 := [some (.ref a0), some (.ref a1), some (.ref a2), some (.int x3), some (.int x4), some (.int x5), some (.int (x6 + (1 : Int32)))]) dX3_addProduct_130 rfl rfl (by decide) rfl ?_
      refine r_goto (tgt := 81) dX3_addProduct_133 rfl ?_
      exact H
theorem s_X3_addProduct_136 {g : GX} {d : Nat} {av : List Value} {Q : QT} {n : Nat} {h : Hp} {a0 : Nat} {a1 : Nat} {a2 : Nat} {x3 : Int32} {x4 : Int32} (hp : g.2.2.2.2 = true) (t0 : lay a0 = (0, 3, 2)) (t1 : lay a1 = (0, 3, 2)) (t2 : lay a2 = (0, 3, 2)) (H : W_X3_addProduct g d av Q n 56 [some (.ref a0), some (.ref a1), some (.ref a2), some (.int x3), some (.int (x4 + (1 : Int32))), none, none] [] h) : W_X3_addProduct g d av Q n 136 [some (.ref a0), some (.ref a1), some (.ref a2), some (.int x3), some (.int x4), none, none] [] h := by
  refine r_iinc (v := (x4 + (1 : Int32))) (ls2 := [some (.ref a0), some (.ref a1), some (.ref a2), some (.int x3), some (.int (x4 + (1 : Int32))), none, none]) dX3_addProduct_136 rfl rfl (by decide) rfl ?_
  refine r_goto (tgt := 56) dX3_addProduct_139 rfl ?_
  exact H
abbrev W_X3_shift (g : GX) (d : Nat) (av : List Value) (Q : QT) (n : Nat) (pc : Nat) (ls : LV) (stk : List Value) (h : Hp) : Prop := RJ g m_X3_shift (d + 1) 0 0 av Q pc ls stk n h 0 0
theorem s_X3_shift_0 {g : GX} {d : Nat} {av : List Value} {Q : QT} {n : Nat} {h : Hp} {a0 : Nat} {x1 : Int32} (hp : g.2.2.2.2 = true) (t0 : lay a0 = (0, 3, 2)) (H : W_X3_shift g d av Q n 2 [some (.ref a0), some (.int x1), some (.int (0 : Int32)), none] [] h) : W_X3_shift g d av Q n 0 [some (.ref a0), some (.int x1), none, none] [] h := by
  refine r_iconst (v := (0 : Int32)) dX3_shift_0 rfl ?_
  refine r_istore_n (ls2 := [some (.ref a0), some (.int x1), some (.int (0 : Int32)), none]) dX3_shift_1 rfl (by decide) rfl ?_
  exact H
theorem s_X3_shift_2 {g : GX} {d : Nat} {av : List Value} {Q : QT} {n : Nat} {h : Hp} {a0 : Nat} {x1 : Int32} {x2 : Int32} (hp : g.2.2.2.2 = true) (t0 : lay a0 = (0, 3, 2)) (H : (((ri h a0 1) ≤ x2) → (Q none n h)) ∧ ((¬ (ri h a0 1) ≤ x2) → (((x1 = (0 : Int32)) → (Q none n h)) ∧ ((¬ x1 = (0 : Int32)) → (W_X3_shift g d av Q n 21 [some (.ref a0), some (.int x1), some (.int x2), some (.int ((ri h a0 1) - (2 : Int32)))] [] h))))) : W_X3_shift g d av Q n 2 [some (.ref a0), some (.int x1), some (.int x2), none] [] h := by
  refine r_iload_n dX3_shift_2 rfl rfl ?_
  refine r_aload_n dX3_shift_3 rfl rfl ?_
  refine m_getI hp fw_X3_13 dX3_shift_4 rfl t0 ?_
  refine r_icmp_ge (tgt := 65) dX3_shift_7 rfl (fun cH => ?_) (fun cH => ?_)
  · replace H := H.1 cH
    exact r_vret dX3_shift_65 rfl (Nat.le_refl _) (Nat.le_refl _) H
  · replace H := H.2 cH
    refine r_iload_n dX3_shift_10 rfl rfl ?_
    refine r_if_eq (tgt := 65) dX3_shift_11 rfl (fun cH => ?_) (fun cH => ?_)
    · replace H := H.1 cH
      exact r_vret dX3_shift_65 rfl (Nat.le_refl _) (Nat.le_refl _) H
    · replace H := H.2 cH
      refine r_aload_n dX3_shift_14 rfl rfl ?_
      refine m_getI hp fw_X3_13 dX3_shift_15 rfl t0 ?_
      refine r_iconst (v := (2 : Int32)) dX3_shift_18 rfl ?_
      refine r_isub dX3_shift_19 ?_
      refine r_istore_n (ls2 := [some (.ref a0), some (.int x1), some (.int x2), some (.int ((ri h a0 1) - (2 : Int32)))]) dX3_shift_20 rfl (by decide) rfl ?_
      exact H
theorem s_X3_shift_21 {g : GX} {d : Nat} {av : List Value} {Q : QT} {n : Nat} {h : Hp} {a0 : Nat} {x1 : Int32} {x2 : Int32} {x3 : Int32} (hp : g.2.2.2.2 = true) (t0 : lay a0 = (0, 3, 2)) (H : ((x3 < x2) → (W_X3_shift g d av Q n 2 [some (.ref a0), some (.int x1), some (.int (x2 + (1 : Int32))), none] [] h)) ∧ ((¬ x3 < x2) → (vp_in x3 (rm (a0 + 1)) ∧ (vp_in (x3 + (1 : Int32)) (rm (a0 + 1)) ∧ (CallI g m_X0_times d [.int (ri h (a0 + 1) ((x3 + (1 : Int32))).toNatClampNeg), .int x1] n h (fun v1 h1 => (CallI g m_X0_sum d [.int (ri h (a0 + 1) (x3).toNatClampNeg), .int v1] n h1 (fun v2 h2 => (vp_in x3 (rm (a0 + 1)) ∧ ∀ h3, h3 = wi h2 (a0 + 1) (x3).toNatClampNeg v2 → (W_X3_shift g d av Q n 21 [some (.ref a0), some (.int x1), some (.int x2), some (.int (x3 + (-1 : Int32)))] [] h3)))))))))) : W_X3_shift g d av Q n 21 [some (.ref a0), some (.int x1), some (.int x2), some (.int x3)] [] h := by
  refine r_iload_n dX3_shift_21 rfl rfl ?_
  refine r_iload_n dX3_shift_22 rfl rfl ?_
  refine r_icmp_lt (tgt := 59) dX3_shift_23 rfl (fun cH => ?_) (fun cH => ?_)
  · replace H := H.1 cH
    refine r_iinc (v := (x2 + (1 : Int32))) (ls2 := [some (.ref a0), some (.int x1), some (.int (x2 + (1 : Int32))), some (.int x3)]) dX3_shift_59 rfl rfl (by decide) rfl ?_
    refine r_goto (tgt := 2) dX3_shift_62 rfl ?_
    refine r_prune [true, true, true, false] (ls2 := [some (.ref a0), some (.int x1), some (.int (x2 + (1 : Int32))), none]) rfl ?_
    exact H
  · replace H := H.2 cH
    refine r_aload_n dX3_shift_26 rfl rfl ?_
    refine m_getF (x := (a0 + 1)) hp fw_X3_7 dX3_shift_27 rfl t0 (ff_3_0 t0) ?_
    refine r_iload_n dX3_shift_30 rfl rfl ?_
    refine r_aload_n dX3_shift_31 rfl rfl ?_
    refine m_getF (x := (a0 + 1)) hp fw_X3_7 dX3_shift_32 rfl t0 (ff_3_0 t0) ?_
    refine r_iload_n dX3_shift_35 rfl rfl ?_
    refine m_iald hp dX3_shift_36 (lf_3_0 t0) H.1 ?_
    replace H := H.2
    refine r_aload_n dX3_shift_37 rfl rfl ?_
    refine m_getF (x := (a0 + 1)) hp fw_X3_7 dX3_shift_38 rfl t0 (ff_3_0 t0) ?_
    refine r_iload_n dX3_shift_41 rfl rfl ?_
    refine r_iconst (v := (1 : Int32)) dX3_shift_42 rfl ?_
    refine r_iadd dX3_shift_43 ?_
    refine m_iald hp dX3_shift_44 (lf_3_0 t0) H.1 ?_
    replace H := H.2
    refine r_iload_n dX3_shift_45 rfl rfl ?_
    refine k_SI (As := [.int (ri h (a0 + 1) ((x3 + (1 : Int32))).toNatClampNeg), .int x1]) (stk := [.int (ri h (a0 + 1) (x3).toNatClampNeg), .int x3, .ref (a0 + 1)]) cs_X3_26 dX3_shift_46 rfl (Nat.le_of_ble_eq_true rfl) (H.mono (fun v1 h1 H => ?_)) ⟨Nat.le_refl _, Nat.le_refl _⟩
    refine k_SI (As := [.int (ri h (a0 + 1) (x3).toNatClampNeg), .int v1]) (stk := [.int x3, .ref (a0 + 1)]) cs_X3_32 dX3_shift_49 rfl (Nat.le_of_ble_eq_true rfl) (H.mono (fun v2 h2 H => ?_)) ⟨Nat.le_refl _, Nat.le_refl _⟩
    refine m_iast hp dX3_shift_52 (lf_3_0 t0) H.1 (fun h3 eh3 => ?_)
    replace H := H.2 h3 eh3
    refine r_iinc (v := (x3 + (-1 : Int32))) (ls2 := [some (.ref a0), some (.int x1), some (.int x2), some (.int (x3 + (-1 : Int32)))]) dX3_shift_53 rfl rfl (by decide) rfl ?_
    refine r_goto (tgt := 21) dX3_shift_56 rfl ?_
    exact H
abbrev W_X3_isSame (g : GX) (d : Nat) (av : List Value) (Q : QT) (n : Nat) (pc : Nat) (ls : LV) (stk : List Value) (h : Hp) : Prop := RJ g m_X3_isSame d 0 0 av Q pc ls stk n h 0 0
theorem s_X3_isSame_0 {g : GX} {d : Nat} {av : List Value} {Q : QT} {n : Nat} {h : Hp} {a0 : Nat} {a1 : Nat} (hp : g.2.2.2.2 = true) (t0 : lay a0 = (0, 3, 2)) (t1 : lay a1 = (0, 3, 2)) (H : ((¬ (ri h a0 1) = (ri h a1 1)) → (W_X3_isSame g d av Q n 16 [some (.ref a0), some (.ref a1), none, none] [.int (0 : Int32)] h)) ∧ (((ri h a0 1) = (ri h a1 1)) → (W_X3_isSame g d av Q n 16 [some (.ref a0), some (.ref a1), none, none] [.int (1 : Int32)] h))) : W_X3_isSame g d av Q n 0 [some (.ref a0), some (.ref a1), none, none] [] h := by
  refine r_aload_n dX3_isSame_0 rfl rfl ?_
  refine m_getI hp fw_X3_13 dX3_isSame_1 rfl t0 ?_
  refine r_aload_n dX3_isSame_4 rfl rfl ?_
  refine m_getI hp fw_X3_13 dX3_isSame_5 rfl t1 ?_
  refine r_icmp_ne (tgt := 15) dX3_isSame_8 rfl (fun cH => ?_) (fun cH => ?_)
  · replace H := H.1 cH
    refine r_iconst (v := (0 : Int32)) dX3_isSame_15 rfl ?_
    exact H
  · replace H := H.2 cH
    refine r_iconst (v := (1 : Int32)) dX3_isSame_11 rfl ?_
    refine r_goto (tgt := 16) dX3_isSame_12 rfl ?_
    exact H
theorem s_X3_isSame_16 {g : GX} {d : Nat} {av : List Value} {Q : QT} {n : Nat} {h : Hp} {a0 : Nat} {a1 : Nat} {xs0 : Int32} (hp : g.2.2.2.2 = true) (t0 : lay a0 = (0, 3, 2)) (t1 : lay a1 = (0, 3, 2)) (H : W_X3_isSame g d av Q n 19 [some (.ref a0), some (.ref a1), some (.int xs0), some (.int (0 : Int32))] [] h) : W_X3_isSame g d av Q n 16 [some (.ref a0), some (.ref a1), none, none] [.int xs0] h := by
  refine r_istore_n (ls2 := [some (.ref a0), some (.ref a1), some (.int xs0), none]) dX3_isSame_16 rfl (by decide) rfl ?_
  refine r_iconst (v := (0 : Int32)) dX3_isSame_17 rfl ?_
  refine r_istore_n (ls2 := [some (.ref a0), some (.ref a1), some (.int xs0), some (.int (0 : Int32))]) dX3_isSame_18 rfl (by decide) rfl ?_
  exact H
theorem s_X3_isSame_19 {g : GX} {d : Nat} {av : List Value} {Q : QT} {n : Nat} {h : Hp} {a0 : Nat} {a1 : Nat} {x2 : Int32} {x3 : Int32} (hp : g.2.2.2.2 = true) (t0 : lay a0 = (0, 3, 2)) (t1 : lay a1 = (0, 3, 2)) (H : (((ri h a0 1) ≤ x3) → ((x2 = 0 ∨ x2 = 1) ∧ Q (some (.int x2)) n h)) ∧ ((¬ (ri h a0 1) ≤ x3) → (((x2 = (0 : Int32)) → ((x2 = 0 ∨ x2 = 1) ∧ Q (some (.int x2)) n h)) ∧ ((¬ x2 = (0 : Int32)) → (vp_in x3 (rm (a0 + 1)) ∧ (vp_in x3 (rm (a1 + 1)) ∧ (((¬ (ri h (a0 + 1) (x3).toNatClampNeg) = (ri h (a1 + 1) (x3).toNatClampNeg)) → (W_X3_isSame g d av Q n 51 [some (.ref a0), some (.ref a1), none, some (.int x3)] [.int (0 : Int32)] h)) ∧ (((ri h (a0 + 1) (x3).toNatClampNeg) = (ri h (a1 + 1) (x3).toNatClampNeg)) → (W_X3_isSame g d av Q n 51 [some (.ref a0), some (.ref a1), none, some (.int x3)] [.int (1 : Int32)] h))))))))) : W_X3_isSame g d av Q n 19 [some (.ref a0), some (.ref a1), some (.int x2), some (.int x3)] [] h := by
  refine r_iload_n dX3_isSame_19 rfl rfl ?_
  refine r_aload_n dX3_isSame_20 rfl rfl ?_
  refine m_getI hp fw_X3_13 dX3_isSame_21 rfl t0 ?_
  refine r_icmp_ge (tgt := 58) dX3_isSame_24 rfl (fun cH => ?_) (fun cH => ?_)
  · replace H := H.1 cH
    refine r_iload_n dX3_isSame_58 rfl rfl ?_
    exact r_zret dX3_isSame_59 rfl (nar01 H.1) (Nat.le_refl _) (Nat.le_refl _) H.2
  · replace H := H.2 cH
    refine r_iload_n dX3_isSame_27 rfl rfl ?_
    refine r_if_eq (tgt := 58) dX3_isSame_28 rfl (fun cH => ?_) (fun cH => ?_)
    · replace H := H.1 cH
      refine r_iload_n dX3_isSame_58 rfl rfl ?_
      exact r_zret dX3_isSame_59 rfl (nar01 H.1) (Nat.le_refl _) (Nat.le_refl _) H.2
    · replace H := H.2 cH
      refine r_aload_n dX3_isSame_31 rfl rfl ?_
      refine m_getF (x := (a0 + 1)) hp fw_X3_7 dX3_isSame_32 rfl t0 (ff_3_0 t0) ?_
      refine r_iload_n dX3_isSame_35 rfl rfl ?_
      refine m_iald hp dX3_isSame_36 (lf_3_0 t0) H.1 ?_
      replace H := H.2
      refine r_aload_n dX3_isSame_37 rfl rfl ?_
      refine m_getF (x := (a1 + 1)) hp fw_X3_7 dX3_isSame_38 rfl t1 (ff_3_0 t1) ?_
      refine r_iload_n dX3_isSame_41 rfl rfl ?_
      refine m_iald hp dX3_isSame_42 (lf_3_0 t1) H.1 ?_
      replace H := H.2
      refine r_icmp_ne (tgt := 50) dX3_isSame_43 rfl (fun cH => ?_) (fun cH => ?_)
      · replace H := H.1 cH
        refine r_iconst (v := (0 : Int32)) dX3_isSame_50 rfl ?_
        refine r_prune [true, true, false, true] (ls2 := [some (.ref a0), some (.ref a1), none, some (.int x3)]) rfl ?_
        exact H
      · replace H := H.2 cH
        refine r_iconst (v := (1 : Int32)) dX3_isSame_46 rfl ?_
        refine r_goto (tgt := 51) dX3_isSame_47 rfl ?_
        refine r_prune [true, true, false, true] (ls2 := [some (.ref a0), some (.ref a1), none, some (.int x3)]) rfl ?_
        exact H
theorem s_X3_isSame_51 {g : GX} {d : Nat} {av : List Value} {Q : QT} {n : Nat} {h : Hp} {a0 : Nat} {a1 : Nat} {x3 : Int32} {xs0 : Int32} (hp : g.2.2.2.2 = true) (t0 : lay a0 = (0, 3, 2)) (t1 : lay a1 = (0, 3, 2)) (H : W_X3_isSame g d av Q n 19 [some (.ref a0), some (.ref a1), some (.int xs0), some (.int (x3 + (1 : Int32)))] [] h) : W_X3_isSame g d av Q n 51 [some (.ref a0), some (.ref a1), none, some (.int x3)] [.int xs0] h := by
  refine r_istore_n (ls2 := [some (.ref a0), some (.ref a1), some (.int xs0), some (.int x3)]) dX3_isSame_51 rfl (by decide) rfl ?_
  refine r_iinc (v := (x3 + (1 : Int32))) (ls2 := [some (.ref a0), some (.ref a1), some (.int xs0), some (.int (x3 + (1 : Int32)))]) dX3_isSame_52 rfl rfl (by decide) rfl ?_
  refine r_goto (tgt := 19) dX3_isSame_55 rfl ?_
  exact H
abbrev W_X3_add (g : GX) (d : Nat) (av : List Value) (Q : QT) (n : Nat) (pc : Nat) (ls : LV) (stk : List Value) (h : Hp) : Prop := RJ g m_X3_add (d + 1) 0 0 av Q pc ls stk n h 0 0
theorem s_X3_add_0 {g : GX} {d : Nat} {av : List Value} {Q : QT} {n : Nat} {h : Hp} {a0 : Nat} {a1 : Nat} {x2 : Int32} {x3 : Int32} (hp : g.2.2.2.2 = true) (t0 : lay a0 = (0, 3, 2)) (t1 : lay a1 = (0, 3, 2)) (H : ((((ri h a1 1) + x3) ≤ (ri h a0 1)) → (W_X3_add g d av Q n 36 [some (.ref a0), some (.ref a1), some (.int x2), some (.int x3), some (.int (0 : Int32))] [] h)) ∧ ((¬ ((ri h a1 1) + x3) ≤ (ri h a0 1)) → (∀ h1, h1 = wi h a0 1 ((ri h a0 1) + (1 : Int32)) → (vp_in (ri h a0 1) (rm (a0 + 1)) ∧ ∀ h2, h2 = wi h1 (a0 + 1) ((ri h a0 1)).toNatClampNeg (0 : Int32) → (W_X3_add g d av Q n 0 [some (.ref a0), some (.ref a1), some (.int x2), some (.int x3), none] [] h2))))) : W_X3_add g d av Q n 0 [some (.ref a0), some (.ref a1), some (.int x2), some (.int x3), none] [] h := by
  refine r_aload_n dX3_add_0 rfl rfl ?_
  refine m_getI hp fw_X3_13 dX3_add_1 rfl t0 ?_
  refine r_aload_n dX3_add_4 rfl rfl ?_
  refine m_getI hp fw_X3_13 dX3_add_5 rfl t1 ?_
  refine r_iload_n dX3_add_8 rfl rfl ?_
  refine r_iadd dX3_add_9 ?_
  refine r_icmp_ge (tgt := 33) dX3_add_10 rfl (fun cH => ?_) (fun cH => ?_)
  · replace H := H.1 cH
    refine r_iconst (v := (0 : Int32)) dX3_add_33 rfl ?_
    refine r_istore (ls2 := [some (.ref a0), some (.ref a1), some (.int x2), some (.int x3), some (.int (0 : Int32))]) dX3_add_34 (by decide) rfl ?_
    exact H
  · replace H := H.2 cH
    refine r_aload_n dX3_add_13 rfl rfl ?_
    refine m_getF (x := (a0 + 1)) hp fw_X3_7 dX3_add_14 rfl t0 (ff_3_0 t0) ?_
    refine r_aload_n dX3_add_17 rfl rfl ?_
    refine r_dup dX3_add_18 rfl ?_
    refine m_getI hp fw_X3_13 dX3_add_19 rfl t0 ?_
    refine r_dup_x1 dX3_add_22 rfl rfl ?_
    refine r_iconst (v := (1 : Int32)) dX3_add_23 rfl ?_
    refine r_iadd dX3_add_24 ?_
    refine m_putI hp fw_X3_13 dX3_add_25 rfl rfl t0 (fun h1 eh1 => ?_)
    replace H := H h1 eh1
    refine r_iconst (v := (0 : Int32)) dX3_add_28 rfl ?_
    refine m_iast hp dX3_add_29 (lf_3_0 t0) H.1 (fun h2 eh2 => ?_)
    replace H := H.2 h2 eh2
    refine r_goto (tgt := 0) dX3_add_30 rfl ?_
    exact H
theorem s_X3_add_36 {g : GX} {d : Nat} {av : List Value} {Q : QT} {n : Nat} {h : Hp} {a0 : Nat} {a1 : Nat} {x2 : Int32} {x3 : Int32} {x4 : Int32} (hp : g.2.2.2.2 = true) (t0 : lay a0 = (0, 3, 2)) (t1 : lay a1 = (0, 3, 2)) (H : (((ri h a1 1) ≤ x4) → (CallV g m_X3_trim d [.ref a0] n h (fun h1 => (Q none n h1)))) ∧ ((¬ (ri h a1 1) ≤ x4) → (vp_in (x4 + x3) (rm (a0 + 1)) ∧ (vp_in x4 (rm (a1 + 1)) ∧ (CallI g m_X0_times d [.int (ri h (a1 + 1) (x4).toNatClampNeg), .int x2] n h (fun v2 h2 => (CallI g m_X0_sum d [.int (ri h (a0 + 1) ((x4 + x3)).toNatClampNeg), .int v2] n h2 (fun v3 h3 => (vp_in (x4 + x3) (rm (a0 + 1)) ∧ ∀ h4, h4 = wi h3 (a0 + 1) ((x4 + x3)).toNatClampNeg v3 → (W_X3_add g d av Q n 36 [some (.ref a0), some (.ref a1), some (.int x2), some (.int x3), some (.int (x4 + (1 : Int32)))] [] h4)))))))))) : W_X3_add g d av Q n 36 [some (.ref a0), some (.ref a1), some (.int x2), some (.int x3), some (.int x4)] [] h := by
  refine r_iload dX3_add_36 rfl ?_
  refine r_aload_n dX3_add_38 rfl rfl ?_
  refine m_getI hp fw_X3_13 dX3_add_39 rfl t1 ?_
  refine r_icmp_ge (tgt := 83) dX3_add_42 rfl (fun cH => ?_) (fun cH => ?_)
  · replace H := H.1 cH
    refine r_aload_n dX3_add_83 rfl rfl ?_
    refine k_VV (As := []) (stk := []) hp cv_X3_23 dX3_add_84 rfl (Nat.le_of_ble_eq_true rfl) t0 (H.mono (fun h1 H => ?_)) ⟨Nat.le_refl _, Nat.le_refl _⟩
    exact r_vret dX3_add_87 rfl (Nat.le_refl _) (Nat.le_refl _) H
  · replace H := H.2 cH
    refine r_aload_n dX3_add_45 rfl rfl ?_
    refine m_getF (x := (a0 + 1)) hp fw_X3_7 dX3_add_46 rfl t0 (ff_3_0 t0) ?_
    refine r_iload dX3_add_49 rfl ?_
    refine r_iload_n dX3_add_51 rfl rfl ?_
    refine r_iadd dX3_add_52 ?_
    refine r_aload_n dX3_add_53 rfl rfl ?_
    refine m_getF (x := (a0 + 1)) hp fw_X3_7 dX3_add_54 rfl t0 (ff_3_0 t0) ?_
    refine r_iload dX3_add_57 rfl ?_
    refine r_iload_n dX3_add_59 rfl rfl ?_
    refine r_iadd dX3_add_60 ?_
    refine m_iald hp dX3_add_61 (lf_3_0 t0) H.1 ?_
    replace H := H.2
    refine r_aload_n dX3_add_62 rfl rfl ?_
    refine m_getF (x := (a1 + 1)) hp fw_X3_7 dX3_add_63 rfl t1 (ff_3_0 t1) ?_
    refine r_iload dX3_add_66 rfl ?_
    refine m_iald hp dX3_add_68 (lf_3_0 t1) H.1 ?_
    replace H := H.2
    refine r_iload_n dX3_add_69 rfl rfl ?_
    refine k_SI (As := [.int (ri h (a1 + 1) (x4).toNatClampNeg), .int x2]) (stk := [.int (ri h (a0 + 1) ((x4 + x3)).toNatClampNeg), .int (x4 + x3), .ref (a0 + 1)]) cs_X3_26 dX3_add_70 rfl (Nat.le_of_ble_eq_true rfl) (H.mono (fun v2 h2 H => ?_)) ⟨Nat.le_refl _, Nat.le_refl _⟩
    refine k_SI (As := [.int (ri h (a0 + 1) ((x4 + x3)).toNatClampNeg), .int v2]) (stk := [.int (x4 + x3), .ref (a0 + 1)]) cs_X3_32 dX3_add_73 rfl (Nat.le_of_ble_eq_true rfl) (H.mono (fun v3 h3 H => ?_)) ⟨Nat.le_refl _, Nat.le_refl _⟩
    refine m_iast hp dX3_add_76 (lf_3_0 t0) H.1 (fun h4 eh4 => ?_)
    replace H := H.2 h4 eh4
    refine r_iinc (v := (x4 + (1 : Int32))) (ls2 := [some (.ref a0), some (.ref a1), some (.int x2), some (.int x3), some (.int (x4 + (1 : Int32)))]) dX3_add_77 rfl rfl (by decide) rfl ?_
    refine r_goto (tgt := 36) dX3_add_80 rfl ?_
    exact H
abbrev W_X3_set (g : GX) (d : Nat) (av : List Value) (Q : QT) (n : Nat) (pc : Nat) (ls : LV) (stk : List Value) (h : Hp) : Prop := RJ g m_X3_set d 0 0 av Q pc ls stk n h 0 0
theorem s_X3_set_0 {g : GX} {d : Nat} {av : List Value} {Q : QT} {n : Nat} {h : Hp} {a0 : Nat} {x1 : Int32} (hp : g.2.2.2.2 = true) (t0 : lay a0 = (0, 3, 2)) (H : vp_in (0 : Int32) (rm (a0 + 1)) ∧ ∀ h1, h1 = wi h (a0 + 1) ((0 : Int32)).toNatClampNeg x1 → (((¬ x1 = (0 : Int32)) → (W_X3_set g d av Q n 17 [none, none] [.int (1 : Int32), .ref a0] h1)) ∧ ((x1 = (0 : Int32)) → (W_X3_set g d av Q n 17 [none, none] [.int (0 : Int32), .ref a0] h1)))) : W_X3_set g d av Q n 0 [some (.ref a0), some (.int x1)] [] h := by
  refine r_aload_n dX3_set_0 rfl rfl ?_
  refine m_getF (x := (a0 + 1)) hp fw_X3_7 dX3_set_1 rfl t0 (ff_3_0 t0) ?_
  refine r_iconst (v := (0 : Int32)) dX3_set_4 rfl ?_
  refine r_iload_n dX3_set_5 rfl rfl ?_
  refine m_iast hp dX3_set_6 (lf_3_0 t0) H.1 (fun h1 eh1 => ?_)
  replace H := H.2 h1 eh1
  refine r_aload_n dX3_set_7 rfl rfl ?_
  refine r_iload_n dX3_set_8 rfl rfl ?_
  refine r_if_ne (tgt := 16) dX3_set_9 rfl (fun cH => ?_) (fun cH => ?_)
  · replace H := H.1 cH
    refine r_iconst (v := (1 : Int32)) dX3_set_16 rfl ?_
    refine r_prune [false, false] (ls2 := [none, none]) rfl ?_
    exact H
  · replace H := H.2 cH
    refine r_iconst (v := (0 : Int32)) dX3_set_12 rfl ?_
    refine r_goto (tgt := 17) dX3_set_13 rfl ?_
    refine r_prune [false, false] (ls2 := [none, none]) rfl ?_
    exact H
theorem s_X3_set_17 {g : GX} {d : Nat} {av : List Value} {Q : QT} {n : Nat} {h : Hp} {xs0 : Int32} {as1 : Nat} (hp : g.2.2.2.2 = true) (ts1 : lay as1 = (0, 3, 2)) (H : ∀ h1, h1 = wi h as1 1 xs0 → (Q none n h1)) : W_X3_set g d av Q n 17 [none, none] [.int xs0, .ref as1] h := by
  refine m_putI hp fw_X3_13 dX3_set_17 rfl rfl ts1 (fun h1 eh1 => ?_)
  replace H := H h1 eh1
  exact r_vret dX3_set_20 rfl (Nat.le_refl _) (Nat.le_refl _) H
abbrev W_X3_put (g : GX) (d : Nat) (av : List Value) (Q : QT) (n : Nat) (pc : Nat) (ls : LV) (stk : List Value) (h : Hp) : Prop := RJ g m_X3_put (d + 1) 0 0 av Q pc ls stk n h 0 0
theorem s_X3_put_0 {g : GX} {d : Nat} {av : List Value} {Q : QT} {n : Nat} {h : Hp} {a0 : Nat} {x1 : Int32} {x2 : Int32} (hp : g.2.2.2.2 = true) (t0 : lay a0 = (0, 3, 2)) (H : ((x1 < (ri h a0 1)) → (vp_in x1 (rm (a0 + 1)) ∧ ∀ h1, h1 = wi h (a0 + 1) (x1).toNatClampNeg x2 → (CallV g m_X3_trim d [.ref a0] n h1 (fun h2 => (Q none n h2))))) ∧ ((¬ x1 < (ri h a0 1)) → (∀ h3, h3 = wi h a0 1 ((ri h a0 1) + (1 : Int32)) → (vp_in (ri h a0 1) (rm (a0 + 1)) ∧ ∀ h4, h4 = wi h3 (a0 + 1) ((ri h a0 1)).toNatClampNeg (0 : Int32) → (W_X3_put g d av Q n 0 [some (.ref a0), some (.int x1), some (.int x2)] [] h4))))) : W_X3_put g d av Q n 0 [some (.ref a0), some (.int x1), some (.int x2)] [] h := by
  refine r_aload_n dX3_put_0 rfl rfl ?_
  refine m_getI hp fw_X3_13 dX3_put_1 rfl t0 ?_
  refine r_iload_n dX3_put_4 rfl rfl ?_
  refine r_icmp_gt (tgt := 28) dX3_put_5 rfl (fun cH => ?_) (fun cH => ?_)
  · replace H := H.1 cH
    refine r_aload_n dX3_put_28 rfl rfl ?_
    refine m_getF (x := (a0 + 1)) hp fw_X3_7 dX3_put_29 rfl t0 (ff_3_0 t0) ?_
    refine r_iload_n dX3_put_32 rfl rfl ?_
    refine r_iload_n dX3_put_33 rfl rfl ?_
    refine m_iast hp dX3_put_34 (lf_3_0 t0) H.1 (fun h1 eh1 => ?_)
    replace H := H.2 h1 eh1
    refine r_aload_n dX3_put_35 rfl rfl ?_
    refine k_VV (As := []) (stk := []) hp cv_X3_23 dX3_put_36 rfl (Nat.le_of_ble_eq_true rfl) t0 (H.mono (fun h2 H => ?_)) ⟨Nat.le_refl _, Nat.le_refl _⟩
    exact r_vret dX3_put_39 rfl (Nat.le_refl _) (Nat.le_refl _) H
  · replace H := H.2 cH
    refine r_aload_n dX3_put_8 rfl rfl ?_
    refine m_getF (x := (a0 + 1)) hp fw_X3_7 dX3_put_9 rfl t0 (ff_3_0 t0) ?_
    refine r_aload_n dX3_put_12 rfl rfl ?_
    refine r_dup dX3_put_13 rfl ?_
    refine m_getI hp fw_X3_13 dX3_put_14 rfl t0 ?_
    refine r_dup_x1 dX3_put_17 rfl rfl ?_
    refine r_iconst (v := (1 : Int32)) dX3_put_18 rfl ?_
    refine r_iadd dX3_put_19 ?_
    refine m_putI hp fw_X3_13 dX3_put_20 rfl rfl t0 (fun h3 eh3 => ?_)
    replace H := H h3 eh3
    refine r_iconst (v := (0 : Int32)) dX3_put_23 rfl ?_
    refine m_iast hp dX3_put_24 (lf_3_0 t0) H.1 (fun h4 eh4 => ?_)
    replace H := H.2 h4 eh4
    refine r_goto (tgt := 0) dX3_put_25 rfl ?_
    exact H
abbrev W_X3_divideN (g : GX) (d : Nat) (av : List Value) (Q : QT) (n : Nat) (pc : Nat) (ls : LV) (stk : List Value) (h : Hp) : Prop := RJ g m_X3_divide (d + 1) 0 0 av Q pc ls stk n h 0 0
theorem s_X3_divideN_0 {g : GX} {d : Nat} {av : List Value} {Q : QT} {n : Nat} {h : Hp} {a0 : Nat} {a1 : Nat} (hp : g.2.2.2.2 = true) (t0 : lay a0 = (0, 3, 2)) (t1 : lay a1 = (0, 3, 2)) (H : CallI g m_X3_head d [.ref a1] n h (fun v1 h1 => (CallI g m_X0_inverse d [.int v1] n h1 (fun v2 h2 => (W_X3_divideN g d av Q n 37 [some (.ref a0), some (.ref a1), some (.null), none, some (.int v2), some (.int ((ri h a0 1) - (ri h a1 1))), none, none] [] h2))))) : W_X3_divideN g d av Q n 0 [some (.ref a0), some (.ref a1), some (.null), none, none, none, none, none] [] h := by
  refine r_aload_n dX3_divide_0 rfl rfl ?_
  refine m_getI hp fw_X3_13 dX3_divide_1 rfl t0 ?_
  refine r_aload_n dX3_divide_4 rfl rfl ?_
  refine m_getI hp fw_X3_13 dX3_divide_5 rfl t1 ?_
  refine r_isub dX3_divide_8 ?_
  refine r_istore_n (ls2 := [some (.ref a0), some (.ref a1), some (.null), some (.int ((ri h a0 1) - (ri h a1 1))), none, none, none, none]) dX3_divide_9 rfl (by decide) rfl ?_
  refine r_aload_nN dX3_divide_10 rfl rfl ?_
  refine r_ifnullN (tgt := 25) dX3_divide_11 rfl ?_
  refine r_aload_n dX3_divide_25 rfl rfl ?_
  refine k_VI (As := []) (stk := []) hp cv_X3_44 dX3_divide_26 rfl (Nat.le_of_ble_eq_true rfl) t1 (H.mono (fun v1 h1 H => ?_)) ⟨Nat.le_refl _, Nat.le_refl _⟩
  refine k_SI (As := [.int v1]) (stk := []) cs_X3_48 dX3_divide_29 rfl (Nat.le_of_ble_eq_true rfl) (H.mono (fun v2 h2 H => ?_)) ⟨Nat.le_refl _, Nat.le_refl _⟩
  refine r_istore (ls2 := [some (.ref a0), some (.ref a1), some (.null), some (.int ((ri h a0 1) - (ri h a1 1))), some (.int v2), none, none, none]) dX3_divide_32 (by decide) rfl ?_
  refine r_iload_n dX3_divide_34 rfl rfl ?_
  refine r_istore (ls2 := [some (.ref a0), some (.ref a1), some (.null), some (.int ((ri h a0 1) - (ri h a1 1))), some (.int v2), some (.int ((ri h a0 1) - (ri h a1 1))), none, none]) dX3_divide_35 (by decide) rfl ?_
  refine r_prune [true, true, true, false, true, true, false, false] (ls2 := [some (.ref a0), some (.ref a1), some (.null), none, some (.int v2), some (.int ((ri h a0 1) - (ri h a1 1))), none, none]) rfl ?_
  exact H
theorem s_X3_divideN_37 {g : GX} {d : Nat} {av : List Value} {Q : QT} {n : Nat} {h : Hp} {a0 : Nat} {a1 : Nat} {x4 : Int32} {x5 : Int32} (hp : g.2.2.2.2 = true) (t0 : lay a0 = (0, 3, 2)) (t1 : lay a1 = (0, 3, 2)) (H : ((x5 < (0 : Int32)) → (CallI g m_J3_min d [.int (ri h a0 1), .int ((ri h a1 1) - (1 : Int32))] n h (fun v1 h1 => (∀ h2, h2 = wi h1 a0 1 v1 → (CallV g m_X3_trim d [.ref a0] n h2 (fun h3 => (Q none n h3))))))) ∧ ((¬ x5 < (0 : Int32)) → (vp_in ((x5 + (ri h a1 1)) - (1 : Int32)) (rm (a0 + 1)) ∧ (CallI g m_X0_times d [.int (ri h (a0 + 1) (((x5 + (ri h a1 1)) - (1 : Int32))).toNatClampNeg), .int x4] n h (fun v4 h4 => (W_X3_divideN g d av Q n 79 [some (.ref a0), some (.ref a1), some (.null), none, some (.int x4), some (.int x5), some (.int v4), some (.int (0 : Int32))] [] h4)))))) : W_X3_divideN g d av Q n 37 [some (.ref a0), some (.ref a1), some (.null), none, some (.int x4), some (.int x5), none, none] [] h := by
  refine r_iload dX3_divide_37 rfl ?_
  refine r_if_lt (tgt := 140) dX3_divide_39 rfl (fun cH => ?_) (fun cH => ?_)
  · replace H := H.1 cH
    refine r_aload_n dX3_divide_140 rfl rfl ?_
    refine r_aload_n dX3_divide_141 rfl rfl ?_
    refine m_getI hp fw_X3_13 dX3_divide_142 rfl t0 ?_
    refine r_aload_n dX3_divide_145 rfl rfl ?_
    refine m_getI hp fw_X3_13 dX3_divide_146 rfl t1 ?_
    refine r_iconst (v := (1 : Int32)) dX3_divide_149 rfl ?_
    refine r_isub dX3_divide_150 ?_
    refine k_SI (As := [.int (ri h a0 1), .int ((ri h a1 1) - (1 : Int32))]) (stk := [.ref a0]) cs_X3_55 dX3_divide_151 rfl (Nat.le_of_ble_eq_true rfl) (H.mono (fun v1 h1 H => ?_)) ⟨Nat.le_refl _, Nat.le_refl _⟩
    refine m_putI hp fw_X3_13 dX3_divide_154 rfl rfl t0 (fun h2 eh2 => ?_)
    replace H := H h2 eh2
    refine r_aload_n dX3_divide_157 rfl rfl ?_
    refine k_VV (As := []) (stk := []) hp cv_X3_23 dX3_divide_158 rfl (Nat.le_of_ble_eq_true rfl) t0 (H.mono (fun h3 H => ?_)) ⟨Nat.le_refl _, Nat.le_refl _⟩
    refine r_aload_nN dX3_divide_161 rfl rfl ?_
    refine r_ifnullN (tgt := 169) dX3_divide_162 rfl ?_
    exact r_vret dX3_divide_169 rfl (Nat.le_refl _) (Nat.le_refl _) H
  · replace H := H.2 cH
    refine r_aload_n dX3_divide_42 rfl rfl ?_
    refine m_getF (x := (a0 + 1)) hp fw_X3_7 dX3_divide_43 rfl t0 (ff_3_0 t0) ?_
    refine r_iload dX3_divide_46 rfl ?_
    refine r_aload_n dX3_divide_48 rfl rfl ?_
    refine m_getI hp fw_X3_13 dX3_divide_49 rfl t1 ?_
    refine r_iadd dX3_divide_52 ?_
    refine r_iconst (v := (1 : Int32)) dX3_divide_53 rfl ?_
    refine r_isub dX3_divide_54 ?_
    refine m_iald hp dX3_divide_55 (lf_3_0 t0) H.1 ?_
    replace H := H.2
    refine r_iload dX3_divide_56 rfl ?_
    refine k_SI (As := [.int (ri h (a0 + 1) (((x5 + (ri h a1 1)) - (1 : Int32))).toNatClampNeg), .int x4]) (stk := []) cs_X3_26 dX3_divide_58 rfl (Nat.le_of_ble_eq_true rfl) (H.mono (fun v4 h4 H => ?_)) ⟨Nat.le_refl _, Nat.le_refl _⟩
    refine r_istore (ls2 := [some (.ref a0), some (.ref a1), some (.null), none, some (.int x4), some (.int x5), some (.int v4), none]) dX3_divide_61 (by decide) rfl ?_
    refine r_aload_nN dX3_divide_63 rfl rfl ?_
    refine r_ifnullN (tgt := 76) dX3_divide_64 rfl ?_
    refine r_iconst (v := (0 : Int32)) dX3_divide_76 rfl ?_
    refine r_istore (ls2 := [some (.ref a0), some (.ref a1), some (.null), none, some (.int x4), some (.int x5), some (.int v4), some (.int (0 : Int32))]) dX3_divide_77 (by decide) rfl ?_
    exact H
theorem s_X3_divideN_79 {g : GX} {d : Nat} {av : List Value} {Q : QT} {n : Nat} {h : Hp} {a0 : Nat} {a1 : Nat} {x4 : Int32} {x5 : Int32} {x6 : Int32} {x7 : Int32} (hp : g.2.2.2.2 = true) (t0 : lay a0 = (0, 3, 2)) (t1 : lay a1 = (0, 3, 2)) (H : (((ri h a1 1) ≤ x7) → (W_X3_divideN g d av Q n 134 [some (.ref a0), some (.ref a1), some (.null), none, some (.int x4), some (.int x5), none, none] [] h)) ∧ ((¬ (ri h a1 1) ≤ x7) → (((x6 = (0 : Int32)) → (W_X3_divideN g d av Q n 134 [some (.ref a0), some (.ref a1), some (.null), none, some (.int x4), some (.int x5), none, none] [] h)) ∧ ((¬ x6 = (0 : Int32)) → (vp_in (x5 + x7) (rm (a0 + 1)) ∧ (vp_in x7 (rm (a1 + 1)) ∧ (CallI g m_X0_times d [.int x6, .int (ri h (a1 + 1) (x7).toNatClampNeg)] n h (fun v1 h1 => (CallI g m_X0_less d [.int (ri h (a0 + 1) ((x5 + x7)).toNatClampNeg), .int v1] n h1 (fun v2 h2 => (vp_in (x5 + x7) (rm (a0 + 1)) ∧ ∀ h3, h3 = wi h2 (a0 + 1) ((x5 + x7)).toNatClampNeg v2 → (W_X3_divideN g d av Q n 79 [some (.ref a0), some (.ref a1), some (.null), none, some (.int x4), some (.int x5), some (.int x6), some (.int (x7 + (1 : Int32)))] [] h3)))))))))))) : W_X3_divideN g d av Q n 79 [some (.ref a0), some (.ref a1), some (.null), none, some (.int x4), some (.int x5), some (.int x6), some (.int x7)] [] h := by
  refine r_iload dX3_divide_79 rfl ?_
  refine r_aload_n dX3_divide_81 rfl rfl ?_
  refine m_getI hp fw_X3_13 dX3_divide_82 rfl t1 ?_
  refine r_icmp_ge (tgt := 134) dX3_divide_85 rfl (fun cH => ?_) (fun cH => ?_)
  · replace H := H.1 cH
    refine r_prune [true, true, true, false, true, true, false, false] (ls2 := [some (.ref a0), some (.ref a1), some (.null), none, some (.int x4), some (.int x5), none, none]) rfl ?_
    exact H
  · replace H := H.2 cH
    refine r_iload dX3_divide_88 rfl ?_
    refine r_if_eq (tgt := 134) dX3_divide_90 rfl (fun cH => ?_) (fun cH => ?_)
    · replace H := H.1 cH
      refine r_prune [true, true, true, false, true, true, false, false] (ls2 := [some (.ref a0), some (.ref a1), some (.null), none, some (.int x4), some (.int x5), none, none]) rfl ?_
      exact H
    · replace H := H.2 cH
      refine r_aload_n dX3_divide_93 rfl rfl ?_
      refine m_getF (x := (a0 + 1)) hp fw_X3_7 dX3_divide_94 rfl t0 (ff_3_0 t0) ?_
      refine r_iload dX3_divide_97 rfl ?_
      refine r_iload dX3_divide_99 rfl ?_
      refine r_iadd dX3_divide_101 ?_
      refine r_aload_n dX3_divide_102 rfl rfl ?_
      refine m_getF (x := (a0 + 1)) hp fw_X3_7 dX3_divide_103 rfl t0 (ff_3_0 t0) ?_
      refine r_iload dX3_divide_106 rfl ?_
      refine r_iload dX3_divide_108 rfl ?_
      refine r_iadd dX3_divide_110 ?_
      refine m_iald hp dX3_divide_111 (lf_3_0 t0) H.1 ?_
      replace H := H.2
      refine r_iload dX3_divide_112 rfl ?_
      refine r_aload_n dX3_divide_114 rfl rfl ?_
      refine m_getF (x := (a1 + 1)) hp fw_X3_7 dX3_divide_115 rfl t1 (ff_3_0 t1) ?_
      refine r_iload dX3_divide_118 rfl ?_
      refine m_iald hp dX3_divide_120 (lf_3_0 t1) H.1 ?_
      replace H := H.2
      refine k_SI (As := [.int x6, .int (ri h (a1 + 1) (x7).toNatClampNeg)]) (stk := [.int (ri h (a0 + 1) ((x5 + x7)).toNatClampNeg), .int (x5 + x7), .ref (a0 + 1)]) cs_X3_26 dX3_divide_121 rfl (Nat.le_of_ble_eq_true rfl) (H.mono (fun v1 h1 H => ?_)) ⟨Nat.le_refl _, Nat.le_refl _⟩
      refine k_SI (As := [.int (ri h (a0 + 1) ((x5 + x7)).toNatClampNeg), .int v1]) (stk := [.int (x5 + x7), .ref (a0 + 1)]) cs_X3_52 dX3_divide_124 rfl (Nat.le_of_ble_eq_true rfl) (H.mono (fun v2 h2 H => ?_)) ⟨Nat.le_refl _, Nat.le_refl _⟩
      refine m_iast hp dX3_divide_127 (lf_3_0 t0) H.1 (fun h3 eh3 => ?_)
      replace H := H.2 h3 eh3
      refine r_iinc (v := (x7 + (1 : Int32))) (ls2 := [some (.ref a0), some (.ref a1), some (.null), none, some (.int x4), some (.int x5), some (.int x6), some (.int (x7 + (1 : Int32)))]) dX3_divide_128 rfl rfl (by decide) rfl ?_
      refine r_goto (tgt := 79) dX3_divide_131 rfl ?_
      exact H
theorem s_X3_divideN_134 {g : GX} {d : Nat} {av : List Value} {Q : QT} {n : Nat} {h : Hp} {a0 : Nat} {a1 : Nat} {x4 : Int32} {x5 : Int32} (hp : g.2.2.2.2 = true) (t0 : lay a0 = (0, 3, 2)) (t1 : lay a1 = (0, 3, 2)) (H : W_X3_divideN g d av Q n 37 [some (.ref a0), some (.ref a1), some (.null), none, some (.int x4), some (.int (x5 + (-1 : Int32))), none, none] [] h) : W_X3_divideN g d av Q n 134 [some (.ref a0), some (.ref a1), some (.null), none, some (.int x4), some (.int x5), none, none] [] h := by
  refine r_iinc (v := (x5 + (-1 : Int32))) (ls2 := [some (.ref a0), some (.ref a1), some (.null), none, some (.int x4), some (.int (x5 + (-1 : Int32))), none, none]) dX3_divide_134 rfl rfl (by decide) rfl ?_
  refine r_goto (tgt := 37) dX3_divide_137 rfl ?_
  exact H
