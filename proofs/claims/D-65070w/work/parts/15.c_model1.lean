set_option maxRecDepth 100000
theorem dX10_type_0 : decode cX10_type 0 = .ok (.iload_n 3, 1) := by decide +kernel
theorem dX10_type_1 : decode cX10_type 1 = .ok (.iconst 1, 1) := by decide +kernel
theorem dX10_type_2 : decode cX10_type 2 = .ok (.if_icmp .lt 21, 3) := by decide +kernel
theorem dX10_type_5 : decode cX10_type 5 = .ok (.iload_n 3, 1) := by decide +kernel
theorem dX10_type_6 : decode cX10_type 6 = .ok (.bipush 8, 2) := by decide +kernel
theorem dX10_type_8 : decode cX10_type 8 = .ok (.if_icmp .gt 15, 3) := by decide +kernel
theorem dX10_type_11 : decode cX10_type 11 = .ok (.aload_n 0, 1) := by decide +kernel
theorem dX10_type_12 : decode cX10_type 12 = .ok (.getfield 336, 3) := by decide +kernel
theorem dX10_type_15 : decode cX10_type 15 = .ok (.iload_n 3, 1) := by decide +kernel
theorem dX10_type_16 : decode cX10_type 16 = .ok (.iadd, 1) := by decide +kernel
theorem dX10_type_17 : decode cX10_type 17 = .ok (.sipush 400, 3) := by decide +kernel
theorem dX10_type_20 : decode cX10_type 20 = .ok (.if_icmp .le 5, 3) := by decide +kernel
theorem dX10_type_23 : decode cX10_type 23 = .ok (.iconst (-1), 1) := by decide +kernel
theorem dX10_type_24 : decode cX10_type 24 = .ok (.ireturn, 1) := by decide +kernel
theorem dX10_type_25 : decode cX10_type 25 = .ok (.iload_n 3, 1) := by decide +kernel
theorem dX10_type_26 : decode cX10_type 26 = .ok (.iconst 1, 1) := by decide +kernel
theorem dX10_type_27 : decode cX10_type 27 = .ok (.isub, 1) := by decide +kernel
theorem dX10_type_28 : decode cX10_type 28 = .ok (.istore 4, 2) := by decide +kernel
theorem dX10_type_30 : decode cX10_type 30 = .ok (.iload 4, 2) := by decide +kernel
theorem dX10_type_32 : decode cX10_type 32 = .ok (.ifCond .lt 34, 3) := by decide +kernel
theorem dX10_type_35 : decode cX10_type 35 = .ok (.aload_n 0, 1) := by decide +kernel
theorem dX10_type_36 : decode cX10_type 36 = .ok (.getfield 339, 3) := by decide +kernel
theorem dX10_type_39 : decode cX10_type 39 = .ok (.aload_n 0, 1) := by decide +kernel
theorem dX10_type_40 : decode cX10_type 40 = .ok (.dup, 1) := by decide +kernel
theorem dX10_type_41 : decode cX10_type 41 = .ok (.getfield 336, 3) := by decide +kernel
theorem dX10_type_44 : decode cX10_type 44 = .ok (.dup_x1, 1) := by decide +kernel
theorem dX10_type_45 : decode cX10_type 45 = .ok (.iconst 1, 1) := by decide +kernel
theorem dX10_type_46 : decode cX10_type 46 = .ok (.iadd, 1) := by decide +kernel
theorem dX10_type_47 : decode cX10_type 47 = .ok (.putfield 336, 3) := by decide +kernel
theorem dX10_type_50 : decode cX10_type 50 = .ok (.lload_n 1, 1) := by decide +kernel
theorem dX10_type_51 : decode cX10_type 51 = .ok (.bipush 8, 2) := by decide +kernel
theorem dX10_type_53 : decode cX10_type 53 = .ok (.iload 4, 2) := by decide +kernel
theorem dX10_type_55 : decode cX10_type 55 = .ok (.imul, 1) := by decide +kernel
theorem dX10_type_56 : decode cX10_type 56 = .ok (.lshr, 1) := by decide +kernel
theorem dX10_type_57 : decode cX10_type 57 = .ok (.l2i, 1) := by decide +kernel
theorem dX10_type_58 : decode cX10_type 58 = .ok (.i2b, 1) := by decide +kernel
theorem dX10_type_59 : decode cX10_type 59 = .ok (.bastore, 1) := by decide +kernel
theorem dX10_type_60 : decode cX10_type 60 = .ok (.iinc 4 (-1), 3) := by decide +kernel
theorem dX10_type_63 : decode cX10_type 63 = .ok (.goto (-33), 3) := by decide +kernel
theorem dX10_type_66 : decode cX10_type 66 = .ok (.aload_n 0, 1) := by decide +kernel
theorem dX10_type_67 : decode cX10_type 67 = .ok (.getfield 336, 3) := by decide +kernel
theorem dX10_type_70 : decode cX10_type 70 = .ok (.ireturn, 1) := by decide +kernel
theorem dX10_isSlot_0 : decode cX10_isSlot 0 = .ok (.iload_n 0, 1) := by decide +kernel
theorem dX10_isSlot_1 : decode cX10_isSlot 1 = .ok (.ifCond .lt 13, 3) := by decide +kernel
theorem dX10_isSlot_4 : decode cX10_isSlot 4 = .ok (.iload_n 0, 1) := by decide +kernel
theorem dX10_isSlot_5 : decode cX10_isSlot 5 = .ok (.bipush 12, 2) := by decide +kernel
theorem dX10_isSlot_7 : decode cX10_isSlot 7 = .ok (.if_icmp .ge 7, 3) := by decide +kernel
theorem dX10_isSlot_10 : decode cX10_isSlot 10 = .ok (.iconst 1, 1) := by decide +kernel
theorem dX10_isSlot_11 : decode cX10_isSlot 11 = .ok (.goto 4, 3) := by decide +kernel
theorem dX10_isSlot_14 : decode cX10_isSlot 14 = .ok (.iconst 0, 1) := by decide +kernel
theorem dX10_isSlot_15 : decode cX10_isSlot 15 = .ok (.ireturn, 1) := by decide +kernel
theorem dX10_begin_0 : decode cX10_begin 0 = .ok (.aload_n 0, 1) := by decide +kernel
theorem dX10_begin_1 : decode cX10_begin 1 = .ok (.iconst 0, 1) := by decide +kernel
theorem dX10_begin_2 : decode cX10_begin 2 = .ok (.putfield 21, 3) := by decide +kernel
theorem dX10_begin_5 : decode cX10_begin 5 = .ok (.aload_n 0, 1) := by decide +kernel
theorem dX10_begin_6 : decode cX10_begin 6 = .ok (.iconst 0, 1) := by decide +kernel
theorem dX10_begin_7 : decode cX10_begin 7 = .ok (.putfield 90, 3) := by decide +kernel
theorem dX10_begin_10 : decode cX10_begin 10 = .ok (.aload_n 0, 1) := by decide +kernel
theorem dX10_begin_11 : decode cX10_begin 11 = .ok (.iconst 0, 1) := by decide +kernel
theorem dX10_begin_12 : decode cX10_begin 12 = .ok (.putfield 375, 3) := by decide +kernel
theorem dX10_begin_15 : decode cX10_begin 15 = .ok (.return_, 1) := by decide +kernel
theorem dX10_readE_0 : decode cX10_readE 0 = .ok (.aload_n 0, 1) := by decide +kernel
theorem dX10_readE_1 : decode cX10_readE 1 = .ok (.invokevirtual 343, 3) := by decide +kernel
theorem dX10_readE_4 : decode cX10_readE 4 = .ok (.bipush 45, 2) := by decide +kernel
theorem dX10_readE_6 : decode cX10_readE 6 = .ok (.if_icmp .ne 13, 3) := by decide +kernel
theorem dX10_readE_9 : decode cX10_readE 9 = .ok (.aload_n 0, 1) := by decide +kernel
theorem dX10_readE_10 : decode cX10_readE 10 = .ok (.dup, 1) := by decide +kernel
theorem dX10_readE_11 : decode cX10_readE 11 = .ok (.getfield 334, 3) := by decide +kernel
theorem dX10_readE_14 : decode cX10_readE 14 = .ok (.iconst 1, 1) := by decide +kernel
theorem dX10_readE_15 : decode cX10_readE 15 = .ok (.iadd, 1) := by decide +kernel
theorem dX10_readE_16 : decode cX10_readE 16 = .ok (.putfield 334, 3) := by decide +kernel
theorem dX10_readE_19 : decode cX10_readE 19 = .ok (.aload_n 0, 1) := by decide +kernel
theorem dX10_readE_20 : decode cX10_readE 20 = .ok (.invokevirtual 350, 3) := by decide +kernel
theorem dX10_readE_23 : decode cX10_readE 23 = .ok (.aload_n 0, 1) := by decide +kernel
theorem dX10_readE_24 : decode cX10_readE 24 = .ok (.invokevirtual 343, 3) := by decide +kernel
theorem dX10_readE_27 : decode cX10_readE 27 = .ok (.bipush 43, 2) := by decide +kernel
theorem dX10_readE_29 : decode cX10_readE 29 = .ok (.if_icmp .eq 12, 3) := by decide +kernel
theorem dX10_readE_32 : decode cX10_readE 32 = .ok (.aload_n 0, 1) := by decide +kernel
theorem dX10_readE_33 : decode cX10_readE 33 = .ok (.invokevirtual 343, 3) := by decide +kernel
theorem dX10_readE_36 : decode cX10_readE 36 = .ok (.bipush 45, 2) := by decide +kernel
theorem dX10_readE_38 : decode cX10_readE 38 = .ok (.if_icmp .ne 20, 3) := by decide +kernel
theorem dX10_readE_41 : decode cX10_readE 41 = .ok (.aload_n 0, 1) := by decide +kernel
theorem dX10_readE_42 : decode cX10_readE 42 = .ok (.dup, 1) := by decide +kernel
theorem dX10_readE_43 : decode cX10_readE 43 = .ok (.getfield 334, 3) := by decide +kernel
theorem dX10_readE_46 : decode cX10_readE 46 = .ok (.iconst 1, 1) := by decide +kernel
theorem dX10_readE_47 : decode cX10_readE 47 = .ok (.iadd, 1) := by decide +kernel
theorem dX10_readE_48 : decode cX10_readE 48 = .ok (.putfield 334, 3) := by decide +kernel
theorem dX10_readE_51 : decode cX10_readE 51 = .ok (.aload_n 0, 1) := by decide +kernel
theorem dX10_readE_52 : decode cX10_readE 52 = .ok (.invokevirtual 350, 3) := by decide +kernel
theorem dX10_readE_55 : decode cX10_readE 55 = .ok (.goto (-32), 3) := by decide +kernel
theorem dX10_readE_58 : decode cX10_readE 58 = .ok (.return_, 1) := by decide +kernel
theorem dX10_look_0 : decode cX10_look 0 = .ok (.aload_n 0, 1) := by decide +kernel
theorem dX10_look_1 : decode cX10_look 1 = .ok (.getfield 334, 3) := by decide +kernel
theorem dX10_look_4 : decode cX10_look 4 = .ok (.aload_n 0, 1) := by decide +kernel
theorem dX10_look_5 : decode cX10_look 5 = .ok (.getfield 336, 3) := by decide +kernel
theorem dX10_look_8 : decode cX10_look 8 = .ok (.if_icmp .ge 30, 3) := by decide +kernel
theorem dX10_look_11 : decode cX10_look 11 = .ok (.aload_n 0, 1) := by decide +kernel
theorem dX10_look_12 : decode cX10_look 12 = .ok (.getfield 339, 3) := by decide +kernel
theorem dX10_look_15 : decode cX10_look 15 = .ok (.aload_n 0, 1) := by decide +kernel
theorem dX10_look_16 : decode cX10_look 16 = .ok (.getfield 334, 3) := by decide +kernel
theorem dX10_look_19 : decode cX10_look 19 = .ok (.baload, 1) := by decide +kernel
theorem dX10_look_20 : decode cX10_look 20 = .ok (.bipush 32, 2) := by decide +kernel
theorem dX10_look_22 : decode cX10_look 22 = .ok (.if_icmp .ne 16, 3) := by decide +kernel
theorem dX10_look_25 : decode cX10_look 25 = .ok (.aload_n 0, 1) := by decide +kernel
theorem dX10_look_26 : decode cX10_look 26 = .ok (.dup, 1) := by decide +kernel
theorem dX10_look_27 : decode cX10_look 27 = .ok (.getfield 334, 3) := by decide +kernel
theorem dX10_look_30 : decode cX10_look 30 = .ok (.iconst 1, 1) := by decide +kernel
theorem dX10_look_31 : decode cX10_look 31 = .ok (.iadd, 1) := by decide +kernel
theorem dX10_look_32 : decode cX10_look 32 = .ok (.putfield 334, 3) := by decide +kernel
theorem dX10_look_35 : decode cX10_look 35 = .ok (.goto (-35), 3) := by decide +kernel
theorem dX10_look_38 : decode cX10_look 38 = .ok (.aload_n 0, 1) := by decide +kernel
theorem dX10_look_39 : decode cX10_look 39 = .ok (.getfield 334, 3) := by decide +kernel
theorem dX10_look_42 : decode cX10_look 42 = .ok (.aload_n 0, 1) := by decide +kernel
theorem dX10_look_43 : decode cX10_look 43 = .ok (.getfield 336, 3) := by decide +kernel
theorem dX10_look_46 : decode cX10_look 46 = .ok (.if_icmp .ge 19, 3) := by decide +kernel
theorem dX10_look_49 : decode cX10_look 49 = .ok (.aload_n 0, 1) := by decide +kernel
theorem dX10_look_50 : decode cX10_look 50 = .ok (.getfield 339, 3) := by decide +kernel
theorem dX10_look_53 : decode cX10_look 53 = .ok (.aload_n 0, 1) := by decide +kernel
theorem dX10_look_54 : decode cX10_look 54 = .ok (.getfield 334, 3) := by decide +kernel
theorem dX10_look_57 : decode cX10_look 57 = .ok (.baload, 1) := by decide +kernel
theorem dX10_look_58 : decode cX10_look 58 = .ok (.sipush 255, 3) := by decide +kernel
theorem dX10_look_61 : decode cX10_look 61 = .ok (.iand, 1) := by decide +kernel
theorem dX10_look_62 : decode cX10_look 62 = .ok (.goto 4, 3) := by decide +kernel
theorem dX10_look_65 : decode cX10_look 65 = .ok (.iconst (-1), 1) := by decide +kernel
theorem dX10_look_66 : decode cX10_look 66 = .ok (.ireturn, 1) := by decide +kernel
theorem dX10_readU_0 : decode cX10_readU 0 = .ok (.aload_n 0, 1) := by decide +kernel
theorem dX10_readU_1 : decode cX10_readU 1 = .ok (.invokevirtual 353, 3) := by decide +kernel
theorem dX10_readU_4 : decode cX10_readU 4 = .ok (.aload_n 0, 1) := by decide +kernel
theorem dX10_readU_5 : decode cX10_readU 5 = .ok (.invokevirtual 343, 3) := by decide +kernel
theorem dX10_readU_8 : decode cX10_readU 8 = .ok (.bipush 42, 2) := by decide +kernel
theorem dX10_readU_10 : decode cX10_readU 10 = .ok (.if_icmp .eq 12, 3) := by decide +kernel
theorem dX10_readU_13 : decode cX10_readU 13 = .ok (.aload_n 0, 1) := by decide +kernel
theorem dX10_readU_14 : decode cX10_readU 14 = .ok (.invokevirtual 343, 3) := by decide +kernel
theorem dX10_readU_17 : decode cX10_readU 17 = .ok (.bipush 47, 2) := by decide +kernel
theorem dX10_readU_19 : decode cX10_readU 19 = .ok (.if_icmp .ne 20, 3) := by decide +kernel
theorem dX10_readU_22 : decode cX10_readU 22 = .ok (.aload_n 0, 1) := by decide +kernel
theorem dX10_readU_23 : decode cX10_readU 23 = .ok (.dup, 1) := by decide +kernel
theorem dX10_readU_24 : decode cX10_readU 24 = .ok (.getfield 334, 3) := by decide +kernel
theorem dX10_readU_27 : decode cX10_readU 27 = .ok (.iconst 1, 1) := by decide +kernel
theorem dX10_readU_28 : decode cX10_readU 28 = .ok (.iadd, 1) := by decide +kernel
theorem dX10_readU_29 : decode cX10_readU 29 = .ok (.putfield 334, 3) := by decide +kernel
theorem dX10_readU_32 : decode cX10_readU 32 = .ok (.aload_n 0, 1) := by decide +kernel
theorem dX10_readU_33 : decode cX10_readU 33 = .ok (.invokevirtual 353, 3) := by decide +kernel
theorem dX10_readU_36 : decode cX10_readU 36 = .ok (.goto (-32), 3) := by decide +kernel
theorem dX10_readU_39 : decode cX10_readU 39 = .ok (.return_, 1) := by decide +kernel
theorem dX10_readW_0 : decode cX10_readW 0 = .ok (.aload_n 0, 1) := by decide +kernel
theorem dX10_readW_1 : decode cX10_readW 1 = .ok (.invokevirtual 356, 3) := by decide +kernel
theorem dX10_readW_4 : decode cX10_readW 4 = .ok (.aload_n 0, 1) := by decide +kernel
theorem dX10_readW_5 : decode cX10_readW 5 = .ok (.invokevirtual 343, 3) := by decide +kernel
theorem dX10_readW_8 : decode cX10_readW 8 = .ok (.bipush 33, 2) := by decide +kernel
theorem dX10_readW_10 : decode cX10_readW 10 = .ok (.if_icmp .ne 13, 3) := by decide +kernel
theorem dX10_readW_13 : decode cX10_readW 13 = .ok (.aload_n 0, 1) := by decide +kernel
theorem dX10_readW_14 : decode cX10_readW 14 = .ok (.dup, 1) := by decide +kernel
theorem dX10_readW_15 : decode cX10_readW 15 = .ok (.getfield 334, 3) := by decide +kernel
theorem dX10_readW_18 : decode cX10_readW 18 = .ok (.iconst 1, 1) := by decide +kernel
theorem dX10_readW_19 : decode cX10_readW 19 = .ok (.iadd, 1) := by decide +kernel
theorem dX10_readW_20 : decode cX10_readW 20 = .ok (.putfield 334, 3) := by decide +kernel
theorem dX10_readW_23 : decode cX10_readW 23 = .ok (.aload_n 0, 1) := by decide +kernel
theorem dX10_readW_24 : decode cX10_readW 24 = .ok (.invokevirtual 343, 3) := by decide +kernel
theorem dX10_readW_27 : decode cX10_readW 27 = .ok (.bipush 94, 2) := by decide +kernel
theorem dX10_readW_29 : decode cX10_readW 29 = .ok (.if_icmp .ne 17, 3) := by decide +kernel
theorem dX10_readW_32 : decode cX10_readW 32 = .ok (.aload_n 0, 1) := by decide +kernel
theorem dX10_readW_33 : decode cX10_readW 33 = .ok (.dup, 1) := by decide +kernel
theorem dX10_readW_34 : decode cX10_readW 34 = .ok (.getfield 334, 3) := by decide +kernel
theorem dX10_readW_37 : decode cX10_readW 37 = .ok (.iconst 1, 1) := by decide +kernel
theorem dX10_readW_38 : decode cX10_readW 38 = .ok (.iadd, 1) := by decide +kernel
theorem dX10_readW_39 : decode cX10_readW 39 = .ok (.putfield 334, 3) := by decide +kernel
theorem dX10_readW_42 : decode cX10_readW 42 = .ok (.aload_n 0, 1) := by decide +kernel
theorem dX10_readW_43 : decode cX10_readW 43 = .ok (.invokevirtual 356, 3) := by decide +kernel
theorem dX10_readW_46 : decode cX10_readW 46 = .ok (.return_, 1) := by decide +kernel
theorem dX10_fail_0 : decode cX10_fail 0 = .ok (.aload_n 0, 1) := by decide +kernel
theorem dX10_fail_1 : decode cX10_fail 1 = .ok (.iload_n 1, 1) := by decide +kernel
theorem dX10_fail_2 : decode cX10_fail 2 = .ok (.putfield 324, 3) := by decide +kernel
theorem dX10_fail_5 : decode cX10_fail 5 = .ok (.aload_n 0, 1) := by decide +kernel
theorem dX10_fail_6 : decode cX10_fail 6 = .ok (.iload_n 2, 1) := by decide +kernel
theorem dX10_fail_7 : decode cX10_fail 7 = .ok (.putfield 327, 3) := by decide +kernel
theorem dX10_fail_10 : decode cX10_fail 10 = .ok (.aload_n 0, 1) := by decide +kernel
theorem dX10_fail_11 : decode cX10_fail 11 = .ok (.getfield 330, 3) := by decide +kernel
theorem dX10_fail_14 : decode cX10_fail 14 = .ok (.areturn, 1) := by decide +kernel
theorem dX10_valueB_0 : decode cX10_valueB 0 = .ok (.aload_n 0, 1) := by decide +kernel
theorem dX10_valueB_1 : decode cX10_valueB 1 = .ok (.invokevirtual 343, 3) := by decide +kernel
theorem dX10_valueB_4 : decode cX10_valueB 4 = .ok (.istore_n 1, 1) := by decide +kernel
theorem dX10_valueB_5 : decode cX10_valueB 5 = .ok (.iload_n 1, 1) := by decide +kernel
theorem dX10_valueB_6 : decode cX10_valueB 6 = .ok (.bipush 40, 2) := by decide +kernel
theorem dX10_valueB_8 : decode cX10_valueB 8 = .ok (.if_icmp .ne 26, 3) := by decide +kernel
theorem dX10_valueB_11 : decode cX10_valueB 11 = .ok (.aload_n 0, 1) := by decide +kernel
theorem dX10_valueB_12 : decode cX10_valueB 12 = .ok (.dup, 1) := by decide +kernel
theorem dX10_valueB_13 : decode cX10_valueB 13 = .ok (.getfield 334, 3) := by decide +kernel
theorem dX10_valueB_16 : decode cX10_valueB 16 = .ok (.iconst 1, 1) := by decide +kernel
theorem dX10_valueB_17 : decode cX10_valueB 17 = .ok (.iadd, 1) := by decide +kernel
theorem dX10_valueB_18 : decode cX10_valueB 18 = .ok (.putfield 334, 3) := by decide +kernel
theorem dX10_valueB_21 : decode cX10_valueB 21 = .ok (.aload_n 0, 1) := by decide +kernel
theorem dX10_valueB_22 : decode cX10_valueB 22 = .ok (.invokevirtual 423, 3) := by decide +kernel
theorem dX10_valueB_25 : decode cX10_valueB 25 = .ok (.astore_n 2, 1) := by decide +kernel
theorem dX10_valueB_26 : decode cX10_valueB 26 = .ok (.aload_n 0, 1) := by decide +kernel
theorem dX10_valueB_27 : decode cX10_valueB 27 = .ok (.bipush 41, 2) := by decide +kernel
theorem dX10_valueB_29 : decode cX10_valueB 29 = .ok (.invokevirtual 368, 3) := by decide +kernel
theorem dX10_valueB_32 : decode cX10_valueB 32 = .ok (.aload_n 2, 1) := by decide +kernel
theorem dX10_valueB_33 : decode cX10_valueB 33 = .ok (.areturn, 1) := by decide +kernel
theorem dX10_valueB_34 : decode cX10_valueB 34 = .ok (.iload_n 1, 1) := by decide +kernel
theorem dX10_valueB_35 : decode cX10_valueB 35 = .ok (.bipush 67, 2) := by decide +kernel
theorem dX10_valueB_37 : decode cX10_valueB 37 = .ok (.if_icmp .ne 8, 3) := by decide +kernel
theorem dX10_valueB_40 : decode cX10_valueB 40 = .ok (.aload_n 0, 1) := by decide +kernel
theorem dX10_valueB_41 : decode cX10_valueB 41 = .ok (.invokevirtual 426, 3) := by decide +kernel
theorem dX10_valueB_44 : decode cX10_valueB 44 = .ok (.areturn, 1) := by decide +kernel
theorem dX10_valueB_45 : decode cX10_valueB 45 = .ok (.aload_n 0, 1) := by decide +kernel
theorem dX10_valueB_46 : decode cX10_valueB 46 = .ok (.invokevirtual 429, 3) := by decide +kernel
theorem dX10_valueB_49 : decode cX10_valueB 49 = .ok (.astore_n 2, 1) := by decide +kernel
theorem dX10_valueB_50 : decode cX10_valueB 50 = .ok (.iload_n 1, 1) := by decide +kernel
theorem dX10_valueB_51 : decode cX10_valueB 51 = .ok (.bipush 110, 2) := by decide +kernel
theorem dX10_valueB_53 : decode cX10_valueB 53 = .ok (.if_icmp .eq 9, 3) := by decide +kernel
theorem dX10_valueB_56 : decode cX10_valueB 56 = .ok (.iload_n 1, 1) := by decide +kernel
theorem dX10_valueB_57 : decode cX10_valueB 57 = .ok (.bipush 107, 2) := by decide +kernel
theorem dX10_valueB_59 : decode cX10_valueB 59 = .ok (.if_icmp .ne 39, 3) := by decide +kernel
theorem dX10_valueB_62 : decode cX10_valueB 62 = .ok (.aload_n 0, 1) := by decide +kernel
theorem dX10_valueB_63 : decode cX10_valueB 63 = .ok (.dup, 1) := by decide +kernel
theorem dX10_valueB_64 : decode cX10_valueB 64 = .ok (.getfield 334, 3) := by decide +kernel
theorem dX10_valueB_67 : decode cX10_valueB 67 = .ok (.iconst 1, 1) := by decide +kernel
theorem dX10_valueB_68 : decode cX10_valueB 68 = .ok (.iadd, 1) := by decide +kernel
theorem dX10_valueB_69 : decode cX10_valueB 69 = .ok (.putfield 334, 3) := by decide +kernel
theorem dX10_valueB_72 : decode cX10_valueB 72 = .ok (.aload_n 0, 1) := by decide +kernel
theorem dX10_valueB_73 : decode cX10_valueB 73 = .ok (.aload_n 2, 1) := by decide +kernel
theorem dX10_valueB_74 : decode cX10_valueB 74 = .ok (.iconst 0, 1) := by decide +kernel
theorem dX10_valueB_75 : decode cX10_valueB 75 = .ok (.invokevirtual 292, 3) := by decide +kernel
theorem dX10_valueB_78 : decode cX10_valueB 78 = .ok (.aload_n 2, 1) := by decide +kernel
theorem dX10_valueB_79 : decode cX10_valueB 79 = .ok (.getfield 207, 3) := by decide +kernel
theorem dX10_valueB_82 : decode cX10_valueB 82 = .ok (.iload_n 1, 1) := by decide +kernel
theorem dX10_valueB_83 : decode cX10_valueB 83 = .ok (.bipush 110, 2) := by decide +kernel
theorem dX10_valueB_85 : decode cX10_valueB 85 = .ok (.if_icmp .ne 7, 3) := by decide +kernel
theorem dX10_valueB_88 : decode cX10_valueB 88 = .ok (.iconst 1, 1) := by decide +kernel
theorem dX10_valueB_89 : decode cX10_valueB 89 = .ok (.goto 5, 3) := by decide +kernel
theorem dX10_valueB_92 : decode cX10_valueB 92 = .ok (.bipush 25, 2) := by decide +kernel
theorem dX10_valueB_94 : decode cX10_valueB 94 = .ok (.iconst 1, 1) := by decide +kernel
theorem dX10_valueB_95 : decode cX10_valueB 95 = .ok (.iastore, 1) := by decide +kernel
theorem dX10_valueB_96 : decode cX10_valueB 96 = .ok (.aload_n 2, 1) := by decide +kernel
theorem dX10_valueB_97 : decode cX10_valueB 97 = .ok (.areturn, 1) := by decide +kernel
theorem dX10_valueB_98 : decode cX10_valueB 98 = .ok (.lconst 0, 1) := by decide +kernel
theorem dX10_valueB_99 : decode cX10_valueB 99 = .ok (.lstore_n 3, 1) := by decide +kernel
theorem dX10_valueB_100 : decode cX10_valueB 100 = .ok (.aload_n 0, 1) := by decide +kernel
theorem dX10_valueB_101 : decode cX10_valueB 101 = .ok (.getfield 334, 3) := by decide +kernel
theorem dX10_valueB_104 : decode cX10_valueB 104 = .ok (.aload_n 0, 1) := by decide +kernel
theorem dX10_valueB_105 : decode cX10_valueB 105 = .ok (.getfield 336, 3) := by decide +kernel
theorem dX10_valueB_108 : decode cX10_valueB 108 = .ok (.if_icmp .ge 62, 3) := by decide +kernel
theorem dX10_valueB_111 : decode cX10_valueB 111 = .ok (.aload_n 0, 1) := by decide +kernel
theorem dX10_valueB_112 : decode cX10_valueB 112 = .ok (.getfield 339, 3) := by decide +kernel
theorem dX10_valueB_115 : decode cX10_valueB 115 = .ok (.aload_n 0, 1) := by decide +kernel
theorem dX10_valueB_116 : decode cX10_valueB 116 = .ok (.getfield 334, 3) := by decide +kernel
theorem dX10_valueB_119 : decode cX10_valueB 119 = .ok (.baload, 1) := by decide +kernel
theorem dX10_valueB_120 : decode cX10_valueB 120 = .ok (.bipush 48, 2) := by decide +kernel
theorem dX10_valueB_122 : decode cX10_valueB 122 = .ok (.if_icmp .lt 48, 3) := by decide +kernel
theorem dX10_valueB_125 : decode cX10_valueB 125 = .ok (.aload_n 0, 1) := by decide +kernel
theorem dX10_valueB_126 : decode cX10_valueB 126 = .ok (.getfield 339, 3) := by decide +kernel
theorem dX10_valueB_129 : decode cX10_valueB 129 = .ok (.aload_n 0, 1) := by decide +kernel
theorem dX10_valueB_130 : decode cX10_valueB 130 = .ok (.getfield 334, 3) := by decide +kernel
theorem dX10_valueB_133 : decode cX10_valueB 133 = .ok (.baload, 1) := by decide +kernel
theorem dX10_valueB_134 : decode cX10_valueB 134 = .ok (.bipush 57, 2) := by decide +kernel
theorem dX10_valueB_136 : decode cX10_valueB 136 = .ok (.if_icmp .gt 34, 3) := by decide +kernel
theorem dX10_valueB_139 : decode cX10_valueB 139 = .ok (.ldc2_w 432, 3) := by decide +kernel
theorem dX10_valueB_142 : decode cX10_valueB 142 = .ok (.lload_n 3, 1) := by decide +kernel
theorem dX10_valueB_143 : decode cX10_valueB 143 = .ok (.lmul, 1) := by decide +kernel
theorem dX10_valueB_144 : decode cX10_valueB 144 = .ok (.aload_n 0, 1) := by decide +kernel
theorem dX10_valueB_145 : decode cX10_valueB 145 = .ok (.getfield 339, 3) := by decide +kernel
theorem dX10_valueB_148 : decode cX10_valueB 148 = .ok (.aload_n 0, 1) := by decide +kernel
theorem dX10_valueB_149 : decode cX10_valueB 149 = .ok (.dup, 1) := by decide +kernel
theorem dX10_valueB_150 : decode cX10_valueB 150 = .ok (.getfield 334, 3) := by decide +kernel
theorem dX10_valueB_153 : decode cX10_valueB 153 = .ok (.dup_x1, 1) := by decide +kernel
theorem dX10_valueB_154 : decode cX10_valueB 154 = .ok (.iconst 1, 1) := by decide +kernel
theorem dX10_valueB_155 : decode cX10_valueB 155 = .ok (.iadd, 1) := by decide +kernel
theorem dX10_valueB_156 : decode cX10_valueB 156 = .ok (.putfield 334, 3) := by decide +kernel
theorem dX10_valueB_159 : decode cX10_valueB 159 = .ok (.baload, 1) := by decide +kernel
theorem dX10_valueB_160 : decode cX10_valueB 160 = .ok (.i2l, 1) := by decide +kernel
theorem dX10_valueB_161 : decode cX10_valueB 161 = .ok (.ladd, 1) := by decide +kernel
theorem dX10_valueB_162 : decode cX10_valueB 162 = .ok (.ldc2_w 434, 3) := by decide +kernel
theorem dX10_valueB_165 : decode cX10_valueB 165 = .ok (.lsub, 1) := by decide +kernel
theorem dX10_valueB_166 : decode cX10_valueB 166 = .ok (.lstore_n 3, 1) := by decide +kernel
theorem dX10_valueB_167 : decode cX10_valueB 167 = .ok (.goto (-67), 3) := by decide +kernel
theorem dX10_valueB_170 : decode cX10_valueB 170 = .ok (.aload_n 0, 1) := by decide +kernel
theorem dX10_valueB_171 : decode cX10_valueB 171 = .ok (.aload_n 2, 1) := by decide +kernel
theorem dX10_valueB_172 : decode cX10_valueB 172 = .ok (.lload_n 3, 1) := by decide +kernel
theorem dX10_valueB_173 : decode cX10_valueB 173 = .ok (.ldc2_w 3, 3) := by decide +kernel
theorem dX10_valueB_176 : decode cX10_valueB 176 = .ok (.lrem, 1) := by decide +kernel
theorem dX10_valueB_177 : decode cX10_valueB 177 = .ok (.l2i, 1) := by decide +kernel
theorem dX10_valueB_178 : decode cX10_valueB 178 = .ok (.invokevirtual 292, 3) := by decide +kernel
theorem dX10_valueB_181 : decode cX10_valueB 181 = .ok (.aload_n 2, 1) := by decide +kernel
theorem dX10_valueB_182 : decode cX10_valueB 182 = .ok (.areturn, 1) := by decide +kernel
theorem dX10_isLine_0 : decode cX10_isLine 0 = .ok (.aload_n 1, 1) := by decide +kernel
theorem dX10_isLine_1 : decode cX10_isLine 1 = .ok (.getfield 202, 3) := by decide +kernel
theorem dX10_isLine_4 : decode cX10_isLine 4 = .ok (.iconst 1, 1) := by decide +kernel
theorem dX10_isLine_5 : decode cX10_isLine 5 = .ok (.if_icmp .ne 13, 3) := by decide +kernel
theorem dX10_isLine_8 : decode cX10_isLine 8 = .ok (.aload_n 1, 1) := by decide +kernel
theorem dX10_isLine_9 : decode cX10_isLine 9 = .ok (.getfield 210, 3) := by decide +kernel
theorem dX10_isLine_12 : decode cX10_isLine 12 = .ok (.invokestatic 265, 3) := by decide +kernel
theorem dX10_isLine_15 : decode cX10_isLine 15 = .ok (.ifCond .ne 5, 3) := by decide +kernel
theorem dX10_isLine_18 : decode cX10_isLine 18 = .ok (.iconst 0, 1) := by decide +kernel
theorem dX10_isLine_19 : decode cX10_isLine 19 = .ok (.ireturn, 1) := by decide +kernel
theorem dX10_isLine_20 : decode cX10_isLine 20 = .ok (.iconst 1, 1) := by decide +kernel
theorem dX10_isLine_21 : decode cX10_isLine 21 = .ok (.istore_n 2, 1) := by decide +kernel
theorem dX10_isLine_22 : decode cX10_isLine 22 = .ok (.iconst 0, 1) := by decide +kernel
theorem dX10_isLine_23 : decode cX10_isLine 23 = .ok (.istore_n 3, 1) := by decide +kernel
theorem dX10_isLine_24 : decode cX10_isLine 24 = .ok (.iload_n 3, 1) := by decide +kernel
theorem dX10_isLine_25 : decode cX10_isLine 25 = .ok (.sipush 325, 3) := by decide +kernel
theorem dX10_isLine_28 : decode cX10_isLine 28 = .ok (.if_icmp .ge 41, 3) := by decide +kernel
theorem dX10_isLine_31 : decode cX10_isLine 31 = .ok (.iload_n 2, 1) := by decide +kernel
theorem dX10_isLine_32 : decode cX10_isLine 32 = .ok (.aload_n 1, 1) := by decide +kernel
theorem dX10_isLine_33 : decode cX10_isLine 33 = .ok (.getfield 207, 3) := by decide +kernel
theorem dX10_isLine_36 : decode cX10_isLine 36 = .ok (.iload_n 3, 1) := by decide +kernel
theorem dX10_isLine_37 : decode cX10_isLine 37 = .ok (.iaload, 1) := by decide +kernel
theorem dX10_isLine_38 : decode cX10_isLine 38 = .ok (.ifCond .eq 18, 3) := by decide +kernel
theorem dX10_isLine_41 : decode cX10_isLine 41 = .ok (.iload_n 3, 1) := by decide +kernel
theorem dX10_isLine_42 : decode cX10_isLine 42 = .ok (.ifCond .eq 14, 3) := by decide +kernel
theorem dX10_isLine_45 : decode cX10_isLine 45 = .ok (.iload_n 3, 1) := by decide +kernel
theorem dX10_isLine_46 : decode cX10_isLine 46 = .ok (.iconst 1, 1) := by decide +kernel
theorem dX10_isLine_47 : decode cX10_isLine 47 = .ok (.if_icmp .eq 9, 3) := by decide +kernel
theorem dX10_isLine_50 : decode cX10_isLine 50 = .ok (.iload_n 3, 1) := by decide +kernel
theorem dX10_isLine_51 : decode cX10_isLine 51 = .ok (.bipush 25, 2) := by decide +kernel
theorem dX10_isLine_53 : decode cX10_isLine 53 = .ok (.if_icmp .ne 7, 3) := by decide +kernel
theorem dX10_isLine_56 : decode cX10_isLine 56 = .ok (.iconst 1, 1) := by decide +kernel
theorem dX10_isLine_57 : decode cX10_isLine 57 = .ok (.goto 4, 3) := by decide +kernel
theorem dX10_isLine_60 : decode cX10_isLine 60 = .ok (.iconst 0, 1) := by decide +kernel
theorem dX10_isLine_61 : decode cX10_isLine 61 = .ok (.iand, 1) := by decide +kernel
theorem dX10_isLine_62 : decode cX10_isLine 62 = .ok (.istore_n 2, 1) := by decide +kernel
theorem dX10_isLine_63 : decode cX10_isLine 63 = .ok (.iinc 3 1, 3) := by decide +kernel
theorem dX10_isLine_66 : decode cX10_isLine 66 = .ok (.goto (-42), 3) := by decide +kernel
theorem dX10_isLine_69 : decode cX10_isLine 69 = .ok (.aload_n 0, 1) := by decide +kernel
theorem dX10_isLine_70 : decode cX10_isLine 70 = .ok (.aload_n 1, 1) := by decide +kernel
theorem dX10_isLine_71 : decode cX10_isLine 71 = .ok (.getfield 207, 3) := by decide +kernel
theorem dX10_isLine_74 : decode cX10_isLine 74 = .ok (.iconst 1, 1) := by decide +kernel
theorem dX10_isLine_75 : decode cX10_isLine 75 = .ok (.iaload, 1) := by decide +kernel
theorem dX10_isLine_76 : decode cX10_isLine 76 = .ok (.invokestatic 390, 3) := by decide +kernel
theorem dX10_isLine_79 : decode cX10_isLine 79 = .ok (.putfield 393, 3) := by decide +kernel
theorem dX10_isLine_82 : decode cX10_isLine 82 = .ok (.aload_n 0, 1) := by decide +kernel
theorem dX10_isLine_83 : decode cX10_isLine 83 = .ok (.aload_n 1, 1) := by decide +kernel
theorem dX10_isLine_84 : decode cX10_isLine 84 = .ok (.getfield 207, 3) := by decide +kernel
theorem dX10_isLine_87 : decode cX10_isLine 87 = .ok (.bipush 25, 2) := by decide +kernel
theorem dX10_isLine_89 : decode cX10_isLine 89 = .ok (.iaload, 1) := by decide +kernel
theorem dX10_isLine_90 : decode cX10_isLine 90 = .ok (.invokestatic 390, 3) := by decide +kernel
theorem dX10_isLine_93 : decode cX10_isLine 93 = .ok (.putfield 396, 3) := by decide +kernel
theorem dX10_isLine_96 : decode cX10_isLine 96 = .ok (.aload_n 0, 1) := by decide +kernel
theorem dX10_isLine_97 : decode cX10_isLine 97 = .ok (.aload_n 1, 1) := by decide +kernel
theorem dX10_isLine_98 : decode cX10_isLine 98 = .ok (.getfield 207, 3) := by decide +kernel
theorem dX10_isLine_101 : decode cX10_isLine 101 = .ok (.iconst 0, 1) := by decide +kernel
theorem dX10_isLine_102 : decode cX10_isLine 102 = .ok (.iaload, 1) := by decide +kernel
theorem dX10_isLine_103 : decode cX10_isLine 103 = .ok (.invokestatic 390, 3) := by decide +kernel
theorem dX10_isLine_106 : decode cX10_isLine 106 = .ok (.putfield 399, 3) := by decide +kernel
theorem dX10_isLine_109 : decode cX10_isLine 109 = .ok (.iload_n 2, 1) := by decide +kernel
theorem dX10_isLine_110 : decode cX10_isLine 110 = .ok (.ifCond .eq 25, 3) := by decide +kernel
theorem dX10_isLine_113 : decode cX10_isLine 113 = .ok (.aload_n 0, 1) := by decide +kernel
theorem dX10_isLine_114 : decode cX10_isLine 114 = .ok (.getfield 393, 3) := by decide +kernel
theorem dX10_isLine_117 : decode cX10_isLine 117 = .ok (.aload_n 0, 1) := by decide +kernel
theorem dX10_isLine_118 : decode cX10_isLine 118 = .ok (.getfield 396, 3) := by decide +kernel
theorem dX10_isLine_121 : decode cX10_isLine 121 = .ok (.aload_n 0, 1) := by decide +kernel
theorem dX10_isLine_122 : decode cX10_isLine 122 = .ok (.getfield 399, 3) := by decide +kernel
theorem dX10_isLine_125 : decode cX10_isLine 125 = .ok (.invokestatic 402, 3) := by decide +kernel
theorem dX10_isLine_128 : decode cX10_isLine 128 = .ok (.ifCond .eq 7, 3) := by decide +kernel
theorem dX10_isLine_131 : decode cX10_isLine 131 = .ok (.iconst 1, 1) := by decide +kernel
theorem dX10_isLine_132 : decode cX10_isLine 132 = .ok (.goto 4, 3) := by decide +kernel
theorem dX10_isLine_135 : decode cX10_isLine 135 = .ok (.iconst 0, 1) := by decide +kernel
theorem dX10_isLine_136 : decode cX10_isLine 136 = .ok (.ireturn, 1) := by decide +kernel
theorem dX10_isOne_0 : decode cX10_isOne 0 = .ok (.aload_n 0, 1) := by decide +kernel
theorem dX10_isOne_1 : decode cX10_isOne 1 = .ok (.iconst 0, 1) := by decide +kernel
theorem dX10_isOne_2 : decode cX10_isOne 2 = .ok (.iaload, 1) := by decide +kernel
theorem dX10_isOne_3 : decode cX10_isOne 3 = .ok (.iconst 1, 1) := by decide +kernel
theorem dX10_isOne_4 : decode cX10_isOne 4 = .ok (.if_icmp .ne 7, 3) := by decide +kernel
theorem dX10_isOne_7 : decode cX10_isOne 7 = .ok (.iconst 1, 1) := by decide +kernel
theorem dX10_isOne_8 : decode cX10_isOne 8 = .ok (.goto 4, 3) := by decide +kernel
theorem dX10_isOne_11 : decode cX10_isOne 11 = .ok (.iconst 0, 1) := by decide +kernel
theorem dX10_isOne_12 : decode cX10_isOne 12 = .ok (.istore_n 1, 1) := by decide +kernel
theorem dX10_isOne_13 : decode cX10_isOne 13 = .ok (.iconst 1, 1) := by decide +kernel
theorem dX10_isOne_14 : decode cX10_isOne 14 = .ok (.istore_n 2, 1) := by decide +kernel
theorem dX10_isOne_15 : decode cX10_isOne 15 = .ok (.iload_n 2, 1) := by decide +kernel
theorem dX10_isOne_16 : decode cX10_isOne 16 = .ok (.sipush 325, 3) := by decide +kernel
theorem dX10_isOne_19 : decode cX10_isOne 19 = .ok (.if_icmp .ge 25, 3) := by decide +kernel
theorem dX10_isOne_22 : decode cX10_isOne 22 = .ok (.iload_n 1, 1) := by decide +kernel
theorem dX10_isOne_23 : decode cX10_isOne 23 = .ok (.ifCond .eq 21, 3) := by decide +kernel
theorem dX10_isOne_26 : decode cX10_isOne 26 = .ok (.aload_n 0, 1) := by decide +kernel
theorem dX10_isOne_27 : decode cX10_isOne 27 = .ok (.iload_n 2, 1) := by decide +kernel
theorem dX10_isOne_28 : decode cX10_isOne 28 = .ok (.iaload, 1) := by decide +kernel
theorem dX10_isOne_29 : decode cX10_isOne 29 = .ok (.ifCond .ne 7, 3) := by decide +kernel
theorem dX10_isOne_32 : decode cX10_isOne 32 = .ok (.iconst 1, 1) := by decide +kernel
theorem dX10_isOne_33 : decode cX10_isOne 33 = .ok (.goto 4, 3) := by decide +kernel
theorem dX10_isOne_36 : decode cX10_isOne 36 = .ok (.iconst 0, 1) := by decide +kernel
theorem dX10_isOne_37 : decode cX10_isOne 37 = .ok (.istore_n 1, 1) := by decide +kernel
theorem dX10_isOne_38 : decode cX10_isOne 38 = .ok (.iinc 2 1, 3) := by decide +kernel
theorem dX10_isOne_41 : decode cX10_isOne 41 = .ok (.goto (-26), 3) := by decide +kernel
theorem dX10_isOne_44 : decode cX10_isOne 44 = .ok (.iload_n 1, 1) := by decide +kernel
theorem dX10_isOne_45 : decode cX10_isOne 45 = .ok (.ireturn, 1) := by decide +kernel
theorem dX10_small_0 : decode cX10_small 0 = .ok (.iload_n 0, 1) := by decide +kernel
theorem dX10_small_1 : decode cX10_small 1 = .ok (.ldc 12, 2) := by decide +kernel
theorem dX10_small_3 : decode cX10_small 3 = .ok (.if_icmp .le 10, 3) := by decide +kernel
theorem dX10_small_6 : decode cX10_small 6 = .ok (.iload_n 0, 1) := by decide +kernel
theorem dX10_small_7 : decode cX10_small 7 = .ok (.ldc 5, 2) := by decide +kernel
theorem dX10_small_9 : decode cX10_small 9 = .ok (.isub, 1) := by decide +kernel
theorem dX10_small_10 : decode cX10_small 10 = .ok (.goto 4, 3) := by decide +kernel
theorem dX10_small_13 : decode cX10_small 13 = .ok (.iload_n 0, 1) := by decide +kernel
theorem dX10_small_14 : decode cX10_small 14 = .ok (.ireturn, 1) := by decide +kernel
theorem dX10_isLine_2_0 : decode cX10_isLine_2 0 = .ok (.iload_n 0, 1) := by decide +kernel
theorem dX10_isLine_2_1 : decode cX10_isLine_2 1 = .ok (.bipush (-3), 2) := by decide +kernel
theorem dX10_isLine_2_3 : decode cX10_isLine_2 3 = .ok (.if_icmp .lt 35, 3) := by decide +kernel
theorem dX10_isLine_2_6 : decode cX10_isLine_2 6 = .ok (.iload_n 0, 1) := by decide +kernel
theorem dX10_isLine_2_7 : decode cX10_isLine_2 7 = .ok (.iconst 3, 1) := by decide +kernel
theorem dX10_isLine_2_8 : decode cX10_isLine_2 8 = .ok (.if_icmp .gt 30, 3) := by decide +kernel
theorem dX10_isLine_2_11 : decode cX10_isLine_2 11 = .ok (.iload_n 1, 1) := by decide +kernel
theorem dX10_isLine_2_12 : decode cX10_isLine_2 12 = .ok (.bipush (-3), 2) := by decide +kernel
theorem dX10_isLine_2_14 : decode cX10_isLine_2 14 = .ok (.if_icmp .lt 24, 3) := by decide +kernel
theorem dX10_isLine_2_17 : decode cX10_isLine_2 17 = .ok (.iload_n 1, 1) := by decide +kernel
theorem dX10_isLine_2_18 : decode cX10_isLine_2 18 = .ok (.iconst 3, 1) := by decide +kernel
theorem dX10_isLine_2_19 : decode cX10_isLine_2 19 = .ok (.if_icmp .gt 19, 3) := by decide +kernel
theorem dX10_isLine_2_22 : decode cX10_isLine_2 22 = .ok (.iload_n 2, 1) := by decide +kernel
theorem dX10_isLine_2_23 : decode cX10_isLine_2 23 = .ok (.bipush (-50), 2) := by decide +kernel
theorem dX10_isLine_2_25 : decode cX10_isLine_2 25 = .ok (.if_icmp .lt 13, 3) := by decide +kernel
theorem dX10_isLine_2_28 : decode cX10_isLine_2 28 = .ok (.iload_n 2, 1) := by decide +kernel
theorem dX10_isLine_2_29 : decode cX10_isLine_2 29 = .ok (.bipush 50, 2) := by decide +kernel
theorem dX10_isLine_2_31 : decode cX10_isLine_2 31 = .ok (.if_icmp .gt 7, 3) := by decide +kernel
theorem dX10_isLine_2_34 : decode cX10_isLine_2 34 = .ok (.iconst 1, 1) := by decide +kernel
theorem dX10_isLine_2_35 : decode cX10_isLine_2 35 = .ok (.goto 4, 3) := by decide +kernel
theorem dX10_isLine_2_38 : decode cX10_isLine_2 38 = .ok (.iconst 0, 1) := by decide +kernel
theorem dX10_isLine_2_39 : decode cX10_isLine_2 39 = .ok (.ireturn, 1) := by decide +kernel
theorem dX10_number_0 : decode cX10_number 0 = .ok (.aload_n 0, 1) := by decide +kernel
theorem dX10_number_1 : decode cX10_number 1 = .ok (.getfield 90, 3) := by decide +kernel
theorem dX10_number_4 : decode cX10_number 4 = .ok (.istore_n 3, 1) := by decide +kernel
theorem dX10_number_5 : decode cX10_number 5 = .ok (.aload_n 0, 1) := by decide +kernel
theorem dX10_number_6 : decode cX10_number 6 = .ok (.invokevirtual 140, 3) := by decide +kernel
theorem dX10_number_9 : decode cX10_number 9 = .ok (.astore 4, 2) := by decide +kernel
theorem dX10_number_11 : decode cX10_number 11 = .ok (.aload_n 0, 1) := by decide +kernel
theorem dX10_number_12 : decode cX10_number 12 = .ok (.invokevirtual 140, 3) := by decide +kernel
theorem dX10_number_15 : decode cX10_number 15 = .ok (.astore 5, 2) := by decide +kernel
theorem dX10_number_17 : decode cX10_number 17 = .ok (.aload_n 1, 1) := by decide +kernel
theorem dX10_number_18 : decode cX10_number 18 = .ok (.invokestatic 257, 3) := by decide +kernel
theorem dX10_number_21 : decode cX10_number 21 = .ok (.aload 4, 2) := by decide +kernel
theorem dX10_number_23 : decode cX10_number 23 = .ok (.iload_n 2, 1) := by decide +kernel
theorem dX10_number_24 : decode cX10_number 24 = .ok (.invokevirtual 158, 3) := by decide +kernel
theorem dX10_number_27 : decode cX10_number 27 = .ok (.aload 5, 2) := by decide +kernel
theorem dX10_number_29 : decode cX10_number 29 = .ok (.iconst 1, 1) := by decide +kernel
theorem dX10_number_30 : decode cX10_number 30 = .ok (.invokevirtual 158, 3) := by decide +kernel
theorem dX10_number_33 : decode cX10_number 33 = .ok (.aload_n 1, 1) := by decide +kernel
theorem dX10_number_34 : decode cX10_number 34 = .ok (.aload 4, 2) := by decide +kernel
theorem dX10_number_36 : decode cX10_number 36 = .ok (.aload 5, 2) := by decide +kernel
theorem dX10_number_38 : decode cX10_number 38 = .ok (.invokestatic 261, 3) := by decide +kernel
theorem dX10_number_41 : decode cX10_number 41 = .ok (.istore 6, 2) := by decide +kernel
theorem dX10_number_43 : decode cX10_number 43 = .ok (.aload_n 0, 1) := by decide +kernel
theorem dX10_number_44 : decode cX10_number 44 = .ok (.iload_n 3, 1) := by decide +kernel
theorem dX10_number_45 : decode cX10_number 45 = .ok (.putfield 90, 3) := by decide +kernel
theorem dX10_number_48 : decode cX10_number 48 = .ok (.return_, 1) := by decide +kernel
theorem dX10_newB_0 : decode cX10_newB 0 = .ok (.aload_n 0, 1) := by decide +kernel
theorem dX10_newB_1 : decode cX10_newB 1 = .ok (.getfield 86, 3) := by decide +kernel
theorem dX10_newB_4 : decode cX10_newB 4 = .ok (.aload_n 0, 1) := by decide +kernel
theorem dX10_newB_5 : decode cX10_newB 5 = .ok (.dup, 1) := by decide +kernel
theorem dX10_newB_6 : decode cX10_newB 6 = .ok (.getfield 90, 3) := by decide +kernel
theorem dX10_newB_9 : decode cX10_newB 9 = .ok (.dup_x1, 1) := by decide +kernel
theorem dX10_newB_10 : decode cX10_newB 10 = .ok (.iconst 1, 1) := by decide +kernel
theorem dX10_newB_11 : decode cX10_newB 11 = .ok (.iadd, 1) := by decide +kernel
theorem dX10_newB_12 : decode cX10_newB 12 = .ok (.putfield 90, 3) := by decide +kernel
theorem dX10_newB_15 : decode cX10_newB 15 = .ok (.aaload, 1) := by decide +kernel
theorem dX10_newB_16 : decode cX10_newB 16 = .ok (.astore_n 1, 1) := by decide +kernel
theorem dX10_newB_17 : decode cX10_newB 17 = .ok (.aload_n 1, 1) := by decide +kernel
theorem dX10_newB_18 : decode cX10_newB 18 = .ok (.iconst 0, 1) := by decide +kernel
theorem dX10_newB_19 : decode cX10_newB 19 = .ok (.putfield 93, 3) := by decide +kernel
theorem dX10_newB_22 : decode cX10_newB 22 = .ok (.aload_n 1, 1) := by decide +kernel
theorem dX10_newB_23 : decode cX10_newB 23 = .ok (.areturn, 1) := by decide +kernel
theorem dX10_plain_0 : decode cX10_plain 0 = .ok (.aload_n 0, 1) := by decide +kernel
theorem dX10_plain_1 : decode cX10_plain 1 = .ok (.iconst 1, 1) := by decide +kernel
theorem dX10_plain_2 : decode cX10_plain 2 = .ok (.putfield 202, 3) := by decide +kernel
theorem dX10_plain_5 : decode cX10_plain 5 = .ok (.aload_n 0, 1) := by decide +kernel
theorem dX10_plain_6 : decode cX10_plain 6 = .ok (.iconst 1, 1) := by decide +kernel
theorem dX10_plain_7 : decode cX10_plain 7 = .ok (.putfield 213, 3) := by decide +kernel
theorem dX10_plain_10 : decode cX10_plain 10 = .ok (.aload_n 0, 1) := by decide +kernel
theorem dX10_plain_11 : decode cX10_plain 11 = .ok (.iconst 1, 1) := by decide +kernel
theorem dX10_plain_12 : decode cX10_plain 12 = .ok (.putfield 216, 3) := by decide +kernel
theorem dX10_plain_15 : decode cX10_plain 15 = .ok (.aload_n 0, 1) := by decide +kernel
theorem dX10_plain_16 : decode cX10_plain 16 = .ok (.iconst 0, 1) := by decide +kernel
theorem dX10_plain_17 : decode cX10_plain 17 = .ok (.putfield 219, 3) := by decide +kernel
theorem dX10_plain_20 : decode cX10_plain 20 = .ok (.return_, 1) := by decide +kernel
theorem dX10_put_0 : decode cX10_put 0 = .ok (.aload_n 1, 1) := by decide +kernel
theorem dX10_put_1 : decode cX10_put 1 = .ok (.invokestatic 249, 3) := by decide +kernel
theorem dX10_put_4 : decode cX10_put 4 = .ok (.ifCond .eq 10, 3) := by decide +kernel
theorem dX10_put_7 : decode cX10_put 7 = .ok (.aload_n 2, 1) := by decide +kernel
theorem dX10_put_8 : decode cX10_put 8 = .ok (.invokestatic 249, 3) := by decide +kernel
theorem dX10_put_11 : decode cX10_put 11 = .ok (.ifCond .ne 5, 3) := by decide +kernel
theorem dX10_put_14 : decode cX10_put 14 = .ok (.iconst 0, 1) := by decide +kernel
theorem dX10_put_15 : decode cX10_put 15 = .ok (.ireturn, 1) := by decide +kernel
theorem dX10_put_16 : decode cX10_put 16 = .ok (.aload_n 0, 1) := by decide +kernel
theorem dX10_put_17 : decode cX10_put 17 = .ok (.getfield 207, 3) := by decide +kernel
theorem dX10_put_20 : decode cX10_put 20 = .ok (.aload_n 1, 1) := by decide +kernel
theorem dX10_put_21 : decode cX10_put 21 = .ok (.invokestatic 253, 3) := by decide +kernel
theorem dX10_put_24 : decode cX10_put 24 = .ok (.aload_n 0, 1) := by decide +kernel
theorem dX10_put_25 : decode cX10_put 25 = .ok (.getfield 210, 3) := by decide +kernel
theorem dX10_put_28 : decode cX10_put 28 = .ok (.aload_n 2, 1) := by decide +kernel
theorem dX10_put_29 : decode cX10_put 29 = .ok (.invokestatic 253, 3) := by decide +kernel
theorem dX10_put_32 : decode cX10_put 32 = .ok (.iconst 1, 1) := by decide +kernel
theorem dX10_put_33 : decode cX10_put 33 = .ok (.ireturn, 1) := by decide +kernel
theorem dX10_fits_0 : decode cX10_fits 0 = .ok (.aload_n 0, 1) := by decide +kernel
theorem dX10_fits_1 : decode cX10_fits 1 = .ok (.getfield 93, 3) := by decide +kernel
theorem dX10_fits_4 : decode cX10_fits 4 = .ok (.bipush 13, 2) := by decide +kernel
theorem dX10_fits_6 : decode cX10_fits 6 = .ok (.if_icmp .gt 7, 3) := by decide +kernel
theorem dX10_fits_9 : decode cX10_fits 9 = .ok (.iconst 1, 1) := by decide +kernel
theorem dX10_fits_10 : decode cX10_fits 10 = .ok (.goto 4, 3) := by decide +kernel
theorem dX10_fits_13 : decode cX10_fits 13 = .ok (.iconst 0, 1) := by decide +kernel
theorem dX10_fits_14 : decode cX10_fits 14 = .ok (.istore_n 1, 1) := by decide +kernel
theorem dX10_fits_15 : decode cX10_fits 15 = .ok (.iconst 0, 1) := by decide +kernel
theorem dX10_fits_16 : decode cX10_fits 16 = .ok (.istore_n 2, 1) := by decide +kernel
theorem dX10_fits_17 : decode cX10_fits 17 = .ok (.iload_n 2, 1) := by decide +kernel
theorem dX10_fits_18 : decode cX10_fits 18 = .ok (.aload_n 0, 1) := by decide +kernel
theorem dX10_fits_19 : decode cX10_fits 19 = .ok (.getfield 93, 3) := by decide +kernel
theorem dX10_fits_22 : decode cX10_fits 22 = .ok (.if_icmp .ge 33, 3) := by decide +kernel
theorem dX10_fits_25 : decode cX10_fits 25 = .ok (.iload_n 1, 1) := by decide +kernel
theorem dX10_fits_26 : decode cX10_fits 26 = .ok (.ifCond .eq 29, 3) := by decide +kernel
theorem dX10_fits_29 : decode cX10_fits 29 = .ok (.aload_n 0, 1) := by decide +kernel
theorem dX10_fits_30 : decode cX10_fits 30 = .ok (.getfield 98, 3) := by decide +kernel
theorem dX10_fits_33 : decode cX10_fits 33 = .ok (.iload_n 2, 1) := by decide +kernel
theorem dX10_fits_34 : decode cX10_fits 34 = .ok (.aaload, 1) := by decide +kernel
theorem dX10_fits_35 : decode cX10_fits 35 = .ok (.getfield 25, 3) := by decide +kernel
theorem dX10_fits_38 : decode cX10_fits 38 = .ok (.bipush 25, 2) := by decide +kernel
theorem dX10_fits_40 : decode cX10_fits 40 = .ok (.if_icmp .gt 7, 3) := by decide +kernel
theorem dX10_fits_43 : decode cX10_fits 43 = .ok (.iconst 1, 1) := by decide +kernel
theorem dX10_fits_44 : decode cX10_fits 44 = .ok (.goto 4, 3) := by decide +kernel
theorem dX10_fits_47 : decode cX10_fits 47 = .ok (.iconst 0, 1) := by decide +kernel
theorem dX10_fits_48 : decode cX10_fits 48 = .ok (.istore_n 1, 1) := by decide +kernel
theorem dX10_fits_49 : decode cX10_fits 49 = .ok (.iinc 2 1, 3) := by decide +kernel
theorem dX10_fits_52 : decode cX10_fits 52 = .ok (.goto (-35), 3) := by decide +kernel
theorem dX10_fits_55 : decode cX10_fits 55 = .ok (.iload_n 1, 1) := by decide +kernel
theorem dX10_fits_56 : decode cX10_fits 56 = .ok (.ireturn, 1) := by decide +kernel
theorem dX10_store_0 : decode cX10_store 0 = .ok (.iconst 0, 1) := by decide +kernel
theorem dX10_store_1 : decode cX10_store 1 = .ok (.istore_n 2, 1) := by decide +kernel
theorem dX10_store_2 : decode cX10_store 2 = .ok (.iload_n 2, 1) := by decide +kernel
theorem dX10_store_3 : decode cX10_store 3 = .ok (.bipush 13, 2) := by decide +kernel
theorem dX10_store_5 : decode cX10_store 5 = .ok (.if_icmp .ge 53, 3) := by decide +kernel
theorem dX10_store_8 : decode cX10_store 8 = .ok (.iconst 0, 1) := by decide +kernel
theorem dX10_store_9 : decode cX10_store 9 = .ok (.istore_n 3, 1) := by decide +kernel
theorem dX10_store_10 : decode cX10_store 10 = .ok (.iload_n 3, 1) := by decide +kernel
theorem dX10_store_11 : decode cX10_store 11 = .ok (.bipush 25, 2) := by decide +kernel
theorem dX10_store_13 : decode cX10_store 13 = .ok (.if_icmp .ge 39, 3) := by decide +kernel
theorem dX10_store_16 : decode cX10_store 16 = .ok (.aload_n 0, 1) := by decide +kernel
theorem dX10_store_17 : decode cX10_store 17 = .ok (.bipush 25, 2) := by decide +kernel
theorem dX10_store_19 : decode cX10_store 19 = .ok (.iload_n 2, 1) := by decide +kernel
theorem dX10_store_20 : decode cX10_store 20 = .ok (.imul, 1) := by decide +kernel
theorem dX10_store_21 : decode cX10_store 21 = .ok (.iload_n 3, 1) := by decide +kernel
theorem dX10_store_22 : decode cX10_store 22 = .ok (.iadd, 1) := by decide +kernel
theorem dX10_store_23 : decode cX10_store 23 = .ok (.iload_n 2, 1) := by decide +kernel
theorem dX10_store_24 : decode cX10_store 24 = .ok (.aload_n 1, 1) := by decide +kernel
theorem dX10_store_25 : decode cX10_store 25 = .ok (.getfield 93, 3) := by decide +kernel
theorem dX10_store_28 : decode cX10_store 28 = .ok (.if_icmp .ge 16, 3) := by decide +kernel
theorem dX10_store_31 : decode cX10_store 31 = .ok (.aload_n 1, 1) := by decide +kernel
theorem dX10_store_32 : decode cX10_store 32 = .ok (.getfield 98, 3) := by decide +kernel
theorem dX10_store_35 : decode cX10_store 35 = .ok (.iload_n 2, 1) := by decide +kernel
theorem dX10_store_36 : decode cX10_store 36 = .ok (.aaload, 1) := by decide +kernel
theorem dX10_store_37 : decode cX10_store 37 = .ok (.iload_n 3, 1) := by decide +kernel
theorem dX10_store_38 : decode cX10_store 38 = .ok (.invokevirtual 122, 3) := by decide +kernel
theorem dX10_store_41 : decode cX10_store 41 = .ok (.goto 4, 3) := by decide +kernel
theorem dX10_store_44 : decode cX10_store 44 = .ok (.iconst 0, 1) := by decide +kernel
theorem dX10_store_45 : decode cX10_store 45 = .ok (.iastore, 1) := by decide +kernel
theorem dX10_store_46 : decode cX10_store 46 = .ok (.iinc 3 1, 3) := by decide +kernel
theorem dX10_store_49 : decode cX10_store 49 = .ok (.goto (-39), 3) := by decide +kernel
theorem dX10_store_52 : decode cX10_store 52 = .ok (.iinc 2 1, 3) := by decide +kernel
theorem dX10_store_55 : decode cX10_store 55 = .ok (.goto (-53), 3) := by decide +kernel
theorem dX10_store_58 : decode cX10_store 58 = .ok (.return_, 1) := by decide +kernel
theorem dX10_factorial_0 : decode cX10_factorial 0 = .ok (.iload_n 2, 1) := by decide +kernel
theorem dX10_factorial_1 : decode cX10_factorial 1 = .ok (.ifCond .ne 7, 3) := by decide +kernel
theorem dX10_factorial_4 : decode cX10_factorial 4 = .ok (.iload_n 3, 1) := by decide +kernel
theorem dX10_factorial_5 : decode cX10_factorial 5 = .ok (.ifCond .eq 14, 3) := by decide +kernel
theorem dX10_factorial_8 : decode cX10_factorial 8 = .ok (.aload_n 1, 1) := by decide +kernel
theorem dX10_factorial_9 : decode cX10_factorial 9 = .ok (.iload_n 2, 1) := by decide +kernel
theorem dX10_factorial_10 : decode cX10_factorial 10 = .ok (.iload_n 3, 1) := by decide +kernel
theorem dX10_factorial_11 : decode cX10_factorial 11 = .ok (.iload 4, 2) := by decide +kernel
theorem dX10_factorial_13 : decode cX10_factorial 13 = .ok (.iload 5, 2) := by decide +kernel
theorem dX10_factorial_15 : decode cX10_factorial 15 = .ok (.invokestatic 284, 3) := by decide +kernel
theorem dX10_factorial_18 : decode cX10_factorial 18 = .ok (.return_, 1) := by decide +kernel
theorem dX10_factorial_19 : decode cX10_factorial 19 = .ok (.iconst 1, 1) := by decide +kernel
theorem dX10_factorial_20 : decode cX10_factorial 20 = .ok (.istore 6, 2) := by decide +kernel
theorem dX10_factorial_22 : decode cX10_factorial 22 = .ok (.iconst 2, 1) := by decide +kernel
theorem dX10_factorial_23 : decode cX10_factorial 23 = .ok (.istore 7, 2) := by decide +kernel
theorem dX10_factorial_25 : decode cX10_factorial 25 = .ok (.iload 7, 2) := by decide +kernel
theorem dX10_factorial_27 : decode cX10_factorial 27 = .ok (.iload 4, 2) := by decide +kernel
theorem dX10_factorial_29 : decode cX10_factorial 29 = .ok (.if_icmp .gt 18, 3) := by decide +kernel
theorem dX10_factorial_32 : decode cX10_factorial 32 = .ok (.iload 6, 2) := by decide +kernel
theorem dX10_factorial_34 : decode cX10_factorial 34 = .ok (.iload 7, 2) := by decide +kernel
theorem dX10_factorial_36 : decode cX10_factorial 36 = .ok (.invokestatic 56, 3) := by decide +kernel
theorem dX10_factorial_39 : decode cX10_factorial 39 = .ok (.istore 6, 2) := by decide +kernel
theorem dX10_factorial_41 : decode cX10_factorial 41 = .ok (.iinc 7 1, 3) := by decide +kernel
theorem dX10_factorial_44 : decode cX10_factorial 44 = .ok (.goto (-19), 3) := by decide +kernel
theorem dX10_factorial_47 : decode cX10_factorial 47 = .ok (.iload 5, 2) := by decide +kernel
theorem dX10_factorial_49 : decode cX10_factorial 49 = .ok (.ifCond .ge 11, 3) := by decide +kernel
theorem dX10_factorial_52 : decode cX10_factorial 52 = .ok (.iload 6, 2) := by decide +kernel
theorem dX10_factorial_54 : decode cX10_factorial 54 = .ok (.invokestatic 13, 3) := by decide +kernel
theorem dX10_factorial_57 : decode cX10_factorial 57 = .ok (.goto 5, 3) := by decide +kernel
theorem dX10_factorial_60 : decode cX10_factorial 60 = .ok (.iload 6, 2) := by decide +kernel
theorem dX10_factorial_62 : decode cX10_factorial 62 = .ok (.istore 6, 2) := by decide +kernel
theorem dX10_factorial_64 : decode cX10_factorial 64 = .ok (.iconst 0, 1) := by decide +kernel
theorem dX10_factorial_65 : decode cX10_factorial 65 = .ok (.istore 7, 2) := by decide +kernel
theorem dX10_factorial_67 : decode cX10_factorial 67 = .ok (.iload 7, 2) := by decide +kernel
theorem dX10_factorial_69 : decode cX10_factorial 69 = .ok (.sipush 325, 3) := by decide +kernel
theorem dX10_factorial_72 : decode cX10_factorial 72 = .ok (.if_icmp .ge 28, 3) := by decide +kernel
theorem dX10_factorial_75 : decode cX10_factorial 75 = .ok (.aload_n 1, 1) := by decide +kernel
theorem dX10_factorial_76 : decode cX10_factorial 76 = .ok (.getfield 207, 3) := by decide +kernel
theorem dX10_factorial_79 : decode cX10_factorial 79 = .ok (.iload 7, 2) := by decide +kernel
theorem dX10_factorial_81 : decode cX10_factorial 81 = .ok (.aload_n 1, 1) := by decide +kernel
theorem dX10_factorial_82 : decode cX10_factorial 82 = .ok (.getfield 207, 3) := by decide +kernel
theorem dX10_factorial_85 : decode cX10_factorial 85 = .ok (.iload 7, 2) := by decide +kernel
theorem dX10_factorial_87 : decode cX10_factorial 87 = .ok (.iaload, 1) := by decide +kernel
theorem dX10_factorial_88 : decode cX10_factorial 88 = .ok (.iload 6, 2) := by decide +kernel
theorem dX10_factorial_90 : decode cX10_factorial 90 = .ok (.invokestatic 56, 3) := by decide +kernel
theorem dX10_factorial_93 : decode cX10_factorial 93 = .ok (.iastore, 1) := by decide +kernel
theorem dX10_factorial_94 : decode cX10_factorial 94 = .ok (.iinc 7 1, 3) := by decide +kernel
theorem dX10_factorial_97 : decode cX10_factorial 97 = .ok (.goto (-30), 3) := by decide +kernel
theorem dX10_factorial_100 : decode cX10_factorial 100 = .ok (.return_, 1) := by decide +kernel
theorem dX10_factor_0 : decode cX10_factor 0 = .ok (.iconst 0, 1) := by decide +kernel
theorem dX10_factor_1 : decode cX10_factor 1 = .ok (.istore 5, 2) := by decide +kernel
theorem dX10_factor_3 : decode cX10_factor 3 = .ok (.iload 5, 2) := by decide +kernel
theorem dX10_factor_5 : decode cX10_factor 5 = .ok (.aload_n 0, 1) := by decide +kernel
theorem dX10_factor_6 : decode cX10_factor 6 = .ok (.getfield 219, 3) := by decide +kernel
theorem dX10_factor_9 : decode cX10_factor 9 = .ok (.if_icmp .ge 64, 3) := by decide +kernel
theorem dX10_factor_12 : decode cX10_factor 12 = .ok (.aload_n 0, 1) := by decide +kernel
theorem dX10_factor_13 : decode cX10_factor 13 = .ok (.getfield 222, 3) := by decide +kernel
theorem dX10_factor_16 : decode cX10_factor 16 = .ok (.iload 5, 2) := by decide +kernel
theorem dX10_factor_18 : decode cX10_factor 18 = .ok (.iaload, 1) := by decide +kernel
theorem dX10_factor_19 : decode cX10_factor 19 = .ok (.iload_n 1, 1) := by decide +kernel
theorem dX10_factor_20 : decode cX10_factor 20 = .ok (.if_icmp .lt 47, 3) := by decide +kernel
theorem dX10_factor_23 : decode cX10_factor 23 = .ok (.aload_n 0, 1) := by decide +kernel
theorem dX10_factor_24 : decode cX10_factor 24 = .ok (.getfield 222, 3) := by decide +kernel
theorem dX10_factor_27 : decode cX10_factor 27 = .ok (.iload 5, 2) := by decide +kernel
theorem dX10_factor_29 : decode cX10_factor 29 = .ok (.iaload, 1) := by decide +kernel
theorem dX10_factor_30 : decode cX10_factor 30 = .ok (.iload_n 1, 1) := by decide +kernel
theorem dX10_factor_31 : decode cX10_factor 31 = .ok (.if_icmp .ne 42, 3) := by decide +kernel
theorem dX10_factor_34 : decode cX10_factor 34 = .ok (.aload_n 0, 1) := by decide +kernel
theorem dX10_factor_35 : decode cX10_factor 35 = .ok (.getfield 225, 3) := by decide +kernel
theorem dX10_factor_38 : decode cX10_factor 38 = .ok (.iload 5, 2) := by decide +kernel
theorem dX10_factor_40 : decode cX10_factor 40 = .ok (.iaload, 1) := by decide +kernel
theorem dX10_factor_41 : decode cX10_factor 41 = .ok (.iload_n 2, 1) := by decide +kernel
theorem dX10_factor_42 : decode cX10_factor 42 = .ok (.if_icmp .lt 25, 3) := by decide +kernel
theorem dX10_factor_45 : decode cX10_factor 45 = .ok (.aload_n 0, 1) := by decide +kernel
theorem dX10_factor_46 : decode cX10_factor 46 = .ok (.getfield 225, 3) := by decide +kernel
theorem dX10_factor_49 : decode cX10_factor 49 = .ok (.iload 5, 2) := by decide +kernel
theorem dX10_factor_51 : decode cX10_factor 51 = .ok (.iaload, 1) := by decide +kernel
theorem dX10_factor_52 : decode cX10_factor 52 = .ok (.iload_n 2, 1) := by decide +kernel
theorem dX10_factor_53 : decode cX10_factor 53 = .ok (.if_icmp .ne 20, 3) := by decide +kernel
theorem dX10_factor_56 : decode cX10_factor 56 = .ok (.aload_n 0, 1) := by decide +kernel
theorem dX10_factor_57 : decode cX10_factor 57 = .ok (.getfield 228, 3) := by decide +kernel
theorem dX10_factor_60 : decode cX10_factor 60 = .ok (.iload 5, 2) := by decide +kernel
theorem dX10_factor_62 : decode cX10_factor 62 = .ok (.iaload, 1) := by decide +kernel
theorem dX10_factor_63 : decode cX10_factor 63 = .ok (.iload_n 3, 1) := by decide +kernel
theorem dX10_factor_64 : decode cX10_factor 64 = .ok (.if_icmp .ge 9, 3) := by decide +kernel
theorem dX10_factor_67 : decode cX10_factor 67 = .ok (.iinc 5 1, 3) := by decide +kernel
theorem dX10_factor_70 : decode cX10_factor 70 = .ok (.goto (-67), 3) := by decide +kernel
theorem dX10_factor_73 : decode cX10_factor 73 = .ok (.iload 5, 2) := by decide +kernel
theorem dX10_factor_75 : decode cX10_factor 75 = .ok (.aload_n 0, 1) := by decide +kernel
theorem dX10_factor_76 : decode cX10_factor 76 = .ok (.getfield 219, 3) := by decide +kernel
theorem dX10_factor_79 : decode cX10_factor 79 = .ok (.if_icmp .ge 98, 3) := by decide +kernel
theorem dX10_factor_82 : decode cX10_factor 82 = .ok (.aload_n 0, 1) := by decide +kernel
theorem dX10_factor_83 : decode cX10_factor 83 = .ok (.getfield 222, 3) := by decide +kernel
theorem dX10_factor_86 : decode cX10_factor 86 = .ok (.iload 5, 2) := by decide +kernel
theorem dX10_factor_88 : decode cX10_factor 88 = .ok (.iaload, 1) := by decide +kernel
theorem dX10_factor_89 : decode cX10_factor 89 = .ok (.iload_n 1, 1) := by decide +kernel
theorem dX10_factor_90 : decode cX10_factor 90 = .ok (.if_icmp .ne 87, 3) := by decide +kernel
theorem dX10_factor_93 : decode cX10_factor 93 = .ok (.aload_n 0, 1) := by decide +kernel
theorem dX10_factor_94 : decode cX10_factor 94 = .ok (.getfield 225, 3) := by decide +kernel
theorem dX10_factor_97 : decode cX10_factor 97 = .ok (.iload 5, 2) := by decide +kernel
theorem dX10_factor_99 : decode cX10_factor 99 = .ok (.iaload, 1) := by decide +kernel
theorem dX10_factor_100 : decode cX10_factor 100 = .ok (.iload_n 2, 1) := by decide +kernel
theorem dX10_factor_101 : decode cX10_factor 101 = .ok (.if_icmp .ne 76, 3) := by decide +kernel
theorem dX10_factor_104 : decode cX10_factor 104 = .ok (.aload_n 0, 1) := by decide +kernel
theorem dX10_factor_105 : decode cX10_factor 105 = .ok (.getfield 228, 3) := by decide +kernel
theorem dX10_factor_108 : decode cX10_factor 108 = .ok (.iload 5, 2) := by decide +kernel
theorem dX10_factor_110 : decode cX10_factor 110 = .ok (.iaload, 1) := by decide +kernel
theorem dX10_factor_111 : decode cX10_factor 111 = .ok (.iload_n 3, 1) := by decide +kernel
theorem dX10_factor_112 : decode cX10_factor 112 = .ok (.if_icmp .ne 65, 3) := by decide +kernel
theorem dX10_factor_115 : decode cX10_factor 115 = .ok (.aload_n 0, 1) := by decide +kernel
theorem dX10_factor_116 : decode cX10_factor 116 = .ok (.getfield 231, 3) := by decide +kernel
theorem dX10_factor_119 : decode cX10_factor 119 = .ok (.iload 5, 2) := by decide +kernel
theorem dX10_factor_121 : decode cX10_factor 121 = .ok (.dup2, 1) := by decide +kernel
theorem dX10_factor_122 : decode cX10_factor 122 = .ok (.iaload, 1) := by decide +kernel
theorem dX10_factor_123 : decode cX10_factor 123 = .ok (.iload 4, 2) := by decide +kernel
theorem dX10_factor_125 : decode cX10_factor 125 = .ok (.iadd, 1) := by decide +kernel
theorem dX10_factor_126 : decode cX10_factor 126 = .ok (.iastore, 1) := by decide +kernel
theorem dX10_factor_127 : decode cX10_factor 127 = .ok (.aload_n 0, 1) := by decide +kernel
theorem dX10_factor_128 : decode cX10_factor 128 = .ok (.getfield 231, 3) := by decide +kernel
theorem dX10_factor_131 : decode cX10_factor 131 = .ok (.iload 5, 2) := by decide +kernel
theorem dX10_factor_133 : decode cX10_factor 133 = .ok (.iaload, 1) := by decide +kernel
theorem dX10_factor_134 : decode cX10_factor 134 = .ok (.ifCond .ne 42, 3) := by decide +kernel
theorem dX10_factor_137 : decode cX10_factor 137 = .ok (.aload_n 0, 1) := by decide +kernel
theorem dX10_factor_138 : decode cX10_factor 138 = .ok (.dup, 1) := by decide +kernel
theorem dX10_factor_139 : decode cX10_factor 139 = .ok (.getfield 219, 3) := by decide +kernel
theorem dX10_factor_142 : decode cX10_factor 142 = .ok (.iconst 1, 1) := by decide +kernel
theorem dX10_factor_143 : decode cX10_factor 143 = .ok (.isub, 1) := by decide +kernel
theorem dX10_factor_144 : decode cX10_factor 144 = .ok (.putfield 219, 3) := by decide +kernel
theorem dX10_factor_147 : decode cX10_factor 147 = .ok (.iload 5, 2) := by decide +kernel
theorem dX10_factor_149 : decode cX10_factor 149 = .ok (.istore 6, 2) := by decide +kernel
theorem dX10_factor_151 : decode cX10_factor 151 = .ok (.iload 6, 2) := by decide +kernel
theorem dX10_factor_153 : decode cX10_factor 153 = .ok (.aload_n 0, 1) := by decide +kernel
theorem dX10_factor_154 : decode cX10_factor 154 = .ok (.getfield 219, 3) := by decide +kernel
theorem dX10_factor_157 : decode cX10_factor 157 = .ok (.if_icmp .ge 19, 3) := by decide +kernel
theorem dX10_factor_160 : decode cX10_factor 160 = .ok (.aload_n 0, 1) := by decide +kernel
theorem dX10_factor_161 : decode cX10_factor 161 = .ok (.iload 6, 2) := by decide +kernel
theorem dX10_factor_163 : decode cX10_factor 163 = .ok (.iconst 1, 1) := by decide +kernel
theorem dX10_factor_164 : decode cX10_factor 164 = .ok (.iadd, 1) := by decide +kernel
theorem dX10_factor_165 : decode cX10_factor 165 = .ok (.iload 6, 2) := by decide +kernel
theorem dX10_factor_167 : decode cX10_factor 167 = .ok (.invokestatic 269, 3) := by decide +kernel
theorem dX10_factor_170 : decode cX10_factor 170 = .ok (.iinc 6 1, 3) := by decide +kernel
theorem dX10_factor_173 : decode cX10_factor 173 = .ok (.goto (-22), 3) := by decide +kernel
theorem dX10_factor_176 : decode cX10_factor 176 = .ok (.return_, 1) := by decide +kernel
theorem dX10_factor_177 : decode cX10_factor 177 = .ok (.aload_n 0, 1) := by decide +kernel
theorem dX10_factor_178 : decode cX10_factor 178 = .ok (.getfield 219, 3) := by decide +kernel
theorem dX10_factor_181 : decode cX10_factor 181 = .ok (.bipush 12, 2) := by decide +kernel
theorem dX10_factor_183 : decode cX10_factor 183 = .ok (.if_icmp .le 12, 3) := by decide +kernel
theorem dX10_factor_186 : decode cX10_factor 186 = .ok (.aload_n 0, 1) := by decide +kernel
theorem dX10_factor_187 : decode cX10_factor 187 = .ok (.getfield 231, 3) := by decide +kernel
theorem dX10_factor_190 : decode cX10_factor 190 = .ok (.iconst 0, 1) := by decide +kernel
theorem dX10_factor_191 : decode cX10_factor 191 = .ok (.bipush 99, 2) := by decide +kernel
theorem dX10_factor_193 : decode cX10_factor 193 = .ok (.iastore, 1) := by decide +kernel
theorem dX10_factor_194 : decode cX10_factor 194 = .ok (.return_, 1) := by decide +kernel
theorem dX10_factor_195 : decode cX10_factor 195 = .ok (.aload_n 0, 1) := by decide +kernel
theorem dX10_factor_196 : decode cX10_factor 196 = .ok (.getfield 219, 3) := by decide +kernel
theorem dX10_factor_199 : decode cX10_factor 199 = .ok (.istore 6, 2) := by decide +kernel
theorem dX10_factor_201 : decode cX10_factor 201 = .ok (.iload 6, 2) := by decide +kernel
theorem dX10_factor_203 : decode cX10_factor 203 = .ok (.iload 5, 2) := by decide +kernel
theorem dX10_factor_205 : decode cX10_factor 205 = .ok (.if_icmp .le 26, 3) := by decide +kernel
theorem dX10_factor_208 : decode cX10_factor 208 = .ok (.iload 6, 2) := by decide +kernel
theorem dX10_factor_210 : decode cX10_factor 210 = .ok (.bipush 12, 2) := by decide +kernel
theorem dX10_factor_212 : decode cX10_factor 212 = .ok (.if_icmp .gt 13, 3) := by decide +kernel
theorem dX10_factor_215 : decode cX10_factor 215 = .ok (.aload_n 0, 1) := by decide +kernel
theorem dX10_factor_216 : decode cX10_factor 216 = .ok (.iload 6, 2) := by decide +kernel
theorem dX10_factor_218 : decode cX10_factor 218 = .ok (.iconst 1, 1) := by decide +kernel
theorem dX10_factor_219 : decode cX10_factor 219 = .ok (.isub, 1) := by decide +kernel
theorem dX10_factor_220 : decode cX10_factor 220 = .ok (.iload 6, 2) := by decide +kernel
theorem dX10_factor_222 : decode cX10_factor 222 = .ok (.invokestatic 269, 3) := by decide +kernel
theorem dX10_factor_225 : decode cX10_factor 225 = .ok (.iinc 6 (-1), 3) := by decide +kernel
theorem dX10_factor_228 : decode cX10_factor 228 = .ok (.goto (-27), 3) := by decide +kernel
theorem dX10_factor_231 : decode cX10_factor 231 = .ok (.aload_n 0, 1) := by decide +kernel
theorem dX10_factor_232 : decode cX10_factor 232 = .ok (.dup, 1) := by decide +kernel
theorem dX10_factor_233 : decode cX10_factor 233 = .ok (.getfield 219, 3) := by decide +kernel
theorem dX10_factor_236 : decode cX10_factor 236 = .ok (.iconst 1, 1) := by decide +kernel
theorem dX10_factor_237 : decode cX10_factor 237 = .ok (.iadd, 1) := by decide +kernel
theorem dX10_factor_238 : decode cX10_factor 238 = .ok (.putfield 219, 3) := by decide +kernel
theorem dX10_factor_241 : decode cX10_factor 241 = .ok (.iload 5, 2) := by decide +kernel
theorem dX10_factor_243 : decode cX10_factor 243 = .ok (.bipush 12, 2) := by decide +kernel
theorem dX10_factor_245 : decode cX10_factor 245 = .ok (.if_icmp .gt 36, 3) := by decide +kernel
theorem dX10_factor_248 : decode cX10_factor 248 = .ok (.aload_n 0, 1) := by decide +kernel
theorem dX10_factor_249 : decode cX10_factor 249 = .ok (.getfield 222, 3) := by decide +kernel
theorem dX10_factor_252 : decode cX10_factor 252 = .ok (.iload 5, 2) := by decide +kernel
theorem dX10_factor_254 : decode cX10_factor 254 = .ok (.iload_n 1, 1) := by decide +kernel
theorem dX10_factor_255 : decode cX10_factor 255 = .ok (.iastore, 1) := by decide +kernel
theorem dX10_factor_256 : decode cX10_factor 256 = .ok (.aload_n 0, 1) := by decide +kernel
theorem dX10_factor_257 : decode cX10_factor 257 = .ok (.getfield 225, 3) := by decide +kernel
theorem dX10_factor_260 : decode cX10_factor 260 = .ok (.iload 5, 2) := by decide +kernel
theorem dX10_factor_262 : decode cX10_factor 262 = .ok (.iload_n 2, 1) := by decide +kernel
theorem dX10_factor_263 : decode cX10_factor 263 = .ok (.iastore, 1) := by decide +kernel
theorem dX10_factor_264 : decode cX10_factor 264 = .ok (.aload_n 0, 1) := by decide +kernel
theorem dX10_factor_265 : decode cX10_factor 265 = .ok (.getfield 228, 3) := by decide +kernel
theorem dX10_factor_268 : decode cX10_factor 268 = .ok (.iload 5, 2) := by decide +kernel
theorem dX10_factor_270 : decode cX10_factor 270 = .ok (.iload_n 3, 1) := by decide +kernel
theorem dX10_factor_271 : decode cX10_factor 271 = .ok (.iastore, 1) := by decide +kernel
theorem dX10_factor_272 : decode cX10_factor 272 = .ok (.aload_n 0, 1) := by decide +kernel
theorem dX10_factor_273 : decode cX10_factor 273 = .ok (.getfield 231, 3) := by decide +kernel
theorem dX10_factor_276 : decode cX10_factor 276 = .ok (.iload 5, 2) := by decide +kernel
theorem dX10_factor_278 : decode cX10_factor 278 = .ok (.iload 4, 2) := by decide +kernel
theorem dX10_factor_280 : decode cX10_factor 280 = .ok (.iastore, 1) := by decide +kernel
theorem dX10_factor_281 : decode cX10_factor 281 = .ok (.return_, 1) := by decide +kernel
theorem dX10_move_0 : decode cX10_move 0 = .ok (.aload_n 0, 1) := by decide +kernel
theorem dX10_move_1 : decode cX10_move 1 = .ok (.getfield 222, 3) := by decide +kernel
theorem dX10_move_4 : decode cX10_move 4 = .ok (.iload_n 2, 1) := by decide +kernel
theorem dX10_move_5 : decode cX10_move 5 = .ok (.aload_n 0, 1) := by decide +kernel
theorem dX10_move_6 : decode cX10_move 6 = .ok (.getfield 222, 3) := by decide +kernel
theorem dX10_move_9 : decode cX10_move 9 = .ok (.iload_n 1, 1) := by decide +kernel
theorem dX10_move_10 : decode cX10_move 10 = .ok (.iaload, 1) := by decide +kernel
theorem dX10_move_11 : decode cX10_move 11 = .ok (.iastore, 1) := by decide +kernel
theorem dX10_move_12 : decode cX10_move 12 = .ok (.aload_n 0, 1) := by decide +kernel
theorem dX10_move_13 : decode cX10_move 13 = .ok (.getfield 225, 3) := by decide +kernel
theorem dX10_move_16 : decode cX10_move 16 = .ok (.iload_n 2, 1) := by decide +kernel
theorem dX10_move_17 : decode cX10_move 17 = .ok (.aload_n 0, 1) := by decide +kernel
theorem dX10_move_18 : decode cX10_move 18 = .ok (.getfield 225, 3) := by decide +kernel
theorem dX10_move_21 : decode cX10_move 21 = .ok (.iload_n 1, 1) := by decide +kernel
theorem dX10_move_22 : decode cX10_move 22 = .ok (.iaload, 1) := by decide +kernel
theorem dX10_move_23 : decode cX10_move 23 = .ok (.iastore, 1) := by decide +kernel
theorem dX10_move_24 : decode cX10_move 24 = .ok (.aload_n 0, 1) := by decide +kernel
theorem dX10_move_25 : decode cX10_move 25 = .ok (.getfield 228, 3) := by decide +kernel
theorem dX10_move_28 : decode cX10_move 28 = .ok (.iload_n 2, 1) := by decide +kernel
theorem dX10_move_29 : decode cX10_move 29 = .ok (.aload_n 0, 1) := by decide +kernel
theorem dX10_move_30 : decode cX10_move 30 = .ok (.getfield 228, 3) := by decide +kernel
theorem dX10_move_33 : decode cX10_move 33 = .ok (.iload_n 1, 1) := by decide +kernel
theorem dX10_move_34 : decode cX10_move 34 = .ok (.iaload, 1) := by decide +kernel
theorem dX10_move_35 : decode cX10_move 35 = .ok (.iastore, 1) := by decide +kernel
theorem dX10_move_36 : decode cX10_move 36 = .ok (.aload_n 0, 1) := by decide +kernel
theorem dX10_move_37 : decode cX10_move 37 = .ok (.getfield 231, 3) := by decide +kernel
theorem dX10_move_40 : decode cX10_move 40 = .ok (.iload_n 2, 1) := by decide +kernel
theorem dX10_move_41 : decode cX10_move 41 = .ok (.aload_n 0, 1) := by decide +kernel
theorem dX10_move_42 : decode cX10_move 42 = .ok (.getfield 231, 3) := by decide +kernel
theorem dX10_move_45 : decode cX10_move 45 = .ok (.iload_n 1, 1) := by decide +kernel
theorem dX10_move_46 : decode cX10_move 46 = .ok (.iaload, 1) := by decide +kernel
theorem dX10_move_47 : decode cX10_move 47 = .ok (.iastore, 1) := by decide +kernel
theorem dX10_move_48 : decode cX10_move 48 = .ok (.return_, 1) := by decide +kernel
theorem dX10_mul_0 : decode cX10_mul 0 = .ok (.iload_n 0, 1) := by decide +kernel
theorem dX10_mul_1 : decode cX10_mul 1 = .ok (.i2l, 1) := by decide +kernel
theorem dX10_mul_2 : decode cX10_mul 2 = .ok (.iload_n 1, 1) := by decide +kernel
theorem dX10_mul_3 : decode cX10_mul 3 = .ok (.i2l, 1) := by decide +kernel
theorem dX10_mul_4 : decode cX10_mul 4 = .ok (.lmul, 1) := by decide +kernel
theorem dX10_mul_5 : decode cX10_mul 5 = .ok (.ldc2_w 3, 3) := by decide +kernel
theorem dX10_mul_8 : decode cX10_mul 8 = .ok (.lrem, 1) := by decide +kernel
theorem dX10_mul_9 : decode cX10_mul 9 = .ok (.l2i, 1) := by decide +kernel
theorem dX10_mul_10 : decode cX10_mul 10 = .ok (.ireturn, 1) := by decide +kernel
theorem dX10_inv_0 : decode cX10_inv 0 = .ok (.iload_n 0, 1) := by decide +kernel
theorem dX10_inv_1 : decode cX10_inv 1 = .ok (.ldc2_w 6, 3) := by decide +kernel
theorem dX10_inv_4 : decode cX10_inv 4 = .ok (.invokestatic 8, 3) := by decide +kernel
theorem dX10_inv_7 : decode cX10_inv 7 = .ok (.ireturn, 1) := by decide +kernel
theorem dX10_pow_0 : decode cX10_pow 0 = .ok (.lconst 1, 1) := by decide +kernel
theorem dX10_pow_1 : decode cX10_pow 1 = .ok (.lstore_n 3, 1) := by decide +kernel
theorem dX10_pow_2 : decode cX10_pow 2 = .ok (.iload_n 0, 1) := by decide +kernel
theorem dX10_pow_3 : decode cX10_pow 3 = .ok (.i2l, 1) := by decide +kernel
theorem dX10_pow_4 : decode cX10_pow 4 = .ok (.lstore 5, 2) := by decide +kernel
theorem dX10_pow_6 : decode cX10_pow 6 = .ok (.lload_n 1, 1) := by decide +kernel
theorem dX10_pow_7 : decode cX10_pow 7 = .ok (.lstore 7, 2) := by decide +kernel
theorem dX10_pow_9 : decode cX10_pow 9 = .ok (.lload 7, 2) := by decide +kernel
theorem dX10_pow_11 : decode cX10_pow 11 = .ok (.lconst 0, 1) := by decide +kernel
theorem dX10_pow_12 : decode cX10_pow 12 = .ok (.lcmp, 1) := by decide +kernel
theorem dX10_pow_13 : decode cX10_pow 13 = .ok (.ifCond .le 45, 3) := by decide +kernel
theorem dX10_pow_16 : decode cX10_pow 16 = .ok (.lload 7, 2) := by decide +kernel
theorem dX10_pow_18 : decode cX10_pow 18 = .ok (.lconst 1, 1) := by decide +kernel
theorem dX10_pow_19 : decode cX10_pow 19 = .ok (.land, 1) := by decide +kernel
theorem dX10_pow_20 : decode cX10_pow 20 = .ok (.lconst 1, 1) := by decide +kernel
theorem dX10_pow_21 : decode cX10_pow 21 = .ok (.lcmp, 1) := by decide +kernel
theorem dX10_pow_22 : decode cX10_pow 22 = .ok (.ifCond .ne 14, 3) := by decide +kernel
theorem dX10_pow_25 : decode cX10_pow 25 = .ok (.lload_n 3, 1) := by decide +kernel
theorem dX10_pow_26 : decode cX10_pow 26 = .ok (.lload 5, 2) := by decide +kernel
theorem dX10_pow_28 : decode cX10_pow 28 = .ok (.lmul, 1) := by decide +kernel
theorem dX10_pow_29 : decode cX10_pow 29 = .ok (.ldc2_w 3, 3) := by decide +kernel
theorem dX10_pow_32 : decode cX10_pow 32 = .ok (.lrem, 1) := by decide +kernel
theorem dX10_pow_33 : decode cX10_pow 33 = .ok (.goto 4, 3) := by decide +kernel
theorem dX10_pow_36 : decode cX10_pow 36 = .ok (.lload_n 3, 1) := by decide +kernel
theorem dX10_pow_37 : decode cX10_pow 37 = .ok (.lstore_n 3, 1) := by decide +kernel
theorem dX10_pow_38 : decode cX10_pow 38 = .ok (.lload 5, 2) := by decide +kernel
theorem dX10_pow_40 : decode cX10_pow 40 = .ok (.lload 5, 2) := by decide +kernel
theorem dX10_pow_42 : decode cX10_pow 42 = .ok (.lmul, 1) := by decide +kernel
theorem dX10_pow_43 : decode cX10_pow 43 = .ok (.ldc2_w 3, 3) := by decide +kernel
theorem dX10_pow_46 : decode cX10_pow 46 = .ok (.lrem, 1) := by decide +kernel
theorem dX10_pow_47 : decode cX10_pow 47 = .ok (.lstore 5, 2) := by decide +kernel
theorem dX10_pow_49 : decode cX10_pow 49 = .ok (.lload 7, 2) := by decide +kernel
theorem dX10_pow_51 : decode cX10_pow 51 = .ok (.iconst 1, 1) := by decide +kernel
theorem dX10_pow_52 : decode cX10_pow 52 = .ok (.lshr, 1) := by decide +kernel
theorem dX10_pow_53 : decode cX10_pow 53 = .ok (.lstore 7, 2) := by decide +kernel
theorem dX10_pow_55 : decode cX10_pow 55 = .ok (.goto (-46), 3) := by decide +kernel
theorem dX10_pow_58 : decode cX10_pow 58 = .ok (.lload_n 3, 1) := by decide +kernel
theorem dX10_pow_59 : decode cX10_pow 59 = .ok (.l2i, 1) := by decide +kernel
theorem dX10_pow_60 : decode cX10_pow 60 = .ok (.ireturn, 1) := by decide +kernel
theorem dX10_name_0 : decode cX10_name 0 = .ok (.aload_n 0, 1) := by decide +kernel
theorem dX10_name_1 : decode cX10_name 1 = .ok (.aload_n 0, 1) := by decide +kernel
theorem dX10_name_2 : decode cX10_name 2 = .ok (.getfield 219, 3) := by decide +kernel
theorem dX10_name_5 : decode cX10_name 5 = .ok (.ifCond .ne 23, 3) := by decide +kernel
theorem dX10_name_8 : decode cX10_name 8 = .ok (.aload_n 0, 1) := by decide +kernel
theorem dX10_name_9 : decode cX10_name 9 = .ok (.getfield 213, 3) := by decide +kernel
theorem dX10_name_12 : decode cX10_name 12 = .ok (.iconst 1, 1) := by decide +kernel
theorem dX10_name_13 : decode cX10_name 13 = .ok (.if_icmp .ne 15, 3) := by decide +kernel
theorem dX10_name_16 : decode cX10_name 16 = .ok (.aload_n 0, 1) := by decide +kernel
theorem dX10_name_17 : decode cX10_name 17 = .ok (.getfield 216, 3) := by decide +kernel
theorem dX10_name_20 : decode cX10_name 20 = .ok (.iconst 1, 1) := by decide +kernel
theorem dX10_name_21 : decode cX10_name 21 = .ok (.if_icmp .ne 7, 3) := by decide +kernel
theorem dX10_name_24 : decode cX10_name 24 = .ok (.iconst 1, 1) := by decide +kernel
theorem dX10_name_25 : decode cX10_name 25 = .ok (.goto 4, 3) := by decide +kernel
theorem dX10_name_28 : decode cX10_name 28 = .ok (.iconst 2, 1) := by decide +kernel
theorem dX10_name_29 : decode cX10_name 29 = .ok (.putfield 202, 3) := by decide +kernel
theorem dX10_name_32 : decode cX10_name 32 = .ok (.return_, 1) := by decide +kernel
theorem dX10_newThing_0 : decode cX10_newThing 0 = .ok (.aload_n 0, 1) := by decide +kernel
theorem dX10_newThing_1 : decode cX10_newThing 1 = .ok (.getfield 371, 3) := by decide +kernel
theorem dX10_newThing_4 : decode cX10_newThing 4 = .ok (.aload_n 0, 1) := by decide +kernel
theorem dX10_newThing_5 : decode cX10_newThing 5 = .ok (.dup, 1) := by decide +kernel
theorem dX10_newThing_6 : decode cX10_newThing 6 = .ok (.getfield 375, 3) := by decide +kernel
theorem dX10_newThing_9 : decode cX10_newThing 9 = .ok (.dup_x1, 1) := by decide +kernel
theorem dX10_newThing_10 : decode cX10_newThing 10 = .ok (.iconst 1, 1) := by decide +kernel
theorem dX10_newThing_11 : decode cX10_newThing 11 = .ok (.iadd, 1) := by decide +kernel
theorem dX10_newThing_12 : decode cX10_newThing 12 = .ok (.putfield 375, 3) := by decide +kernel
theorem dX10_newThing_15 : decode cX10_newThing 15 = .ok (.aaload, 1) := by decide +kernel
theorem dX10_newThing_16 : decode cX10_newThing 16 = .ok (.areturn, 1) := by decide +kernel
theorem dX10_isZero_0 : decode cX10_isZero 0 = .ok (.aload_n 0, 1) := by decide +kernel
theorem dX10_isZero_1 : decode cX10_isZero 1 = .ok (.getfield 202, 3) := by decide +kernel
theorem dX10_isZero_4 : decode cX10_isZero 4 = .ok (.iconst 1, 1) := by decide +kernel
theorem dX10_isZero_5 : decode cX10_isZero 5 = .ok (.if_icmp .ne 7, 3) := by decide +kernel
theorem dX10_isZero_8 : decode cX10_isZero 8 = .ok (.iconst 1, 1) := by decide +kernel
theorem dX10_isZero_9 : decode cX10_isZero 9 = .ok (.goto 4, 3) := by decide +kernel
theorem dX10_isZero_12 : decode cX10_isZero 12 = .ok (.iconst 0, 1) := by decide +kernel
theorem dX10_isZero_13 : decode cX10_isZero 13 = .ok (.istore_n 1, 1) := by decide +kernel
theorem dX10_isZero_14 : decode cX10_isZero 14 = .ok (.iconst 0, 1) := by decide +kernel
theorem dX10_isZero_15 : decode cX10_isZero 15 = .ok (.istore_n 2, 1) := by decide +kernel
theorem dX10_isZero_16 : decode cX10_isZero 16 = .ok (.iload_n 2, 1) := by decide +kernel
theorem dX10_isZero_17 : decode cX10_isZero 17 = .ok (.sipush 325, 3) := by decide +kernel
theorem dX10_isZero_20 : decode cX10_isZero 20 = .ok (.if_icmp .ge 28, 3) := by decide +kernel
theorem dX10_isZero_23 : decode cX10_isZero 23 = .ok (.iload_n 1, 1) := by decide +kernel
theorem dX10_isZero_24 : decode cX10_isZero 24 = .ok (.ifCond .eq 24, 3) := by decide +kernel
theorem dX10_isZero_27 : decode cX10_isZero 27 = .ok (.aload_n 0, 1) := by decide +kernel
theorem dX10_isZero_28 : decode cX10_isZero 28 = .ok (.getfield 207, 3) := by decide +kernel
theorem dX10_isZero_31 : decode cX10_isZero 31 = .ok (.iload_n 2, 1) := by decide +kernel
theorem dX10_isZero_32 : decode cX10_isZero 32 = .ok (.iaload, 1) := by decide +kernel
theorem dX10_isZero_33 : decode cX10_isZero 33 = .ok (.ifCond .ne 7, 3) := by decide +kernel
theorem dX10_isZero_36 : decode cX10_isZero 36 = .ok (.iconst 1, 1) := by decide +kernel
theorem dX10_isZero_37 : decode cX10_isZero 37 = .ok (.goto 4, 3) := by decide +kernel
theorem dX10_isZero_40 : decode cX10_isZero 40 = .ok (.iconst 0, 1) := by decide +kernel
theorem dX10_isZero_41 : decode cX10_isZero 41 = .ok (.istore_n 1, 1) := by decide +kernel
theorem dX10_isZero_42 : decode cX10_isZero 42 = .ok (.iinc 2 1, 3) := by decide +kernel
theorem dX10_isZero_45 : decode cX10_isZero 45 = .ok (.goto (-29), 3) := by decide +kernel
theorem dX10_isZero_48 : decode cX10_isZero 48 = .ok (.iload_n 1, 1) := by decide +kernel
theorem dX10_isZero_49 : decode cX10_isZero 49 = .ok (.ireturn, 1) := by decide +kernel
theorem dX10_raise_0 : decode cX10_raise 0 = .ok (.iload_n 2, 1) := by decide +kernel
theorem dX10_raise_1 : decode cX10_raise 1 = .ok (.ifCond .ne 11, 3) := by decide +kernel
theorem dX10_raise_4 : decode cX10_raise 4 = .ok (.aload_n 0, 1) := by decide +kernel
theorem dX10_raise_5 : decode cX10_raise 5 = .ok (.aload_n 1, 1) := by decide +kernel
theorem dX10_raise_6 : decode cX10_raise 6 = .ok (.iconst 1, 1) := by decide +kernel
theorem dX10_raise_7 : decode cX10_raise 7 = .ok (.invokevirtual 292, 3) := by decide +kernel
theorem dX10_raise_10 : decode cX10_raise 10 = .ok (.iconst 1, 1) := by decide +kernel
theorem dX10_raise_11 : decode cX10_raise 11 = .ok (.ireturn, 1) := by decide +kernel
theorem dX10_raise_12 : decode cX10_raise 12 = .ok (.aload_n 1, 1) := by decide +kernel
theorem dX10_raise_13 : decode cX10_raise 13 = .ok (.invokestatic 288, 3) := by decide +kernel
theorem dX10_raise_16 : decode cX10_raise 16 = .ok (.ifCond .eq 5, 3) := by decide +kernel
theorem dX10_raise_19 : decode cX10_raise 19 = .ok (.iconst 1, 1) := by decide +kernel
theorem dX10_raise_20 : decode cX10_raise 20 = .ok (.ireturn, 1) := by decide +kernel
theorem dX10_raise_21 : decode cX10_raise 21 = .ok (.aload_n 0, 1) := by decide +kernel
theorem dX10_raise_22 : decode cX10_raise 22 = .ok (.getfield 90, 3) := by decide +kernel
theorem dX10_raise_25 : decode cX10_raise 25 = .ok (.istore_n 3, 1) := by decide +kernel
theorem dX10_raise_26 : decode cX10_raise 26 = .ok (.aload_n 0, 1) := by decide +kernel
theorem dX10_raise_27 : decode cX10_raise 27 = .ok (.invokevirtual 140, 3) := by decide +kernel
theorem dX10_raise_30 : decode cX10_raise 30 = .ok (.astore 4, 2) := by decide +kernel
theorem dX10_raise_32 : decode cX10_raise 32 = .ok (.aload_n 0, 1) := by decide +kernel
theorem dX10_raise_33 : decode cX10_raise 33 = .ok (.invokevirtual 140, 3) := by decide +kernel
theorem dX10_raise_36 : decode cX10_raise 36 = .ok (.astore 5, 2) := by decide +kernel
theorem dX10_raise_38 : decode cX10_raise 38 = .ok (.aload_n 0, 1) := by decide +kernel
theorem dX10_raise_39 : decode cX10_raise 39 = .ok (.invokevirtual 140, 3) := by decide +kernel
theorem dX10_raise_42 : decode cX10_raise 42 = .ok (.astore 6, 2) := by decide +kernel
theorem dX10_raise_44 : decode cX10_raise 44 = .ok (.aload_n 0, 1) := by decide +kernel
theorem dX10_raise_45 : decode cX10_raise 45 = .ok (.invokevirtual 140, 3) := by decide +kernel
theorem dX10_raise_48 : decode cX10_raise 48 = .ok (.astore 7, 2) := by decide +kernel
theorem dX10_raise_50 : decode cX10_raise 50 = .ok (.aload 4, 2) := by decide +kernel
theorem dX10_raise_52 : decode cX10_raise 52 = .ok (.iload_n 2, 1) := by decide +kernel
theorem dX10_raise_53 : decode cX10_raise 53 = .ok (.ifCond .ge 10, 3) := by decide +kernel
theorem dX10_raise_56 : decode cX10_raise 56 = .ok (.aload_n 1, 1) := by decide +kernel
theorem dX10_raise_57 : decode cX10_raise 57 = .ok (.getfield 210, 3) := by decide +kernel
theorem dX10_raise_60 : decode cX10_raise 60 = .ok (.goto 7, 3) := by decide +kernel
theorem dX10_raise_63 : decode cX10_raise 63 = .ok (.aload_n 1, 1) := by decide +kernel
theorem dX10_raise_64 : decode cX10_raise 64 = .ok (.getfield 207, 3) := by decide +kernel
theorem dX10_raise_67 : decode cX10_raise 67 = .ok (.invokestatic 295, 3) := by decide +kernel
theorem dX10_raise_70 : decode cX10_raise 70 = .ok (.aload 5, 2) := by decide +kernel
theorem dX10_raise_72 : decode cX10_raise 72 = .ok (.iload_n 2, 1) := by decide +kernel
theorem dX10_raise_73 : decode cX10_raise 73 = .ok (.ifCond .ge 10, 3) := by decide +kernel
theorem dX10_raise_76 : decode cX10_raise 76 = .ok (.aload_n 1, 1) := by decide +kernel
theorem dX10_raise_77 : decode cX10_raise 77 = .ok (.getfield 207, 3) := by decide +kernel
theorem dX10_raise_80 : decode cX10_raise 80 = .ok (.goto 7, 3) := by decide +kernel
theorem dX10_raise_83 : decode cX10_raise 83 = .ok (.aload_n 1, 1) := by decide +kernel
theorem dX10_raise_84 : decode cX10_raise 84 = .ok (.getfield 210, 3) := by decide +kernel
theorem dX10_raise_87 : decode cX10_raise 87 = .ok (.invokestatic 295, 3) := by decide +kernel
theorem dX10_raise_90 : decode cX10_raise 90 = .ok (.iload_n 2, 1) := by decide +kernel
theorem dX10_raise_91 : decode cX10_raise 91 = .ok (.invokestatic 273, 3) := by decide +kernel
theorem dX10_raise_94 : decode cX10_raise 94 = .ok (.istore 8, 2) := by decide +kernel
theorem dX10_raise_96 : decode cX10_raise 96 = .ok (.iload 8, 2) := by decide +kernel
theorem dX10_raise_98 : decode cX10_raise 98 = .ok (.aload 4, 2) := by decide +kernel
theorem dX10_raise_100 : decode cX10_raise 100 = .ok (.invokevirtual 119, 3) := by decide +kernel
theorem dX10_raise_103 : decode cX10_raise 103 = .ok (.aload 5, 2) := by decide +kernel
theorem dX10_raise_105 : decode cX10_raise 105 = .ok (.invokevirtual 119, 3) := by decide +kernel
theorem dX10_raise_108 : decode cX10_raise 108 = .ok (.invokestatic 40, 3) := by decide +kernel
theorem dX10_raise_111 : decode cX10_raise 111 = .ok (.imul, 1) := by decide +kernel
theorem dX10_raise_112 : decode cX10_raise 112 = .ok (.bipush 24, 2) := by decide +kernel
theorem dX10_raise_114 : decode cX10_raise 114 = .ok (.if_icmp .gt 40, 3) := by decide +kernel
theorem dX10_raise_117 : decode cX10_raise 117 = .ok (.iload 8, 2) := by decide +kernel
theorem dX10_raise_119 : decode cX10_raise 119 = .ok (.aload 4, 2) := by decide +kernel
theorem dX10_raise_121 : decode cX10_raise 121 = .ok (.invokevirtual 314, 3) := by decide +kernel
theorem dX10_raise_124 : decode cX10_raise 124 = .ok (.aload 5, 2) := by decide +kernel
theorem dX10_raise_126 : decode cX10_raise 126 = .ok (.invokevirtual 314, 3) := by decide +kernel
theorem dX10_raise_129 : decode cX10_raise 129 = .ok (.invokestatic 40, 3) := by decide +kernel
theorem dX10_raise_132 : decode cX10_raise 132 = .ok (.imul, 1) := by decide +kernel
theorem dX10_raise_133 : decode cX10_raise 133 = .ok (.bipush 12, 2) := by decide +kernel
theorem dX10_raise_135 : decode cX10_raise 135 = .ok (.if_icmp .gt 19, 3) := by decide +kernel
theorem dX10_raise_138 : decode cX10_raise 138 = .ok (.iload 8, 2) := by decide +kernel
theorem dX10_raise_140 : decode cX10_raise 140 = .ok (.aload_n 1, 1) := by decide +kernel
theorem dX10_raise_141 : decode cX10_raise 141 = .ok (.invokestatic 276, 3) := by decide +kernel
theorem dX10_raise_144 : decode cX10_raise 144 = .ok (.imul, 1) := by decide +kernel
theorem dX10_raise_145 : decode cX10_raise 145 = .ok (.bipush 12, 2) := by decide +kernel
theorem dX10_raise_147 : decode cX10_raise 147 = .ok (.if_icmp .gt 7, 3) := by decide +kernel
theorem dX10_raise_150 : decode cX10_raise 150 = .ok (.iconst 1, 1) := by decide +kernel
theorem dX10_raise_151 : decode cX10_raise 151 = .ok (.goto 4, 3) := by decide +kernel
theorem dX10_raise_154 : decode cX10_raise 154 = .ok (.iconst 0, 1) := by decide +kernel
theorem dX10_raise_155 : decode cX10_raise 155 = .ok (.istore 9, 2) := by decide +kernel
theorem dX10_raise_157 : decode cX10_raise 157 = .ok (.iload 9, 2) := by decide +kernel
theorem dX10_raise_159 : decode cX10_raise 159 = .ok (.ifCond .eq 145, 3) := by decide +kernel
theorem dX10_raise_162 : decode cX10_raise 162 = .ok (.aload 6, 2) := by decide +kernel
theorem dX10_raise_164 : decode cX10_raise 164 = .ok (.iconst 1, 1) := by decide +kernel
theorem dX10_raise_165 : decode cX10_raise 165 = .ok (.invokevirtual 158, 3) := by decide +kernel
theorem dX10_raise_168 : decode cX10_raise 168 = .ok (.aload 7, 2) := by decide +kernel
theorem dX10_raise_170 : decode cX10_raise 170 = .ok (.iconst 1, 1) := by decide +kernel
theorem dX10_raise_171 : decode cX10_raise 171 = .ok (.invokevirtual 158, 3) := by decide +kernel
theorem dX10_raise_174 : decode cX10_raise 174 = .ok (.aload_n 0, 1) := by decide +kernel
theorem dX10_raise_175 : decode cX10_raise 175 = .ok (.invokevirtual 140, 3) := by decide +kernel
theorem dX10_raise_178 : decode cX10_raise 178 = .ok (.astore 10, 2) := by decide +kernel
theorem dX10_raise_180 : decode cX10_raise 180 = .ok (.iconst 0, 1) := by decide +kernel
theorem dX10_raise_181 : decode cX10_raise 181 = .ok (.istore 11, 2) := by decide +kernel
theorem dX10_raise_183 : decode cX10_raise 183 = .ok (.iload 11, 2) := by decide +kernel
theorem dX10_raise_185 : decode cX10_raise 185 = .ok (.iload 8, 2) := by decide +kernel
theorem dX10_raise_187 : decode cX10_raise 187 = .ok (.if_icmp .ge 43, 3) := by decide +kernel
theorem dX10_raise_190 : decode cX10_raise 190 = .ok (.aload_n 0, 1) := by decide +kernel
theorem dX10_raise_191 : decode cX10_raise 191 = .ok (.aload 10, 2) := by decide +kernel
theorem dX10_raise_193 : decode cX10_raise 193 = .ok (.aload 6, 2) := by decide +kernel
theorem dX10_raise_195 : decode cX10_raise 195 = .ok (.aload 4, 2) := by decide +kernel
theorem dX10_raise_197 : decode cX10_raise 197 = .ok (.invokevirtual 197, 3) := by decide +kernel
theorem dX10_raise_200 : decode cX10_raise 200 = .ok (.aload 6, 2) := by decide +kernel
theorem dX10_raise_202 : decode cX10_raise 202 = .ok (.aload 10, 2) := by decide +kernel
theorem dX10_raise_204 : decode cX10_raise 204 = .ok (.invokestatic 113, 3) := by decide +kernel
theorem dX10_raise_207 : decode cX10_raise 207 = .ok (.aload_n 0, 1) := by decide +kernel
theorem dX10_raise_208 : decode cX10_raise 208 = .ok (.aload 10, 2) := by decide +kernel
theorem dX10_raise_210 : decode cX10_raise 210 = .ok (.aload 7, 2) := by decide +kernel
theorem dX10_raise_212 : decode cX10_raise 212 = .ok (.aload 5, 2) := by decide +kernel
theorem dX10_raise_214 : decode cX10_raise 214 = .ok (.invokevirtual 197, 3) := by decide +kernel
theorem dX10_raise_217 : decode cX10_raise 217 = .ok (.aload 7, 2) := by decide +kernel
theorem dX10_raise_219 : decode cX10_raise 219 = .ok (.aload 10, 2) := by decide +kernel
theorem dX10_raise_221 : decode cX10_raise 221 = .ok (.invokestatic 113, 3) := by decide +kernel
theorem dX10_raise_224 : decode cX10_raise 224 = .ok (.iinc 11 1, 3) := by decide +kernel
theorem dX10_raise_227 : decode cX10_raise 227 = .ok (.goto (-44), 3) := by decide +kernel
theorem dX10_raise_230 : decode cX10_raise 230 = .ok (.aload 6, 2) := by decide +kernel
theorem dX10_raise_232 : decode cX10_raise 232 = .ok (.aload 7, 2) := by decide +kernel
theorem dX10_raise_234 : decode cX10_raise 234 = .ok (.invokestatic 191, 3) := by decide +kernel
theorem dX10_raise_237 : decode cX10_raise 237 = .ok (.aload_n 1, 1) := by decide +kernel
theorem dX10_raise_238 : decode cX10_raise 238 = .ok (.aload 6, 2) := by decide +kernel
theorem dX10_raise_240 : decode cX10_raise 240 = .ok (.aload 7, 2) := by decide +kernel
theorem dX10_raise_242 : decode cX10_raise 242 = .ok (.invokestatic 261, 3) := by decide +kernel
theorem dX10_raise_245 : decode cX10_raise 245 = .ok (.istore 11, 2) := by decide +kernel
theorem dX10_raise_247 : decode cX10_raise 247 = .ok (.aload_n 1, 1) := by decide +kernel
theorem dX10_raise_248 : decode cX10_raise 248 = .ok (.aload_n 1, 1) := by decide +kernel
theorem dX10_raise_249 : decode cX10_raise 249 = .ok (.getfield 213, 3) := by decide +kernel
theorem dX10_raise_252 : decode cX10_raise 252 = .ok (.iload_n 2, 1) := by decide +kernel
theorem dX10_raise_253 : decode cX10_raise 253 = .ok (.invokestatic 317, 3) := by decide +kernel
theorem dX10_raise_256 : decode cX10_raise 256 = .ok (.putfield 213, 3) := by decide +kernel
theorem dX10_raise_259 : decode cX10_raise 259 = .ok (.aload_n 1, 1) := by decide +kernel
theorem dX10_raise_260 : decode cX10_raise 260 = .ok (.aload_n 1, 1) := by decide +kernel
theorem dX10_raise_261 : decode cX10_raise 261 = .ok (.getfield 216, 3) := by decide +kernel
theorem dX10_raise_264 : decode cX10_raise 264 = .ok (.iload_n 2, 1) := by decide +kernel
theorem dX10_raise_265 : decode cX10_raise 265 = .ok (.invokestatic 317, 3) := by decide +kernel
theorem dX10_raise_268 : decode cX10_raise 268 = .ok (.putfield 216, 3) := by decide +kernel
theorem dX10_raise_271 : decode cX10_raise 271 = .ok (.iconst 0, 1) := by decide +kernel
theorem dX10_raise_272 : decode cX10_raise 272 = .ok (.istore 12, 2) := by decide +kernel
theorem dX10_raise_274 : decode cX10_raise 274 = .ok (.iload 12, 2) := by decide +kernel
theorem dX10_raise_276 : decode cX10_raise 276 = .ok (.aload_n 1, 1) := by decide +kernel
theorem dX10_raise_277 : decode cX10_raise 277 = .ok (.getfield 219, 3) := by decide +kernel
theorem dX10_raise_280 : decode cX10_raise 280 = .ok (.if_icmp .ge 20, 3) := by decide +kernel
theorem dX10_raise_283 : decode cX10_raise 283 = .ok (.aload_n 1, 1) := by decide +kernel
theorem dX10_raise_284 : decode cX10_raise 284 = .ok (.getfield 231, 3) := by decide +kernel
theorem dX10_raise_287 : decode cX10_raise 287 = .ok (.iload 12, 2) := by decide +kernel
theorem dX10_raise_289 : decode cX10_raise 289 = .ok (.dup2, 1) := by decide +kernel
theorem dX10_raise_290 : decode cX10_raise 290 = .ok (.iaload, 1) := by decide +kernel
theorem dX10_raise_291 : decode cX10_raise 291 = .ok (.iload_n 2, 1) := by decide +kernel
theorem dX10_raise_292 : decode cX10_raise 292 = .ok (.imul, 1) := by decide +kernel
theorem dX10_raise_293 : decode cX10_raise 293 = .ok (.iastore, 1) := by decide +kernel
theorem dX10_raise_294 : decode cX10_raise 294 = .ok (.iinc 12 1, 3) := by decide +kernel
theorem dX10_raise_297 : decode cX10_raise 297 = .ok (.goto (-23), 3) := by decide +kernel
theorem dX10_raise_300 : decode cX10_raise 300 = .ok (.aload_n 1, 1) := by decide +kernel
theorem dX10_raise_301 : decode cX10_raise 301 = .ok (.invokestatic 307, 3) := by decide +kernel
theorem dX10_raise_304 : decode cX10_raise 304 = .ok (.aload_n 0, 1) := by decide +kernel
theorem dX10_raise_305 : decode cX10_raise 305 = .ok (.iload_n 3, 1) := by decide +kernel
theorem dX10_raise_306 : decode cX10_raise 306 = .ok (.putfield 90, 3) := by decide +kernel
theorem dX10_raise_309 : decode cX10_raise 309 = .ok (.iload 9, 2) := by decide +kernel
theorem dX10_raise_311 : decode cX10_raise 311 = .ok (.ireturn, 1) := by decide +kernel
theorem dX10_load_0 : decode cX10_load 0 = .ok (.iconst 0, 1) := by decide +kernel
theorem dX10_load_1 : decode cX10_load 1 = .ok (.istore_n 2, 1) := by decide +kernel
theorem dX10_load_2 : decode cX10_load 2 = .ok (.iload_n 2, 1) := by decide +kernel
theorem dX10_load_3 : decode cX10_load 3 = .ok (.bipush 13, 2) := by decide +kernel
theorem dX10_load_5 : decode cX10_load 5 = .ok (.if_icmp .ge 49, 3) := by decide +kernel
theorem dX10_load_8 : decode cX10_load 8 = .ok (.aload_n 1, 1) := by decide +kernel
theorem dX10_load_9 : decode cX10_load 9 = .ok (.bipush 25, 2) := by decide +kernel
theorem dX10_load_11 : decode cX10_load 11 = .ok (.iload_n 2, 1) := by decide +kernel
theorem dX10_load_12 : decode cX10_load 12 = .ok (.imul, 1) := by decide +kernel
theorem dX10_load_13 : decode cX10_load 13 = .ok (.aload_n 0, 1) := by decide +kernel
theorem dX10_load_14 : decode cX10_load 14 = .ok (.getfield 98, 3) := by decide +kernel
theorem dX10_load_17 : decode cX10_load 17 = .ok (.iload_n 2, 1) := by decide +kernel
theorem dX10_load_18 : decode cX10_load 18 = .ok (.aaload, 1) := by decide +kernel
theorem dX10_load_19 : decode cX10_load 19 = .ok (.getfield 30, 3) := by decide +kernel
theorem dX10_load_22 : decode cX10_load 22 = .ok (.iconst 0, 1) := by decide +kernel
theorem dX10_load_23 : decode cX10_load 23 = .ok (.bipush 25, 2) := by decide +kernel
theorem dX10_load_25 : decode cX10_load 25 = .ok (.invokestatic 34, 3) := by decide +kernel
theorem dX10_load_28 : decode cX10_load 28 = .ok (.aload_n 0, 1) := by decide +kernel
theorem dX10_load_29 : decode cX10_load 29 = .ok (.getfield 98, 3) := by decide +kernel
theorem dX10_load_32 : decode cX10_load 32 = .ok (.iload_n 2, 1) := by decide +kernel
theorem dX10_load_33 : decode cX10_load 33 = .ok (.aaload, 1) := by decide +kernel
theorem dX10_load_34 : decode cX10_load 34 = .ok (.bipush 25, 2) := by decide +kernel
theorem dX10_load_36 : decode cX10_load 36 = .ok (.putfield 25, 3) := by decide +kernel
theorem dX10_load_39 : decode cX10_load 39 = .ok (.aload_n 0, 1) := by decide +kernel
theorem dX10_load_40 : decode cX10_load 40 = .ok (.getfield 98, 3) := by decide +kernel
theorem dX10_load_43 : decode cX10_load 43 = .ok (.iload_n 2, 1) := by decide +kernel
theorem dX10_load_44 : decode cX10_load 44 = .ok (.aaload, 1) := by decide +kernel
theorem dX10_load_45 : decode cX10_load 45 = .ok (.invokevirtual 52, 3) := by decide +kernel
theorem dX10_load_48 : decode cX10_load 48 = .ok (.iinc 2 1, 3) := by decide +kernel
theorem dX10_load_51 : decode cX10_load 51 = .ok (.goto (-49), 3) := by decide +kernel
theorem dX10_load_54 : decode cX10_load 54 = .ok (.aload_n 0, 1) := by decide +kernel
theorem dX10_load_55 : decode cX10_load 55 = .ok (.bipush 13, 2) := by decide +kernel
theorem dX10_load_57 : decode cX10_load 57 = .ok (.putfield 93, 3) := by decide +kernel
theorem dX10_load_60 : decode cX10_load 60 = .ok (.aload_n 0, 1) := by decide +kernel
theorem dX10_load_61 : decode cX10_load 61 = .ok (.invokevirtual 105, 3) := by decide +kernel
theorem dX10_load_64 : decode cX10_load 64 = .ok (.return_, 1) := by decide +kernel
theorem dX10_weight_0 : decode cX10_weight 0 = .ok (.iconst 0, 1) := by decide +kernel
theorem dX10_weight_1 : decode cX10_weight 1 = .ok (.istore_n 1, 1) := by decide +kernel
theorem dX10_weight_2 : decode cX10_weight 2 = .ok (.iconst 0, 1) := by decide +kernel
theorem dX10_weight_3 : decode cX10_weight 3 = .ok (.istore_n 2, 1) := by decide +kernel
theorem dX10_weight_4 : decode cX10_weight 4 = .ok (.iload_n 2, 1) := by decide +kernel
theorem dX10_weight_5 : decode cX10_weight 5 = .ok (.aload_n 0, 1) := by decide +kernel
theorem dX10_weight_6 : decode cX10_weight 6 = .ok (.getfield 219, 3) := by decide +kernel
theorem dX10_weight_9 : decode cX10_weight 9 = .ok (.if_icmp .ge 21, 3) := by decide +kernel
theorem dX10_weight_12 : decode cX10_weight 12 = .ok (.iload_n 1, 1) := by decide +kernel
theorem dX10_weight_13 : decode cX10_weight 13 = .ok (.aload_n 0, 1) := by decide +kernel
theorem dX10_weight_14 : decode cX10_weight 14 = .ok (.getfield 231, 3) := by decide +kernel
theorem dX10_weight_17 : decode cX10_weight 17 = .ok (.iload_n 2, 1) := by decide +kernel
theorem dX10_weight_18 : decode cX10_weight 18 = .ok (.iaload, 1) := by decide +kernel
theorem dX10_weight_19 : decode cX10_weight 19 = .ok (.invokestatic 273, 3) := by decide +kernel
theorem dX10_weight_22 : decode cX10_weight 22 = .ok (.iadd, 1) := by decide +kernel
theorem dX10_weight_23 : decode cX10_weight 23 = .ok (.istore_n 1, 1) := by decide +kernel
theorem dX10_weight_24 : decode cX10_weight 24 = .ok (.iinc 2 1, 3) := by decide +kernel
theorem dX10_weight_27 : decode cX10_weight 27 = .ok (.goto (-23), 3) := by decide +kernel
theorem dX10_weight_30 : decode cX10_weight 30 = .ok (.iload_n 1, 1) := by decide +kernel
theorem dX10_weight_31 : decode cX10_weight 31 = .ok (.ireturn, 1) := by decide +kernel
theorem dX10_times_0 : decode cX10_times 0 = .ok (.aload_n 0, 1) := by decide +kernel
theorem dX10_times_1 : decode cX10_times 1 = .ok (.getfield 21, 3) := by decide +kernel
theorem dX10_times_4 : decode cX10_times 4 = .ok (.istore 4, 2) := by decide +kernel
theorem dX10_times_6 : decode cX10_times 6 = .ok (.aload_n 0, 1) := by decide +kernel
theorem dX10_times_7 : decode cX10_times 7 = .ok (.invokevirtual 74, 3) := by decide +kernel
theorem dX10_times_10 : decode cX10_times 10 = .ok (.astore 5, 2) := by decide +kernel
theorem dX10_times_12 : decode cX10_times 12 = .ok (.aload_n 2, 1) := by decide +kernel
theorem dX10_times_13 : decode cX10_times 13 = .ok (.getfield 93, 3) := by decide +kernel
theorem dX10_times_16 : decode cX10_times 16 = .ok (.ifCond .eq 10, 3) := by decide +kernel
theorem dX10_times_19 : decode cX10_times 19 = .ok (.aload_n 3, 1) := by decide +kernel
theorem dX10_times_20 : decode cX10_times 20 = .ok (.getfield 93, 3) := by decide +kernel
theorem dX10_times_23 : decode cX10_times 23 = .ok (.ifCond .ne 7, 3) := by decide +kernel
theorem dX10_times_26 : decode cX10_times 26 = .ok (.iconst 0, 1) := by decide +kernel
theorem dX10_times_27 : decode cX10_times 27 = .ok (.goto 14, 3) := by decide +kernel
theorem dX10_times_30 : decode cX10_times 30 = .ok (.aload_n 2, 1) := by decide +kernel
theorem dX10_times_31 : decode cX10_times 31 = .ok (.getfield 93, 3) := by decide +kernel
theorem dX10_times_34 : decode cX10_times 34 = .ok (.aload_n 3, 1) := by decide +kernel
theorem dX10_times_35 : decode cX10_times 35 = .ok (.getfield 93, 3) := by decide +kernel
theorem dX10_times_38 : decode cX10_times 38 = .ok (.iadd, 1) := by decide +kernel
theorem dX10_times_39 : decode cX10_times 39 = .ok (.iconst 1, 1) := by decide +kernel
theorem dX10_times_40 : decode cX10_times 40 = .ok (.isub, 1) := by decide +kernel
theorem dX10_times_41 : decode cX10_times 41 = .ok (.istore 6, 2) := by decide +kernel
theorem dX10_times_43 : decode cX10_times 43 = .ok (.iconst 0, 1) := by decide +kernel
theorem dX10_times_44 : decode cX10_times 44 = .ok (.istore 7, 2) := by decide +kernel
theorem dX10_times_46 : decode cX10_times 46 = .ok (.iload 7, 2) := by decide +kernel
theorem dX10_times_48 : decode cX10_times 48 = .ok (.iload 6, 2) := by decide +kernel
theorem dX10_times_50 : decode cX10_times 50 = .ok (.if_icmp .ge 20, 3) := by decide +kernel
theorem dX10_times_53 : decode cX10_times 53 = .ok (.aload_n 1, 1) := by decide +kernel
theorem dX10_times_54 : decode cX10_times 54 = .ok (.getfield 98, 3) := by decide +kernel
theorem dX10_times_57 : decode cX10_times 57 = .ok (.iload 7, 2) := by decide +kernel
theorem dX10_times_59 : decode cX10_times 59 = .ok (.aaload, 1) := by decide +kernel
theorem dX10_times_60 : decode cX10_times 60 = .ok (.iconst 0, 1) := by decide +kernel
theorem dX10_times_61 : decode cX10_times 61 = .ok (.putfield 25, 3) := by decide +kernel
theorem dX10_times_64 : decode cX10_times 64 = .ok (.iinc 7 1, 3) := by decide +kernel
theorem dX10_times_67 : decode cX10_times 67 = .ok (.goto (-21), 3) := by decide +kernel
theorem dX10_times_70 : decode cX10_times 70 = .ok (.iconst 0, 1) := by decide +kernel
theorem dX10_times_71 : decode cX10_times 71 = .ok (.istore 7, 2) := by decide +kernel
theorem dX10_times_73 : decode cX10_times 73 = .ok (.iload 7, 2) := by decide +kernel
theorem dX10_times_75 : decode cX10_times 75 = .ok (.aload_n 2, 1) := by decide +kernel
theorem dX10_times_76 : decode cX10_times 76 = .ok (.getfield 93, 3) := by decide +kernel
theorem dX10_times_79 : decode cX10_times 79 = .ok (.if_icmp .ge 77, 3) := by decide +kernel
theorem dX10_times_82 : decode cX10_times 82 = .ok (.iconst 0, 1) := by decide +kernel
theorem dX10_times_83 : decode cX10_times 83 = .ok (.istore 8, 2) := by decide +kernel
theorem dX10_times_85 : decode cX10_times 85 = .ok (.iload 8, 2) := by decide +kernel
theorem dX10_times_87 : decode cX10_times 87 = .ok (.aload_n 3, 1) := by decide +kernel
theorem dX10_times_88 : decode cX10_times 88 = .ok (.getfield 93, 3) := by decide +kernel
theorem dX10_times_91 : decode cX10_times 91 = .ok (.if_icmp .ge 59, 3) := by decide +kernel
theorem dX10_times_94 : decode cX10_times 94 = .ok (.iload 6, 2) := by decide +kernel
theorem dX10_times_96 : decode cX10_times 96 = .ok (.ifCond .le 54, 3) := by decide +kernel
theorem dX10_times_99 : decode cX10_times 99 = .ok (.aload 5, 2) := by decide +kernel
theorem dX10_times_101 : decode cX10_times 101 = .ok (.aload_n 2, 1) := by decide +kernel
theorem dX10_times_102 : decode cX10_times 102 = .ok (.getfield 98, 3) := by decide +kernel
theorem dX10_times_105 : decode cX10_times 105 = .ok (.iload 7, 2) := by decide +kernel
theorem dX10_times_107 : decode cX10_times 107 = .ok (.aaload, 1) := by decide +kernel
theorem dX10_times_108 : decode cX10_times 108 = .ok (.aload_n 3, 1) := by decide +kernel
theorem dX10_times_109 : decode cX10_times 109 = .ok (.getfield 98, 3) := by decide +kernel
theorem dX10_times_112 : decode cX10_times 112 = .ok (.iload 8, 2) := by decide +kernel
theorem dX10_times_114 : decode cX10_times 114 = .ok (.aaload, 1) := by decide +kernel
theorem dX10_times_115 : decode cX10_times 115 = .ok (.invokestatic 106, 3) := by decide +kernel
theorem dX10_times_118 : decode cX10_times 118 = .ok (.aload_n 1, 1) := by decide +kernel
theorem dX10_times_119 : decode cX10_times 119 = .ok (.getfield 98, 3) := by decide +kernel
theorem dX10_times_122 : decode cX10_times 122 = .ok (.iload 7, 2) := by decide +kernel
theorem dX10_times_124 : decode cX10_times 124 = .ok (.iload 8, 2) := by decide +kernel
theorem dX10_times_126 : decode cX10_times 126 = .ok (.iadd, 1) := by decide +kernel
theorem dX10_times_127 : decode cX10_times 127 = .ok (.aaload, 1) := by decide +kernel
theorem dX10_times_128 : decode cX10_times 128 = .ok (.aload_n 1, 1) := by decide +kernel
theorem dX10_times_129 : decode cX10_times 129 = .ok (.getfield 98, 3) := by decide +kernel
theorem dX10_times_132 : decode cX10_times 132 = .ok (.iload 7, 2) := by decide +kernel
theorem dX10_times_134 : decode cX10_times 134 = .ok (.iload 8, 2) := by decide +kernel
theorem dX10_times_136 : decode cX10_times 136 = .ok (.iadd, 1) := by decide +kernel
theorem dX10_times_137 : decode cX10_times 137 = .ok (.aaload, 1) := by decide +kernel
theorem dX10_times_138 : decode cX10_times 138 = .ok (.aload 5, 2) := by decide +kernel
theorem dX10_times_140 : decode cX10_times 140 = .ok (.iconst 0, 1) := by decide +kernel
theorem dX10_times_141 : decode cX10_times 141 = .ok (.invokestatic 101, 3) := by decide +kernel
theorem dX10_times_144 : decode cX10_times 144 = .ok (.iinc 8 1, 3) := by decide +kernel
theorem dX10_times_147 : decode cX10_times 147 = .ok (.goto (-62), 3) := by decide +kernel
theorem dX10_times_150 : decode cX10_times 150 = .ok (.iinc 7 1, 3) := by decide +kernel
theorem dX10_times_153 : decode cX10_times 153 = .ok (.goto (-80), 3) := by decide +kernel
theorem dX10_times_156 : decode cX10_times 156 = .ok (.aload_n 1, 1) := by decide +kernel
theorem dX10_times_157 : decode cX10_times 157 = .ok (.iload 6, 2) := by decide +kernel
theorem dX10_times_159 : decode cX10_times 159 = .ok (.putfield 93, 3) := by decide +kernel
theorem dX10_times_162 : decode cX10_times 162 = .ok (.aload_n 1, 1) := by decide +kernel
theorem dX10_times_163 : decode cX10_times 163 = .ok (.invokevirtual 105, 3) := by decide +kernel
theorem dX10_times_166 : decode cX10_times 166 = .ok (.aload_n 0, 1) := by decide +kernel
theorem dX10_times_167 : decode cX10_times 167 = .ok (.iload 4, 2) := by decide +kernel
theorem dX10_times_169 : decode cX10_times 169 = .ok (.putfield 21, 3) := by decide +kernel
theorem dX10_times_172 : decode cX10_times 172 = .ok (.return_, 1) := by decide +kernel
theorem dX10_newU_0 : decode cX10_newU 0 = .ok (.aload_n 0, 1) := by decide +kernel
theorem dX10_newU_1 : decode cX10_newU 1 = .ok (.getfield 17, 3) := by decide +kernel
theorem dX10_newU_4 : decode cX10_newU 4 = .ok (.aload_n 0, 1) := by decide +kernel
theorem dX10_newU_5 : decode cX10_newU 5 = .ok (.dup, 1) := by decide +kernel
theorem dX10_newU_6 : decode cX10_newU 6 = .ok (.getfield 21, 3) := by decide +kernel
theorem dX10_newU_9 : decode cX10_newU 9 = .ok (.dup_x1, 1) := by decide +kernel
theorem dX10_newU_10 : decode cX10_newU 10 = .ok (.iconst 1, 1) := by decide +kernel
theorem dX10_newU_11 : decode cX10_newU 11 = .ok (.iadd, 1) := by decide +kernel
theorem dX10_newU_12 : decode cX10_newU 12 = .ok (.putfield 21, 3) := by decide +kernel
theorem dX10_newU_15 : decode cX10_newU 15 = .ok (.aaload, 1) := by decide +kernel
theorem dX10_newU_16 : decode cX10_newU 16 = .ok (.astore_n 1, 1) := by decide +kernel
theorem dX10_newU_17 : decode cX10_newU 17 = .ok (.aload_n 1, 1) := by decide +kernel
theorem dX10_newU_18 : decode cX10_newU 18 = .ok (.iconst 0, 1) := by decide +kernel
theorem dX10_newU_19 : decode cX10_newU 19 = .ok (.putfield 25, 3) := by decide +kernel
theorem dX10_newU_22 : decode cX10_newU 22 = .ok (.aload_n 1, 1) := by decide +kernel
theorem dX10_newU_23 : decode cX10_newU 23 = .ok (.areturn, 1) := by decide +kernel
theorem dX10_times_2_0 : decode cX10_times_2 0 = .ok (.aload_n 1, 1) := by decide +kernel
theorem dX10_times_2_1 : decode cX10_times_2 1 = .ok (.getfield 25, 3) := by decide +kernel
theorem dX10_times_2_4 : decode cX10_times_2 4 = .ok (.ifCond .eq 10, 3) := by decide +kernel
theorem dX10_times_2_7 : decode cX10_times_2 7 = .ok (.aload_n 2, 1) := by decide +kernel
theorem dX10_times_2_8 : decode cX10_times_2 8 = .ok (.getfield 25, 3) := by decide +kernel
theorem dX10_times_2_11 : decode cX10_times_2 11 = .ok (.ifCond .ne 9, 3) := by decide +kernel
theorem dX10_times_2_14 : decode cX10_times_2 14 = .ok (.aload_n 0, 1) := by decide +kernel
theorem dX10_times_2_15 : decode cX10_times_2 15 = .ok (.iconst 0, 1) := by decide +kernel
theorem dX10_times_2_16 : decode cX10_times_2 16 = .ok (.putfield 25, 3) := by decide +kernel
theorem dX10_times_2_19 : decode cX10_times_2 19 = .ok (.return_, 1) := by decide +kernel
theorem dX10_times_2_20 : decode cX10_times_2 20 = .ok (.aload_n 1, 1) := by decide +kernel
theorem dX10_times_2_21 : decode cX10_times_2 21 = .ok (.getfield 25, 3) := by decide +kernel
theorem dX10_times_2_24 : decode cX10_times_2 24 = .ok (.aload_n 2, 1) := by decide +kernel
theorem dX10_times_2_25 : decode cX10_times_2 25 = .ok (.getfield 25, 3) := by decide +kernel
theorem dX10_times_2_28 : decode cX10_times_2 28 = .ok (.iadd, 1) := by decide +kernel
theorem dX10_times_2_29 : decode cX10_times_2 29 = .ok (.iconst 1, 1) := by decide +kernel
theorem dX10_times_2_30 : decode cX10_times_2 30 = .ok (.isub, 1) := by decide +kernel
theorem dX10_times_2_31 : decode cX10_times_2 31 = .ok (.istore_n 3, 1) := by decide +kernel
theorem dX10_times_2_32 : decode cX10_times_2 32 = .ok (.iconst 0, 1) := by decide +kernel
theorem dX10_times_2_33 : decode cX10_times_2 33 = .ok (.istore 4, 2) := by decide +kernel
theorem dX10_times_2_35 : decode cX10_times_2 35 = .ok (.iload 4, 2) := by decide +kernel
theorem dX10_times_2_37 : decode cX10_times_2 37 = .ok (.iload_n 3, 1) := by decide +kernel
theorem dX10_times_2_38 : decode cX10_times_2 38 = .ok (.if_icmp .ge 96, 3) := by decide +kernel
theorem dX10_times_2_41 : decode cX10_times_2 41 = .ok (.lconst 0, 1) := by decide +kernel
theorem dX10_times_2_42 : decode cX10_times_2 42 = .ok (.lstore 5, 2) := by decide +kernel
theorem dX10_times_2_44 : decode cX10_times_2 44 = .ok (.iconst 0, 1) := by decide +kernel
theorem dX10_times_2_45 : decode cX10_times_2 45 = .ok (.iload 4, 2) := by decide +kernel
theorem dX10_times_2_47 : decode cX10_times_2 47 = .ok (.aload_n 2, 1) := by decide +kernel
theorem dX10_times_2_48 : decode cX10_times_2 48 = .ok (.getfield 25, 3) := by decide +kernel
theorem dX10_times_2_51 : decode cX10_times_2 51 = .ok (.isub, 1) := by decide +kernel
theorem dX10_times_2_52 : decode cX10_times_2 52 = .ok (.iconst 1, 1) := by decide +kernel
theorem dX10_times_2_53 : decode cX10_times_2 53 = .ok (.iadd, 1) := by decide +kernel
theorem dX10_times_2_54 : decode cX10_times_2 54 = .ok (.invokestatic 40, 3) := by decide +kernel
theorem dX10_times_2_57 : decode cX10_times_2 57 = .ok (.istore 7, 2) := by decide +kernel
theorem dX10_times_2_59 : decode cX10_times_2 59 = .ok (.iload 4, 2) := by decide +kernel
theorem dX10_times_2_61 : decode cX10_times_2 61 = .ok (.aload_n 1, 1) := by decide +kernel
theorem dX10_times_2_62 : decode cX10_times_2 62 = .ok (.getfield 25, 3) := by decide +kernel
theorem dX10_times_2_65 : decode cX10_times_2 65 = .ok (.iconst 1, 1) := by decide +kernel
theorem dX10_times_2_66 : decode cX10_times_2 66 = .ok (.isub, 1) := by decide +kernel
theorem dX10_times_2_67 : decode cX10_times_2 67 = .ok (.invokestatic 59, 3) := by decide +kernel
theorem dX10_times_2_70 : decode cX10_times_2 70 = .ok (.istore 8, 2) := by decide +kernel
theorem dX10_times_2_72 : decode cX10_times_2 72 = .ok (.iload 7, 2) := by decide +kernel
theorem dX10_times_2_74 : decode cX10_times_2 74 = .ok (.istore 9, 2) := by decide +kernel
theorem dX10_times_2_76 : decode cX10_times_2 76 = .ok (.iload 9, 2) := by decide +kernel
theorem dX10_times_2_78 : decode cX10_times_2 78 = .ok (.iload 8, 2) := by decide +kernel
theorem dX10_times_2_80 : decode cX10_times_2 80 = .ok (.if_icmp .gt 38, 3) := by decide +kernel
theorem dX10_times_2_83 : decode cX10_times_2 83 = .ok (.lload 5, 2) := by decide +kernel
theorem dX10_times_2_85 : decode cX10_times_2 85 = .ok (.aload_n 1, 1) := by decide +kernel
theorem dX10_times_2_86 : decode cX10_times_2 86 = .ok (.getfield 30, 3) := by decide +kernel
theorem dX10_times_2_89 : decode cX10_times_2 89 = .ok (.iload 9, 2) := by decide +kernel
theorem dX10_times_2_91 : decode cX10_times_2 91 = .ok (.iaload, 1) := by decide +kernel
theorem dX10_times_2_92 : decode cX10_times_2 92 = .ok (.i2l, 1) := by decide +kernel
theorem dX10_times_2_93 : decode cX10_times_2 93 = .ok (.aload_n 2, 1) := by decide +kernel
theorem dX10_times_2_94 : decode cX10_times_2 94 = .ok (.getfield 30, 3) := by decide +kernel
theorem dX10_times_2_97 : decode cX10_times_2 97 = .ok (.iload 4, 2) := by decide +kernel
theorem dX10_times_2_99 : decode cX10_times_2 99 = .ok (.iload 9, 2) := by decide +kernel
theorem dX10_times_2_101 : decode cX10_times_2 101 = .ok (.isub, 1) := by decide +kernel
theorem dX10_times_2_102 : decode cX10_times_2 102 = .ok (.iaload, 1) := by decide +kernel
theorem dX10_times_2_103 : decode cX10_times_2 103 = .ok (.i2l, 1) := by decide +kernel
theorem dX10_times_2_104 : decode cX10_times_2 104 = .ok (.lmul, 1) := by decide +kernel
theorem dX10_times_2_105 : decode cX10_times_2 105 = .ok (.ladd, 1) := by decide +kernel
theorem dX10_times_2_106 : decode cX10_times_2 106 = .ok (.ldc2_w 3, 3) := by decide +kernel
theorem dX10_times_2_109 : decode cX10_times_2 109 = .ok (.lrem, 1) := by decide +kernel
theorem dX10_times_2_110 : decode cX10_times_2 110 = .ok (.lstore 5, 2) := by decide +kernel
theorem dX10_times_2_112 : decode cX10_times_2 112 = .ok (.iinc 9 1, 3) := by decide +kernel
theorem dX10_times_2_115 : decode cX10_times_2 115 = .ok (.goto (-39), 3) := by decide +kernel
theorem dX10_times_2_118 : decode cX10_times_2 118 = .ok (.aload_n 0, 1) := by decide +kernel
theorem dX10_times_2_119 : decode cX10_times_2 119 = .ok (.getfield 30, 3) := by decide +kernel
theorem dX10_times_2_122 : decode cX10_times_2 122 = .ok (.iload 4, 2) := by decide +kernel
theorem dX10_times_2_124 : decode cX10_times_2 124 = .ok (.lload 5, 2) := by decide +kernel
theorem dX10_times_2_126 : decode cX10_times_2 126 = .ok (.l2i, 1) := by decide +kernel
theorem dX10_times_2_127 : decode cX10_times_2 127 = .ok (.iastore, 1) := by decide +kernel
theorem dX10_times_2_128 : decode cX10_times_2 128 = .ok (.iinc 4 1, 3) := by decide +kernel
theorem dX10_times_2_131 : decode cX10_times_2 131 = .ok (.goto (-96), 3) := by decide +kernel
theorem dX10_times_2_134 : decode cX10_times_2 134 = .ok (.aload_n 0, 1) := by decide +kernel
theorem dX10_times_2_135 : decode cX10_times_2 135 = .ok (.iload_n 3, 1) := by decide +kernel
theorem dX10_times_2_136 : decode cX10_times_2 136 = .ok (.putfield 25, 3) := by decide +kernel
theorem dX10_times_2_139 : decode cX10_times_2 139 = .ok (.return_, 1) := by decide +kernel
theorem dX10_plus_0 : decode cX10_plus 0 = .ok (.aload_n 1, 1) := by decide +kernel
theorem dX10_plus_1 : decode cX10_plus 1 = .ok (.getfield 25, 3) := by decide +kernel
theorem dX10_plus_4 : decode cX10_plus 4 = .ok (.aload_n 2, 1) := by decide +kernel
theorem dX10_plus_5 : decode cX10_plus 5 = .ok (.getfield 25, 3) := by decide +kernel
theorem dX10_plus_8 : decode cX10_plus 8 = .ok (.invokestatic 40, 3) := by decide +kernel
theorem dX10_plus_11 : decode cX10_plus 11 = .ok (.istore 4, 2) := by decide +kernel
theorem dX10_plus_13 : decode cX10_plus 13 = .ok (.iconst 0, 1) := by decide +kernel
theorem dX10_plus_14 : decode cX10_plus 14 = .ok (.istore 5, 2) := by decide +kernel
theorem dX10_plus_16 : decode cX10_plus 16 = .ok (.iload 5, 2) := by decide +kernel
theorem dX10_plus_18 : decode cX10_plus 18 = .ok (.iload 4, 2) := by decide +kernel
theorem dX10_plus_20 : decode cX10_plus 20 = .ok (.if_icmp .ge 81, 3) := by decide +kernel
theorem dX10_plus_23 : decode cX10_plus 23 = .ok (.iload 5, 2) := by decide +kernel
theorem dX10_plus_25 : decode cX10_plus 25 = .ok (.aload_n 1, 1) := by decide +kernel
theorem dX10_plus_26 : decode cX10_plus 26 = .ok (.getfield 25, 3) := by decide +kernel
theorem dX10_plus_29 : decode cX10_plus 29 = .ok (.if_icmp .ge 13, 3) := by decide +kernel
theorem dX10_plus_32 : decode cX10_plus 32 = .ok (.aload_n 1, 1) := by decide +kernel
theorem dX10_plus_33 : decode cX10_plus 33 = .ok (.getfield 30, 3) := by decide +kernel
theorem dX10_plus_36 : decode cX10_plus 36 = .ok (.iload 5, 2) := by decide +kernel
theorem dX10_plus_38 : decode cX10_plus 38 = .ok (.iaload, 1) := by decide +kernel
theorem dX10_plus_39 : decode cX10_plus 39 = .ok (.goto 4, 3) := by decide +kernel
theorem dX10_plus_42 : decode cX10_plus 42 = .ok (.iconst 0, 1) := by decide +kernel
theorem dX10_plus_43 : decode cX10_plus 43 = .ok (.istore 6, 2) := by decide +kernel
theorem dX10_plus_45 : decode cX10_plus 45 = .ok (.iload 5, 2) := by decide +kernel
theorem dX10_plus_47 : decode cX10_plus 47 = .ok (.aload_n 2, 1) := by decide +kernel
theorem dX10_plus_48 : decode cX10_plus 48 = .ok (.getfield 25, 3) := by decide +kernel
theorem dX10_plus_51 : decode cX10_plus 51 = .ok (.if_icmp .ge 13, 3) := by decide +kernel
theorem dX10_plus_54 : decode cX10_plus 54 = .ok (.aload_n 2, 1) := by decide +kernel
theorem dX10_plus_55 : decode cX10_plus 55 = .ok (.getfield 30, 3) := by decide +kernel
theorem dX10_plus_58 : decode cX10_plus 58 = .ok (.iload 5, 2) := by decide +kernel
theorem dX10_plus_60 : decode cX10_plus 60 = .ok (.iaload, 1) := by decide +kernel
theorem dX10_plus_61 : decode cX10_plus 61 = .ok (.goto 4, 3) := by decide +kernel
theorem dX10_plus_64 : decode cX10_plus 64 = .ok (.iconst 0, 1) := by decide +kernel
theorem dX10_plus_65 : decode cX10_plus 65 = .ok (.istore 7, 2) := by decide +kernel
theorem dX10_plus_67 : decode cX10_plus 67 = .ok (.aload_n 0, 1) := by decide +kernel
theorem dX10_plus_68 : decode cX10_plus 68 = .ok (.getfield 30, 3) := by decide +kernel
theorem dX10_plus_71 : decode cX10_plus 71 = .ok (.iload 5, 2) := by decide +kernel
theorem dX10_plus_73 : decode cX10_plus 73 = .ok (.iload_n 3, 1) := by decide +kernel
theorem dX10_plus_74 : decode cX10_plus 74 = .ok (.ifCond .eq 13, 3) := by decide +kernel
theorem dX10_plus_77 : decode cX10_plus 77 = .ok (.iload 6, 2) := by decide +kernel
theorem dX10_plus_79 : decode cX10_plus 79 = .ok (.iload 7, 2) := by decide +kernel
theorem dX10_plus_81 : decode cX10_plus 81 = .ok (.invokestatic 46, 3) := by decide +kernel
theorem dX10_plus_84 : decode cX10_plus 84 = .ok (.goto 10, 3) := by decide +kernel
theorem dX10_plus_87 : decode cX10_plus 87 = .ok (.iload 6, 2) := by decide +kernel
theorem dX10_plus_89 : decode cX10_plus 89 = .ok (.iload 7, 2) := by decide +kernel
theorem dX10_plus_91 : decode cX10_plus 91 = .ok (.invokestatic 49, 3) := by decide +kernel
theorem dX10_plus_94 : decode cX10_plus 94 = .ok (.iastore, 1) := by decide +kernel
theorem dX10_plus_95 : decode cX10_plus 95 = .ok (.iinc 5 1, 3) := by decide +kernel
theorem dX10_plus_98 : decode cX10_plus 98 = .ok (.goto (-82), 3) := by decide +kernel
theorem dX10_plus_101 : decode cX10_plus 101 = .ok (.aload_n 0, 1) := by decide +kernel
theorem dX10_plus_102 : decode cX10_plus 102 = .ok (.iload 4, 2) := by decide +kernel
theorem dX10_plus_104 : decode cX10_plus 104 = .ok (.putfield 25, 3) := by decide +kernel
theorem dX10_plus_107 : decode cX10_plus 107 = .ok (.aload_n 0, 1) := by decide +kernel
theorem dX10_plus_108 : decode cX10_plus 108 = .ok (.invokevirtual 52, 3) := by decide +kernel
theorem dX10_plus_111 : decode cX10_plus 111 = .ok (.return_, 1) := by decide +kernel
theorem dX10_sub_0 : decode cX10_sub 0 = .ok (.iload_n 0, 1) := by decide +kernel
theorem dX10_sub_1 : decode cX10_sub 1 = .ok (.iload_n 1, 1) := by decide +kernel
theorem dX10_sub_2 : decode cX10_sub 2 = .ok (.if_icmp .lt 9, 3) := by decide +kernel
theorem dX10_sub_5 : decode cX10_sub 5 = .ok (.iload_n 0, 1) := by decide +kernel
theorem dX10_sub_6 : decode cX10_sub 6 = .ok (.iload_n 1, 1) := by decide +kernel
theorem dX10_sub_7 : decode cX10_sub 7 = .ok (.isub, 1) := by decide +kernel
theorem dX10_sub_8 : decode cX10_sub 8 = .ok (.goto 9, 3) := by decide +kernel
theorem dX10_sub_11 : decode cX10_sub 11 = .ok (.iload_n 0, 1) := by decide +kernel
theorem dX10_sub_12 : decode cX10_sub 12 = .ok (.iload_n 1, 1) := by decide +kernel
theorem dX10_sub_13 : decode cX10_sub 13 = .ok (.isub, 1) := by decide +kernel
theorem dX10_sub_14 : decode cX10_sub 14 = .ok (.ldc 5, 2) := by decide +kernel
theorem dX10_sub_16 : decode cX10_sub 16 = .ok (.iadd, 1) := by decide +kernel
theorem dX10_sub_17 : decode cX10_sub 17 = .ok (.ireturn, 1) := by decide +kernel
theorem dX10_add_0 : decode cX10_add 0 = .ok (.iload_n 0, 1) := by decide +kernel
theorem dX10_add_1 : decode cX10_add 1 = .ok (.i2l, 1) := by decide +kernel
theorem dX10_add_2 : decode cX10_add 2 = .ok (.iload_n 1, 1) := by decide +kernel
theorem dX10_add_3 : decode cX10_add 3 = .ok (.i2l, 1) := by decide +kernel
theorem dX10_add_4 : decode cX10_add 4 = .ok (.ladd, 1) := by decide +kernel
theorem dX10_add_5 : decode cX10_add 5 = .ok (.lstore_n 2, 1) := by decide +kernel
theorem dX10_add_6 : decode cX10_add 6 = .ok (.lload_n 2, 1) := by decide +kernel
theorem dX10_add_7 : decode cX10_add 7 = .ok (.ldc2_w 3, 3) := by decide +kernel
theorem dX10_add_10 : decode cX10_add 10 = .ok (.lcmp, 1) := by decide +kernel
theorem dX10_add_11 : decode cX10_add 11 = .ok (.ifCond .lt 11, 3) := by decide +kernel
theorem dX10_add_14 : decode cX10_add 14 = .ok (.lload_n 2, 1) := by decide +kernel
theorem dX10_add_15 : decode cX10_add 15 = .ok (.ldc2_w 3, 3) := by decide +kernel
theorem dX10_add_18 : decode cX10_add 18 = .ok (.lsub, 1) := by decide +kernel
theorem dX10_add_19 : decode cX10_add 19 = .ok (.goto 4, 3) := by decide +kernel
theorem dX10_add_22 : decode cX10_add 22 = .ok (.lload_n 2, 1) := by decide +kernel
theorem dX10_add_23 : decode cX10_add 23 = .ok (.l2i, 1) := by decide +kernel
theorem dX10_add_24 : decode cX10_add 24 = .ok (.ireturn, 1) := by decide +kernel
theorem dX10_set_0 : decode cX10_set 0 = .ok (.iconst 0, 1) := by decide +kernel
theorem dX10_set_1 : decode cX10_set 1 = .ok (.istore_n 2, 1) := by decide +kernel
theorem dX10_set_2 : decode cX10_set 2 = .ok (.iload_n 2, 1) := by decide +kernel
theorem dX10_set_3 : decode cX10_set 3 = .ok (.aload_n 1, 1) := by decide +kernel
theorem dX10_set_4 : decode cX10_set 4 = .ok (.getfield 93, 3) := by decide +kernel
theorem dX10_set_7 : decode cX10_set 7 = .ok (.if_icmp .ge 24, 3) := by decide +kernel
theorem dX10_set_10 : decode cX10_set 10 = .ok (.aload_n 0, 1) := by decide +kernel
theorem dX10_set_11 : decode cX10_set 11 = .ok (.getfield 98, 3) := by decide +kernel
theorem dX10_set_14 : decode cX10_set 14 = .ok (.iload_n 2, 1) := by decide +kernel
theorem dX10_set_15 : decode cX10_set 15 = .ok (.aaload, 1) := by decide +kernel
theorem dX10_set_16 : decode cX10_set 16 = .ok (.aload_n 1, 1) := by decide +kernel
theorem dX10_set_17 : decode cX10_set 17 = .ok (.getfield 98, 3) := by decide +kernel
theorem dX10_set_20 : decode cX10_set 20 = .ok (.iload_n 2, 1) := by decide +kernel
theorem dX10_set_21 : decode cX10_set 21 = .ok (.aaload, 1) := by decide +kernel
theorem dX10_set_22 : decode cX10_set 22 = .ok (.invokestatic 62, 3) := by decide +kernel
theorem dX10_set_25 : decode cX10_set 25 = .ok (.iinc 2 1, 3) := by decide +kernel
theorem dX10_set_28 : decode cX10_set 28 = .ok (.goto (-26), 3) := by decide +kernel
theorem dX10_set_31 : decode cX10_set 31 = .ok (.aload_n 0, 1) := by decide +kernel
theorem dX10_set_32 : decode cX10_set 32 = .ok (.aload_n 1, 1) := by decide +kernel
theorem dX10_set_33 : decode cX10_set 33 = .ok (.getfield 93, 3) := by decide +kernel
theorem dX10_set_36 : decode cX10_set 36 = .ok (.putfield 93, 3) := by decide +kernel
theorem dX10_set_39 : decode cX10_set 39 = .ok (.return_, 1) := by decide +kernel
theorem dX10_set_2_0 : decode cX10_set_2 0 = .ok (.aload_n 1, 1) := by decide +kernel
theorem dX10_set_2_1 : decode cX10_set_2 1 = .ok (.getfield 30, 3) := by decide +kernel
theorem dX10_set_2_4 : decode cX10_set_2 4 = .ok (.iconst 0, 1) := by decide +kernel
theorem dX10_set_2_5 : decode cX10_set_2 5 = .ok (.aload_n 0, 1) := by decide +kernel
theorem dX10_set_2_6 : decode cX10_set_2 6 = .ok (.getfield 30, 3) := by decide +kernel
theorem dX10_set_2_9 : decode cX10_set_2 9 = .ok (.iconst 0, 1) := by decide +kernel
theorem dX10_set_2_10 : decode cX10_set_2 10 = .ok (.aload_n 1, 1) := by decide +kernel
theorem dX10_set_2_11 : decode cX10_set_2 11 = .ok (.getfield 25, 3) := by decide +kernel
theorem dX10_set_2_14 : decode cX10_set_2 14 = .ok (.invokestatic 34, 3) := by decide +kernel
theorem dX10_set_2_17 : decode cX10_set_2 17 = .ok (.aload_n 0, 1) := by decide +kernel
theorem dX10_set_2_18 : decode cX10_set_2 18 = .ok (.aload_n 1, 1) := by decide +kernel
theorem dX10_set_2_19 : decode cX10_set_2 19 = .ok (.getfield 25, 3) := by decide +kernel
theorem dX10_set_2_22 : decode cX10_set_2 22 = .ok (.putfield 25, 3) := by decide +kernel
theorem dX10_set_2_25 : decode cX10_set_2 25 = .ok (.return_, 1) := by decide +kernel
theorem dX10_settle_0 : decode cX10_settle 0 = .ok (.aload_n 0, 1) := by decide +kernel
theorem dX10_settle_1 : decode cX10_settle 1 = .ok (.getfield 93, 3) := by decide +kernel
theorem dX10_settle_4 : decode cX10_settle 4 = .ok (.ifCond .ne 11, 3) := by decide +kernel
theorem dX10_settle_7 : decode cX10_settle 7 = .ok (.aload_n 1, 1) := by decide +kernel
theorem dX10_settle_8 : decode cX10_settle 8 = .ok (.iconst 1, 1) := by decide +kernel
theorem dX10_settle_9 : decode cX10_settle 9 = .ok (.invokevirtual 158, 3) := by decide +kernel
theorem dX10_settle_12 : decode cX10_settle 12 = .ok (.goto 23, 3) := by decide +kernel
theorem dX10_settle_15 : decode cX10_settle 15 = .ok (.aload_n 1, 1) := by decide +kernel
theorem dX10_settle_16 : decode cX10_settle 16 = .ok (.invokevirtual 181, 3) := by decide +kernel
theorem dX10_settle_19 : decode cX10_settle 19 = .ok (.invokestatic 13, 3) := by decide +kernel
theorem dX10_settle_22 : decode cX10_settle 22 = .ok (.istore_n 2, 1) := by decide +kernel
theorem dX10_settle_23 : decode cX10_settle 23 = .ok (.aload_n 0, 1) := by decide +kernel
theorem dX10_settle_24 : decode cX10_settle 24 = .ok (.aload_n 0, 1) := by decide +kernel
theorem dX10_settle_25 : decode cX10_settle 25 = .ok (.iload_n 2, 1) := by decide +kernel
theorem dX10_settle_26 : decode cX10_settle 26 = .ok (.invokestatic 182, 3) := by decide +kernel
theorem dX10_settle_29 : decode cX10_settle 29 = .ok (.aload_n 1, 1) := by decide +kernel
theorem dX10_settle_30 : decode cX10_settle 30 = .ok (.aload_n 1, 1) := by decide +kernel
theorem dX10_settle_31 : decode cX10_settle 31 = .ok (.iload_n 2, 1) := by decide +kernel
theorem dX10_settle_32 : decode cX10_settle 32 = .ok (.invokestatic 182, 3) := by decide +kernel
theorem dX10_settle_35 : decode cX10_settle 35 = .ok (.return_, 1) := by decide +kernel
theorem dX10_scale_0 : decode cX10_scale 0 = .ok (.iconst 0, 1) := by decide +kernel
theorem dX10_scale_1 : decode cX10_scale 1 = .ok (.istore_n 3, 1) := by decide +kernel
theorem dX10_scale_2 : decode cX10_scale 2 = .ok (.iload_n 3, 1) := by decide +kernel
theorem dX10_scale_3 : decode cX10_scale 3 = .ok (.aload_n 1, 1) := by decide +kernel
theorem dX10_scale_4 : decode cX10_scale 4 = .ok (.getfield 93, 3) := by decide +kernel
theorem dX10_scale_7 : decode cX10_scale 7 = .ok (.if_icmp .ge 25, 3) := by decide +kernel
theorem dX10_scale_10 : decode cX10_scale 10 = .ok (.aload_n 0, 1) := by decide +kernel
theorem dX10_scale_11 : decode cX10_scale 11 = .ok (.getfield 98, 3) := by decide +kernel
theorem dX10_scale_14 : decode cX10_scale 14 = .ok (.iload_n 3, 1) := by decide +kernel
theorem dX10_scale_15 : decode cX10_scale 15 = .ok (.aaload, 1) := by decide +kernel
theorem dX10_scale_16 : decode cX10_scale 16 = .ok (.aload_n 1, 1) := by decide +kernel
theorem dX10_scale_17 : decode cX10_scale 17 = .ok (.getfield 98, 3) := by decide +kernel
theorem dX10_scale_20 : decode cX10_scale 20 = .ok (.iload_n 3, 1) := by decide +kernel
theorem dX10_scale_21 : decode cX10_scale 21 = .ok (.aaload, 1) := by decide +kernel
theorem dX10_scale_22 : decode cX10_scale 22 = .ok (.iload_n 2, 1) := by decide +kernel
theorem dX10_scale_23 : decode cX10_scale 23 = .ok (.invokestatic 70, 3) := by decide +kernel
theorem dX10_scale_26 : decode cX10_scale 26 = .ok (.iinc 3 1, 3) := by decide +kernel
theorem dX10_scale_29 : decode cX10_scale 29 = .ok (.goto (-27), 3) := by decide +kernel
theorem dX10_scale_32 : decode cX10_scale 32 = .ok (.aload_n 0, 1) := by decide +kernel
theorem dX10_scale_33 : decode cX10_scale 33 = .ok (.aload_n 1, 1) := by decide +kernel
theorem dX10_scale_34 : decode cX10_scale 34 = .ok (.getfield 93, 3) := by decide +kernel
theorem dX10_scale_37 : decode cX10_scale 37 = .ok (.putfield 93, 3) := by decide +kernel
theorem dX10_scale_40 : decode cX10_scale 40 = .ok (.aload_n 0, 1) := by decide +kernel
theorem dX10_scale_41 : decode cX10_scale 41 = .ok (.invokevirtual 105, 3) := by decide +kernel
theorem dX10_scale_44 : decode cX10_scale 44 = .ok (.return_, 1) := by decide +kernel
theorem dX10_scale_2_0 : decode cX10_scale_2 0 = .ok (.iconst 0, 1) := by decide +kernel
theorem dX10_scale_2_1 : decode cX10_scale_2 1 = .ok (.istore_n 3, 1) := by decide +kernel
theorem dX10_scale_2_2 : decode cX10_scale_2 2 = .ok (.iload_n 3, 1) := by decide +kernel
theorem dX10_scale_2_3 : decode cX10_scale_2 3 = .ok (.aload_n 1, 1) := by decide +kernel
theorem dX10_scale_2_4 : decode cX10_scale_2 4 = .ok (.getfield 25, 3) := by decide +kernel
theorem dX10_scale_2_7 : decode cX10_scale_2 7 = .ok (.if_icmp .ge 25, 3) := by decide +kernel
theorem dX10_scale_2_10 : decode cX10_scale_2 10 = .ok (.aload_n 0, 1) := by decide +kernel
theorem dX10_scale_2_11 : decode cX10_scale_2 11 = .ok (.getfield 30, 3) := by decide +kernel
theorem dX10_scale_2_14 : decode cX10_scale_2 14 = .ok (.iload_n 3, 1) := by decide +kernel
theorem dX10_scale_2_15 : decode cX10_scale_2 15 = .ok (.aload_n 1, 1) := by decide +kernel
theorem dX10_scale_2_16 : decode cX10_scale_2 16 = .ok (.getfield 30, 3) := by decide +kernel
theorem dX10_scale_2_19 : decode cX10_scale_2 19 = .ok (.iload_n 3, 1) := by decide +kernel
theorem dX10_scale_2_20 : decode cX10_scale_2 20 = .ok (.iaload, 1) := by decide +kernel
theorem dX10_scale_2_21 : decode cX10_scale_2 21 = .ok (.iload_n 2, 1) := by decide +kernel
theorem dX10_scale_2_22 : decode cX10_scale_2 22 = .ok (.invokestatic 56, 3) := by decide +kernel
theorem dX10_scale_2_25 : decode cX10_scale_2 25 = .ok (.iastore, 1) := by decide +kernel
theorem dX10_scale_2_26 : decode cX10_scale_2 26 = .ok (.iinc 3 1, 3) := by decide +kernel
theorem dX10_scale_2_29 : decode cX10_scale_2 29 = .ok (.goto (-27), 3) := by decide +kernel
theorem dX10_scale_2_32 : decode cX10_scale_2 32 = .ok (.aload_n 0, 1) := by decide +kernel
theorem dX10_scale_2_33 : decode cX10_scale_2 33 = .ok (.aload_n 1, 1) := by decide +kernel
theorem dX10_scale_2_34 : decode cX10_scale_2 34 = .ok (.getfield 25, 3) := by decide +kernel
theorem dX10_scale_2_37 : decode cX10_scale_2 37 = .ok (.putfield 25, 3) := by decide +kernel
theorem dX10_scale_2_40 : decode cX10_scale_2 40 = .ok (.aload_n 0, 1) := by decide +kernel
theorem dX10_scale_2_41 : decode cX10_scale_2 41 = .ok (.invokevirtual 52, 3) := by decide +kernel
theorem dX10_scale_2_44 : decode cX10_scale_2 44 = .ok (.return_, 1) := by decide +kernel
theorem dX10_power_0 : decode cX10_power 0 = .ok (.iload_n 1, 1) := by decide +kernel
theorem dX10_power_1 : decode cX10_power 1 = .ok (.ifCond .ge 16, 3) := by decide +kernel
theorem dX10_power_4 : decode cX10_power 4 = .ok (.iload_n 0, 1) := by decide +kernel
theorem dX10_power_5 : decode cX10_power 5 = .ok (.iload_n 1, 1) := by decide +kernel
theorem dX10_power_6 : decode cX10_power 6 = .ok (.i2l, 1) := by decide +kernel
theorem dX10_power_7 : decode cX10_power 7 = .ok (.lneg, 1) := by decide +kernel
theorem dX10_power_8 : decode cX10_power 8 = .ok (.invokestatic 8, 3) := by decide +kernel
theorem dX10_power_11 : decode cX10_power 11 = .ok (.invokestatic 13, 3) := by decide +kernel
theorem dX10_power_14 : decode cX10_power 14 = .ok (.goto 9, 3) := by decide +kernel
theorem dX10_power_17 : decode cX10_power 17 = .ok (.iload_n 0, 1) := by decide +kernel
theorem dX10_power_18 : decode cX10_power 18 = .ok (.iload_n 1, 1) := by decide +kernel
theorem dX10_power_19 : decode cX10_power 19 = .ok (.i2l, 1) := by decide +kernel
theorem dX10_power_20 : decode cX10_power 20 = .ok (.invokestatic 8, 3) := by decide +kernel
theorem dX10_power_23 : decode cX10_power 23 = .ok (.ireturn, 1) := by decide +kernel
theorem dX10_isNumber_0 : decode cX10_isNumber 0 = .ok (.aload_n 0, 1) := by decide +kernel
theorem dX10_isNumber_1 : decode cX10_isNumber 1 = .ok (.getfield 202, 3) := by decide +kernel
theorem dX10_isNumber_4 : decode cX10_isNumber 4 = .ok (.iconst 1, 1) := by decide +kernel
theorem dX10_isNumber_5 : decode cX10_isNumber 5 = .ok (.if_icmp .ne 17, 3) := by decide +kernel
theorem dX10_isNumber_8 : decode cX10_isNumber 8 = .ok (.aload_n 0, 1) := by decide +kernel
theorem dX10_isNumber_9 : decode cX10_isNumber 9 = .ok (.getfield 210, 3) := by decide +kernel
theorem dX10_isNumber_12 : decode cX10_isNumber 12 = .ok (.invokestatic 265, 3) := by decide +kernel
theorem dX10_isNumber_15 : decode cX10_isNumber 15 = .ok (.ifCond .eq 7, 3) := by decide +kernel
theorem dX10_isNumber_18 : decode cX10_isNumber 18 = .ok (.iconst 1, 1) := by decide +kernel
theorem dX10_isNumber_19 : decode cX10_isNumber 19 = .ok (.goto 4, 3) := by decide +kernel
theorem dX10_isNumber_22 : decode cX10_isNumber 22 = .ok (.iconst 0, 1) := by decide +kernel
theorem dX10_isNumber_23 : decode cX10_isNumber 23 = .ok (.istore_n 1, 1) := by decide +kernel
theorem dX10_isNumber_24 : decode cX10_isNumber 24 = .ok (.iconst 1, 1) := by decide +kernel
theorem dX10_isNumber_25 : decode cX10_isNumber 25 = .ok (.istore_n 2, 1) := by decide +kernel
theorem dX10_isNumber_26 : decode cX10_isNumber 26 = .ok (.iload_n 2, 1) := by decide +kernel
theorem dX10_isNumber_27 : decode cX10_isNumber 27 = .ok (.sipush 325, 3) := by decide +kernel
theorem dX10_isNumber_30 : decode cX10_isNumber 30 = .ok (.if_icmp .ge 28, 3) := by decide +kernel
theorem dX10_isNumber_33 : decode cX10_isNumber 33 = .ok (.iload_n 1, 1) := by decide +kernel
theorem dX10_isNumber_34 : decode cX10_isNumber 34 = .ok (.ifCond .eq 24, 3) := by decide +kernel
theorem dX10_isNumber_37 : decode cX10_isNumber 37 = .ok (.aload_n 0, 1) := by decide +kernel
theorem dX10_isNumber_38 : decode cX10_isNumber 38 = .ok (.getfield 207, 3) := by decide +kernel
theorem dX10_isNumber_41 : decode cX10_isNumber 41 = .ok (.iload_n 2, 1) := by decide +kernel
theorem dX10_isNumber_42 : decode cX10_isNumber 42 = .ok (.iaload, 1) := by decide +kernel
theorem dX10_isNumber_43 : decode cX10_isNumber 43 = .ok (.ifCond .ne 7, 3) := by decide +kernel
theorem dX10_isNumber_46 : decode cX10_isNumber 46 = .ok (.iconst 1, 1) := by decide +kernel
theorem dX10_isNumber_47 : decode cX10_isNumber 47 = .ok (.goto 4, 3) := by decide +kernel
theorem dX10_isNumber_50 : decode cX10_isNumber 50 = .ok (.iconst 0, 1) := by decide +kernel
theorem dX10_isNumber_51 : decode cX10_isNumber 51 = .ok (.istore_n 1, 1) := by decide +kernel
theorem dX10_isNumber_52 : decode cX10_isNumber 52 = .ok (.iinc 2 1, 3) := by decide +kernel
theorem dX10_isNumber_55 : decode cX10_isNumber 55 = .ok (.goto (-29), 3) := by decide +kernel
theorem dX10_isNumber_58 : decode cX10_isNumber 58 = .ok (.iload_n 1, 1) := by decide +kernel
theorem dX10_isNumber_59 : decode cX10_isNumber 59 = .ok (.ireturn, 1) := by decide +kernel
theorem dX10_multiply_0 : decode cX10_multiply 0 = .ok (.aload_n 1, 1) := by decide +kernel
theorem dX10_multiply_1 : decode cX10_multiply 1 = .ok (.invokestatic 288, 3) := by decide +kernel
theorem dX10_multiply_4 : decode cX10_multiply 4 = .ok (.ifCond .ne 14, 3) := by decide +kernel
theorem dX10_multiply_7 : decode cX10_multiply 7 = .ok (.iload_n 3, 1) := by decide +kernel
theorem dX10_multiply_8 : decode cX10_multiply 8 = .ok (.ifCond .ne 18, 3) := by decide +kernel
theorem dX10_multiply_11 : decode cX10_multiply 11 = .ok (.aload_n 2, 1) := by decide +kernel
theorem dX10_multiply_12 : decode cX10_multiply 12 = .ok (.invokestatic 288, 3) := by decide +kernel
theorem dX10_multiply_15 : decode cX10_multiply 15 = .ok (.ifCond .eq 11, 3) := by decide +kernel
theorem dX10_multiply_18 : decode cX10_multiply 18 = .ok (.aload_n 0, 1) := by decide +kernel
theorem dX10_multiply_19 : decode cX10_multiply 19 = .ok (.aload_n 1, 1) := by decide +kernel
theorem dX10_multiply_20 : decode cX10_multiply 20 = .ok (.iconst 0, 1) := by decide +kernel
theorem dX10_multiply_21 : decode cX10_multiply 21 = .ok (.invokevirtual 292, 3) := by decide +kernel
theorem dX10_multiply_24 : decode cX10_multiply 24 = .ok (.iconst 1, 1) := by decide +kernel
theorem dX10_multiply_25 : decode cX10_multiply 25 = .ok (.ireturn, 1) := by decide +kernel
theorem dX10_multiply_26 : decode cX10_multiply 26 = .ok (.aload_n 0, 1) := by decide +kernel
theorem dX10_multiply_27 : decode cX10_multiply 27 = .ok (.getfield 90, 3) := by decide +kernel
theorem dX10_multiply_30 : decode cX10_multiply 30 = .ok (.istore 4, 2) := by decide +kernel
theorem dX10_multiply_32 : decode cX10_multiply 32 = .ok (.aload_n 0, 1) := by decide +kernel
theorem dX10_multiply_33 : decode cX10_multiply 33 = .ok (.invokevirtual 140, 3) := by decide +kernel
theorem dX10_multiply_36 : decode cX10_multiply 36 = .ok (.astore 5, 2) := by decide +kernel
theorem dX10_multiply_38 : decode cX10_multiply 38 = .ok (.aload_n 0, 1) := by decide +kernel
theorem dX10_multiply_39 : decode cX10_multiply 39 = .ok (.invokevirtual 140, 3) := by decide +kernel
theorem dX10_multiply_42 : decode cX10_multiply 42 = .ok (.astore 6, 2) := by decide +kernel
theorem dX10_multiply_44 : decode cX10_multiply 44 = .ok (.aload_n 0, 1) := by decide +kernel
theorem dX10_multiply_45 : decode cX10_multiply 45 = .ok (.invokevirtual 140, 3) := by decide +kernel
theorem dX10_multiply_48 : decode cX10_multiply 48 = .ok (.astore 7, 2) := by decide +kernel
theorem dX10_multiply_50 : decode cX10_multiply 50 = .ok (.aload_n 0, 1) := by decide +kernel
theorem dX10_multiply_51 : decode cX10_multiply 51 = .ok (.invokevirtual 140, 3) := by decide +kernel
theorem dX10_multiply_54 : decode cX10_multiply 54 = .ok (.astore 8, 2) := by decide +kernel
theorem dX10_multiply_56 : decode cX10_multiply 56 = .ok (.aload_n 0, 1) := by decide +kernel
theorem dX10_multiply_57 : decode cX10_multiply 57 = .ok (.invokevirtual 140, 3) := by decide +kernel
theorem dX10_multiply_60 : decode cX10_multiply 60 = .ok (.astore 9, 2) := by decide +kernel
theorem dX10_multiply_62 : decode cX10_multiply 62 = .ok (.aload_n 0, 1) := by decide +kernel
theorem dX10_multiply_63 : decode cX10_multiply 63 = .ok (.invokevirtual 140, 3) := by decide +kernel
theorem dX10_multiply_66 : decode cX10_multiply 66 = .ok (.astore 10, 2) := by decide +kernel
theorem dX10_multiply_68 : decode cX10_multiply 68 = .ok (.aload 5, 2) := by decide +kernel
theorem dX10_multiply_70 : decode cX10_multiply 70 = .ok (.aload_n 1, 1) := by decide +kernel
theorem dX10_multiply_71 : decode cX10_multiply 71 = .ok (.getfield 207, 3) := by decide +kernel
theorem dX10_multiply_74 : decode cX10_multiply 74 = .ok (.invokestatic 295, 3) := by decide +kernel
theorem dX10_multiply_77 : decode cX10_multiply 77 = .ok (.aload 6, 2) := by decide +kernel
theorem dX10_multiply_79 : decode cX10_multiply 79 = .ok (.aload_n 1, 1) := by decide +kernel
theorem dX10_multiply_80 : decode cX10_multiply 80 = .ok (.getfield 210, 3) := by decide +kernel
theorem dX10_multiply_83 : decode cX10_multiply 83 = .ok (.invokestatic 295, 3) := by decide +kernel
theorem dX10_multiply_86 : decode cX10_multiply 86 = .ok (.aload 7, 2) := by decide +kernel
theorem dX10_multiply_88 : decode cX10_multiply 88 = .ok (.iload_n 3, 1) := by decide +kernel
theorem dX10_multiply_89 : decode cX10_multiply 89 = .ok (.ifCond .eq 10, 3) := by decide +kernel
theorem dX10_multiply_92 : decode cX10_multiply 92 = .ok (.aload_n 2, 1) := by decide +kernel
theorem dX10_multiply_93 : decode cX10_multiply 93 = .ok (.getfield 210, 3) := by decide +kernel
theorem dX10_multiply_96 : decode cX10_multiply 96 = .ok (.goto 7, 3) := by decide +kernel
theorem dX10_multiply_99 : decode cX10_multiply 99 = .ok (.aload_n 2, 1) := by decide +kernel
theorem dX10_multiply_100 : decode cX10_multiply 100 = .ok (.getfield 207, 3) := by decide +kernel
theorem dX10_multiply_103 : decode cX10_multiply 103 = .ok (.invokestatic 295, 3) := by decide +kernel
theorem dX10_multiply_106 : decode cX10_multiply 106 = .ok (.aload 8, 2) := by decide +kernel
theorem dX10_multiply_108 : decode cX10_multiply 108 = .ok (.iload_n 3, 1) := by decide +kernel
theorem dX10_multiply_109 : decode cX10_multiply 109 = .ok (.ifCond .eq 10, 3) := by decide +kernel
theorem dX10_multiply_112 : decode cX10_multiply 112 = .ok (.aload_n 2, 1) := by decide +kernel
theorem dX10_multiply_113 : decode cX10_multiply 113 = .ok (.getfield 207, 3) := by decide +kernel
theorem dX10_multiply_116 : decode cX10_multiply 116 = .ok (.goto 7, 3) := by decide +kernel
theorem dX10_multiply_119 : decode cX10_multiply 119 = .ok (.aload_n 2, 1) := by decide +kernel
theorem dX10_multiply_120 : decode cX10_multiply 120 = .ok (.getfield 210, 3) := by decide +kernel
theorem dX10_multiply_123 : decode cX10_multiply 123 = .ok (.invokestatic 295, 3) := by decide +kernel
theorem dX10_multiply_126 : decode cX10_multiply 126 = .ok (.aload_n 0, 1) := by decide +kernel
theorem dX10_multiply_127 : decode cX10_multiply 127 = .ok (.aload 9, 2) := by decide +kernel
theorem dX10_multiply_129 : decode cX10_multiply 129 = .ok (.aload 10, 2) := by decide +kernel
theorem dX10_multiply_131 : decode cX10_multiply 131 = .ok (.aload 5, 2) := by decide +kernel
theorem dX10_multiply_133 : decode cX10_multiply 133 = .ok (.aload 6, 2) := by decide +kernel
theorem dX10_multiply_135 : decode cX10_multiply 135 = .ok (.aload 7, 2) := by decide +kernel
theorem dX10_multiply_137 : decode cX10_multiply 137 = .ok (.aload 8, 2) := by decide +kernel
theorem dX10_multiply_139 : decode cX10_multiply 139 = .ok (.invokevirtual 299, 3) := by decide +kernel
theorem dX10_multiply_142 : decode cX10_multiply 142 = .ok (.aload 9, 2) := by decide +kernel
theorem dX10_multiply_144 : decode cX10_multiply 144 = .ok (.invokestatic 249, 3) := by decide +kernel
theorem dX10_multiply_147 : decode cX10_multiply 147 = .ok (.ifCond .eq 34, 3) := by decide +kernel
theorem dX10_multiply_150 : decode cX10_multiply 150 = .ok (.aload 10, 2) := by decide +kernel
theorem dX10_multiply_152 : decode cX10_multiply 152 = .ok (.invokestatic 249, 3) := by decide +kernel
theorem dX10_multiply_155 : decode cX10_multiply 155 = .ok (.ifCond .eq 26, 3) := by decide +kernel
theorem dX10_multiply_158 : decode cX10_multiply 158 = .ok (.aload_n 1, 1) := by decide +kernel
theorem dX10_multiply_159 : decode cX10_multiply 159 = .ok (.aload_n 2, 1) := by decide +kernel
theorem dX10_multiply_160 : decode cX10_multiply 160 = .ok (.iload_n 3, 1) := by decide +kernel
theorem dX10_multiply_161 : decode cX10_multiply 161 = .ok (.ifCond .eq 7, 3) := by decide +kernel
theorem dX10_multiply_164 : decode cX10_multiply 164 = .ok (.iconst (-1), 1) := by decide +kernel
theorem dX10_multiply_165 : decode cX10_multiply 165 = .ok (.goto 4, 3) := by decide +kernel
theorem dX10_multiply_168 : decode cX10_multiply 168 = .ok (.iconst 1, 1) := by decide +kernel
theorem dX10_multiply_169 : decode cX10_multiply 169 = .ok (.invokestatic 280, 3) := by decide +kernel
theorem dX10_multiply_172 : decode cX10_multiply 172 = .ok (.bipush 12, 2) := by decide +kernel
theorem dX10_multiply_174 : decode cX10_multiply 174 = .ok (.if_icmp .gt 7, 3) := by decide +kernel
theorem dX10_multiply_177 : decode cX10_multiply 177 = .ok (.iconst 1, 1) := by decide +kernel
theorem dX10_multiply_178 : decode cX10_multiply 178 = .ok (.goto 4, 3) := by decide +kernel
theorem dX10_multiply_181 : decode cX10_multiply 181 = .ok (.iconst 0, 1) := by decide +kernel
theorem dX10_multiply_182 : decode cX10_multiply 182 = .ok (.istore 11, 2) := by decide +kernel
theorem dX10_multiply_184 : decode cX10_multiply 184 = .ok (.iload 11, 2) := by decide +kernel
theorem dX10_multiply_186 : decode cX10_multiply 186 = .ok (.ifCond .eq 90, 3) := by decide +kernel
theorem dX10_multiply_189 : decode cX10_multiply 189 = .ok (.aload_n 1, 1) := by decide +kernel
theorem dX10_multiply_190 : decode cX10_multiply 190 = .ok (.aload 9, 2) := by decide +kernel
theorem dX10_multiply_192 : decode cX10_multiply 192 = .ok (.aload 10, 2) := by decide +kernel
theorem dX10_multiply_194 : decode cX10_multiply 194 = .ok (.invokestatic 261, 3) := by decide +kernel
theorem dX10_multiply_197 : decode cX10_multiply 197 = .ok (.istore 12, 2) := by decide +kernel
theorem dX10_multiply_199 : decode cX10_multiply 199 = .ok (.aload_n 0, 1) := by decide +kernel
theorem dX10_multiply_200 : decode cX10_multiply 200 = .ok (.aload_n 1, 1) := by decide +kernel
theorem dX10_multiply_201 : decode cX10_multiply 201 = .ok (.aload_n 2, 1) := by decide +kernel
theorem dX10_multiply_202 : decode cX10_multiply 202 = .ok (.iload_n 3, 1) := by decide +kernel
theorem dX10_multiply_203 : decode cX10_multiply 203 = .ok (.ifCond .eq 7, 3) := by decide +kernel
theorem dX10_multiply_206 : decode cX10_multiply 206 = .ok (.iconst (-1), 1) := by decide +kernel
theorem dX10_multiply_207 : decode cX10_multiply 207 = .ok (.goto 4, 3) := by decide +kernel
theorem dX10_multiply_210 : decode cX10_multiply 210 = .ok (.iconst 1, 1) := by decide +kernel
theorem dX10_multiply_211 : decode cX10_multiply 211 = .ok (.invokevirtual 303, 3) := by decide +kernel
theorem dX10_multiply_214 : decode cX10_multiply 214 = .ok (.aload_n 1, 1) := by decide +kernel
theorem dX10_multiply_215 : decode cX10_multiply 215 = .ok (.aload_n 1, 1) := by decide +kernel
theorem dX10_multiply_216 : decode cX10_multiply 216 = .ok (.getfield 213, 3) := by decide +kernel
theorem dX10_multiply_219 : decode cX10_multiply 219 = .ok (.iload_n 3, 1) := by decide +kernel
theorem dX10_multiply_220 : decode cX10_multiply 220 = .ok (.ifCond .eq 13, 3) := by decide +kernel
theorem dX10_multiply_223 : decode cX10_multiply 223 = .ok (.aload_n 2, 1) := by decide +kernel
theorem dX10_multiply_224 : decode cX10_multiply 224 = .ok (.getfield 213, 3) := by decide +kernel
theorem dX10_multiply_227 : decode cX10_multiply 227 = .ok (.invokestatic 13, 3) := by decide +kernel
theorem dX10_multiply_230 : decode cX10_multiply 230 = .ok (.goto 7, 3) := by decide +kernel
theorem dX10_multiply_233 : decode cX10_multiply 233 = .ok (.aload_n 2, 1) := by decide +kernel
theorem dX10_multiply_234 : decode cX10_multiply 234 = .ok (.getfield 213, 3) := by decide +kernel
theorem dX10_multiply_237 : decode cX10_multiply 237 = .ok (.invokestatic 56, 3) := by decide +kernel
theorem dX10_multiply_240 : decode cX10_multiply 240 = .ok (.putfield 213, 3) := by decide +kernel
theorem dX10_multiply_243 : decode cX10_multiply 243 = .ok (.aload_n 1, 1) := by decide +kernel
theorem dX10_multiply_244 : decode cX10_multiply 244 = .ok (.aload_n 1, 1) := by decide +kernel
theorem dX10_multiply_245 : decode cX10_multiply 245 = .ok (.getfield 216, 3) := by decide +kernel
theorem dX10_multiply_248 : decode cX10_multiply 248 = .ok (.iload_n 3, 1) := by decide +kernel
theorem dX10_multiply_249 : decode cX10_multiply 249 = .ok (.ifCond .eq 13, 3) := by decide +kernel
theorem dX10_multiply_252 : decode cX10_multiply 252 = .ok (.aload_n 2, 1) := by decide +kernel
theorem dX10_multiply_253 : decode cX10_multiply 253 = .ok (.getfield 216, 3) := by decide +kernel
theorem dX10_multiply_256 : decode cX10_multiply 256 = .ok (.invokestatic 13, 3) := by decide +kernel
theorem dX10_multiply_259 : decode cX10_multiply 259 = .ok (.goto 7, 3) := by decide +kernel
theorem dX10_multiply_262 : decode cX10_multiply 262 = .ok (.aload_n 2, 1) := by decide +kernel
theorem dX10_multiply_263 : decode cX10_multiply 263 = .ok (.getfield 216, 3) := by decide +kernel
theorem dX10_multiply_266 : decode cX10_multiply 266 = .ok (.invokestatic 56, 3) := by decide +kernel
theorem dX10_multiply_269 : decode cX10_multiply 269 = .ok (.putfield 216, 3) := by decide +kernel
theorem dX10_multiply_272 : decode cX10_multiply 272 = .ok (.aload_n 1, 1) := by decide +kernel
theorem dX10_multiply_273 : decode cX10_multiply 273 = .ok (.invokestatic 307, 3) := by decide +kernel
theorem dX10_multiply_276 : decode cX10_multiply 276 = .ok (.aload_n 0, 1) := by decide +kernel
theorem dX10_multiply_277 : decode cX10_multiply 277 = .ok (.iload 4, 2) := by decide +kernel
theorem dX10_multiply_279 : decode cX10_multiply 279 = .ok (.putfield 90, 3) := by decide +kernel
theorem dX10_multiply_282 : decode cX10_multiply 282 = .ok (.iload 11, 2) := by decide +kernel
theorem dX10_multiply_284 : decode cX10_multiply 284 = .ok (.ireturn, 1) := by decide +kernel
theorem dX10_multiply_2_0 : decode cX10_multiply_2 0 = .ok (.aload_n 0, 1) := by decide +kernel
theorem dX10_multiply_2_1 : decode cX10_multiply_2 1 = .ok (.getfield 90, 3) := by decide +kernel
theorem dX10_multiply_2_4 : decode cX10_multiply_2 4 = .ok (.istore 7, 2) := by decide +kernel
theorem dX10_multiply_2_6 : decode cX10_multiply_2 6 = .ok (.aload_n 0, 1) := by decide +kernel
theorem dX10_multiply_2_7 : decode cX10_multiply_2 7 = .ok (.invokevirtual 140, 3) := by decide +kernel
theorem dX10_multiply_2_10 : decode cX10_multiply_2 10 = .ok (.astore 8, 2) := by decide +kernel
theorem dX10_multiply_2_12 : decode cX10_multiply_2 12 = .ok (.aload_n 0, 1) := by decide +kernel
theorem dX10_multiply_2_13 : decode cX10_multiply_2 13 = .ok (.invokevirtual 140, 3) := by decide +kernel
theorem dX10_multiply_2_16 : decode cX10_multiply_2 16 = .ok (.astore 9, 2) := by decide +kernel
theorem dX10_multiply_2_18 : decode cX10_multiply_2 18 = .ok (.aload_n 0, 1) := by decide +kernel
theorem dX10_multiply_2_19 : decode cX10_multiply_2 19 = .ok (.invokevirtual 140, 3) := by decide +kernel
theorem dX10_multiply_2_22 : decode cX10_multiply_2 22 = .ok (.astore 10, 2) := by decide +kernel
theorem dX10_multiply_2_24 : decode cX10_multiply_2 24 = .ok (.aload_n 0, 1) := by decide +kernel
theorem dX10_multiply_2_25 : decode cX10_multiply_2 25 = .ok (.invokevirtual 140, 3) := by decide +kernel
theorem dX10_multiply_2_28 : decode cX10_multiply_2 28 = .ok (.astore 11, 2) := by decide +kernel
theorem dX10_multiply_2_30 : decode cX10_multiply_2 30 = .ok (.aload 8, 2) := by decide +kernel
theorem dX10_multiply_2_32 : decode cX10_multiply_2 32 = .ok (.aload_n 3, 1) := by decide +kernel
theorem dX10_multiply_2_33 : decode cX10_multiply_2 33 = .ok (.invokestatic 113, 3) := by decide +kernel
theorem dX10_multiply_2_36 : decode cX10_multiply_2 36 = .ok (.aload 11, 2) := by decide +kernel
theorem dX10_multiply_2_38 : decode cX10_multiply_2 38 = .ok (.aload 6, 2) := by decide +kernel
theorem dX10_multiply_2_40 : decode cX10_multiply_2 40 = .ok (.invokestatic 113, 3) := by decide +kernel
theorem dX10_multiply_2_43 : decode cX10_multiply_2 43 = .ok (.aload_n 0, 1) := by decide +kernel
theorem dX10_multiply_2_44 : decode cX10_multiply_2 44 = .ok (.aload 8, 2) := by decide +kernel
theorem dX10_multiply_2_46 : decode cX10_multiply_2 46 = .ok (.aload 11, 2) := by decide +kernel
theorem dX10_multiply_2_48 : decode cX10_multiply_2 48 = .ok (.invokevirtual 194, 3) := by decide +kernel
theorem dX10_multiply_2_51 : decode cX10_multiply_2 51 = .ok (.aload 10, 2) := by decide +kernel
theorem dX10_multiply_2_53 : decode cX10_multiply_2 53 = .ok (.aload 5, 2) := by decide +kernel
theorem dX10_multiply_2_55 : decode cX10_multiply_2 55 = .ok (.invokestatic 113, 3) := by decide +kernel
theorem dX10_multiply_2_58 : decode cX10_multiply_2 58 = .ok (.aload 9, 2) := by decide +kernel
theorem dX10_multiply_2_60 : decode cX10_multiply_2 60 = .ok (.aload 4, 2) := by decide +kernel
theorem dX10_multiply_2_62 : decode cX10_multiply_2 62 = .ok (.invokestatic 113, 3) := by decide +kernel
theorem dX10_multiply_2_65 : decode cX10_multiply_2 65 = .ok (.aload_n 0, 1) := by decide +kernel
theorem dX10_multiply_2_66 : decode cX10_multiply_2 66 = .ok (.aload 10, 2) := by decide +kernel
theorem dX10_multiply_2_68 : decode cX10_multiply_2 68 = .ok (.aload 9, 2) := by decide +kernel
theorem dX10_multiply_2_70 : decode cX10_multiply_2 70 = .ok (.invokevirtual 194, 3) := by decide +kernel
theorem dX10_multiply_2_73 : decode cX10_multiply_2 73 = .ok (.aload_n 0, 1) := by decide +kernel
theorem dX10_multiply_2_74 : decode cX10_multiply_2 74 = .ok (.aload_n 1, 1) := by decide +kernel
theorem dX10_multiply_2_75 : decode cX10_multiply_2 75 = .ok (.aload 8, 2) := by decide +kernel
theorem dX10_multiply_2_77 : decode cX10_multiply_2 77 = .ok (.aload 10, 2) := by decide +kernel
theorem dX10_multiply_2_79 : decode cX10_multiply_2 79 = .ok (.invokevirtual 197, 3) := by decide +kernel
theorem dX10_multiply_2_82 : decode cX10_multiply_2 82 = .ok (.aload_n 0, 1) := by decide +kernel
theorem dX10_multiply_2_83 : decode cX10_multiply_2 83 = .ok (.aload_n 2, 1) := by decide +kernel
theorem dX10_multiply_2_84 : decode cX10_multiply_2 84 = .ok (.aload 9, 2) := by decide +kernel
theorem dX10_multiply_2_86 : decode cX10_multiply_2 86 = .ok (.aload 11, 2) := by decide +kernel
theorem dX10_multiply_2_88 : decode cX10_multiply_2 88 = .ok (.invokevirtual 197, 3) := by decide +kernel
theorem dX10_multiply_2_91 : decode cX10_multiply_2 91 = .ok (.aload_n 1, 1) := by decide +kernel
theorem dX10_multiply_2_92 : decode cX10_multiply_2 92 = .ok (.aload_n 2, 1) := by decide +kernel
theorem dX10_multiply_2_93 : decode cX10_multiply_2 93 = .ok (.invokestatic 191, 3) := by decide +kernel
theorem dX10_multiply_2_96 : decode cX10_multiply_2 96 = .ok (.aload_n 0, 1) := by decide +kernel
theorem dX10_multiply_2_97 : decode cX10_multiply_2 97 = .ok (.iload 7, 2) := by decide +kernel
theorem dX10_multiply_2_99 : decode cX10_multiply_2 99 = .ok (.putfield 90, 3) := by decide +kernel
theorem dX10_multiply_2_102 : decode cX10_multiply_2 102 = .ok (.return_, 1) := by decide +kernel
theorem dX10_cancel_0 : decode cX10_cancel 0 = .ok (.aload_n 0, 1) := by decide +kernel
theorem dX10_cancel_1 : decode cX10_cancel 1 = .ok (.getfield 90, 3) := by decide +kernel
theorem dX10_cancel_4 : decode cX10_cancel 4 = .ok (.istore_n 3, 1) := by decide +kernel
theorem dX10_cancel_5 : decode cX10_cancel 5 = .ok (.aload_n 0, 1) := by decide +kernel
theorem dX10_cancel_6 : decode cX10_cancel 6 = .ok (.invokevirtual 140, 3) := by decide +kernel
theorem dX10_cancel_9 : decode cX10_cancel 9 = .ok (.astore 4, 2) := by decide +kernel
theorem dX10_cancel_11 : decode cX10_cancel 11 = .ok (.aload_n 0, 1) := by decide +kernel
theorem dX10_cancel_12 : decode cX10_cancel 12 = .ok (.invokevirtual 140, 3) := by decide +kernel
theorem dX10_cancel_15 : decode cX10_cancel 15 = .ok (.astore 5, 2) := by decide +kernel
theorem dX10_cancel_17 : decode cX10_cancel 17 = .ok (.aload_n 1, 1) := by decide +kernel
theorem dX10_cancel_18 : decode cX10_cancel 18 = .ok (.getfield 93, 3) := by decide +kernel
theorem dX10_cancel_21 : decode cX10_cancel 21 = .ok (.ifCond .le 53, 3) := by decide +kernel
theorem dX10_cancel_24 : decode cX10_cancel 24 = .ok (.aload_n 0, 1) := by decide +kernel
theorem dX10_cancel_25 : decode cX10_cancel 25 = .ok (.aload 4, 2) := by decide +kernel
theorem dX10_cancel_27 : decode cX10_cancel 27 = .ok (.aload_n 1, 1) := by decide +kernel
theorem dX10_cancel_28 : decode cX10_cancel 28 = .ok (.aload_n 2, 1) := by decide +kernel
theorem dX10_cancel_29 : decode cX10_cancel 29 = .ok (.invokevirtual 185, 3) := by decide +kernel
theorem dX10_cancel_32 : decode cX10_cancel 32 = .ok (.aload 4, 2) := by decide +kernel
theorem dX10_cancel_34 : decode cX10_cancel 34 = .ok (.invokevirtual 187, 3) := by decide +kernel
theorem dX10_cancel_37 : decode cX10_cancel 37 = .ok (.ifCond .ne 37, 3) := by decide +kernel
theorem dX10_cancel_40 : decode cX10_cancel 40 = .ok (.aload_n 0, 1) := by decide +kernel
theorem dX10_cancel_41 : decode cX10_cancel 41 = .ok (.aload 5, 2) := by decide +kernel
theorem dX10_cancel_43 : decode cX10_cancel 43 = .ok (.aload_n 1, 1) := by decide +kernel
theorem dX10_cancel_44 : decode cX10_cancel 44 = .ok (.aload 4, 2) := by decide +kernel
theorem dX10_cancel_46 : decode cX10_cancel 46 = .ok (.invokevirtual 170, 3) := by decide +kernel
theorem dX10_cancel_49 : decode cX10_cancel 49 = .ok (.istore 6, 2) := by decide +kernel
theorem dX10_cancel_51 : decode cX10_cancel 51 = .ok (.aload_n 1, 1) := by decide +kernel
theorem dX10_cancel_52 : decode cX10_cancel 52 = .ok (.aload 5, 2) := by decide +kernel
theorem dX10_cancel_54 : decode cX10_cancel 54 = .ok (.invokestatic 113, 3) := by decide +kernel
theorem dX10_cancel_57 : decode cX10_cancel 57 = .ok (.aload_n 0, 1) := by decide +kernel
theorem dX10_cancel_58 : decode cX10_cancel 58 = .ok (.aload 5, 2) := by decide +kernel
theorem dX10_cancel_60 : decode cX10_cancel 60 = .ok (.aload_n 2, 1) := by decide +kernel
theorem dX10_cancel_61 : decode cX10_cancel 61 = .ok (.aload 4, 2) := by decide +kernel
theorem dX10_cancel_63 : decode cX10_cancel 63 = .ok (.invokevirtual 170, 3) := by decide +kernel
theorem dX10_cancel_66 : decode cX10_cancel 66 = .ok (.istore 6, 2) := by decide +kernel
theorem dX10_cancel_68 : decode cX10_cancel 68 = .ok (.aload_n 2, 1) := by decide +kernel
theorem dX10_cancel_69 : decode cX10_cancel 69 = .ok (.aload 5, 2) := by decide +kernel
theorem dX10_cancel_71 : decode cX10_cancel 71 = .ok (.invokestatic 113, 3) := by decide +kernel
theorem dX10_cancel_74 : decode cX10_cancel 74 = .ok (.aload_n 0, 1) := by decide +kernel
theorem dX10_cancel_75 : decode cX10_cancel 75 = .ok (.iload_n 3, 1) := by decide +kernel
theorem dX10_cancel_76 : decode cX10_cancel 76 = .ok (.putfield 90, 3) := by decide +kernel
theorem dX10_cancel_79 : decode cX10_cancel 79 = .ok (.return_, 1) := by decide +kernel
theorem dX10_gcd_0 : decode cX10_gcd 0 = .ok (.aload_n 0, 1) := by decide +kernel
theorem dX10_gcd_1 : decode cX10_gcd 1 = .ok (.getfield 21, 3) := by decide +kernel
theorem dX10_gcd_4 : decode cX10_gcd 4 = .ok (.istore 4, 2) := by decide +kernel
theorem dX10_gcd_6 : decode cX10_gcd 6 = .ok (.aload_n 0, 1) := by decide +kernel
theorem dX10_gcd_7 : decode cX10_gcd 7 = .ok (.getfield 90, 3) := by decide +kernel
theorem dX10_gcd_10 : decode cX10_gcd 10 = .ok (.istore 5, 2) := by decide +kernel
theorem dX10_gcd_12 : decode cX10_gcd 12 = .ok (.aload_n 2, 1) := by decide +kernel
theorem dX10_gcd_13 : decode cX10_gcd 13 = .ok (.getfield 93, 3) := by decide +kernel
theorem dX10_gcd_16 : decode cX10_gcd 16 = .ok (.ifCond .eq 10, 3) := by decide +kernel
theorem dX10_gcd_19 : decode cX10_gcd 19 = .ok (.aload_n 3, 1) := by decide +kernel
theorem dX10_gcd_20 : decode cX10_gcd 20 = .ok (.getfield 93, 3) := by decide +kernel
theorem dX10_gcd_23 : decode cX10_gcd 23 = .ok (.ifCond .ne 22, 3) := by decide +kernel
theorem dX10_gcd_26 : decode cX10_gcd 26 = .ok (.aload_n 1, 1) := by decide +kernel
theorem dX10_gcd_27 : decode cX10_gcd 27 = .ok (.aload_n 2, 1) := by decide +kernel
theorem dX10_gcd_28 : decode cX10_gcd 28 = .ok (.getfield 93, 3) := by decide +kernel
theorem dX10_gcd_31 : decode cX10_gcd 31 = .ok (.ifCond .ne 7, 3) := by decide +kernel
theorem dX10_gcd_34 : decode cX10_gcd 34 = .ok (.aload_n 3, 1) := by decide +kernel
theorem dX10_gcd_35 : decode cX10_gcd 35 = .ok (.goto 4, 3) := by decide +kernel
theorem dX10_gcd_38 : decode cX10_gcd 38 = .ok (.aload_n 2, 1) := by decide +kernel
theorem dX10_gcd_39 : decode cX10_gcd 39 = .ok (.invokestatic 113, 3) := by decide +kernel
theorem dX10_gcd_42 : decode cX10_gcd 42 = .ok (.goto 98, 3) := by decide +kernel
theorem dX10_gcd_45 : decode cX10_gcd 45 = .ok (.aload_n 0, 1) := by decide +kernel
theorem dX10_gcd_46 : decode cX10_gcd 46 = .ok (.invokevirtual 74, 3) := by decide +kernel
theorem dX10_gcd_49 : decode cX10_gcd 49 = .ok (.astore 6, 2) := by decide +kernel
theorem dX10_gcd_51 : decode cX10_gcd 51 = .ok (.aload_n 0, 1) := by decide +kernel
theorem dX10_gcd_52 : decode cX10_gcd 52 = .ok (.invokevirtual 74, 3) := by decide +kernel
theorem dX10_gcd_55 : decode cX10_gcd 55 = .ok (.astore 7, 2) := by decide +kernel
theorem dX10_gcd_57 : decode cX10_gcd 57 = .ok (.aload_n 0, 1) := by decide +kernel
theorem dX10_gcd_58 : decode cX10_gcd 58 = .ok (.invokevirtual 140, 3) := by decide +kernel
theorem dX10_gcd_61 : decode cX10_gcd 61 = .ok (.astore 8, 2) := by decide +kernel
theorem dX10_gcd_63 : decode cX10_gcd 63 = .ok (.aload_n 0, 1) := by decide +kernel
theorem dX10_gcd_64 : decode cX10_gcd 64 = .ok (.invokevirtual 140, 3) := by decide +kernel
theorem dX10_gcd_67 : decode cX10_gcd 67 = .ok (.astore 9, 2) := by decide +kernel
theorem dX10_gcd_69 : decode cX10_gcd 69 = .ok (.aload_n 0, 1) := by decide +kernel
theorem dX10_gcd_70 : decode cX10_gcd 70 = .ok (.aload 8, 2) := by decide +kernel
theorem dX10_gcd_72 : decode cX10_gcd 72 = .ok (.aload_n 2, 1) := by decide +kernel
theorem dX10_gcd_73 : decode cX10_gcd 73 = .ok (.aload 6, 2) := by decide +kernel
theorem dX10_gcd_75 : decode cX10_gcd 75 = .ok (.invokevirtual 167, 3) := by decide +kernel
theorem dX10_gcd_78 : decode cX10_gcd 78 = .ok (.aload_n 0, 1) := by decide +kernel
theorem dX10_gcd_79 : decode cX10_gcd 79 = .ok (.aload 9, 2) := by decide +kernel
theorem dX10_gcd_81 : decode cX10_gcd 81 = .ok (.aload_n 3, 1) := by decide +kernel
theorem dX10_gcd_82 : decode cX10_gcd 82 = .ok (.aload 7, 2) := by decide +kernel
theorem dX10_gcd_84 : decode cX10_gcd 84 = .ok (.invokevirtual 167, 3) := by decide +kernel
theorem dX10_gcd_87 : decode cX10_gcd 87 = .ok (.aload 8, 2) := by decide +kernel
theorem dX10_gcd_89 : decode cX10_gcd 89 = .ok (.getfield 93, 3) := by decide +kernel
theorem dX10_gcd_92 : decode cX10_gcd 92 = .ok (.iconst 1, 1) := by decide +kernel
theorem dX10_gcd_93 : decode cX10_gcd 93 = .ok (.if_icmp .eq 12, 3) := by decide +kernel
theorem dX10_gcd_96 : decode cX10_gcd 96 = .ok (.aload 9, 2) := by decide +kernel
theorem dX10_gcd_98 : decode cX10_gcd 98 = .ok (.getfield 93, 3) := by decide +kernel
theorem dX10_gcd_101 : decode cX10_gcd 101 = .ok (.iconst 1, 1) := by decide +kernel
theorem dX10_gcd_102 : decode cX10_gcd 102 = .ok (.if_icmp .ne 11, 3) := by decide +kernel
theorem dX10_gcd_105 : decode cX10_gcd 105 = .ok (.aload_n 1, 1) := by decide +kernel
theorem dX10_gcd_106 : decode cX10_gcd 106 = .ok (.iconst 1, 1) := by decide +kernel
theorem dX10_gcd_107 : decode cX10_gcd 107 = .ok (.invokevirtual 158, 3) := by decide +kernel
theorem dX10_gcd_110 : decode cX10_gcd 110 = .ok (.goto 12, 3) := by decide +kernel
theorem dX10_gcd_113 : decode cX10_gcd 113 = .ok (.aload_n 0, 1) := by decide +kernel
theorem dX10_gcd_114 : decode cX10_gcd 114 = .ok (.aload_n 1, 1) := by decide +kernel
theorem dX10_gcd_115 : decode cX10_gcd 115 = .ok (.aload 8, 2) := by decide +kernel
theorem dX10_gcd_117 : decode cX10_gcd 117 = .ok (.aload 9, 2) := by decide +kernel
theorem dX10_gcd_119 : decode cX10_gcd 119 = .ok (.invokevirtual 174, 3) := by decide +kernel
theorem dX10_gcd_122 : decode cX10_gcd 122 = .ok (.aload_n 0, 1) := by decide +kernel
theorem dX10_gcd_123 : decode cX10_gcd 123 = .ok (.aload 6, 2) := by decide +kernel
theorem dX10_gcd_125 : decode cX10_gcd 125 = .ok (.aload 6, 2) := by decide +kernel
theorem dX10_gcd_127 : decode cX10_gcd 127 = .ok (.aload 7, 2) := by decide +kernel
theorem dX10_gcd_129 : decode cX10_gcd 129 = .ok (.invokevirtual 125, 3) := by decide +kernel
theorem dX10_gcd_132 : decode cX10_gcd 132 = .ok (.aload_n 0, 1) := by decide +kernel
theorem dX10_gcd_133 : decode cX10_gcd 133 = .ok (.aload_n 1, 1) := by decide +kernel
theorem dX10_gcd_134 : decode cX10_gcd 134 = .ok (.aload_n 1, 1) := by decide +kernel
theorem dX10_gcd_135 : decode cX10_gcd 135 = .ok (.aload 6, 2) := by decide +kernel
theorem dX10_gcd_137 : decode cX10_gcd 137 = .ok (.invokevirtual 178, 3) := by decide +kernel
theorem dX10_gcd_140 : decode cX10_gcd 140 = .ok (.aload_n 1, 1) := by decide +kernel
theorem dX10_gcd_141 : decode cX10_gcd 141 = .ok (.getfield 93, 3) := by decide +kernel
theorem dX10_gcd_144 : decode cX10_gcd 144 = .ok (.ifCond .le 15, 3) := by decide +kernel
theorem dX10_gcd_147 : decode cX10_gcd 147 = .ok (.aload_n 1, 1) := by decide +kernel
theorem dX10_gcd_148 : decode cX10_gcd 148 = .ok (.aload_n 1, 1) := by decide +kernel
theorem dX10_gcd_149 : decode cX10_gcd 149 = .ok (.aload_n 1, 1) := by decide +kernel
theorem dX10_gcd_150 : decode cX10_gcd 150 = .ok (.invokevirtual 181, 3) := by decide +kernel
theorem dX10_gcd_153 : decode cX10_gcd 153 = .ok (.invokestatic 13, 3) := by decide +kernel
theorem dX10_gcd_156 : decode cX10_gcd 156 = .ok (.invokestatic 182, 3) := by decide +kernel
theorem dX10_gcd_159 : decode cX10_gcd 159 = .ok (.aload_n 0, 1) := by decide +kernel
theorem dX10_gcd_160 : decode cX10_gcd 160 = .ok (.iload 5, 2) := by decide +kernel
theorem dX10_gcd_162 : decode cX10_gcd 162 = .ok (.putfield 90, 3) := by decide +kernel
theorem dX10_gcd_165 : decode cX10_gcd 165 = .ok (.aload_n 0, 1) := by decide +kernel
theorem dX10_gcd_166 : decode cX10_gcd 166 = .ok (.iload 4, 2) := by decide +kernel
theorem dX10_gcd_168 : decode cX10_gcd 168 = .ok (.putfield 21, 3) := by decide +kernel
theorem dX10_gcd_171 : decode cX10_gcd 171 = .ok (.return_, 1) := by decide +kernel
theorem dX10_primitive_0 : decode cX10_primitive 0 = .ok (.aload_n 0, 1) := by decide +kernel
theorem dX10_primitive_1 : decode cX10_primitive 1 = .ok (.aload_n 3, 1) := by decide +kernel
theorem dX10_primitive_2 : decode cX10_primitive 2 = .ok (.aload_n 2, 1) := by decide +kernel
theorem dX10_primitive_3 : decode cX10_primitive 3 = .ok (.invokevirtual 128, 3) := by decide +kernel
theorem dX10_primitive_6 : decode cX10_primitive 6 = .ok (.aload_n 0, 1) := by decide +kernel
theorem dX10_primitive_7 : decode cX10_primitive 7 = .ok (.aload_n 1, 1) := by decide +kernel
theorem dX10_primitive_8 : decode cX10_primitive 8 = .ok (.aload_n 2, 1) := by decide +kernel
theorem dX10_primitive_9 : decode cX10_primitive 9 = .ok (.aload_n 3, 1) := by decide +kernel
theorem dX10_primitive_10 : decode cX10_primitive 10 = .ok (.invokevirtual 132, 3) := by decide +kernel
theorem dX10_primitive_13 : decode cX10_primitive 13 = .ok (.return_, 1) := by decide +kernel
theorem dX10_content_0 : decode cX10_content 0 = .ok (.aload_n 1, 1) := by decide +kernel
theorem dX10_content_1 : decode cX10_content 1 = .ok (.iconst 0, 1) := by decide +kernel
theorem dX10_content_2 : decode cX10_content 2 = .ok (.putfield 25, 3) := by decide +kernel
theorem dX10_content_5 : decode cX10_content 5 = .ok (.iconst 0, 1) := by decide +kernel
theorem dX10_content_6 : decode cX10_content 6 = .ok (.istore_n 3, 1) := by decide +kernel
theorem dX10_content_7 : decode cX10_content 7 = .ok (.iload_n 3, 1) := by decide +kernel
theorem dX10_content_8 : decode cX10_content 8 = .ok (.aload_n 2, 1) := by decide +kernel
theorem dX10_content_9 : decode cX10_content 9 = .ok (.getfield 93, 3) := by decide +kernel
theorem dX10_content_12 : decode cX10_content 12 = .ok (.if_icmp .ge 29, 3) := by decide +kernel
theorem dX10_content_15 : decode cX10_content 15 = .ok (.aload_n 1, 1) := by decide +kernel
theorem dX10_content_16 : decode cX10_content 16 = .ok (.getfield 25, 3) := by decide +kernel
theorem dX10_content_19 : decode cX10_content 19 = .ok (.iconst 1, 1) := by decide +kernel
theorem dX10_content_20 : decode cX10_content 20 = .ok (.if_icmp .eq 21, 3) := by decide +kernel
theorem dX10_content_23 : decode cX10_content 23 = .ok (.aload_n 0, 1) := by decide +kernel
theorem dX10_content_24 : decode cX10_content 24 = .ok (.aload_n 1, 1) := by decide +kernel
theorem dX10_content_25 : decode cX10_content 25 = .ok (.aload_n 1, 1) := by decide +kernel
theorem dX10_content_26 : decode cX10_content 26 = .ok (.aload_n 2, 1) := by decide +kernel
theorem dX10_content_27 : decode cX10_content 27 = .ok (.getfield 98, 3) := by decide +kernel
theorem dX10_content_30 : decode cX10_content 30 = .ok (.iload_n 3, 1) := by decide +kernel
theorem dX10_content_31 : decode cX10_content 31 = .ok (.aaload, 1) := by decide +kernel
theorem dX10_content_32 : decode cX10_content 32 = .ok (.invokevirtual 125, 3) := by decide +kernel
theorem dX10_content_35 : decode cX10_content 35 = .ok (.iinc 3 1, 3) := by decide +kernel
theorem dX10_content_38 : decode cX10_content 38 = .ok (.goto (-31), 3) := by decide +kernel
theorem dX10_content_41 : decode cX10_content 41 = .ok (.return_, 1) := by decide +kernel
theorem dX10_gcd_2_0 : decode cX10_gcd_2 0 = .ok (.aload_n 0, 1) := by decide +kernel
theorem dX10_gcd_2_1 : decode cX10_gcd_2 1 = .ok (.getfield 21, 3) := by decide +kernel
theorem dX10_gcd_2_4 : decode cX10_gcd_2 4 = .ok (.istore 4, 2) := by decide +kernel
theorem dX10_gcd_2_6 : decode cX10_gcd_2 6 = .ok (.aload_n 0, 1) := by decide +kernel
theorem dX10_gcd_2_7 : decode cX10_gcd_2 7 = .ok (.invokevirtual 74, 3) := by decide +kernel
theorem dX10_gcd_2_10 : decode cX10_gcd_2 10 = .ok (.astore 5, 2) := by decide +kernel
theorem dX10_gcd_2_12 : decode cX10_gcd_2 12 = .ok (.aload_n 0, 1) := by decide +kernel
theorem dX10_gcd_2_13 : decode cX10_gcd_2 13 = .ok (.invokevirtual 74, 3) := by decide +kernel
theorem dX10_gcd_2_16 : decode cX10_gcd_2 16 = .ok (.astore 6, 2) := by decide +kernel
theorem dX10_gcd_2_18 : decode cX10_gcd_2 18 = .ok (.aload_n 0, 1) := by decide +kernel
theorem dX10_gcd_2_19 : decode cX10_gcd_2 19 = .ok (.invokevirtual 74, 3) := by decide +kernel
theorem dX10_gcd_2_22 : decode cX10_gcd_2 22 = .ok (.astore 7, 2) := by decide +kernel
theorem dX10_gcd_2_24 : decode cX10_gcd_2 24 = .ok (.aload 5, 2) := by decide +kernel
theorem dX10_gcd_2_26 : decode cX10_gcd_2 26 = .ok (.aload_n 2, 1) := by decide +kernel
theorem dX10_gcd_2_27 : decode cX10_gcd_2 27 = .ok (.invokestatic 62, 3) := by decide +kernel
theorem dX10_gcd_2_30 : decode cX10_gcd_2 30 = .ok (.aload 6, 2) := by decide +kernel
theorem dX10_gcd_2_32 : decode cX10_gcd_2 32 = .ok (.aload_n 3, 1) := by decide +kernel
theorem dX10_gcd_2_33 : decode cX10_gcd_2 33 = .ok (.invokestatic 62, 3) := by decide +kernel
theorem dX10_gcd_2_36 : decode cX10_gcd_2 36 = .ok (.aload 6, 2) := by decide +kernel
theorem dX10_gcd_2_38 : decode cX10_gcd_2 38 = .ok (.getfield 25, 3) := by decide +kernel
theorem dX10_gcd_2_41 : decode cX10_gcd_2 41 = .ok (.ifCond .le 32, 3) := by decide +kernel
theorem dX10_gcd_2_44 : decode cX10_gcd_2 44 = .ok (.aconst_null, 1) := by decide +kernel
theorem dX10_gcd_2_45 : decode cX10_gcd_2 45 = .ok (.aload 7, 2) := by decide +kernel
theorem dX10_gcd_2_47 : decode cX10_gcd_2 47 = .ok (.aload 5, 2) := by decide +kernel
theorem dX10_gcd_2_49 : decode cX10_gcd_2 49 = .ok (.aload 6, 2) := by decide +kernel
theorem dX10_gcd_2_51 : decode cX10_gcd_2 51 = .ok (.invokestatic 78, 3) := by decide +kernel
theorem dX10_gcd_2_54 : decode cX10_gcd_2 54 = .ok (.aload 5, 2) := by decide +kernel
theorem dX10_gcd_2_56 : decode cX10_gcd_2 56 = .ok (.astore 8, 2) := by decide +kernel
theorem dX10_gcd_2_58 : decode cX10_gcd_2 58 = .ok (.aload 6, 2) := by decide +kernel
theorem dX10_gcd_2_60 : decode cX10_gcd_2 60 = .ok (.astore 5, 2) := by decide +kernel
theorem dX10_gcd_2_62 : decode cX10_gcd_2 62 = .ok (.aload 7, 2) := by decide +kernel
theorem dX10_gcd_2_64 : decode cX10_gcd_2 64 = .ok (.astore 6, 2) := by decide +kernel
theorem dX10_gcd_2_66 : decode cX10_gcd_2 66 = .ok (.aload 8, 2) := by decide +kernel
theorem dX10_gcd_2_68 : decode cX10_gcd_2 68 = .ok (.astore 7, 2) := by decide +kernel
theorem dX10_gcd_2_70 : decode cX10_gcd_2 70 = .ok (.goto (-34), 3) := by decide +kernel
theorem dX10_gcd_2_73 : decode cX10_gcd_2 73 = .ok (.aload_n 0, 1) := by decide +kernel
theorem dX10_gcd_2_74 : decode cX10_gcd_2 74 = .ok (.aload 5, 2) := by decide +kernel
theorem dX10_gcd_2_76 : decode cX10_gcd_2 76 = .ok (.invokevirtual 82, 3) := by decide +kernel
theorem dX10_gcd_2_79 : decode cX10_gcd_2 79 = .ok (.aload_n 1, 1) := by decide +kernel
theorem dX10_gcd_2_80 : decode cX10_gcd_2 80 = .ok (.aload 5, 2) := by decide +kernel
theorem dX10_gcd_2_82 : decode cX10_gcd_2 82 = .ok (.invokestatic 62, 3) := by decide +kernel
theorem dX10_gcd_2_85 : decode cX10_gcd_2 85 = .ok (.aload_n 0, 1) := by decide +kernel
theorem dX10_gcd_2_86 : decode cX10_gcd_2 86 = .ok (.iload 4, 2) := by decide +kernel
theorem dX10_gcd_2_88 : decode cX10_gcd_2 88 = .ok (.putfield 21, 3) := by decide +kernel
theorem dX10_gcd_2_91 : decode cX10_gcd_2 91 = .ok (.return_, 1) := by decide +kernel
theorem dX10_divide_0 : decode cX10_divide 0 = .ok (.aload_n 1, 1) := by decide +kernel
theorem dX10_divide_1 : decode cX10_divide 1 = .ok (.aload_n 2, 1) := by decide +kernel
theorem dX10_divide_2 : decode cX10_divide 2 = .ok (.invokestatic 62, 3) := by decide +kernel
theorem dX10_divide_5 : decode cX10_divide 5 = .ok (.aload_n 3, 1) := by decide +kernel
theorem dX10_divide_6 : decode cX10_divide 6 = .ok (.invokevirtual 66, 3) := by decide +kernel
theorem dX10_divide_9 : decode cX10_divide 9 = .ok (.invokestatic 13, 3) := by decide +kernel
theorem dX10_divide_12 : decode cX10_divide 12 = .ok (.istore 4, 2) := by decide +kernel
theorem dX10_divide_14 : decode cX10_divide 14 = .ok (.aload_n 0, 1) := by decide +kernel
theorem dX10_divide_15 : decode cX10_divide 15 = .ok (.ifnull 22, 3) := by decide +kernel
theorem dX10_divide_18 : decode cX10_divide 18 = .ok (.aload_n 0, 1) := by decide +kernel
theorem dX10_divide_19 : decode cX10_divide 19 = .ok (.iconst 0, 1) := by decide +kernel
theorem dX10_divide_20 : decode cX10_divide 20 = .ok (.aload_n 2, 1) := by decide +kernel
theorem dX10_divide_21 : decode cX10_divide 21 = .ok (.getfield 25, 3) := by decide +kernel
theorem dX10_divide_24 : decode cX10_divide 24 = .ok (.aload_n 3, 1) := by decide +kernel
theorem dX10_divide_25 : decode cX10_divide 25 = .ok (.getfield 25, 3) := by decide +kernel
theorem dX10_divide_28 : decode cX10_divide 28 = .ok (.isub, 1) := by decide +kernel
theorem dX10_divide_29 : decode cX10_divide 29 = .ok (.iconst 1, 1) := by decide +kernel
theorem dX10_divide_30 : decode cX10_divide 30 = .ok (.iadd, 1) := by decide +kernel
theorem dX10_divide_31 : decode cX10_divide 31 = .ok (.invokestatic 40, 3) := by decide +kernel
theorem dX10_divide_34 : decode cX10_divide 34 = .ok (.putfield 25, 3) := by decide +kernel
theorem dX10_divide_37 : decode cX10_divide 37 = .ok (.aload_n 2, 1) := by decide +kernel
theorem dX10_divide_38 : decode cX10_divide 38 = .ok (.getfield 25, 3) := by decide +kernel
theorem dX10_divide_41 : decode cX10_divide 41 = .ok (.aload_n 3, 1) := by decide +kernel
theorem dX10_divide_42 : decode cX10_divide 42 = .ok (.getfield 25, 3) := by decide +kernel
theorem dX10_divide_45 : decode cX10_divide 45 = .ok (.isub, 1) := by decide +kernel
theorem dX10_divide_46 : decode cX10_divide 46 = .ok (.istore 5, 2) := by decide +kernel
theorem dX10_divide_48 : decode cX10_divide 48 = .ok (.iload 5, 2) := by decide +kernel
theorem dX10_divide_50 : decode cX10_divide 50 = .ok (.ifCond .lt 121, 3) := by decide +kernel
theorem dX10_divide_53 : decode cX10_divide 53 = .ok (.iload 5, 2) := by decide +kernel
theorem dX10_divide_55 : decode cX10_divide 55 = .ok (.aload_n 3, 1) := by decide +kernel
theorem dX10_divide_56 : decode cX10_divide 56 = .ok (.getfield 25, 3) := by decide +kernel
theorem dX10_divide_59 : decode cX10_divide 59 = .ok (.iadd, 1) := by decide +kernel
theorem dX10_divide_60 : decode cX10_divide 60 = .ok (.iconst 1, 1) := by decide +kernel
theorem dX10_divide_61 : decode cX10_divide 61 = .ok (.isub, 1) := by decide +kernel
theorem dX10_divide_62 : decode cX10_divide 62 = .ok (.aload_n 1, 1) := by decide +kernel
theorem dX10_divide_63 : decode cX10_divide 63 = .ok (.getfield 25, 3) := by decide +kernel
theorem dX10_divide_66 : decode cX10_divide 66 = .ok (.if_icmp .ge 25, 3) := by decide +kernel
theorem dX10_divide_69 : decode cX10_divide 69 = .ok (.aload_n 1, 1) := by decide +kernel
theorem dX10_divide_70 : decode cX10_divide 70 = .ok (.getfield 30, 3) := by decide +kernel
theorem dX10_divide_73 : decode cX10_divide 73 = .ok (.iload 5, 2) := by decide +kernel
theorem dX10_divide_75 : decode cX10_divide 75 = .ok (.aload_n 3, 1) := by decide +kernel
theorem dX10_divide_76 : decode cX10_divide 76 = .ok (.getfield 25, 3) := by decide +kernel
theorem dX10_divide_79 : decode cX10_divide 79 = .ok (.iadd, 1) := by decide +kernel
theorem dX10_divide_80 : decode cX10_divide 80 = .ok (.iconst 1, 1) := by decide +kernel
theorem dX10_divide_81 : decode cX10_divide 81 = .ok (.isub, 1) := by decide +kernel
theorem dX10_divide_82 : decode cX10_divide 82 = .ok (.iaload, 1) := by decide +kernel
theorem dX10_divide_83 : decode cX10_divide 83 = .ok (.iload 4, 2) := by decide +kernel
theorem dX10_divide_85 : decode cX10_divide 85 = .ok (.invokestatic 56, 3) := by decide +kernel
theorem dX10_divide_88 : decode cX10_divide 88 = .ok (.goto 4, 3) := by decide +kernel
theorem dX10_divide_91 : decode cX10_divide 91 = .ok (.iconst 0, 1) := by decide +kernel
theorem dX10_divide_92 : decode cX10_divide 92 = .ok (.istore 6, 2) := by decide +kernel
theorem dX10_divide_94 : decode cX10_divide 94 = .ok (.aload_n 0, 1) := by decide +kernel
theorem dX10_divide_95 : decode cX10_divide 95 = .ok (.ifnull 12, 3) := by decide +kernel
theorem dX10_divide_98 : decode cX10_divide 98 = .ok (.aload_n 0, 1) := by decide +kernel
theorem dX10_divide_99 : decode cX10_divide 99 = .ok (.getfield 30, 3) := by decide +kernel
theorem dX10_divide_102 : decode cX10_divide 102 = .ok (.iload 5, 2) := by decide +kernel
theorem dX10_divide_104 : decode cX10_divide 104 = .ok (.iload 6, 2) := by decide +kernel
theorem dX10_divide_106 : decode cX10_divide 106 = .ok (.iastore, 1) := by decide +kernel
theorem dX10_divide_107 : decode cX10_divide 107 = .ok (.iconst 0, 1) := by decide +kernel
theorem dX10_divide_108 : decode cX10_divide 108 = .ok (.istore 7, 2) := by decide +kernel
theorem dX10_divide_110 : decode cX10_divide 110 = .ok (.iload 7, 2) := by decide +kernel
theorem dX10_divide_112 : decode cX10_divide 112 = .ok (.aload_n 3, 1) := by decide +kernel
theorem dX10_divide_113 : decode cX10_divide 113 = .ok (.getfield 25, 3) := by decide +kernel
theorem dX10_divide_116 : decode cX10_divide 116 = .ok (.if_icmp .ge 49, 3) := by decide +kernel
theorem dX10_divide_119 : decode cX10_divide 119 = .ok (.iload 6, 2) := by decide +kernel
theorem dX10_divide_121 : decode cX10_divide 121 = .ok (.ifCond .eq 44, 3) := by decide +kernel
theorem dX10_divide_124 : decode cX10_divide 124 = .ok (.aload_n 1, 1) := by decide +kernel
theorem dX10_divide_125 : decode cX10_divide 125 = .ok (.getfield 30, 3) := by decide +kernel
theorem dX10_divide_128 : decode cX10_divide 128 = .ok (.iload 5, 2) := by decide +kernel
theorem dX10_divide_130 : decode cX10_divide 130 = .ok (.iload 7, 2) := by decide +kernel
theorem dX10_divide_132 : decode cX10_divide 132 = .ok (.iadd, 1) := by decide +kernel
theorem dX10_divide_133 : decode cX10_divide 133 = .ok (.aload_n 1, 1) := by decide +kernel
theorem dX10_divide_134 : decode cX10_divide 134 = .ok (.getfield 30, 3) := by decide +kernel
theorem dX10_divide_137 : decode cX10_divide 137 = .ok (.iload 5, 2) := by decide +kernel
theorem dX10_divide_139 : decode cX10_divide 139 = .ok (.iload 7, 2) := by decide +kernel
theorem dX10_divide_141 : decode cX10_divide 141 = .ok (.iadd, 1) := by decide +kernel
theorem dX10_divide_142 : decode cX10_divide 142 = .ok (.iaload, 1) := by decide +kernel
theorem dX10_divide_143 : decode cX10_divide 143 = .ok (.iload 6, 2) := by decide +kernel
theorem dX10_divide_145 : decode cX10_divide 145 = .ok (.aload_n 3, 1) := by decide +kernel
theorem dX10_divide_146 : decode cX10_divide 146 = .ok (.getfield 30, 3) := by decide +kernel
theorem dX10_divide_149 : decode cX10_divide 149 = .ok (.iload 7, 2) := by decide +kernel
theorem dX10_divide_151 : decode cX10_divide 151 = .ok (.iaload, 1) := by decide +kernel
theorem dX10_divide_152 : decode cX10_divide 152 = .ok (.invokestatic 56, 3) := by decide +kernel
theorem dX10_divide_155 : decode cX10_divide 155 = .ok (.invokestatic 46, 3) := by decide +kernel
theorem dX10_divide_158 : decode cX10_divide 158 = .ok (.iastore, 1) := by decide +kernel
theorem dX10_divide_159 : decode cX10_divide 159 = .ok (.iinc 7 1, 3) := by decide +kernel
theorem dX10_divide_162 : decode cX10_divide 162 = .ok (.goto (-52), 3) := by decide +kernel
theorem dX10_divide_165 : decode cX10_divide 165 = .ok (.iinc 5 (-1), 3) := by decide +kernel
theorem dX10_divide_168 : decode cX10_divide 168 = .ok (.goto (-120), 3) := by decide +kernel
theorem dX10_divide_171 : decode cX10_divide 171 = .ok (.aload_n 1, 1) := by decide +kernel
theorem dX10_divide_172 : decode cX10_divide 172 = .ok (.invokevirtual 52, 3) := by decide +kernel
theorem dX10_divide_175 : decode cX10_divide 175 = .ok (.return_, 1) := by decide +kernel
theorem dX10_monic_0 : decode cX10_monic 0 = .ok (.aload_n 1, 1) := by decide +kernel
theorem dX10_monic_1 : decode cX10_monic 1 = .ok (.getfield 25, 3) := by decide +kernel
theorem dX10_monic_4 : decode cX10_monic 4 = .ok (.ifCond .le 15, 3) := by decide +kernel
theorem dX10_monic_7 : decode cX10_monic 7 = .ok (.aload_n 1, 1) := by decide +kernel
theorem dX10_monic_8 : decode cX10_monic 8 = .ok (.aload_n 1, 1) := by decide +kernel
theorem dX10_monic_9 : decode cX10_monic 9 = .ok (.aload_n 1, 1) := by decide +kernel
theorem dX10_monic_10 : decode cX10_monic 10 = .ok (.invokevirtual 66, 3) := by decide +kernel
theorem dX10_monic_13 : decode cX10_monic 13 = .ok (.invokestatic 13, 3) := by decide +kernel
theorem dX10_monic_16 : decode cX10_monic 16 = .ok (.invokestatic 70, 3) := by decide +kernel
theorem dX10_monic_19 : decode cX10_monic 19 = .ok (.return_, 1) := by decide +kernel
theorem dX10_byU_0 : decode cX10_byU 0 = .ok (.iconst 0, 1) := by decide +kernel
theorem dX10_byU_1 : decode cX10_byU 1 = .ok (.istore 4, 2) := by decide +kernel
theorem dX10_byU_3 : decode cX10_byU 3 = .ok (.iload 4, 2) := by decide +kernel
theorem dX10_byU_5 : decode cX10_byU 5 = .ok (.aload_n 2, 1) := by decide +kernel
theorem dX10_byU_6 : decode cX10_byU 6 = .ok (.getfield 93, 3) := by decide +kernel
theorem dX10_byU_9 : decode cX10_byU 9 = .ok (.if_icmp .ge 28, 3) := by decide +kernel
theorem dX10_byU_12 : decode cX10_byU 12 = .ok (.aload_n 0, 1) := by decide +kernel
theorem dX10_byU_13 : decode cX10_byU 13 = .ok (.aload_n 1, 1) := by decide +kernel
theorem dX10_byU_14 : decode cX10_byU 14 = .ok (.getfield 98, 3) := by decide +kernel
theorem dX10_byU_17 : decode cX10_byU 17 = .ok (.iload 4, 2) := by decide +kernel
theorem dX10_byU_19 : decode cX10_byU 19 = .ok (.aaload, 1) := by decide +kernel
theorem dX10_byU_20 : decode cX10_byU 20 = .ok (.aload_n 2, 1) := by decide +kernel
theorem dX10_byU_21 : decode cX10_byU 21 = .ok (.getfield 98, 3) := by decide +kernel
theorem dX10_byU_24 : decode cX10_byU 24 = .ok (.iload 4, 2) := by decide +kernel
theorem dX10_byU_26 : decode cX10_byU 26 = .ok (.aaload, 1) := by decide +kernel
theorem dX10_byU_27 : decode cX10_byU 27 = .ok (.aload_n 3, 1) := by decide +kernel
theorem dX10_byU_28 : decode cX10_byU 28 = .ok (.invokevirtual 110, 3) := by decide +kernel
theorem dX10_byU_31 : decode cX10_byU 31 = .ok (.iinc 4 1, 3) := by decide +kernel
theorem dX10_byU_34 : decode cX10_byU 34 = .ok (.goto (-31), 3) := by decide +kernel
theorem dX10_byU_37 : decode cX10_byU 37 = .ok (.aload_n 1, 1) := by decide +kernel
theorem dX10_byU_38 : decode cX10_byU 38 = .ok (.aload_n 2, 1) := by decide +kernel
theorem dX10_byU_39 : decode cX10_byU 39 = .ok (.getfield 93, 3) := by decide +kernel
theorem dX10_byU_42 : decode cX10_byU 42 = .ok (.putfield 93, 3) := by decide +kernel
theorem dX10_byU_45 : decode cX10_byU 45 = .ok (.return_, 1) := by decide +kernel
theorem dX10_exact_0 : decode cX10_exact 0 = .ok (.aload_n 0, 1) := by decide +kernel
theorem dX10_exact_1 : decode cX10_exact 1 = .ok (.getfield 21, 3) := by decide +kernel
theorem dX10_exact_4 : decode cX10_exact 4 = .ok (.istore 4, 2) := by decide +kernel
theorem dX10_exact_6 : decode cX10_exact 6 = .ok (.aload_n 0, 1) := by decide +kernel
theorem dX10_exact_7 : decode cX10_exact 7 = .ok (.invokevirtual 74, 3) := by decide +kernel
theorem dX10_exact_10 : decode cX10_exact 10 = .ok (.astore 5, 2) := by decide +kernel
theorem dX10_exact_12 : decode cX10_exact 12 = .ok (.aload_n 0, 1) := by decide +kernel
theorem dX10_exact_13 : decode cX10_exact 13 = .ok (.invokevirtual 74, 3) := by decide +kernel
theorem dX10_exact_16 : decode cX10_exact 16 = .ok (.astore 6, 2) := by decide +kernel
theorem dX10_exact_18 : decode cX10_exact 18 = .ok (.aload 5, 2) := by decide +kernel
theorem dX10_exact_20 : decode cX10_exact 20 = .ok (.aload 6, 2) := by decide +kernel
theorem dX10_exact_22 : decode cX10_exact 22 = .ok (.aload_n 2, 1) := by decide +kernel
theorem dX10_exact_23 : decode cX10_exact 23 = .ok (.aload_n 3, 1) := by decide +kernel
theorem dX10_exact_24 : decode cX10_exact 24 = .ok (.invokestatic 78, 3) := by decide +kernel
theorem dX10_exact_27 : decode cX10_exact 27 = .ok (.aload_n 1, 1) := by decide +kernel
theorem dX10_exact_28 : decode cX10_exact 28 = .ok (.aload 5, 2) := by decide +kernel
theorem dX10_exact_30 : decode cX10_exact 30 = .ok (.invokestatic 62, 3) := by decide +kernel
theorem dX10_exact_33 : decode cX10_exact 33 = .ok (.aload_n 0, 1) := by decide +kernel
theorem dX10_exact_34 : decode cX10_exact 34 = .ok (.iload 4, 2) := by decide +kernel
theorem dX10_exact_36 : decode cX10_exact 36 = .ok (.putfield 21, 3) := by decide +kernel
theorem dX10_exact_39 : decode cX10_exact 39 = .ok (.return_, 1) := by decide +kernel
theorem dX10_gcdK_0 : decode cX10_gcdK 0 = .ok (.aload_n 0, 1) := by decide +kernel
theorem dX10_gcdK_1 : decode cX10_gcdK 1 = .ok (.getfield 21, 3) := by decide +kernel
theorem dX10_gcdK_4 : decode cX10_gcdK 4 = .ok (.istore 4, 2) := by decide +kernel
theorem dX10_gcdK_6 : decode cX10_gcdK 6 = .ok (.aload_n 0, 1) := by decide +kernel
theorem dX10_gcdK_7 : decode cX10_gcdK 7 = .ok (.getfield 90, 3) := by decide +kernel
theorem dX10_gcdK_10 : decode cX10_gcdK 10 = .ok (.istore 5, 2) := by decide +kernel
theorem dX10_gcdK_12 : decode cX10_gcdK 12 = .ok (.aload_n 0, 1) := by decide +kernel
theorem dX10_gcdK_13 : decode cX10_gcdK 13 = .ok (.invokevirtual 74, 3) := by decide +kernel
theorem dX10_gcdK_16 : decode cX10_gcdK 16 = .ok (.astore 6, 2) := by decide +kernel
theorem dX10_gcdK_18 : decode cX10_gcdK 18 = .ok (.aload_n 0, 1) := by decide +kernel
theorem dX10_gcdK_19 : decode cX10_gcdK 19 = .ok (.aload 6, 2) := by decide +kernel
theorem dX10_gcdK_21 : decode cX10_gcdK 21 = .ok (.aload_n 2, 1) := by decide +kernel
theorem dX10_gcdK_22 : decode cX10_gcdK 22 = .ok (.invokevirtual 144, 3) := by decide +kernel
theorem dX10_gcdK_25 : decode cX10_gcdK 25 = .ok (.aload_n 3, 1) := by decide +kernel
theorem dX10_gcdK_26 : decode cX10_gcdK 26 = .ok (.invokevirtual 144, 3) := by decide +kernel
theorem dX10_gcdK_29 : decode cX10_gcdK 29 = .ok (.invokevirtual 125, 3) := by decide +kernel
theorem dX10_gcdK_32 : decode cX10_gcdK 32 = .ok (.aload_n 0, 1) := by decide +kernel
theorem dX10_gcdK_33 : decode cX10_gcdK 33 = .ok (.invokevirtual 74, 3) := by decide +kernel
theorem dX10_gcdK_36 : decode cX10_gcdK 36 = .ok (.astore 7, 2) := by decide +kernel
theorem dX10_gcdK_38 : decode cX10_gcdK 38 = .ok (.aload_n 0, 1) := by decide +kernel
theorem dX10_gcdK_39 : decode cX10_gcdK 39 = .ok (.invokevirtual 74, 3) := by decide +kernel
theorem dX10_gcdK_42 : decode cX10_gcdK 42 = .ok (.astore 8, 2) := by decide +kernel
theorem dX10_gcdK_44 : decode cX10_gcdK 44 = .ok (.aload_n 0, 1) := by decide +kernel
theorem dX10_gcdK_45 : decode cX10_gcdK 45 = .ok (.invokevirtual 74, 3) := by decide +kernel
theorem dX10_gcdK_48 : decode cX10_gcdK 48 = .ok (.astore 9, 2) := by decide +kernel
theorem dX10_gcdK_50 : decode cX10_gcdK 50 = .ok (.aload_n 0, 1) := by decide +kernel
theorem dX10_gcdK_51 : decode cX10_gcdK 51 = .ok (.invokevirtual 140, 3) := by decide +kernel
theorem dX10_gcdK_54 : decode cX10_gcdK 54 = .ok (.astore 10, 2) := by decide +kernel
theorem dX10_gcdK_56 : decode cX10_gcdK 56 = .ok (.aload_n 2, 1) := by decide +kernel
theorem dX10_gcdK_57 : decode cX10_gcdK 57 = .ok (.invokevirtual 119, 3) := by decide +kernel
theorem dX10_gcdK_60 : decode cX10_gcdK 60 = .ok (.aload_n 3, 1) := by decide +kernel
theorem dX10_gcdK_61 : decode cX10_gcdK 61 = .ok (.invokevirtual 119, 3) := by decide +kernel
theorem dX10_gcdK_64 : decode cX10_gcdK 64 = .ok (.invokestatic 59, 3) := by decide +kernel
theorem dX10_gcdK_67 : decode cX10_gcdK 67 = .ok (.aload 6, 2) := by decide +kernel
theorem dX10_gcdK_69 : decode cX10_gcdK 69 = .ok (.getfield 25, 3) := by decide +kernel
theorem dX10_gcdK_72 : decode cX10_gcdK 72 = .ok (.iadd, 1) := by decide +kernel
theorem dX10_gcdK_73 : decode cX10_gcdK 73 = .ok (.istore 11, 2) := by decide +kernel
theorem dX10_gcdK_75 : decode cX10_gcdK 75 = .ok (.bipush 65, 2) := by decide +kernel
theorem dX10_gcdK_77 : decode cX10_gcdK 77 = .ok (.istore 12, 2) := by decide +kernel
theorem dX10_gcdK_79 : decode cX10_gcdK 79 = .ok (.iconst 0, 1) := by decide +kernel
theorem dX10_gcdK_80 : decode cX10_gcdK 80 = .ok (.istore 13, 2) := by decide +kernel
theorem dX10_gcdK_82 : decode cX10_gcdK 82 = .ok (.iconst 0, 1) := by decide +kernel
theorem dX10_gcdK_83 : decode cX10_gcdK 83 = .ok (.istore 14, 2) := by decide +kernel
theorem dX10_gcdK_85 : decode cX10_gcdK 85 = .ok (.iconst 0, 1) := by decide +kernel
theorem dX10_gcdK_86 : decode cX10_gcdK 86 = .ok (.istore 15, 2) := by decide +kernel
theorem dX10_gcdK_88 : decode cX10_gcdK 88 = .ok (.iload 15, 2) := by decide +kernel
theorem dX10_gcdK_90 : decode cX10_gcdK 90 = .ok (.ifCond .ne 286, 3) := by decide +kernel
theorem dX10_gcdK_93 : decode cX10_gcdK 93 = .ok (.iinc 14 1, 3) := by decide +kernel
theorem dX10_gcdK_96 : decode cX10_gcdK 96 = .ok (.aload_n 2, 1) := by decide +kernel
theorem dX10_gcdK_97 : decode cX10_gcdK 97 = .ok (.invokevirtual 144, 3) := by decide +kernel
theorem dX10_gcdK_100 : decode cX10_gcdK 100 = .ok (.iload 14, 2) := by decide +kernel
theorem dX10_gcdK_102 : decode cX10_gcdK 102 = .ok (.invokestatic 136, 3) := by decide +kernel
theorem dX10_gcdK_105 : decode cX10_gcdK 105 = .ok (.ifCond .eq (-17), 3) := by decide +kernel
theorem dX10_gcdK_108 : decode cX10_gcdK 108 = .ok (.aload_n 3, 1) := by decide +kernel
theorem dX10_gcdK_109 : decode cX10_gcdK 109 = .ok (.invokevirtual 144, 3) := by decide +kernel
theorem dX10_gcdK_112 : decode cX10_gcdK 112 = .ok (.iload 14, 2) := by decide +kernel
theorem dX10_gcdK_114 : decode cX10_gcdK 114 = .ok (.invokestatic 136, 3) := by decide +kernel
theorem dX10_gcdK_117 : decode cX10_gcdK 117 = .ok (.ifCond .ne 6, 3) := by decide +kernel
theorem dX10_gcdK_120 : decode cX10_gcdK 120 = .ok (.goto (-32), 3) := by decide +kernel
theorem dX10_gcdK_123 : decode cX10_gcdK 123 = .ok (.aload 7, 2) := by decide +kernel
theorem dX10_gcdK_125 : decode cX10_gcdK 125 = .ok (.aload_n 2, 1) := by decide +kernel
theorem dX10_gcdK_126 : decode cX10_gcdK 126 = .ok (.iload 14, 2) := by decide +kernel
theorem dX10_gcdK_128 : decode cX10_gcdK 128 = .ok (.invokestatic 154, 3) := by decide +kernel
theorem dX10_gcdK_131 : decode cX10_gcdK 131 = .ok (.aload 8, 2) := by decide +kernel
theorem dX10_gcdK_133 : decode cX10_gcdK 133 = .ok (.aload_n 3, 1) := by decide +kernel
theorem dX10_gcdK_134 : decode cX10_gcdK 134 = .ok (.iload 14, 2) := by decide +kernel
theorem dX10_gcdK_136 : decode cX10_gcdK 136 = .ok (.invokestatic 154, 3) := by decide +kernel
theorem dX10_gcdK_139 : decode cX10_gcdK 139 = .ok (.aload_n 0, 1) := by decide +kernel
theorem dX10_gcdK_140 : decode cX10_gcdK 140 = .ok (.aload 7, 2) := by decide +kernel
theorem dX10_gcdK_142 : decode cX10_gcdK 142 = .ok (.aload 7, 2) := by decide +kernel
theorem dX10_gcdK_144 : decode cX10_gcdK 144 = .ok (.aload 8, 2) := by decide +kernel
theorem dX10_gcdK_146 : decode cX10_gcdK 146 = .ok (.invokevirtual 125, 3) := by decide +kernel
theorem dX10_gcdK_149 : decode cX10_gcdK 149 = .ok (.aload 7, 2) := by decide +kernel
theorem dX10_gcdK_151 : decode cX10_gcdK 151 = .ok (.getfield 25, 3) := by decide +kernel
theorem dX10_gcdK_154 : decode cX10_gcdK 154 = .ok (.iconst 1, 1) := by decide +kernel
theorem dX10_gcdK_155 : decode cX10_gcdK 155 = .ok (.if_icmp .ne 14, 3) := by decide +kernel
theorem dX10_gcdK_158 : decode cX10_gcdK 158 = .ok (.aload_n 1, 1) := by decide +kernel
theorem dX10_gcdK_159 : decode cX10_gcdK 159 = .ok (.iconst 1, 1) := by decide +kernel
theorem dX10_gcdK_160 : decode cX10_gcdK 160 = .ok (.invokevirtual 158, 3) := by decide +kernel
theorem dX10_gcdK_163 : decode cX10_gcdK 163 = .ok (.iconst 1, 1) := by decide +kernel
theorem dX10_gcdK_164 : decode cX10_gcdK 164 = .ok (.istore 15, 2) := by decide +kernel
theorem dX10_gcdK_166 : decode cX10_gcdK 166 = .ok (.goto (-78), 3) := by decide +kernel
theorem dX10_gcdK_169 : decode cX10_gcdK 169 = .ok (.aload 7, 2) := by decide +kernel
theorem dX10_gcdK_171 : decode cX10_gcdK 171 = .ok (.getfield 25, 3) := by decide +kernel
theorem dX10_gcdK_174 : decode cX10_gcdK 174 = .ok (.iload 12, 2) := by decide +kernel
theorem dX10_gcdK_176 : decode cX10_gcdK 176 = .ok (.if_icmp .ge 13, 3) := by decide +kernel
theorem dX10_gcdK_179 : decode cX10_gcdK 179 = .ok (.aload 7, 2) := by decide +kernel
theorem dX10_gcdK_181 : decode cX10_gcdK 181 = .ok (.getfield 25, 3) := by decide +kernel
theorem dX10_gcdK_184 : decode cX10_gcdK 184 = .ok (.istore 12, 2) := by decide +kernel
theorem dX10_gcdK_186 : decode cX10_gcdK 186 = .ok (.iconst 0, 1) := by decide +kernel
theorem dX10_gcdK_187 : decode cX10_gcdK 187 = .ok (.istore 13, 2) := by decide +kernel
theorem dX10_gcdK_189 : decode cX10_gcdK 189 = .ok (.aload 7, 2) := by decide +kernel
theorem dX10_gcdK_191 : decode cX10_gcdK 191 = .ok (.getfield 25, 3) := by decide +kernel
theorem dX10_gcdK_194 : decode cX10_gcdK 194 = .ok (.iload 12, 2) := by decide +kernel
theorem dX10_gcdK_196 : decode cX10_gcdK 196 = .ok (.if_icmp .ne 63, 3) := by decide +kernel
theorem dX10_gcdK_199 : decode cX10_gcdK 199 = .ok (.aload 6, 2) := by decide +kernel
theorem dX10_gcdK_201 : decode cX10_gcdK 201 = .ok (.iload 14, 2) := by decide +kernel
theorem dX10_gcdK_203 : decode cX10_gcdK 203 = .ok (.invokestatic 136, 3) := by decide +kernel
theorem dX10_gcdK_206 : decode cX10_gcdK 206 = .ok (.istore 16, 2) := by decide +kernel
theorem dX10_gcdK_208 : decode cX10_gcdK 208 = .ok (.aload_n 0, 1) := by decide +kernel
theorem dX10_gcdK_209 : decode cX10_gcdK 209 = .ok (.getfield 151, 3) := by decide +kernel
theorem dX10_gcdK_212 : decode cX10_gcdK 212 = .ok (.iload 13, 2) := by decide +kernel
theorem dX10_gcdK_214 : decode cX10_gcdK 214 = .ok (.iload 14, 2) := by decide +kernel
theorem dX10_gcdK_216 : decode cX10_gcdK 216 = .ok (.iastore, 1) := by decide +kernel
theorem dX10_gcdK_217 : decode cX10_gcdK 217 = .ok (.iconst 0, 1) := by decide +kernel
theorem dX10_gcdK_218 : decode cX10_gcdK 218 = .ok (.istore 17, 2) := by decide +kernel
theorem dX10_gcdK_220 : decode cX10_gcdK 220 = .ok (.iload 17, 2) := by decide +kernel
theorem dX10_gcdK_222 : decode cX10_gcdK 222 = .ok (.iload 12, 2) := by decide +kernel
theorem dX10_gcdK_224 : decode cX10_gcdK 224 = .ok (.if_icmp .ge 32, 3) := by decide +kernel
theorem dX10_gcdK_227 : decode cX10_gcdK 227 = .ok (.aload_n 0, 1) := by decide +kernel
theorem dX10_gcdK_228 : decode cX10_gcdK 228 = .ok (.getfield 159, 3) := by decide +kernel
theorem dX10_gcdK_231 : decode cX10_gcdK 231 = .ok (.iload 17, 2) := by decide +kernel
theorem dX10_gcdK_233 : decode cX10_gcdK 233 = .ok (.aaload, 1) := by decide +kernel
theorem dX10_gcdK_234 : decode cX10_gcdK 234 = .ok (.iload 13, 2) := by decide +kernel
theorem dX10_gcdK_236 : decode cX10_gcdK 236 = .ok (.iload 16, 2) := by decide +kernel
theorem dX10_gcdK_238 : decode cX10_gcdK 238 = .ok (.aload 7, 2) := by decide +kernel
theorem dX10_gcdK_240 : decode cX10_gcdK 240 = .ok (.getfield 30, 3) := by decide +kernel
theorem dX10_gcdK_243 : decode cX10_gcdK 243 = .ok (.iload 17, 2) := by decide +kernel
theorem dX10_gcdK_245 : decode cX10_gcdK 245 = .ok (.iaload, 1) := by decide +kernel
theorem dX10_gcdK_246 : decode cX10_gcdK 246 = .ok (.invokestatic 56, 3) := by decide +kernel
theorem dX10_gcdK_249 : decode cX10_gcdK 249 = .ok (.iastore, 1) := by decide +kernel
theorem dX10_gcdK_250 : decode cX10_gcdK 250 = .ok (.iinc 17 1, 3) := by decide +kernel
theorem dX10_gcdK_253 : decode cX10_gcdK 253 = .ok (.goto (-33), 3) := by decide +kernel
theorem dX10_gcdK_256 : decode cX10_gcdK 256 = .ok (.iinc 13 1, 3) := by decide +kernel
theorem dX10_gcdK_259 : decode cX10_gcdK 259 = .ok (.iload 13, 2) := by decide +kernel
theorem dX10_gcdK_261 : decode cX10_gcdK 261 = .ok (.iload 11, 2) := by decide +kernel
theorem dX10_gcdK_263 : decode cX10_gcdK 263 = .ok (.if_icmp .ne (-175), 3) := by decide +kernel
theorem dX10_gcdK_266 : decode cX10_gcdK 266 = .ok (.iconst 0, 1) := by decide +kernel
theorem dX10_gcdK_267 : decode cX10_gcdK 267 = .ok (.istore 16, 2) := by decide +kernel
theorem dX10_gcdK_269 : decode cX10_gcdK 269 = .ok (.iload 16, 2) := by decide +kernel
theorem dX10_gcdK_271 : decode cX10_gcdK 271 = .ok (.iload 12, 2) := by decide +kernel
theorem dX10_gcdK_273 : decode cX10_gcdK 273 = .ok (.if_icmp .ge 36, 3) := by decide +kernel
theorem dX10_gcdK_276 : decode cX10_gcdK 276 = .ok (.aload_n 0, 1) := by decide +kernel
theorem dX10_gcdK_277 : decode cX10_gcdK 277 = .ok (.aload 9, 2) := by decide +kernel
theorem dX10_gcdK_279 : decode cX10_gcdK 279 = .ok (.aload_n 0, 1) := by decide +kernel
theorem dX10_gcdK_280 : decode cX10_gcdK 280 = .ok (.getfield 159, 3) := by decide +kernel
theorem dX10_gcdK_283 : decode cX10_gcdK 283 = .ok (.iload 16, 2) := by decide +kernel
theorem dX10_gcdK_285 : decode cX10_gcdK 285 = .ok (.aaload, 1) := by decide +kernel
theorem dX10_gcdK_286 : decode cX10_gcdK 286 = .ok (.iload 13, 2) := by decide +kernel
theorem dX10_gcdK_288 : decode cX10_gcdK 288 = .ok (.invokevirtual 163, 3) := by decide +kernel
theorem dX10_gcdK_291 : decode cX10_gcdK 291 = .ok (.aload_n 1, 1) := by decide +kernel
theorem dX10_gcdK_292 : decode cX10_gcdK 292 = .ok (.getfield 98, 3) := by decide +kernel
theorem dX10_gcdK_295 : decode cX10_gcdK 295 = .ok (.iload 16, 2) := by decide +kernel
theorem dX10_gcdK_297 : decode cX10_gcdK 297 = .ok (.aaload, 1) := by decide +kernel
theorem dX10_gcdK_298 : decode cX10_gcdK 298 = .ok (.aload 9, 2) := by decide +kernel
theorem dX10_gcdK_300 : decode cX10_gcdK 300 = .ok (.invokestatic 62, 3) := by decide +kernel
theorem dX10_gcdK_303 : decode cX10_gcdK 303 = .ok (.iinc 16 1, 3) := by decide +kernel
theorem dX10_gcdK_306 : decode cX10_gcdK 306 = .ok (.goto (-37), 3) := by decide +kernel
theorem dX10_gcdK_309 : decode cX10_gcdK 309 = .ok (.aload_n 1, 1) := by decide +kernel
theorem dX10_gcdK_310 : decode cX10_gcdK 310 = .ok (.iload 12, 2) := by decide +kernel
theorem dX10_gcdK_312 : decode cX10_gcdK 312 = .ok (.putfield 93, 3) := by decide +kernel
theorem dX10_gcdK_315 : decode cX10_gcdK 315 = .ok (.aload_n 1, 1) := by decide +kernel
theorem dX10_gcdK_316 : decode cX10_gcdK 316 = .ok (.invokevirtual 105, 3) := by decide +kernel
theorem dX10_gcdK_319 : decode cX10_gcdK 319 = .ok (.aload_n 0, 1) := by decide +kernel
theorem dX10_gcdK_320 : decode cX10_gcdK 320 = .ok (.aload_n 1, 1) := by decide +kernel
theorem dX10_gcdK_321 : decode cX10_gcdK 321 = .ok (.aload_n 1, 1) := by decide +kernel
theorem dX10_gcdK_322 : decode cX10_gcdK 322 = .ok (.aload 9, 2) := by decide +kernel
theorem dX10_gcdK_324 : decode cX10_gcdK 324 = .ok (.invokevirtual 167, 3) := by decide +kernel
theorem dX10_gcdK_327 : decode cX10_gcdK 327 = .ok (.aload_n 0, 1) := by decide +kernel
theorem dX10_gcdK_328 : decode cX10_gcdK 328 = .ok (.aload 10, 2) := by decide +kernel
theorem dX10_gcdK_330 : decode cX10_gcdK 330 = .ok (.aload_n 2, 1) := by decide +kernel
theorem dX10_gcdK_331 : decode cX10_gcdK 331 = .ok (.aload_n 1, 1) := by decide +kernel
theorem dX10_gcdK_332 : decode cX10_gcdK 332 = .ok (.invokevirtual 170, 3) := by decide +kernel
theorem dX10_gcdK_335 : decode cX10_gcdK 335 = .ok (.ifCond .eq 18, 3) := by decide +kernel
theorem dX10_gcdK_338 : decode cX10_gcdK 338 = .ok (.aload_n 0, 1) := by decide +kernel
theorem dX10_gcdK_339 : decode cX10_gcdK 339 = .ok (.aload 10, 2) := by decide +kernel
theorem dX10_gcdK_341 : decode cX10_gcdK 341 = .ok (.aload_n 3, 1) := by decide +kernel
theorem dX10_gcdK_342 : decode cX10_gcdK 342 = .ok (.aload_n 1, 1) := by decide +kernel
theorem dX10_gcdK_343 : decode cX10_gcdK 343 = .ok (.invokevirtual 170, 3) := by decide +kernel
theorem dX10_gcdK_346 : decode cX10_gcdK 346 = .ok (.ifCond .eq 7, 3) := by decide +kernel
theorem dX10_gcdK_349 : decode cX10_gcdK 349 = .ok (.iconst 1, 1) := by decide +kernel
theorem dX10_gcdK_350 : decode cX10_gcdK 350 = .ok (.goto 4, 3) := by decide +kernel
theorem dX10_gcdK_353 : decode cX10_gcdK 353 = .ok (.iconst 0, 1) := by decide +kernel
theorem dX10_gcdK_354 : decode cX10_gcdK 354 = .ok (.istore 15, 2) := by decide +kernel
theorem dX10_gcdK_356 : decode cX10_gcdK 356 = .ok (.iconst 0, 1) := by decide +kernel
theorem dX10_gcdK_357 : decode cX10_gcdK 357 = .ok (.istore 13, 2) := by decide +kernel
theorem dX10_gcdK_359 : decode cX10_gcdK 359 = .ok (.iload 15, 2) := by decide +kernel
theorem dX10_gcdK_361 : decode cX10_gcdK 361 = .ok (.ifCond .eq 8, 3) := by decide +kernel
theorem dX10_gcdK_364 : decode cX10_gcdK 364 = .ok (.iload 12, 2) := by decide +kernel
theorem dX10_gcdK_366 : decode cX10_gcdK 366 = .ok (.goto 5, 3) := by decide +kernel
theorem dX10_gcdK_369 : decode cX10_gcdK 369 = .ok (.bipush 65, 2) := by decide +kernel
theorem dX10_gcdK_371 : decode cX10_gcdK 371 = .ok (.istore 12, 2) := by decide +kernel
theorem dX10_gcdK_373 : decode cX10_gcdK 373 = .ok (.goto (-285), 3) := by decide +kernel
theorem dX10_gcdK_376 : decode cX10_gcdK 376 = .ok (.aload_n 0, 1) := by decide +kernel
theorem dX10_gcdK_377 : decode cX10_gcdK 377 = .ok (.iload 5, 2) := by decide +kernel
theorem dX10_gcdK_379 : decode cX10_gcdK 379 = .ok (.putfield 90, 3) := by decide +kernel
theorem dX10_gcdK_382 : decode cX10_gcdK 382 = .ok (.aload_n 0, 1) := by decide +kernel
theorem dX10_gcdK_383 : decode cX10_gcdK 383 = .ok (.iload 4, 2) := by decide +kernel
theorem dX10_gcdK_385 : decode cX10_gcdK 385 = .ok (.putfield 21, 3) := by decide +kernel
theorem dX10_gcdK_388 : decode cX10_gcdK 388 = .ok (.return_, 1) := by decide +kernel
theorem dX10_eval_0 : decode cX10_eval 0 = .ok (.lconst 0, 1) := by decide +kernel
theorem dX10_eval_1 : decode cX10_eval 1 = .ok (.lstore_n 2, 1) := by decide +kernel
theorem dX10_eval_2 : decode cX10_eval 2 = .ok (.aload_n 0, 1) := by decide +kernel
theorem dX10_eval_3 : decode cX10_eval 3 = .ok (.getfield 25, 3) := by decide +kernel
theorem dX10_eval_6 : decode cX10_eval 6 = .ok (.iconst 1, 1) := by decide +kernel
theorem dX10_eval_7 : decode cX10_eval 7 = .ok (.isub, 1) := by decide +kernel
theorem dX10_eval_8 : decode cX10_eval 8 = .ok (.istore 4, 2) := by decide +kernel
theorem dX10_eval_10 : decode cX10_eval 10 = .ok (.iload 4, 2) := by decide +kernel
theorem dX10_eval_12 : decode cX10_eval 12 = .ok (.ifCond .lt 27, 3) := by decide +kernel
theorem dX10_eval_15 : decode cX10_eval 15 = .ok (.lload_n 2, 1) := by decide +kernel
theorem dX10_eval_16 : decode cX10_eval 16 = .ok (.iload_n 1, 1) := by decide +kernel
theorem dX10_eval_17 : decode cX10_eval 17 = .ok (.i2l, 1) := by decide +kernel
theorem dX10_eval_18 : decode cX10_eval 18 = .ok (.lmul, 1) := by decide +kernel
theorem dX10_eval_19 : decode cX10_eval 19 = .ok (.aload_n 0, 1) := by decide +kernel
theorem dX10_eval_20 : decode cX10_eval 20 = .ok (.getfield 30, 3) := by decide +kernel
theorem dX10_eval_23 : decode cX10_eval 23 = .ok (.iload 4, 2) := by decide +kernel
theorem dX10_eval_25 : decode cX10_eval 25 = .ok (.iaload, 1) := by decide +kernel
theorem dX10_eval_26 : decode cX10_eval 26 = .ok (.i2l, 1) := by decide +kernel
theorem dX10_eval_27 : decode cX10_eval 27 = .ok (.ladd, 1) := by decide +kernel
theorem dX10_eval_28 : decode cX10_eval 28 = .ok (.ldc2_w 3, 3) := by decide +kernel
theorem dX10_eval_31 : decode cX10_eval 31 = .ok (.lrem, 1) := by decide +kernel
theorem dX10_eval_32 : decode cX10_eval 32 = .ok (.lstore_n 2, 1) := by decide +kernel
theorem dX10_eval_33 : decode cX10_eval 33 = .ok (.iinc 4 (-1), 3) := by decide +kernel
theorem dX10_eval_36 : decode cX10_eval 36 = .ok (.goto (-26), 3) := by decide +kernel
theorem dX10_eval_39 : decode cX10_eval 39 = .ok (.lload_n 2, 1) := by decide +kernel
theorem dX10_eval_40 : decode cX10_eval 40 = .ok (.l2i, 1) := by decide +kernel
theorem dX10_eval_41 : decode cX10_eval 41 = .ok (.ireturn, 1) := by decide +kernel
abbrev W_X10_type (g : GX) (d : Nat) (av : List Value) (Q : QT) (n : Nat) (pc : Nat) (ls : LV) (stk : List Value) (h : Hp) : Prop := RJ g m_X10_type d 0 0 av Q pc ls stk n h 0 0
theorem s_X10_type_0 {g : GX} {d : Nat} {av : List Value} {Q : QT} {n : Nat} {h : Hp} {y1 : Int64} {x3 : Int32} (hp : g.2.2.2.2 = true)  (H : ((x3 < (1 : Int32)) → (Q (some (.int (-1 : Int32))) n h)) ∧ ((¬ x3 < (1 : Int32)) → ((((8 : Int32) < x3) → (Q (some (.int (-1 : Int32))) n h)) ∧ ((¬ (8 : Int32) < x3) → (((((ri h 2759 12) + x3) ≤ (400 : Int32)) → (W_X10_type g d av Q n 30 [some (.ref 2759), some (.long y1), none, none, some (.int (x3 - (1 : Int32)))] [] h)) ∧ ((¬ ((ri h 2759 12) + x3) ≤ (400 : Int32)) → (Q (some (.int (-1 : Int32))) n h))))))) : W_X10_type g d av Q n 0 [some (.ref 2759), some (.long y1), none, some (.int x3), none] [] h := by
  refine r_iload_n dX10_type_0 rfl rfl ?_
  refine r_iconst (v := (1 : Int32)) dX10_type_1 rfl ?_
  refine r_icmp_lt (tgt := 23) dX10_type_2 rfl (fun cH => ?_) (fun cH => ?_)
  · replace H := H.1 cH
    refine r_iconst (v := (-1 : Int32)) dX10_type_23 rfl ?_
    exact r_zret dX10_type_24 rfl rfl (Nat.le_refl _) (Nat.le_refl _) H
  · replace H := H.2 cH
    refine r_iload_n dX10_type_5 rfl rfl ?_
    refine r_bipush (v := (8 : Int32)) dX10_type_6 rfl ?_
    refine r_icmp_gt (tgt := 23) dX10_type_8 rfl (fun cH => ?_) (fun cH => ?_)
    · replace H := H.1 cH
      refine r_iconst (v := (-1 : Int32)) dX10_type_23 rfl ?_
      exact r_zret dX10_type_24 rfl rfl (Nat.le_refl _) (Nat.le_refl _) H
    · replace H := H.2 cH
      refine r_aload_n dX10_type_11 rfl rfl ?_
      refine m_getI hp fw_X10_336 dX10_type_12 rfl ly_10 ?_
      refine r_iload_n dX10_type_15 rfl rfl ?_
      refine r_iadd dX10_type_16 ?_
      refine r_sipush (v := (400 : Int32)) dX10_type_17 rfl ?_
      refine r_icmp_le (tgt := 25) dX10_type_20 rfl (fun cH => ?_) (fun cH => ?_)
      · replace H := H.1 cH
        refine r_iload_n dX10_type_25 rfl rfl ?_
        refine r_iconst (v := (1 : Int32)) dX10_type_26 rfl ?_
        refine r_isub dX10_type_27 ?_
        refine r_istore (ls2 := [some (.ref 2759), some (.long y1), none, some (.int x3), some (.int (x3 - (1 : Int32)))]) dX10_type_28 (by decide) rfl ?_
        refine r_prune [true, true, false, false, true] (ls2 := [some (.ref 2759), some (.long y1), none, none, some (.int (x3 - (1 : Int32)))]) rfl ?_
        exact H
      · replace H := H.2 cH
        refine r_iconst (v := (-1 : Int32)) dX10_type_23 rfl ?_
        exact r_zret dX10_type_24 rfl rfl (Nat.le_refl _) (Nat.le_refl _) H
theorem s_X10_type_30 {g : GX} {d : Nat} {av : List Value} {Q : QT} {n : Nat} {h : Hp} {y1 : Int64} {x4 : Int32} (hp : g.2.2.2.2 = true)  (H : ((x4 < (0 : Int32)) → (Q (some (.int (ri h 2759 12))) n h)) ∧ ((¬ x4 < (0 : Int32)) → (∀ h1, h1 = wi h 2759 12 ((ri h 2759 12) + (1 : Int32)) → (vp_in (ri h 2759 12) 400 ∧ ∀ h2, h2 = wi h1 2839 ((ri h 2759 12)).toNatClampNeg (((y1 >>> ((((8 : Int32) * x4)).toInt64 &&& 63))).toInt32).toInt8.toInt32 → (W_X10_type g d av Q n 30 [some (.ref 2759), some (.long y1), none, none, some (.int (x4 + (-1 : Int32)))] [] h2))))) : W_X10_type g d av Q n 30 [some (.ref 2759), some (.long y1), none, none, some (.int x4)] [] h := by
  refine r_iload dX10_type_30 rfl ?_
  refine r_if_lt (tgt := 66) dX10_type_32 rfl (fun cH => ?_) (fun cH => ?_)
  · replace H := H.1 cH
    refine r_aload_n dX10_type_66 rfl rfl ?_
    refine m_getI hp fw_X10_336 dX10_type_67 rfl ly_10 ?_
    exact r_zret dX10_type_70 rfl rfl (Nat.le_refl _) (Nat.le_refl _) H
  · replace H := H.2 cH
    refine r_aload_n dX10_type_35 rfl rfl ?_
    refine m_getF (x := 2839) hp fw_X10_339 dX10_type_36 rfl ly_10 (ff_10_11 ly_10) ?_
    refine r_aload_n dX10_type_39 rfl rfl ?_
    refine r_dup dX10_type_40 rfl ?_
    refine m_getI hp fw_X10_336 dX10_type_41 rfl ly_10 ?_
    refine r_dup_x1 dX10_type_44 rfl rfl ?_
    refine r_iconst (v := (1 : Int32)) dX10_type_45 rfl ?_
    refine r_iadd dX10_type_46 ?_
    refine m_putI hp fw_X10_336 dX10_type_47 rfl rfl ly_10 (fun h1 eh1 => ?_)
    replace H := H h1 eh1
    refine r_lload_n dX10_type_50 rfl rfl ?_
    refine r_bipush (v := (8 : Int32)) dX10_type_51 rfl ?_
    refine r_iload dX10_type_53 rfl ?_
    refine r_imul dX10_type_55 ?_
    refine r_lshr dX10_type_56 ?_
    refine r_l2i dX10_type_57 ?_
    refine r_i2b dX10_type_58 ?_
    refine m_bast hp dX10_type_59 (lf_10_11 ly_10) H.1 (pk_nb _) (fun h2 eh2 => ?_)
    replace H := H.2 h2 eh2
    refine r_iinc (v := (x4 + (-1 : Int32))) (ls2 := [some (.ref 2759), some (.long y1), none, none, some (.int (x4 + (-1 : Int32)))]) dX10_type_60 rfl rfl (by decide) rfl ?_
    refine r_goto (tgt := 30) dX10_type_63 rfl ?_
    exact H
abbrev W_X10_isSlot (g : GX) (d : Nat) (av : List Value) (Q : QT) (n : Nat) (pc : Nat) (ls : LV) (stk : List Value) (h : Hp) : Prop := RJ g m_X10_isSlot d 0 0 av Q pc ls stk n h 0 0
theorem s_X10_isSlot_0 {g : GX} {d : Nat} {av : List Value} {Q : QT} {n : Nat} {h : Hp} {x0 : Int32} (hp : g.2.2.2.2 = true)  (H : ((x0 < (0 : Int32)) → (Q (some (.int (0 : Int32))) n h)) ∧ ((¬ x0 < (0 : Int32)) → ((((12 : Int32) ≤ x0) → (Q (some (.int (0 : Int32))) n h)) ∧ ((¬ (12 : Int32) ≤ x0) → (Q (some (.int (1 : Int32))) n h))))) : W_X10_isSlot g d av Q n 0 [some (.int x0)] [] h := by
  refine r_iload_n dX10_isSlot_0 rfl rfl ?_
  refine r_if_lt (tgt := 14) dX10_isSlot_1 rfl (fun cH => ?_) (fun cH => ?_)
  · replace H := H.1 cH
    refine r_iconst (v := (0 : Int32)) dX10_isSlot_14 rfl ?_
    exact r_zret dX10_isSlot_15 rfl rfl (Nat.le_refl _) (Nat.le_refl _) H
  · replace H := H.2 cH
    refine r_iload_n dX10_isSlot_4 rfl rfl ?_
    refine r_bipush (v := (12 : Int32)) dX10_isSlot_5 rfl ?_
    refine r_icmp_ge (tgt := 14) dX10_isSlot_7 rfl (fun cH => ?_) (fun cH => ?_)
    · replace H := H.1 cH
      refine r_iconst (v := (0 : Int32)) dX10_isSlot_14 rfl ?_
      exact r_zret dX10_isSlot_15 rfl rfl (Nat.le_refl _) (Nat.le_refl _) H
    · replace H := H.2 cH
      refine r_iconst (v := (1 : Int32)) dX10_isSlot_10 rfl ?_
      refine r_goto (tgt := 15) dX10_isSlot_11 rfl ?_
      exact r_zret dX10_isSlot_15 rfl rfl (Nat.le_refl _) (Nat.le_refl _) H
abbrev W_X10_begin (g : GX) (d : Nat) (av : List Value) (Q : QT) (n : Nat) (pc : Nat) (ls : LV) (stk : List Value) (h : Hp) : Prop := RJ g m_X10_begin d 0 0 av Q pc ls stk n h 0 0
theorem s_X10_begin_0 {g : GX} {d : Nat} {av : List Value} {Q : QT} {n : Nat} {h : Hp}  (hp : g.2.2.2.2 = true)  (H : ∀ h1, h1 = wi h 2759 1 (0 : Int32) → (∀ h2, h2 = wi h1 2759 3 (0 : Int32) → (∀ h3, h3 = wi h2 2759 16 (0 : Int32) → (Q none n h3)))) : W_X10_begin g d av Q n 0 [some (.ref 2759)] [] h := by
  refine r_aload_n dX10_begin_0 rfl rfl ?_
  refine r_iconst (v := (0 : Int32)) dX10_begin_1 rfl ?_
  refine m_putI hp fw_X10_21 dX10_begin_2 rfl rfl ly_10 (fun h1 eh1 => ?_)
  replace H := H h1 eh1
  refine r_aload_n dX10_begin_5 rfl rfl ?_
  refine r_iconst (v := (0 : Int32)) dX10_begin_6 rfl ?_
  refine m_putI hp fw_X10_90 dX10_begin_7 rfl rfl ly_10 (fun h2 eh2 => ?_)
  replace H := H h2 eh2
  refine r_aload_n dX10_begin_10 rfl rfl ?_
  refine r_iconst (v := (0 : Int32)) dX10_begin_11 rfl ?_
  refine m_putI hp fw_X10_375 dX10_begin_12 rfl rfl ly_10 (fun h3 eh3 => ?_)
  replace H := H h3 eh3
  exact r_vret dX10_begin_15 rfl (Nat.le_refl _) (Nat.le_refl _) H
abbrev W_X10_readE (g : GX) (d : Nat) (av : List Value) (Q : QT) (n : Nat) (pc : Nat) (ls : LV) (stk : List Value) (h : Hp) : Prop := RJ g m_X10_readE (d + 1) 0 0 av Q pc ls stk n h 0 0
theorem s_X10_readE_0 {g : GX} {d : Nat} {av : List Value} {Q : QT} {n : Nat} {h : Hp}  (hp : g.2.2.2.2 = true)  (H : CallI g m_X10_look d [.ref 2759] n h (fun v1 h1 => (((¬ v1 = (45 : Int32)) → (W_X10_readE g d av Q n 19 [some (.ref 2759)] [] h1)) ∧ ((v1 = (45 : Int32)) → (∀ h2, h2 = wi h1 2759 13 ((ri h1 2759 13) + (1 : Int32)) → (W_X10_readE g d av Q n 19 [some (.ref 2759)] [] h2)))))) : W_X10_readE g d av Q n 0 [some (.ref 2759)] [] h := by
  refine r_aload_n dX10_readE_0 rfl rfl ?_
  refine k_VI (As := []) (stk := []) hp cv_X10_343 dX10_readE_1 rfl (Nat.le_of_ble_eq_true rfl) ly_10 (H.mono (fun v1 h1 H => ?_)) ⟨Nat.le_refl _, Nat.le_refl _⟩
  refine r_bipush (v := (45 : Int32)) dX10_readE_4 rfl ?_
  refine r_icmp_ne (tgt := 19) dX10_readE_6 rfl (fun cH => ?_) (fun cH => ?_)
  · replace H := H.1 cH
    exact H
  · replace H := H.2 cH
    refine r_aload_n dX10_readE_9 rfl rfl ?_
    refine r_dup dX10_readE_10 rfl ?_
    refine m_getI hp fw_X10_334 dX10_readE_11 rfl ly_10 ?_
    refine r_iconst (v := (1 : Int32)) dX10_readE_14 rfl ?_
    refine r_iadd dX10_readE_15 ?_
    refine m_putI hp fw_X10_334 dX10_readE_16 rfl rfl ly_10 (fun h2 eh2 => ?_)
    replace H := H h2 eh2
    exact H
theorem s_X10_readE_19 {g : GX} {d : Nat} {av : List Value} {Q : QT} {n : Nat} {h : Hp}  (hp : g.2.2.2.2 = true)  (H : CallV g m_X10_readU d [.ref 2759] n h (fun h1 => (W_X10_readE g d av Q n 23 [some (.ref 2759)] [] h1))) : W_X10_readE g d av Q n 19 [some (.ref 2759)] [] h := by
  refine r_aload_n dX10_readE_19 rfl rfl ?_
  refine k_VV (As := []) (stk := []) hp cv_X10_350 dX10_readE_20 rfl (Nat.le_of_ble_eq_true rfl) ly_10 (H.mono (fun h1 H => ?_)) ⟨Nat.le_refl _, Nat.le_refl _⟩
  exact H
theorem s_X10_readE_23 {g : GX} {d : Nat} {av : List Value} {Q : QT} {n : Nat} {h : Hp}  (hp : g.2.2.2.2 = true)  (H : CallI g m_X10_look d [.ref 2759] n h (fun v1 h1 => (((v1 = (43 : Int32)) → (W_X10_readE g d av Q n 41 [some (.ref 2759)] [] h1)) ∧ ((¬ v1 = (43 : Int32)) → (CallI g m_X10_look d [.ref 2759] n h1 (fun v2 h2 => (((¬ v2 = (45 : Int32)) → (Q none n h2)) ∧ ((v2 = (45 : Int32)) → (W_X10_readE g d av Q n 41 [some (.ref 2759)] [] h2))))))))) : W_X10_readE g d av Q n 23 [some (.ref 2759)] [] h := by
  refine r_aload_n dX10_readE_23 rfl rfl ?_
  refine k_VI (As := []) (stk := []) hp cv_X10_343 dX10_readE_24 rfl (Nat.le_of_ble_eq_true rfl) ly_10 (H.mono (fun v1 h1 H => ?_)) ⟨Nat.le_refl _, Nat.le_refl _⟩
  refine r_bipush (v := (43 : Int32)) dX10_readE_27 rfl ?_
  refine r_icmp_eq (tgt := 41) dX10_readE_29 rfl (fun cH => ?_) (fun cH => ?_)
  · replace H := H.1 cH
    exact H
  · replace H := H.2 cH
    refine r_aload_n dX10_readE_32 rfl rfl ?_
    refine k_VI (As := []) (stk := []) hp cv_X10_343 dX10_readE_33 rfl (Nat.le_of_ble_eq_true rfl) ly_10 (H.mono (fun v2 h2 H => ?_)) ⟨Nat.le_refl _, Nat.le_refl _⟩
    refine r_bipush (v := (45 : Int32)) dX10_readE_36 rfl ?_
    refine r_icmp_ne (tgt := 58) dX10_readE_38 rfl (fun cH => ?_) (fun cH => ?_)
    · replace H := H.1 cH
      exact r_vret dX10_readE_58 rfl (Nat.le_refl _) (Nat.le_refl _) H
    · replace H := H.2 cH
      exact H
theorem s_X10_readE_41 {g : GX} {d : Nat} {av : List Value} {Q : QT} {n : Nat} {h : Hp}  (hp : g.2.2.2.2 = true)  (H : ∀ h1, h1 = wi h 2759 13 ((ri h 2759 13) + (1 : Int32)) → (CallV g m_X10_readU d [.ref 2759] n h1 (fun h2 => (W_X10_readE g d av Q n 23 [some (.ref 2759)] [] h2)))) : W_X10_readE g d av Q n 41 [some (.ref 2759)] [] h := by
  refine r_aload_n dX10_readE_41 rfl rfl ?_
  refine r_dup dX10_readE_42 rfl ?_
  refine m_getI hp fw_X10_334 dX10_readE_43 rfl ly_10 ?_
  refine r_iconst (v := (1 : Int32)) dX10_readE_46 rfl ?_
  refine r_iadd dX10_readE_47 ?_
  refine m_putI hp fw_X10_334 dX10_readE_48 rfl rfl ly_10 (fun h1 eh1 => ?_)
  replace H := H h1 eh1
  refine r_aload_n dX10_readE_51 rfl rfl ?_
  refine k_VV (As := []) (stk := []) hp cv_X10_350 dX10_readE_52 rfl (Nat.le_of_ble_eq_true rfl) ly_10 (H.mono (fun h2 H => ?_)) ⟨Nat.le_refl _, Nat.le_refl _⟩
  refine r_goto (tgt := 23) dX10_readE_55 rfl ?_
  exact H
abbrev W_X10_look (g : GX) (d : Nat) (av : List Value) (Q : QT) (n : Nat) (pc : Nat) (ls : LV) (stk : List Value) (h : Hp) : Prop := RJ g m_X10_look d 0 0 av Q pc ls stk n h 0 0
theorem s_X10_look_0 {g : GX} {d : Nat} {av : List Value} {Q : QT} {n : Nat} {h : Hp}  (hp : g.2.2.2.2 = true)  (H : (((ri h 2759 12) ≤ (ri h 2759 13)) → (W_X10_look g d av Q n 38 [some (.ref 2759)] [] h)) ∧ ((¬ (ri h 2759 12) ≤ (ri h 2759 13)) → (vp_in (ri h 2759 13) 400 ∧ (((¬ (ri h 2839 ((ri h 2759 13)).toNatClampNeg) = (32 : Int32)) → (W_X10_look g d av Q n 38 [some (.ref 2759)] [] h)) ∧ (((ri h 2839 ((ri h 2759 13)).toNatClampNeg) = (32 : Int32)) → (∀ h1, h1 = wi h 2759 13 ((ri h 2759 13) + (1 : Int32)) → (W_X10_look g d av Q n 0 [some (.ref 2759)] [] h1))))))) : W_X10_look g d av Q n 0 [some (.ref 2759)] [] h := by
  refine r_aload_n dX10_look_0 rfl rfl ?_
  refine m_getI hp fw_X10_334 dX10_look_1 rfl ly_10 ?_
  refine r_aload_n dX10_look_4 rfl rfl ?_
  refine m_getI hp fw_X10_336 dX10_look_5 rfl ly_10 ?_
  refine r_icmp_ge (tgt := 38) dX10_look_8 rfl (fun cH => ?_) (fun cH => ?_)
  · replace H := H.1 cH
    exact H
  · replace H := H.2 cH
    refine r_aload_n dX10_look_11 rfl rfl ?_
    refine m_getF (x := 2839) hp fw_X10_339 dX10_look_12 rfl ly_10 (ff_10_11 ly_10) ?_
    refine r_aload_n dX10_look_15 rfl rfl ?_
    refine m_getI hp fw_X10_334 dX10_look_16 rfl ly_10 ?_
    refine m_bald hp dX10_look_19 (lf_10_11 ly_10) H.1 ?_
    replace H := H.2
    refine r_bipush (v := (32 : Int32)) dX10_look_20 rfl ?_
    refine r_icmp_ne (tgt := 38) dX10_look_22 rfl (fun cH => ?_) (fun cH => ?_)
    · replace H := H.1 cH
      exact H
    · replace H := H.2 cH
      refine r_aload_n dX10_look_25 rfl rfl ?_
      refine r_dup dX10_look_26 rfl ?_
      refine m_getI hp fw_X10_334 dX10_look_27 rfl ly_10 ?_
      refine r_iconst (v := (1 : Int32)) dX10_look_30 rfl ?_
      refine r_iadd dX10_look_31 ?_
      refine m_putI hp fw_X10_334 dX10_look_32 rfl rfl ly_10 (fun h1 eh1 => ?_)
      replace H := H h1 eh1
      refine r_goto (tgt := 0) dX10_look_35 rfl ?_
      exact H
theorem s_X10_look_38 {g : GX} {d : Nat} {av : List Value} {Q : QT} {n : Nat} {h : Hp}  (hp : g.2.2.2.2 = true)  (H : (((ri h 2759 12) ≤ (ri h 2759 13)) → (Q (some (.int (-1 : Int32))) n h)) ∧ ((¬ (ri h 2759 12) ≤ (ri h 2759 13)) → (vp_in (ri h 2759 13) 400 ∧ (Q (some (.int ((ri h 2839 ((ri h 2759 13)).toNatClampNeg) &&& (255 : Int32)))) n h)))) : W_X10_look g d av Q n 38 [some (.ref 2759)] [] h := by
  refine r_aload_n dX10_look_38 rfl rfl ?_
  refine m_getI hp fw_X10_334 dX10_look_39 rfl ly_10 ?_
  refine r_aload_n dX10_look_42 rfl rfl ?_
  refine m_getI hp fw_X10_336 dX10_look_43 rfl ly_10 ?_
  refine r_icmp_ge (tgt := 65) dX10_look_46 rfl (fun cH => ?_) (fun cH => ?_)
  · replace H := H.1 cH
    refine r_iconst (v := (-1 : Int32)) dX10_look_65 rfl ?_
    exact r_zret dX10_look_66 rfl rfl (Nat.le_refl _) (Nat.le_refl _) H
  · replace H := H.2 cH
    refine r_aload_n dX10_look_49 rfl rfl ?_
    refine m_getF (x := 2839) hp fw_X10_339 dX10_look_50 rfl ly_10 (ff_10_11 ly_10) ?_
    refine r_aload_n dX10_look_53 rfl rfl ?_
    refine m_getI hp fw_X10_334 dX10_look_54 rfl ly_10 ?_
    refine m_bald hp dX10_look_57 (lf_10_11 ly_10) H.1 ?_
    replace H := H.2
    refine r_sipush (v := (255 : Int32)) dX10_look_58 rfl ?_
    refine r_iand dX10_look_61 ?_
    refine r_goto (tgt := 66) dX10_look_62 rfl ?_
    exact r_zret dX10_look_66 rfl rfl (Nat.le_refl _) (Nat.le_refl _) H
abbrev W_X10_readU (g : GX) (d : Nat) (av : List Value) (Q : QT) (n : Nat) (pc : Nat) (ls : LV) (stk : List Value) (h : Hp) : Prop := RJ g m_X10_readU (d + 1) 0 0 av Q pc ls stk n h 0 0
theorem s_X10_readU_0 {g : GX} {d : Nat} {av : List Value} {Q : QT} {n : Nat} {h : Hp}  (hp : g.2.2.2.2 = true)  (H : CallV g m_X10_readW d [.ref 2759] n h (fun h1 => (W_X10_readU g d av Q n 4 [some (.ref 2759)] [] h1))) : W_X10_readU g d av Q n 0 [some (.ref 2759)] [] h := by
  refine r_aload_n dX10_readU_0 rfl rfl ?_
  refine k_VV (As := []) (stk := []) hp cv_X10_353 dX10_readU_1 rfl (Nat.le_of_ble_eq_true rfl) ly_10 (H.mono (fun h1 H => ?_)) ⟨Nat.le_refl _, Nat.le_refl _⟩
  exact H
theorem s_X10_readU_4 {g : GX} {d : Nat} {av : List Value} {Q : QT} {n : Nat} {h : Hp}  (hp : g.2.2.2.2 = true)  (H : CallI g m_X10_look d [.ref 2759] n h (fun v1 h1 => (((v1 = (42 : Int32)) → (W_X10_readU g d av Q n 22 [some (.ref 2759)] [] h1)) ∧ ((¬ v1 = (42 : Int32)) → (CallI g m_X10_look d [.ref 2759] n h1 (fun v2 h2 => (((¬ v2 = (47 : Int32)) → (Q none n h2)) ∧ ((v2 = (47 : Int32)) → (W_X10_readU g d av Q n 22 [some (.ref 2759)] [] h2))))))))) : W_X10_readU g d av Q n 4 [some (.ref 2759)] [] h := by
  refine r_aload_n dX10_readU_4 rfl rfl ?_
  refine k_VI (As := []) (stk := []) hp cv_X10_343 dX10_readU_5 rfl (Nat.le_of_ble_eq_true rfl) ly_10 (H.mono (fun v1 h1 H => ?_)) ⟨Nat.le_refl _, Nat.le_refl _⟩
  refine r_bipush (v := (42 : Int32)) dX10_readU_8 rfl ?_
  refine r_icmp_eq (tgt := 22) dX10_readU_10 rfl (fun cH => ?_) (fun cH => ?_)
  · replace H := H.1 cH
    exact H
  · replace H := H.2 cH
    refine r_aload_n dX10_readU_13 rfl rfl ?_
    refine k_VI (As := []) (stk := []) hp cv_X10_343 dX10_readU_14 rfl (Nat.le_of_ble_eq_true rfl) ly_10 (H.mono (fun v2 h2 H => ?_)) ⟨Nat.le_refl _, Nat.le_refl _⟩
    refine r_bipush (v := (47 : Int32)) dX10_readU_17 rfl ?_
    refine r_icmp_ne (tgt := 39) dX10_readU_19 rfl (fun cH => ?_) (fun cH => ?_)
    · replace H := H.1 cH
      exact r_vret dX10_readU_39 rfl (Nat.le_refl _) (Nat.le_refl _) H
    · replace H := H.2 cH
      exact H
theorem s_X10_readU_22 {g : GX} {d : Nat} {av : List Value} {Q : QT} {n : Nat} {h : Hp}  (hp : g.2.2.2.2 = true)  (H : ∀ h1, h1 = wi h 2759 13 ((ri h 2759 13) + (1 : Int32)) → (CallV g m_X10_readW d [.ref 2759] n h1 (fun h2 => (W_X10_readU g d av Q n 4 [some (.ref 2759)] [] h2)))) : W_X10_readU g d av Q n 22 [some (.ref 2759)] [] h := by
  refine r_aload_n dX10_readU_22 rfl rfl ?_
  refine r_dup dX10_readU_23 rfl ?_
  refine m_getI hp fw_X10_334 dX10_readU_24 rfl ly_10 ?_
  refine r_iconst (v := (1 : Int32)) dX10_readU_27 rfl ?_
  refine r_iadd dX10_readU_28 ?_
  refine m_putI hp fw_X10_334 dX10_readU_29 rfl rfl ly_10 (fun h1 eh1 => ?_)
  replace H := H h1 eh1
  refine r_aload_n dX10_readU_32 rfl rfl ?_
  refine k_VV (As := []) (stk := []) hp cv_X10_353 dX10_readU_33 rfl (Nat.le_of_ble_eq_true rfl) ly_10 (H.mono (fun h2 H => ?_)) ⟨Nat.le_refl _, Nat.le_refl _⟩
  refine r_goto (tgt := 4) dX10_readU_36 rfl ?_
  exact H
abbrev W_X10_readW (g : GX) (d : Nat) (av : List Value) (Q : QT) (n : Nat) (pc : Nat) (ls : LV) (stk : List Value) (h : Hp) : Prop := RJ g m_X10_readW (d + 1) 0 0 av Q pc ls stk n h 0 0
theorem s_X10_readW_0 {g : GX} {d : Nat} {av : List Value} {Q : QT} {n : Nat} {h : Hp}  (hp : g.2.2.2.2 = true)  (H : CallV g m_X10_readB d [.ref 2759] n h (fun h1 => (CallI g m_X10_look d [.ref 2759] n h1 (fun v2 h2 => (((¬ v2 = (33 : Int32)) → (W_X10_readW g d av Q n 23 [some (.ref 2759)] [] h2)) ∧ ((v2 = (33 : Int32)) → (∀ h3, h3 = wi h2 2759 13 ((ri h2 2759 13) + (1 : Int32)) → (W_X10_readW g d av Q n 23 [some (.ref 2759)] [] h3)))))))) : W_X10_readW g d av Q n 0 [some (.ref 2759)] [] h := by
  refine r_aload_n dX10_readW_0 rfl rfl ?_
  refine k_VV (As := []) (stk := []) hp cv_X10_356 dX10_readW_1 rfl (Nat.le_of_ble_eq_true rfl) ly_10 (H.mono (fun h1 H => ?_)) ⟨Nat.le_refl _, Nat.le_refl _⟩
  refine r_aload_n dX10_readW_4 rfl rfl ?_
  refine k_VI (As := []) (stk := []) hp cv_X10_343 dX10_readW_5 rfl (Nat.le_of_ble_eq_true rfl) ly_10 (H.mono (fun v2 h2 H => ?_)) ⟨Nat.le_refl _, Nat.le_refl _⟩
  refine r_bipush (v := (33 : Int32)) dX10_readW_8 rfl ?_
  refine r_icmp_ne (tgt := 23) dX10_readW_10 rfl (fun cH => ?_) (fun cH => ?_)
  · replace H := H.1 cH
    exact H
  · replace H := H.2 cH
    refine r_aload_n dX10_readW_13 rfl rfl ?_
    refine r_dup dX10_readW_14 rfl ?_
    refine m_getI hp fw_X10_334 dX10_readW_15 rfl ly_10 ?_
    refine r_iconst (v := (1 : Int32)) dX10_readW_18 rfl ?_
    refine r_iadd dX10_readW_19 ?_
    refine m_putI hp fw_X10_334 dX10_readW_20 rfl rfl ly_10 (fun h3 eh3 => ?_)
    replace H := H h3 eh3
    exact H
theorem s_X10_readW_23 {g : GX} {d : Nat} {av : List Value} {Q : QT} {n : Nat} {h : Hp}  (hp : g.2.2.2.2 = true)  (H : CallI g m_X10_look d [.ref 2759] n h (fun v1 h1 => (((¬ v1 = (94 : Int32)) → (Q none n h1)) ∧ ((v1 = (94 : Int32)) → (∀ h2, h2 = wi h1 2759 13 ((ri h1 2759 13) + (1 : Int32)) → (CallV g m_X10_readB d [.ref 2759] n h2 (fun h3 => (Q none n h3)))))))) : W_X10_readW g d av Q n 23 [some (.ref 2759)] [] h := by
  refine r_aload_n dX10_readW_23 rfl rfl ?_
  refine k_VI (As := []) (stk := []) hp cv_X10_343 dX10_readW_24 rfl (Nat.le_of_ble_eq_true rfl) ly_10 (H.mono (fun v1 h1 H => ?_)) ⟨Nat.le_refl _, Nat.le_refl _⟩
  refine r_bipush (v := (94 : Int32)) dX10_readW_27 rfl ?_
  refine r_icmp_ne (tgt := 46) dX10_readW_29 rfl (fun cH => ?_) (fun cH => ?_)
  · replace H := H.1 cH
    exact r_vret dX10_readW_46 rfl (Nat.le_refl _) (Nat.le_refl _) H
  · replace H := H.2 cH
    refine r_aload_n dX10_readW_32 rfl rfl ?_
    refine r_dup dX10_readW_33 rfl ?_
    refine m_getI hp fw_X10_334 dX10_readW_34 rfl ly_10 ?_
    refine r_iconst (v := (1 : Int32)) dX10_readW_37 rfl ?_
    refine r_iadd dX10_readW_38 ?_
    refine m_putI hp fw_X10_334 dX10_readW_39 rfl rfl ly_10 (fun h2 eh2 => ?_)
    replace H := H h2 eh2
    refine r_aload_n dX10_readW_42 rfl rfl ?_
    refine k_VV (As := []) (stk := []) hp cv_X10_356 dX10_readW_43 rfl (Nat.le_of_ble_eq_true rfl) ly_10 (H.mono (fun h3 H => ?_)) ⟨Nat.le_refl _, Nat.le_refl _⟩
    exact r_vret dX10_readW_46 rfl (Nat.le_refl _) (Nat.le_refl _) H
abbrev W_X10_fail (g : GX) (d : Nat) (av : List Value) (Q : QT) (n : Nat) (pc : Nat) (ls : LV) (stk : List Value) (h : Hp) : Prop := RJ g m_X10_fail d 0 0 av Q pc ls stk n h 0 0
theorem s_X10_fail_0 {g : GX} {d : Nat} {av : List Value} {Q : QT} {n : Nat} {h : Hp} {x1 : Int32} {x2 : Int32} (hp : g.2.2.2.2 = true)  (H : ∀ h1, h1 = wi h 2759 9 x1 → (∀ h2, h2 = wi h1 2759 10 x2 → (Q (some (.ref 2838)) n h2))) : W_X10_fail g d av Q n 0 [some (.ref 2759), some (.int x1), some (.int x2)] [] h := by
  refine r_aload_n dX10_fail_0 rfl rfl ?_
  refine r_iload_n dX10_fail_1 rfl rfl ?_
  refine m_putI hp fw_X10_324 dX10_fail_2 rfl rfl ly_10 (fun h1 eh1 => ?_)
  replace H := H h1 eh1
  refine r_aload_n dX10_fail_5 rfl rfl ?_
  refine r_iload_n dX10_fail_6 rfl rfl ?_
  refine m_putI hp fw_X10_327 dX10_fail_7 rfl rfl ly_10 (fun h2 eh2 => ?_)
  replace H := H h2 eh2
  refine r_aload_n dX10_fail_10 rfl rfl ?_
  refine m_getF (x := 2838) hp fw_X10_330 dX10_fail_11 rfl ly_10 (ff_10_8 ly_10) ?_
  exact r_aret dX10_fail_14 rfl (Or.inl ⟨_, rfl⟩) (Nat.le_refl _) (Nat.le_refl _) H
abbrev W_X10_valueB (g : GX) (d : Nat) (av : List Value) (Q : QT) (n : Nat) (pc : Nat) (ls : LV) (stk : List Value) (h : Hp) : Prop := RJ g m_X10_valueB (d + 1) 0 0 av Q pc ls stk n h 0 0
theorem s_X10_valueB_0 {g : GX} {d : Nat} {av : List Value} {Q : QT} {n : Nat} {h : Hp}  (hp : g.2.2.2.2 = true)  (H : CallI g m_X10_look d [.ref 2759] n h (fun v1 h1 => (((¬ v1 = (40 : Int32)) → (((¬ v1 = (67 : Int32)) → (CallR g m_X10_newThing d [.ref 2759] n h1 (fun v2 h2 => (lay v2 = (0, 11, 15) ∧ (((v1 = (110 : Int32)) → (W_X10_valueB g d av Q n 62 [some (.ref 2759), some (.int v1), some (.ref v2), none, none] [] h2)) ∧ ((¬ v1 = (110 : Int32)) → (((¬ v1 = (107 : Int32)) → (W_X10_valueB g d av Q n 100 [some (.ref 2759), none, some (.ref v2), some (.long (0 : Int64)), none] [] h2)) ∧ ((v1 = (107 : Int32)) → (W_X10_valueB g d av Q n 62 [some (.ref 2759), some (.int v1), some (.ref v2), none, none] [] h2))))))))) ∧ ((v1 = (67 : Int32)) → (CallR g m_X10_choose d [.ref 2759] n h1 (fun v3 h3 => (lay v3 = (0, 11, 15) ∧ (Q (some (.ref v3)) n h3))))))) ∧ ((v1 = (40 : Int32)) → (∀ h4, h4 = wi h1 2759 13 ((ri h1 2759 13) + (1 : Int32)) → (CallR g m_X10_valueE d [.ref 2759] n h4 (fun v5 h5 => (lay v5 = (0, 11, 15) ∧ (CallV g m_X10_must d [.ref 2759, .int (41 : Int32)] n h5 (fun h6 => (Q (some (.ref v5)) n h6))))))))))) : W_X10_valueB g d av Q n 0 [some (.ref 2759), none, none, none, none] [] h := by
  refine r_aload_n dX10_valueB_0 rfl rfl ?_
  refine k_VI (As := []) (stk := []) hp cv_X10_343 dX10_valueB_1 rfl (Nat.le_of_ble_eq_true rfl) ly_10 (H.mono (fun v1 h1 H => ?_)) ⟨Nat.le_refl _, Nat.le_refl _⟩
  refine r_istore_n (ls2 := [some (.ref 2759), some (.int v1), none, none, none]) dX10_valueB_4 rfl (by decide) rfl ?_
  refine r_iload_n dX10_valueB_5 rfl rfl ?_
  refine r_bipush (v := (40 : Int32)) dX10_valueB_6 rfl ?_
  refine r_icmp_ne (tgt := 34) dX10_valueB_8 rfl (fun cH => ?_) (fun cH => ?_)
  · replace H := H.1 cH
    refine r_iload_n dX10_valueB_34 rfl rfl ?_
    refine r_bipush (v := (67 : Int32)) dX10_valueB_35 rfl ?_
    refine r_icmp_ne (tgt := 45) dX10_valueB_37 rfl (fun cH => ?_) (fun cH => ?_)
    · replace H := H.1 cH
      refine r_aload_n dX10_valueB_45 rfl rfl ?_
      refine k_VR (As := []) (stk := []) hp cv_X10_429 dX10_valueB_46 rfl (Nat.le_of_ble_eq_true rfl) ly_10 (H.mono (fun v2 h2 H => ?_)) ⟨Nat.le_refl _, Nat.le_refl _⟩
      obtain ⟨tv2, H⟩ := H
      refine r_astore_n (ls2 := [some (.ref 2759), some (.int v1), some (.ref v2), none, none]) dX10_valueB_49 rfl (by decide) rfl ?_
      refine r_iload_n dX10_valueB_50 rfl rfl ?_
      refine r_bipush (v := (110 : Int32)) dX10_valueB_51 rfl ?_
      refine r_icmp_eq (tgt := 62) dX10_valueB_53 rfl (fun cH => ?_) (fun cH => ?_)
      · replace H := H.1 cH
        exact H
      · replace H := H.2 cH
        refine r_iload_n dX10_valueB_56 rfl rfl ?_
        refine r_bipush (v := (107 : Int32)) dX10_valueB_57 rfl ?_
        refine r_icmp_ne (tgt := 98) dX10_valueB_59 rfl (fun cH => ?_) (fun cH => ?_)
        · replace H := H.1 cH
          refine r_lconst (v := (0 : Int64)) dX10_valueB_98 rfl ?_
          refine r_lstore_n (ls2 := [some (.ref 2759), some (.int v1), some (.ref v2), some (.long (0 : Int64)), none]) dX10_valueB_99 rfl (by decide) rfl ?_
          refine r_prune [true, false, true, true, false] (ls2 := [some (.ref 2759), none, some (.ref v2), some (.long (0 : Int64)), none]) rfl ?_
          exact H
        · replace H := H.2 cH
          exact H
    · replace H := H.2 cH
      refine r_aload_n dX10_valueB_40 rfl rfl ?_
      refine k_VR (As := []) (stk := []) hp cv_X10_426 dX10_valueB_41 rfl (Nat.le_of_ble_eq_true rfl) ly_10 (H.mono (fun v3 h3 H => ?_)) ⟨Nat.le_refl _, Nat.le_refl _⟩
      obtain ⟨tv3, H⟩ := H
      exact r_aret dX10_valueB_44 rfl (Or.inl ⟨_, rfl⟩) (Nat.le_refl _) (Nat.le_refl _) H
  · replace H := H.2 cH
    refine r_aload_n dX10_valueB_11 rfl rfl ?_
    refine r_dup dX10_valueB_12 rfl ?_
    refine m_getI hp fw_X10_334 dX10_valueB_13 rfl ly_10 ?_
    refine r_iconst (v := (1 : Int32)) dX10_valueB_16 rfl ?_
    refine r_iadd dX10_valueB_17 ?_
    refine m_putI hp fw_X10_334 dX10_valueB_18 rfl rfl ly_10 (fun h4 eh4 => ?_)
    replace H := H h4 eh4
    refine r_aload_n dX10_valueB_21 rfl rfl ?_
    refine k_VR (As := []) (stk := []) hp cv_X10_423 dX10_valueB_22 rfl (Nat.le_of_ble_eq_true rfl) ly_10 (H.mono (fun v5 h5 H => ?_)) ⟨Nat.le_refl _, Nat.le_refl _⟩
    obtain ⟨tv5, H⟩ := H
    refine r_astore_n (ls2 := [some (.ref 2759), some (.int v1), some (.ref v5), none, none]) dX10_valueB_25 rfl (by decide) rfl ?_
    refine r_aload_n dX10_valueB_26 rfl rfl ?_
    refine r_bipush (v := (41 : Int32)) dX10_valueB_27 rfl ?_
    refine k_VV (As := [.int (41 : Int32)]) (stk := []) hp cv_X10_368 dX10_valueB_29 rfl (Nat.le_of_ble_eq_true rfl) ly_10 (H.mono (fun h6 H => ?_)) ⟨Nat.le_refl _, Nat.le_refl _⟩
    refine r_aload_n dX10_valueB_32 rfl rfl ?_
    exact r_aret dX10_valueB_33 rfl (Or.inl ⟨_, rfl⟩) (Nat.le_refl _) (Nat.le_refl _) H
theorem s_X10_valueB_62 {g : GX} {d : Nat} {av : List Value} {Q : QT} {n : Nat} {h : Hp} {x1 : Int32} {a2 : Nat} (hp : g.2.2.2.2 = true) (t2 : lay a2 = (0, 11, 15)) (H : ∀ h1, h1 = wi h 2759 13 ((ri h 2759 13) + (1 : Int32)) → (CallV g m_X10_number d [.ref 2759, .ref a2, .int (0 : Int32)] n h1 (fun h2 => (((¬ x1 = (110 : Int32)) → (W_X10_valueB g d av Q n 94 [none, none, some (.ref a2), none, none] [.int (25 : Int32), .ref (a2 + 1)] h2)) ∧ ((x1 = (110 : Int32)) → (W_X10_valueB g d av Q n 94 [none, none, some (.ref a2), none, none] [.int (1 : Int32), .ref (a2 + 1)] h2)))))) : W_X10_valueB g d av Q n 62 [some (.ref 2759), some (.int x1), some (.ref a2), none, none] [] h := by
  refine r_aload_n dX10_valueB_62 rfl rfl ?_
  refine r_dup dX10_valueB_63 rfl ?_
  refine m_getI hp fw_X10_334 dX10_valueB_64 rfl ly_10 ?_
  refine r_iconst (v := (1 : Int32)) dX10_valueB_67 rfl ?_
  refine r_iadd dX10_valueB_68 ?_
  refine m_putI hp fw_X10_334 dX10_valueB_69 rfl rfl ly_10 (fun h1 eh1 => ?_)
  replace H := H h1 eh1
  refine r_aload_n dX10_valueB_72 rfl rfl ?_
  refine r_aload_n dX10_valueB_73 rfl rfl ?_
  refine r_iconst (v := (0 : Int32)) dX10_valueB_74 rfl ?_
  refine k_VV (As := [.ref a2, .int (0 : Int32)]) (stk := []) hp cv_X10_292 dX10_valueB_75 rfl (Nat.le_of_ble_eq_true rfl) ly_10 (H.mono (fun h2 H => ?_)) ⟨Nat.le_refl _, Nat.le_refl _⟩
  refine r_aload_n dX10_valueB_78 rfl rfl ?_
  refine m_getF (x := (a2 + 1)) hp fw_X10_207 dX10_valueB_79 rfl t2 (ff_11_1 t2) ?_
  refine r_iload_n dX10_valueB_82 rfl rfl ?_
  refine r_bipush (v := (110 : Int32)) dX10_valueB_83 rfl ?_
  refine r_icmp_ne (tgt := 92) dX10_valueB_85 rfl (fun cH => ?_) (fun cH => ?_)
  · replace H := H.1 cH
    refine r_bipush (v := (25 : Int32)) dX10_valueB_92 rfl ?_
    refine r_prune [false, false, true, false, false] (ls2 := [none, none, some (.ref a2), none, none]) rfl ?_
    exact H
  · replace H := H.2 cH
    refine r_iconst (v := (1 : Int32)) dX10_valueB_88 rfl ?_
    refine r_goto (tgt := 94) dX10_valueB_89 rfl ?_
    refine r_prune [false, false, true, false, false] (ls2 := [none, none, some (.ref a2), none, none]) rfl ?_
    exact H
theorem s_X10_valueB_94 {g : GX} {d : Nat} {av : List Value} {Q : QT} {n : Nat} {h : Hp} {a2 : Nat} {xs0 : Int32} {as1 : Nat} {Ls1 : Nat} (hp : g.2.2.2.2 = true) (t2 : lay a2 = (0, 11, 15)) (ts1 : lay as1 = (1, Ls1, 0)) (H : vp_in xs0 Ls1 ∧ ∀ h1, h1 = wi h as1 (xs0).toNatClampNeg (1 : Int32) → (Q (some (.ref a2)) n h1)) : W_X10_valueB g d av Q n 94 [none, none, some (.ref a2), none, none] [.int xs0, .ref as1] h := by
  refine r_iconst (v := (1 : Int32)) dX10_valueB_94 rfl ?_
  refine m_iast hp dX10_valueB_95 ts1 H.1 (fun h1 eh1 => ?_)
  replace H := H.2 h1 eh1
  refine r_aload_n dX10_valueB_96 rfl rfl ?_
  exact r_aret dX10_valueB_97 rfl (Or.inl ⟨_, rfl⟩) (Nat.le_refl _) (Nat.le_refl _) H
theorem s_X10_valueB_100 {g : GX} {d : Nat} {av : List Value} {Q : QT} {n : Nat} {h : Hp} {a2 : Nat} {y3 : Int64} (hp : g.2.2.2.2 = true) (t2 : lay a2 = (0, 11, 15)) (H : (((ri h 2759 12) ≤ (ri h 2759 13)) → (W_X10_valueB g d av Q n 170 [some (.ref 2759), none, some (.ref a2), some (.long y3), none] [] h)) ∧ ((¬ (ri h 2759 12) ≤ (ri h 2759 13)) → (vp_in (ri h 2759 13) 400 ∧ ((((ri h 2839 ((ri h 2759 13)).toNatClampNeg) < (48 : Int32)) → (W_X10_valueB g d av Q n 170 [some (.ref 2759), none, some (.ref a2), some (.long y3), none] [] h)) ∧ ((¬ (ri h 2839 ((ri h 2759 13)).toNatClampNeg) < (48 : Int32)) → (vp_in (ri h 2759 13) 400 ∧ ((((57 : Int32) < (ri h 2839 ((ri h 2759 13)).toNatClampNeg)) → (W_X10_valueB g d av Q n 170 [some (.ref 2759), none, some (.ref a2), some (.long y3), none] [] h)) ∧ ((¬ (57 : Int32) < (ri h 2839 ((ri h 2759 13)).toNatClampNeg)) → (∀ h1, h1 = wi h 2759 13 ((ri h 2759 13) + (1 : Int32)) → (vp_in (ri h 2759 13) 400 ∧ (W_X10_valueB g d av Q n 100 [some (.ref 2759), none, some (.ref a2), some (.long ((((10 : Int64) * y3) + ((ri h1 2839 ((ri h 2759 13)).toNatClampNeg)).toInt64) - (48 : Int64))), none] [] h1))))))))))) : W_X10_valueB g d av Q n 100 [some (.ref 2759), none, some (.ref a2), some (.long y3), none] [] h := by
  refine r_aload_n dX10_valueB_100 rfl rfl ?_
  refine m_getI hp fw_X10_334 dX10_valueB_101 rfl ly_10 ?_
  refine r_aload_n dX10_valueB_104 rfl rfl ?_
  refine m_getI hp fw_X10_336 dX10_valueB_105 rfl ly_10 ?_
  refine r_icmp_ge (tgt := 170) dX10_valueB_108 rfl (fun cH => ?_) (fun cH => ?_)
  · replace H := H.1 cH
    exact H
  · replace H := H.2 cH
    refine r_aload_n dX10_valueB_111 rfl rfl ?_
    refine m_getF (x := 2839) hp fw_X10_339 dX10_valueB_112 rfl ly_10 (ff_10_11 ly_10) ?_
    refine r_aload_n dX10_valueB_115 rfl rfl ?_
    refine m_getI hp fw_X10_334 dX10_valueB_116 rfl ly_10 ?_
    refine m_bald hp dX10_valueB_119 (lf_10_11 ly_10) H.1 ?_
    replace H := H.2
    refine r_bipush (v := (48 : Int32)) dX10_valueB_120 rfl ?_
    refine r_icmp_lt (tgt := 170) dX10_valueB_122 rfl (fun cH => ?_) (fun cH => ?_)
    · replace H := H.1 cH
      exact H
    · replace H := H.2 cH
      refine r_aload_n dX10_valueB_125 rfl rfl ?_
      refine m_getF (x := 2839) hp fw_X10_339 dX10_valueB_126 rfl ly_10 (ff_10_11 ly_10) ?_
      refine r_aload_n dX10_valueB_129 rfl rfl ?_
      refine m_getI hp fw_X10_334 dX10_valueB_130 rfl ly_10 ?_
      refine m_bald hp dX10_valueB_133 (lf_10_11 ly_10) H.1 ?_
      replace H := H.2
      refine r_bipush (v := (57 : Int32)) dX10_valueB_134 rfl ?_
      refine r_icmp_gt (tgt := 170) dX10_valueB_136 rfl (fun cH => ?_) (fun cH => ?_)
      · replace H := H.1 cH
        exact H
      · replace H := H.2 cH
        refine r_ldc2 (own := "") (v := (10 : Int64)) dX10_valueB_139 q2254 ?_
        refine r_lload_n dX10_valueB_142 rfl rfl ?_
        refine r_lmul dX10_valueB_143 ?_
        refine r_aload_n dX10_valueB_144 rfl rfl ?_
        refine m_getF (x := 2839) hp fw_X10_339 dX10_valueB_145 rfl ly_10 (ff_10_11 ly_10) ?_
        refine r_aload_n dX10_valueB_148 rfl rfl ?_
        refine r_dup dX10_valueB_149 rfl ?_
        refine m_getI hp fw_X10_334 dX10_valueB_150 rfl ly_10 ?_
        refine r_dup_x1 dX10_valueB_153 rfl rfl ?_
        refine r_iconst (v := (1 : Int32)) dX10_valueB_154 rfl ?_
        refine r_iadd dX10_valueB_155 ?_
        refine m_putI hp fw_X10_334 dX10_valueB_156 rfl rfl ly_10 (fun h1 eh1 => ?_)
        replace H := H h1 eh1
        refine m_bald hp dX10_valueB_159 (lf_10_11 ly_10) H.1 ?_
        replace H := H.2
        refine r_i2l dX10_valueB_160 ?_
        refine r_ladd dX10_valueB_161 ?_
        refine r_ldc2 (own := "") (v := (48 : Int64)) dX10_valueB_162 q2255 ?_
        refine r_lsub dX10_valueB_165 ?_
        refine r_lstore_n (ls2 := [some (.ref 2759), none, some (.ref a2), some (.long ((((10 : Int64) * y3) + ((ri h1 2839 ((ri h 2759 13)).toNatClampNeg)).toInt64) - (48 : Int64))), none]) dX10_valueB_166 rfl (by decide) rfl ?_
        refine r_goto (tgt := 100) dX10_valueB_167 rfl ?_
        exact H
theorem s_X10_valueB_170 {g : GX} {d : Nat} {av : List Value} {Q : QT} {n : Nat} {h : Hp} {a2 : Nat} {y3 : Int64} (hp : g.2.2.2.2 = true) (t2 : lay a2 = (0, 11, 15)) (H : CallV g m_X10_number d [.ref 2759, .ref a2, .int ((y3 - y3 / (2147483647 : Int64) * (2147483647 : Int64))).toInt32] n h (fun h1 => (Q (some (.ref a2)) n h1))) : W_X10_valueB g d av Q n 170 [some (.ref 2759), none, some (.ref a2), some (.long y3), none] [] h := by
  refine r_aload_n dX10_valueB_170 rfl rfl ?_
  refine r_aload_n dX10_valueB_171 rfl rfl ?_
  refine r_lload_n dX10_valueB_172 rfl rfl ?_
  refine r_ldc2 (own := "") (v := (2147483647 : Int64)) dX10_valueB_173 q2239 ?_
  refine r_lrem dX10_valueB_176 (by decide) ?_
  refine r_l2i dX10_valueB_177 ?_
  refine k_VV (As := [.ref a2, .int ((y3 - y3 / (2147483647 : Int64) * (2147483647 : Int64))).toInt32]) (stk := []) hp cv_X10_292 dX10_valueB_178 rfl (Nat.le_of_ble_eq_true rfl) ly_10 (H.mono (fun h1 H => ?_)) ⟨Nat.le_refl _, Nat.le_refl _⟩
  refine r_aload_n dX10_valueB_181 rfl rfl ?_
  exact r_aret dX10_valueB_182 rfl (Or.inl ⟨_, rfl⟩) (Nat.le_refl _) (Nat.le_refl _) H
abbrev W_X10_isLine (g : GX) (d : Nat) (av : List Value) (Q : QT) (n : Nat) (pc : Nat) (ls : LV) (stk : List Value) (h : Hp) : Prop := RJ g m_X10_isLine (d + 1) 0 0 av Q pc ls stk n h 0 0
theorem s_X10_isLine_0 {g : GX} {d : Nat} {av : List Value} {Q : QT} {n : Nat} {h : Hp} {a1 : Nat} (hp : g.2.2.2.2 = true) (t1 : lay a1 = (0, 11, 15)) (H : ((¬ (ri h a1 0) = (1 : Int32)) → (Q (some (.int (0 : Int32))) n h)) ∧ (((ri h a1 0) = (1 : Int32)) → (CallI g m_X10_isOne d [.ref (a1 + 2)] n h (fun v1 h1 => (((¬ v1 = (0 : Int32)) → (W_X10_isLine g d av Q n 24 [some (.ref 2759), some (.ref a1), some (.int (1 : Int32)), some (.int (0 : Int32))] [] h1)) ∧ ((v1 = (0 : Int32)) → (Q (some (.int (0 : Int32))) n h1))))))) : W_X10_isLine g d av Q n 0 [some (.ref 2759), some (.ref a1), none, none] [] h := by
  refine r_aload_n dX10_isLine_0 rfl rfl ?_
  refine m_getI hp fw_X10_202 dX10_isLine_1 rfl t1 ?_
  refine r_iconst (v := (1 : Int32)) dX10_isLine_4 rfl ?_
  refine r_icmp_ne (tgt := 18) dX10_isLine_5 rfl (fun cH => ?_) (fun cH => ?_)
  · replace H := H.1 cH
    refine r_iconst (v := (0 : Int32)) dX10_isLine_18 rfl ?_
    exact r_zret dX10_isLine_19 rfl rfl (Nat.le_refl _) (Nat.le_refl _) H
  · replace H := H.2 cH
    refine r_aload_n dX10_isLine_8 rfl rfl ?_
    refine m_getF (x := (a1 + 2)) hp fw_X10_210 dX10_isLine_9 rfl t1 (ff_11_2 t1) ?_
    refine k_SI (As := [.ref (a1 + 2)]) (stk := []) cs_X10_265 dX10_isLine_12 rfl (Nat.le_of_ble_eq_true rfl) (H.mono (fun v1 h1 H => ?_)) ⟨Nat.le_refl _, Nat.le_refl _⟩
    refine r_if_ne (tgt := 20) dX10_isLine_15 rfl (fun cH => ?_) (fun cH => ?_)
    · replace H := H.1 cH
      refine r_iconst (v := (1 : Int32)) dX10_isLine_20 rfl ?_
      refine r_istore_n (ls2 := [some (.ref 2759), some (.ref a1), some (.int (1 : Int32)), none]) dX10_isLine_21 rfl (by decide) rfl ?_
      refine r_iconst (v := (0 : Int32)) dX10_isLine_22 rfl ?_
      refine r_istore_n (ls2 := [some (.ref 2759), some (.ref a1), some (.int (1 : Int32)), some (.int (0 : Int32))]) dX10_isLine_23 rfl (by decide) rfl ?_
      exact H
    · replace H := H.2 cH
      refine r_iconst (v := (0 : Int32)) dX10_isLine_18 rfl ?_
      exact r_zret dX10_isLine_19 rfl rfl (Nat.le_refl _) (Nat.le_refl _) H
theorem s_X10_isLine_24 {g : GX} {d : Nat} {av : List Value} {Q : QT} {n : Nat} {h : Hp} {a1 : Nat} {x2 : Int32} {x3 : Int32} (hp : g.2.2.2.2 = true) (t1 : lay a1 = (0, 11, 15)) (H : (((325 : Int32) ≤ x3) → (vp_in (1 : Int32) 325 ∧ (CallI g m_X10_small d [.int (ri h (a1 + 1) ((1 : Int32)).toNatClampNeg)] n h (fun v1 h1 => (∀ h2, h2 = wi h1 2759 17 v1 → (vp_in (25 : Int32) 325 ∧ (CallI g m_X10_small d [.int (ri h2 (a1 + 1) ((25 : Int32)).toNatClampNeg)] n h2 (fun v3 h3 => (∀ h4, h4 = wi h3 2759 18 v3 → (vp_in (0 : Int32) 325 ∧ (CallI g m_X10_small d [.int (ri h4 (a1 + 1) ((0 : Int32)).toNatClampNeg)] n h4 (fun v5 h5 => (∀ h6, h6 = wi h5 2759 19 v5 → (((x2 = (0 : Int32)) → (Q (some (.int (0 : Int32))) n h6)) ∧ ((¬ x2 = (0 : Int32)) → (CallI g m_X10_isLine_2 d [.int (ri h6 2759 17), .int (ri h6 2759 18), .int (ri h6 2759 19)] n h6 (fun v7 h7 => (((v7 = (0 : Int32)) → (Q (some (.int (0 : Int32))) n h7)) ∧ ((¬ v7 = (0 : Int32)) → (Q (some (.int (1 : Int32))) n h7)))))))))))))))))))) ∧ ((¬ (325 : Int32) ≤ x3) → (vp_in x3 325 ∧ ((((ri h (a1 + 1) (x3).toNatClampNeg) = (0 : Int32)) → (W_X10_isLine g d av Q n 56 [some (.ref 2759), some (.ref a1), none, some (.int x3)] [.int x2] h)) ∧ ((¬ (ri h (a1 + 1) (x3).toNatClampNeg) = (0 : Int32)) → (((x3 = (0 : Int32)) → (W_X10_isLine g d av Q n 56 [some (.ref 2759), some (.ref a1), none, some (.int x3)] [.int x2] h)) ∧ ((¬ x3 = (0 : Int32)) → (((x3 = (1 : Int32)) → (W_X10_isLine g d av Q n 56 [some (.ref 2759), some (.ref a1), none, some (.int x3)] [.int x2] h)) ∧ ((¬ x3 = (1 : Int32)) → (((¬ x3 = (25 : Int32)) → (W_X10_isLine g d av Q n 61 [some (.ref 2759), some (.ref a1), none, some (.int x3)] [.int (0 : Int32), .int x2] h)) ∧ ((x3 = (25 : Int32)) → (W_X10_isLine g d av Q n 56 [some (.ref 2759), some (.ref a1), none, some (.int x3)] [.int x2] h)))))))))))) : W_X10_isLine g d av Q n 24 [some (.ref 2759), some (.ref a1), some (.int x2), some (.int x3)] [] h := by
  refine r_iload_n dX10_isLine_24 rfl rfl ?_
  refine r_sipush (v := (325 : Int32)) dX10_isLine_25 rfl ?_
  refine r_icmp_ge (tgt := 69) dX10_isLine_28 rfl (fun cH => ?_) (fun cH => ?_)
  · replace H := H.1 cH
    refine r_aload_n dX10_isLine_69 rfl rfl ?_
    refine r_aload_n dX10_isLine_70 rfl rfl ?_
    refine m_getF (x := (a1 + 1)) hp fw_X10_207 dX10_isLine_71 rfl t1 (ff_11_1 t1) ?_
    refine r_iconst (v := (1 : Int32)) dX10_isLine_74 rfl ?_
    refine m_iald hp dX10_isLine_75 (lf_11_1 t1) H.1 ?_
    replace H := H.2
    refine k_SI (As := [.int (ri h (a1 + 1) ((1 : Int32)).toNatClampNeg)]) (stk := [.ref 2759]) cs_X10_390 dX10_isLine_76 rfl (Nat.le_of_ble_eq_true rfl) (H.mono (fun v1 h1 H => ?_)) ⟨Nat.le_refl _, Nat.le_refl _⟩
    refine m_putI hp fw_X10_393 dX10_isLine_79 rfl rfl ly_10 (fun h2 eh2 => ?_)
    replace H := H h2 eh2
    refine r_aload_n dX10_isLine_82 rfl rfl ?_
    refine r_aload_n dX10_isLine_83 rfl rfl ?_
    refine m_getF (x := (a1 + 1)) hp fw_X10_207 dX10_isLine_84 rfl t1 (ff_11_1 t1) ?_
    refine r_bipush (v := (25 : Int32)) dX10_isLine_87 rfl ?_
    refine m_iald hp dX10_isLine_89 (lf_11_1 t1) H.1 ?_
    replace H := H.2
    refine k_SI (As := [.int (ri h2 (a1 + 1) ((25 : Int32)).toNatClampNeg)]) (stk := [.ref 2759]) cs_X10_390 dX10_isLine_90 rfl (Nat.le_of_ble_eq_true rfl) (H.mono (fun v3 h3 H => ?_)) ⟨Nat.le_refl _, Nat.le_refl _⟩
    refine m_putI hp fw_X10_396 dX10_isLine_93 rfl rfl ly_10 (fun h4 eh4 => ?_)
    replace H := H h4 eh4
    refine r_aload_n dX10_isLine_96 rfl rfl ?_
    refine r_aload_n dX10_isLine_97 rfl rfl ?_
    refine m_getF (x := (a1 + 1)) hp fw_X10_207 dX10_isLine_98 rfl t1 (ff_11_1 t1) ?_
    refine r_iconst (v := (0 : Int32)) dX10_isLine_101 rfl ?_
    refine m_iald hp dX10_isLine_102 (lf_11_1 t1) H.1 ?_
    replace H := H.2
    refine k_SI (As := [.int (ri h4 (a1 + 1) ((0 : Int32)).toNatClampNeg)]) (stk := [.ref 2759]) cs_X10_390 dX10_isLine_103 rfl (Nat.le_of_ble_eq_true rfl) (H.mono (fun v5 h5 H => ?_)) ⟨Nat.le_refl _, Nat.le_refl _⟩
    refine m_putI hp fw_X10_399 dX10_isLine_106 rfl rfl ly_10 (fun h6 eh6 => ?_)
    replace H := H h6 eh6
    refine r_iload_n dX10_isLine_109 rfl rfl ?_
    refine r_if_eq (tgt := 135) dX10_isLine_110 rfl (fun cH => ?_) (fun cH => ?_)
    · replace H := H.1 cH
      refine r_iconst (v := (0 : Int32)) dX10_isLine_135 rfl ?_
      exact r_zret dX10_isLine_136 rfl rfl (Nat.le_refl _) (Nat.le_refl _) H
    · replace H := H.2 cH
      refine r_aload_n dX10_isLine_113 rfl rfl ?_
      refine m_getI hp fw_X10_393 dX10_isLine_114 rfl ly_10 ?_
      refine r_aload_n dX10_isLine_117 rfl rfl ?_
      refine m_getI hp fw_X10_396 dX10_isLine_118 rfl ly_10 ?_
      refine r_aload_n dX10_isLine_121 rfl rfl ?_
      refine m_getI hp fw_X10_399 dX10_isLine_122 rfl ly_10 ?_
      refine k_SI (As := [.int (ri h6 2759 17), .int (ri h6 2759 18), .int (ri h6 2759 19)]) (stk := []) cs_X10_402 dX10_isLine_125 rfl (Nat.le_of_ble_eq_true rfl) (H.mono (fun v7 h7 H => ?_)) ⟨Nat.le_refl _, Nat.le_refl _⟩
      refine r_if_eq (tgt := 135) dX10_isLine_128 rfl (fun cH => ?_) (fun cH => ?_)
      · replace H := H.1 cH
        refine r_iconst (v := (0 : Int32)) dX10_isLine_135 rfl ?_
        exact r_zret dX10_isLine_136 rfl rfl (Nat.le_refl _) (Nat.le_refl _) H
      · replace H := H.2 cH
        refine r_iconst (v := (1 : Int32)) dX10_isLine_131 rfl ?_
        refine r_goto (tgt := 136) dX10_isLine_132 rfl ?_
        exact r_zret dX10_isLine_136 rfl rfl (Nat.le_refl _) (Nat.le_refl _) H
  · replace H := H.2 cH
    refine r_iload_n dX10_isLine_31 rfl rfl ?_
    refine r_aload_n dX10_isLine_32 rfl rfl ?_
    refine m_getF (x := (a1 + 1)) hp fw_X10_207 dX10_isLine_33 rfl t1 (ff_11_1 t1) ?_
    refine r_iload_n dX10_isLine_36 rfl rfl ?_
    refine m_iald hp dX10_isLine_37 (lf_11_1 t1) H.1 ?_
    replace H := H.2
    refine r_if_eq (tgt := 56) dX10_isLine_38 rfl (fun cH => ?_) (fun cH => ?_)
    · replace H := H.1 cH
      refine r_prune [true, true, false, true] (ls2 := [some (.ref 2759), some (.ref a1), none, some (.int x3)]) rfl ?_
      exact H
    · replace H := H.2 cH
      refine r_iload_n dX10_isLine_41 rfl rfl ?_
      refine r_if_eq (tgt := 56) dX10_isLine_42 rfl (fun cH => ?_) (fun cH => ?_)
      · replace H := H.1 cH
        refine r_prune [true, true, false, true] (ls2 := [some (.ref 2759), some (.ref a1), none, some (.int x3)]) rfl ?_
        exact H
      · replace H := H.2 cH
        refine r_iload_n dX10_isLine_45 rfl rfl ?_
        refine r_iconst (v := (1 : Int32)) dX10_isLine_46 rfl ?_
        refine r_icmp_eq (tgt := 56) dX10_isLine_47 rfl (fun cH => ?_) (fun cH => ?_)
        · replace H := H.1 cH
          refine r_prune [true, true, false, true] (ls2 := [some (.ref 2759), some (.ref a1), none, some (.int x3)]) rfl ?_
          exact H
        · replace H := H.2 cH
          refine r_iload_n dX10_isLine_50 rfl rfl ?_
          refine r_bipush (v := (25 : Int32)) dX10_isLine_51 rfl ?_
          refine r_icmp_ne (tgt := 60) dX10_isLine_53 rfl (fun cH => ?_) (fun cH => ?_)
          · replace H := H.1 cH
            refine r_iconst (v := (0 : Int32)) dX10_isLine_60 rfl ?_
            refine r_prune [true, true, false, true] (ls2 := [some (.ref 2759), some (.ref a1), none, some (.int x3)]) rfl ?_
            exact H
          · replace H := H.2 cH
            refine r_prune [true, true, false, true] (ls2 := [some (.ref 2759), some (.ref a1), none, some (.int x3)]) rfl ?_
            exact H
theorem s_X10_isLine_56 {g : GX} {d : Nat} {av : List Value} {Q : QT} {n : Nat} {h : Hp} {a1 : Nat} {x3 : Int32} {xs0 : Int32} (hp : g.2.2.2.2 = true) (t1 : lay a1 = (0, 11, 15)) (H : W_X10_isLine g d av Q n 61 [some (.ref 2759), some (.ref a1), none, some (.int x3)] [.int (1 : Int32), .int xs0] h) : W_X10_isLine g d av Q n 56 [some (.ref 2759), some (.ref a1), none, some (.int x3)] [.int xs0] h := by
  refine r_iconst (v := (1 : Int32)) dX10_isLine_56 rfl ?_
  refine r_goto (tgt := 61) dX10_isLine_57 rfl ?_
  exact H
theorem s_X10_isLine_61 {g : GX} {d : Nat} {av : List Value} {Q : QT} {n : Nat} {h : Hp} {a1 : Nat} {x3 : Int32} {xs0 : Int32} {xs1 : Int32} (hp : g.2.2.2.2 = true) (t1 : lay a1 = (0, 11, 15)) (H : W_X10_isLine g d av Q n 24 [some (.ref 2759), some (.ref a1), some (.int (xs1 &&& xs0)), some (.int (x3 + (1 : Int32)))] [] h) : W_X10_isLine g d av Q n 61 [some (.ref 2759), some (.ref a1), none, some (.int x3)] [.int xs0, .int xs1] h := by
  refine r_iand dX10_isLine_61 ?_
  refine r_istore_n (ls2 := [some (.ref 2759), some (.ref a1), some (.int (xs1 &&& xs0)), some (.int x3)]) dX10_isLine_62 rfl (by decide) rfl ?_
  refine r_iinc (v := (x3 + (1 : Int32))) (ls2 := [some (.ref 2759), some (.ref a1), some (.int (xs1 &&& xs0)), some (.int (x3 + (1 : Int32)))]) dX10_isLine_63 rfl rfl (by decide) rfl ?_
  refine r_goto (tgt := 24) dX10_isLine_66 rfl ?_
  exact H
abbrev W_X10_isOne (g : GX) (d : Nat) (av : List Value) (Q : QT) (n : Nat) (pc : Nat) (ls : LV) (stk : List Value) (h : Hp) : Prop := RJ g m_X10_isOne d 0 0 av Q pc ls stk n h 0 0
theorem s_X10_isOne_0 {g : GX} {d : Nat} {av : List Value} {Q : QT} {n : Nat} {h : Hp} {a0 : Nat} {L0 : Nat} (hp : g.2.2.2.2 = true) (t0 : lay a0 = (1, L0, 0)) (H : vp_in (0 : Int32) L0 ∧ (((¬ (ri h a0 ((0 : Int32)).toNatClampNeg) = (1 : Int32)) → (W_X10_isOne g d av Q n 12 [some (.ref a0), none, none] [.int (0 : Int32)] h)) ∧ (((ri h a0 ((0 : Int32)).toNatClampNeg) = (1 : Int32)) → (W_X10_isOne g d av Q n 12 [some (.ref a0), none, none] [.int (1 : Int32)] h)))) : W_X10_isOne g d av Q n 0 [some (.ref a0), none, none] [] h := by
  refine r_aload_n dX10_isOne_0 rfl rfl ?_
  refine r_iconst (v := (0 : Int32)) dX10_isOne_1 rfl ?_
  refine m_iald hp dX10_isOne_2 t0 H.1 ?_
  replace H := H.2
  refine r_iconst (v := (1 : Int32)) dX10_isOne_3 rfl ?_
  refine r_icmp_ne (tgt := 11) dX10_isOne_4 rfl (fun cH => ?_) (fun cH => ?_)
  · replace H := H.1 cH
    refine r_iconst (v := (0 : Int32)) dX10_isOne_11 rfl ?_
    exact H
  · replace H := H.2 cH
    refine r_iconst (v := (1 : Int32)) dX10_isOne_7 rfl ?_
    refine r_goto (tgt := 12) dX10_isOne_8 rfl ?_
    exact H
theorem s_X10_isOne_12 {g : GX} {d : Nat} {av : List Value} {Q : QT} {n : Nat} {h : Hp} {a0 : Nat} {L0 : Nat} {xs0 : Int32} (hp : g.2.2.2.2 = true) (t0 : lay a0 = (1, L0, 0)) (H : W_X10_isOne g d av Q n 15 [some (.ref a0), some (.int xs0), some (.int (1 : Int32))] [] h) : W_X10_isOne g d av Q n 12 [some (.ref a0), none, none] [.int xs0] h := by
  refine r_istore_n (ls2 := [some (.ref a0), some (.int xs0), none]) dX10_isOne_12 rfl (by decide) rfl ?_
  refine r_iconst (v := (1 : Int32)) dX10_isOne_13 rfl ?_
  refine r_istore_n (ls2 := [some (.ref a0), some (.int xs0), some (.int (1 : Int32))]) dX10_isOne_14 rfl (by decide) rfl ?_
  exact H
theorem s_X10_isOne_15 {g : GX} {d : Nat} {av : List Value} {Q : QT} {n : Nat} {h : Hp} {a0 : Nat} {L0 : Nat} {x1 : Int32} {x2 : Int32} (hp : g.2.2.2.2 = true) (t0 : lay a0 = (1, L0, 0)) (H : (((325 : Int32) ≤ x2) → ((x1 = 0 ∨ x1 = 1) ∧ Q (some (.int x1)) n h)) ∧ ((¬ (325 : Int32) ≤ x2) → (((x1 = (0 : Int32)) → ((x1 = 0 ∨ x1 = 1) ∧ Q (some (.int x1)) n h)) ∧ ((¬ x1 = (0 : Int32)) → (vp_in x2 L0 ∧ (((¬ (ri h a0 (x2).toNatClampNeg) = (0 : Int32)) → (W_X10_isOne g d av Q n 37 [some (.ref a0), none, some (.int x2)] [.int (0 : Int32)] h)) ∧ (((ri h a0 (x2).toNatClampNeg) = (0 : Int32)) → (W_X10_isOne g d av Q n 37 [some (.ref a0), none, some (.int x2)] [.int (1 : Int32)] h)))))))) : W_X10_isOne g d av Q n 15 [some (.ref a0), some (.int x1), some (.int x2)] [] h := by
  refine r_iload_n dX10_isOne_15 rfl rfl ?_
  refine r_sipush (v := (325 : Int32)) dX10_isOne_16 rfl ?_
  refine r_icmp_ge (tgt := 44) dX10_isOne_19 rfl (fun cH => ?_) (fun cH => ?_)
  · replace H := H.1 cH
    refine r_iload_n dX10_isOne_44 rfl rfl ?_
    exact r_zret dX10_isOne_45 rfl (nar01 H.1) (Nat.le_refl _) (Nat.le_refl _) H.2
  · replace H := H.2 cH
    refine r_iload_n dX10_isOne_22 rfl rfl ?_
    refine r_if_eq (tgt := 44) dX10_isOne_23 rfl (fun cH => ?_) (fun cH => ?_)
    · replace H := H.1 cH
      refine r_iload_n dX10_isOne_44 rfl rfl ?_
      exact r_zret dX10_isOne_45 rfl (nar01 H.1) (Nat.le_refl _) (Nat.le_refl _) H.2
    · replace H := H.2 cH
      refine r_aload_n dX10_isOne_26 rfl rfl ?_
      refine r_iload_n dX10_isOne_27 rfl rfl ?_
      refine m_iald hp dX10_isOne_28 t0 H.1 ?_
      replace H := H.2
      refine r_if_ne (tgt := 36) dX10_isOne_29 rfl (fun cH => ?_) (fun cH => ?_)
      · replace H := H.1 cH
        refine r_iconst (v := (0 : Int32)) dX10_isOne_36 rfl ?_
        refine r_prune [true, false, true] (ls2 := [some (.ref a0), none, some (.int x2)]) rfl ?_
        exact H
      · replace H := H.2 cH
        refine r_iconst (v := (1 : Int32)) dX10_isOne_32 rfl ?_
        refine r_goto (tgt := 37) dX10_isOne_33 rfl ?_
        refine r_prune [true, false, true] (ls2 := [some (.ref a0), none, some (.int x2)]) rfl ?_
        exact H
theorem s_X10_isOne_37 {g : GX} {d : Nat} {av : List Value} {Q : QT} {n : Nat} {h : Hp} {a0 : Nat} {L0 : Nat} {x2 : Int32} {xs0 : Int32} (hp : g.2.2.2.2 = true) (t0 : lay a0 = (1, L0, 0)) (H : W_X10_isOne g d av Q n 15 [some (.ref a0), some (.int xs0), some (.int (x2 + (1 : Int32)))] [] h) : W_X10_isOne g d av Q n 37 [some (.ref a0), none, some (.int x2)] [.int xs0] h := by
  refine r_istore_n (ls2 := [some (.ref a0), some (.int xs0), some (.int x2)]) dX10_isOne_37 rfl (by decide) rfl ?_
  refine r_iinc (v := (x2 + (1 : Int32))) (ls2 := [some (.ref a0), some (.int xs0), some (.int (x2 + (1 : Int32)))]) dX10_isOne_38 rfl rfl (by decide) rfl ?_
  refine r_goto (tgt := 15) dX10_isOne_41 rfl ?_
  exact H
abbrev W_X10_small (g : GX) (d : Nat) (av : List Value) (Q : QT) (n : Nat) (pc : Nat) (ls : LV) (stk : List Value) (h : Hp) : Prop := RJ g m_X10_small d 0 0 av Q pc ls stk n h 0 0
theorem s_X10_small_0 {g : GX} {d : Nat} {av : List Value} {Q : QT} {n : Nat} {h : Hp} {x0 : Int32} (hp : g.2.2.2.2 = true)  (H : ((x0 ≤ (1073741823 : Int32)) → (Q (some (.int x0)) n h)) ∧ ((¬ x0 ≤ (1073741823 : Int32)) → (Q (some (.int (x0 - (2147483647 : Int32)))) n h))) : W_X10_small g d av Q n 0 [some (.int x0)] [] h := by
  refine r_iload_n dX10_small_0 rfl rfl ?_
  refine r_ldc (own := "") (v := (1073741823 : Int32)) dX10_small_1 q2189 ?_
  refine r_icmp_le (tgt := 13) dX10_small_3 rfl (fun cH => ?_) (fun cH => ?_)
  · replace H := H.1 cH
    refine r_iload_n dX10_small_13 rfl rfl ?_
    exact r_zret dX10_small_14 rfl rfl (Nat.le_refl _) (Nat.le_refl _) H
  · replace H := H.2 cH
    refine r_iload_n dX10_small_6 rfl rfl ?_
    refine r_ldc (own := "") (v := (2147483647 : Int32)) dX10_small_7 q2190 ?_
    refine r_isub dX10_small_9 ?_
    refine r_goto (tgt := 14) dX10_small_10 rfl ?_
    exact r_zret dX10_small_14 rfl rfl (Nat.le_refl _) (Nat.le_refl _) H
abbrev W_X10_isLine_2 (g : GX) (d : Nat) (av : List Value) (Q : QT) (n : Nat) (pc : Nat) (ls : LV) (stk : List Value) (h : Hp) : Prop := RJ g m_X10_isLine_2 d 0 0 av Q pc ls stk n h 0 0
theorem s_X10_isLine_2_0 {g : GX} {d : Nat} {av : List Value} {Q : QT} {n : Nat} {h : Hp} {x0 : Int32} {x1 : Int32} {x2 : Int32} (hp : g.2.2.2.2 = true)  (H : ((x0 < (-3 : Int32)) → (Q (some (.int (0 : Int32))) n h)) ∧ ((¬ x0 < (-3 : Int32)) → ((((3 : Int32) < x0) → (Q (some (.int (0 : Int32))) n h)) ∧ ((¬ (3 : Int32) < x0) → (((x1 < (-3 : Int32)) → (Q (some (.int (0 : Int32))) n h)) ∧ ((¬ x1 < (-3 : Int32)) → ((((3 : Int32) < x1) → (Q (some (.int (0 : Int32))) n h)) ∧ ((¬ (3 : Int32) < x1) → (((x2 < (-50 : Int32)) → (Q (some (.int (0 : Int32))) n h)) ∧ ((¬ x2 < (-50 : Int32)) → ((((50 : Int32) < x2) → (Q (some (.int (0 : Int32))) n h)) ∧ ((¬ (50 : Int32) < x2) → (Q (some (.int (1 : Int32))) n h))))))))))))) : W_X10_isLine_2 g d av Q n 0 [some (.int x0), some (.int x1), some (.int x2)] [] h := by
  refine r_iload_n dX10_isLine_2_0 rfl rfl ?_
  refine r_bipush (v := (-3 : Int32)) dX10_isLine_2_1 rfl ?_
  refine r_icmp_lt (tgt := 38) dX10_isLine_2_3 rfl (fun cH => ?_) (fun cH => ?_)
  · replace H := H.1 cH
    refine r_iconst (v := (0 : Int32)) dX10_isLine_2_38 rfl ?_
    exact r_zret dX10_isLine_2_39 rfl rfl (Nat.le_refl _) (Nat.le_refl _) H
  · replace H := H.2 cH
    refine r_iload_n dX10_isLine_2_6 rfl rfl ?_
    refine r_iconst (v := (3 : Int32)) dX10_isLine_2_7 rfl ?_
    refine r_icmp_gt (tgt := 38) dX10_isLine_2_8 rfl (fun cH => ?_) (fun cH => ?_)
    · replace H := H.1 cH
      refine r_iconst (v := (0 : Int32)) dX10_isLine_2_38 rfl ?_
      exact r_zret dX10_isLine_2_39 rfl rfl (Nat.le_refl _) (Nat.le_refl _) H
    · replace H := H.2 cH
      refine r_iload_n dX10_isLine_2_11 rfl rfl ?_
      refine r_bipush (v := (-3 : Int32)) dX10_isLine_2_12 rfl ?_
      refine r_icmp_lt (tgt := 38) dX10_isLine_2_14 rfl (fun cH => ?_) (fun cH => ?_)
      · replace H := H.1 cH
        refine r_iconst (v := (0 : Int32)) dX10_isLine_2_38 rfl ?_
        exact r_zret dX10_isLine_2_39 rfl rfl (Nat.le_refl _) (Nat.le_refl _) H
      · replace H := H.2 cH
        refine r_iload_n dX10_isLine_2_17 rfl rfl ?_
        refine r_iconst (v := (3 : Int32)) dX10_isLine_2_18 rfl ?_
        refine r_icmp_gt (tgt := 38) dX10_isLine_2_19 rfl (fun cH => ?_) (fun cH => ?_)
        · replace H := H.1 cH
          refine r_iconst (v := (0 : Int32)) dX10_isLine_2_38 rfl ?_
          exact r_zret dX10_isLine_2_39 rfl rfl (Nat.le_refl _) (Nat.le_refl _) H
        · replace H := H.2 cH
          refine r_iload_n dX10_isLine_2_22 rfl rfl ?_
          refine r_bipush (v := (-50 : Int32)) dX10_isLine_2_23 rfl ?_
          refine r_icmp_lt (tgt := 38) dX10_isLine_2_25 rfl (fun cH => ?_) (fun cH => ?_)
          · replace H := H.1 cH
            refine r_iconst (v := (0 : Int32)) dX10_isLine_2_38 rfl ?_
            exact r_zret dX10_isLine_2_39 rfl rfl (Nat.le_refl _) (Nat.le_refl _) H
          · replace H := H.2 cH
            refine r_iload_n dX10_isLine_2_28 rfl rfl ?_
            refine r_bipush (v := (50 : Int32)) dX10_isLine_2_29 rfl ?_
            refine r_icmp_gt (tgt := 38) dX10_isLine_2_31 rfl (fun cH => ?_) (fun cH => ?_)
            · replace H := H.1 cH
              refine r_iconst (v := (0 : Int32)) dX10_isLine_2_38 rfl ?_
              exact r_zret dX10_isLine_2_39 rfl rfl (Nat.le_refl _) (Nat.le_refl _) H
            · replace H := H.2 cH
              refine r_iconst (v := (1 : Int32)) dX10_isLine_2_34 rfl ?_
              refine r_goto (tgt := 39) dX10_isLine_2_35 rfl ?_
              exact r_zret dX10_isLine_2_39 rfl rfl (Nat.le_refl _) (Nat.le_refl _) H
abbrev W_X10_number (g : GX) (d : Nat) (av : List Value) (Q : QT) (n : Nat) (pc : Nat) (ls : LV) (stk : List Value) (h : Hp) : Prop := RJ g m_X10_number (d + 1) 0 0 av Q pc ls stk n h 0 0
theorem s_X10_number_0 {g : GX} {d : Nat} {av : List Value} {Q : QT} {n : Nat} {h : Hp} {a1 : Nat} {x2 : Int32} (hp : g.2.2.2.2 = true) (t1 : lay a1 = (0, 11, 15)) (H : CallR g m_X10_newB d [.ref 2759] n h (fun v1 h1 => (lay v1 = (0, 14, 2) ∧ (CallR g m_X10_newB d [.ref 2759] n h1 (fun v2 h2 => (lay v2 = (0, 14, 2) ∧ (CallV g m_X10_plain d [.ref a1] n h2 (fun h3 => (CallV g m_X14_number d [.ref v1, .int x2] n h3 (fun h4 => (CallV g m_X14_number d [.ref v2, .int (1 : Int32)] n h4 (fun h5 => (CallI g m_X10_put d [.ref a1, .ref v1, .ref v2] n h5 (fun v6 h6 => (∀ h7, h7 = wi h6 2759 3 (ri h 2759 3) → (Q none n h7)))))))))))))))) : W_X10_number g d av Q n 0 [some (.ref 2759), some (.ref a1), some (.int x2), none, none, none, none] [] h := by
  refine r_aload_n dX10_number_0 rfl rfl ?_
  refine m_getI hp fw_X10_90 dX10_number_1 rfl ly_10 ?_
  refine r_istore_n (ls2 := [some (.ref 2759), some (.ref a1), some (.int x2), some (.int (ri h 2759 3)), none, none, none]) dX10_number_4 rfl (by decide) rfl ?_
  refine r_aload_n dX10_number_5 rfl rfl ?_
  refine k_VR (As := []) (stk := []) hp cv_X10_140 dX10_number_6 rfl (Nat.le_of_ble_eq_true rfl) ly_10 (H.mono (fun v1 h1 H => ?_)) ⟨Nat.le_refl _, Nat.le_refl _⟩
  obtain ⟨tv1, H⟩ := H
  refine r_astore (ls2 := [some (.ref 2759), some (.ref a1), some (.int x2), some (.int (ri h 2759 3)), some (.ref v1), none, none]) dX10_number_9 (by decide) rfl ?_
  refine r_aload_n dX10_number_11 rfl rfl ?_
  refine k_VR (As := []) (stk := []) hp cv_X10_140 dX10_number_12 rfl (Nat.le_of_ble_eq_true rfl) ly_10 (H.mono (fun v2 h2 H => ?_)) ⟨Nat.le_refl _, Nat.le_refl _⟩
  obtain ⟨tv2, H⟩ := H
  refine r_astore (ls2 := [some (.ref 2759), some (.ref a1), some (.int x2), some (.int (ri h 2759 3)), some (.ref v1), some (.ref v2), none]) dX10_number_15 (by decide) rfl ?_
  refine r_aload_n dX10_number_17 rfl rfl ?_
  refine k_SV (As := [.ref a1]) (stk := []) cs_X10_257 dX10_number_18 rfl (Nat.le_of_ble_eq_true rfl) (H.mono (fun h3 H => ?_)) ⟨Nat.le_refl _, Nat.le_refl _⟩
  refine r_aload dX10_number_21 rfl ?_
  refine r_iload_n dX10_number_23 rfl rfl ?_
  refine k_VV (As := [.int x2]) (stk := []) hp cv_X10_158 dX10_number_24 rfl (Nat.le_of_ble_eq_true rfl) tv1 (H.mono (fun h4 H => ?_)) ⟨Nat.le_refl _, Nat.le_refl _⟩
  refine r_aload dX10_number_27 rfl ?_
  refine r_iconst (v := (1 : Int32)) dX10_number_29 rfl ?_
  refine k_VV (As := [.int (1 : Int32)]) (stk := []) hp cv_X10_158 dX10_number_30 rfl (Nat.le_of_ble_eq_true rfl) tv2 (H.mono (fun h5 H => ?_)) ⟨Nat.le_refl _, Nat.le_refl _⟩
  refine r_aload_n dX10_number_33 rfl rfl ?_
  refine r_aload dX10_number_34 rfl ?_
  refine r_aload dX10_number_36 rfl ?_
  refine k_SI (As := [.ref a1, .ref v1, .ref v2]) (stk := []) cs_X10_261 dX10_number_38 rfl (Nat.le_of_ble_eq_true rfl) (H.mono (fun v6 h6 H => ?_)) ⟨Nat.le_refl _, Nat.le_refl _⟩
  refine r_istore (ls2 := [some (.ref 2759), some (.ref a1), some (.int x2), some (.int (ri h 2759 3)), some (.ref v1), some (.ref v2), some (.int v6)]) dX10_number_41 (by decide) rfl ?_
  refine r_aload_n dX10_number_43 rfl rfl ?_
  refine r_iload_n dX10_number_44 rfl rfl ?_
  refine m_putI hp fw_X10_90 dX10_number_45 rfl rfl ly_10 (fun h7 eh7 => ?_)
  replace H := H h7 eh7
  exact r_vret dX10_number_48 rfl (Nat.le_refl _) (Nat.le_refl _) H
abbrev W_X10_newB (g : GX) (d : Nat) (av : List Value) (Q : QT) (n : Nat) (pc : Nat) (ls : LV) (stk : List Value) (h : Hp) : Prop := RJ g m_X10_newB d 0 0 av Q pc ls stk n h 0 0
theorem s_X10_newB_0 {g : GX} {d : Nat} {av : List Value} {Q : QT} {n : Nat} {h : Hp}  (hp : g.2.2.2.2 = true)  (H : ∀ h1, h1 = wi h 2759 3 ((ri h 2759 3) + (1 : Int32)) → (vp_in (ri h 2759 3) 44 ∧ ∀ r2, r2 = 3355 + 130 * ((ri h 2759 3)).toNatClampNeg → (∀ h3, h3 = wi h1 r2 1 (0 : Int32) → (Q (some (.ref r2)) n h3)))) : W_X10_newB g d av Q n 0 [some (.ref 2759), none] [] h := by
  refine r_aload_n dX10_newB_0 rfl rfl ?_
  refine m_getF (x := 2761) hp fw_X10_86 dX10_newB_1 rfl ly_10 (ff_10_2 ly_10) ?_
  refine r_aload_n dX10_newB_4 rfl rfl ?_
  refine r_dup dX10_newB_5 rfl ?_
  refine m_getI hp fw_X10_90 dX10_newB_6 rfl ly_10 ?_
  refine r_dup_x1 dX10_newB_9 rfl rfl ?_
  refine r_iconst (v := (1 : Int32)) dX10_newB_10 rfl ?_
  refine r_iadd dX10_newB_11 ?_
  refine m_putI hp fw_X10_90 dX10_newB_12 rfl rfl ly_10 (fun h1 eh1 => ?_)
  replace H := H h1 eh1
  obtain ⟨r2, er2⟩ : ∃ y, y = 3355 + 130 * ((ri h 2759 3)).toNatClampNeg := ⟨_, rfl⟩
  have hir2 := H.1
  replace H := H.2 r2 er2
  have tLr2 := la_2761 hir2 er2
  refine m_aalF (x := r2) hp dX10_newB_15 (lf_10_2 ly_10) rfl rfl (lu_10_2 ly_10) hir2 (fa_2761 hir2 er2) ?_
  refine r_astore_n (ls2 := [some (.ref 2759), some (.ref r2)]) dX10_newB_16 rfl (by decide) rfl ?_
  refine r_aload_n dX10_newB_17 rfl rfl ?_
  refine r_iconst (v := (0 : Int32)) dX10_newB_18 rfl ?_
  refine m_putI hp fw_X10_93 dX10_newB_19 rfl rfl tLr2 (fun h3 eh3 => ?_)
  replace H := H h3 eh3
  refine r_aload_n dX10_newB_22 rfl rfl ?_
  exact r_aret dX10_newB_23 rfl (Or.inl ⟨_, rfl⟩) (Nat.le_refl _) (Nat.le_refl _) H
abbrev W_X10_plain (g : GX) (d : Nat) (av : List Value) (Q : QT) (n : Nat) (pc : Nat) (ls : LV) (stk : List Value) (h : Hp) : Prop := RJ g m_X10_plain d 0 0 av Q pc ls stk n h 0 0
theorem s_X10_plain_0 {g : GX} {d : Nat} {av : List Value} {Q : QT} {n : Nat} {h : Hp} {a0 : Nat} (hp : g.2.2.2.2 = true) (t0 : lay a0 = (0, 11, 15)) (H : ∀ h1, h1 = wi h a0 0 (1 : Int32) → (∀ h2, h2 = wi h1 a0 3 (1 : Int32) → (∀ h3, h3 = wi h2 a0 4 (1 : Int32) → (∀ h4, h4 = wi h3 a0 5 (0 : Int32) → (Q none n h4))))) : W_X10_plain g d av Q n 0 [some (.ref a0)] [] h := by
  refine r_aload_n dX10_plain_0 rfl rfl ?_
  refine r_iconst (v := (1 : Int32)) dX10_plain_1 rfl ?_
  refine m_putI hp fw_X10_202 dX10_plain_2 rfl rfl t0 (fun h1 eh1 => ?_)
  replace H := H h1 eh1
  refine r_aload_n dX10_plain_5 rfl rfl ?_
  refine r_iconst (v := (1 : Int32)) dX10_plain_6 rfl ?_
  refine m_putI hp fw_X10_213 dX10_plain_7 rfl rfl t0 (fun h2 eh2 => ?_)
  replace H := H h2 eh2
  refine r_aload_n dX10_plain_10 rfl rfl ?_
  refine r_iconst (v := (1 : Int32)) dX10_plain_11 rfl ?_
  refine m_putI hp fw_X10_216 dX10_plain_12 rfl rfl t0 (fun h3 eh3 => ?_)
  replace H := H h3 eh3
  refine r_aload_n dX10_plain_15 rfl rfl ?_
  refine r_iconst (v := (0 : Int32)) dX10_plain_16 rfl ?_
  refine m_putI hp fw_X10_219 dX10_plain_17 rfl rfl t0 (fun h4 eh4 => ?_)
  replace H := H h4 eh4
  exact r_vret dX10_plain_20 rfl (Nat.le_refl _) (Nat.le_refl _) H
abbrev W_X10_put (g : GX) (d : Nat) (av : List Value) (Q : QT) (n : Nat) (pc : Nat) (ls : LV) (stk : List Value) (h : Hp) : Prop := RJ g m_X10_put (d + 1) 0 0 av Q pc ls stk n h 0 0
theorem s_X10_put_0 {g : GX} {d : Nat} {av : List Value} {Q : QT} {n : Nat} {h : Hp} {a0 : Nat} {a1 : Nat} {a2 : Nat} (hp : g.2.2.2.2 = true) (t0 : lay a0 = (0, 11, 15)) (t1 : lay a1 = (0, 14, 2)) (t2 : lay a2 = (0, 14, 2)) (H : CallI g m_X10_fits d [.ref a1] n h (fun v1 h1 => (((v1 = (0 : Int32)) → (Q (some (.int (0 : Int32))) n h1)) ∧ ((¬ v1 = (0 : Int32)) → (CallI g m_X10_fits d [.ref a2] n h1 (fun v2 h2 => (((¬ v2 = (0 : Int32)) → (CallV g m_X10_store d [.ref (a0 + 1), .ref a1] n h2 (fun h3 => (CallV g m_X10_store d [.ref (a0 + 2), .ref a2] n h3 (fun h4 => (Q (some (.int (1 : Int32))) n h4)))))) ∧ ((v2 = (0 : Int32)) → (Q (some (.int (0 : Int32))) n h2))))))))) : W_X10_put g d av Q n 0 [some (.ref a0), some (.ref a1), some (.ref a2)] [] h := by
  refine r_aload_n dX10_put_0 rfl rfl ?_
  refine k_SI (As := [.ref a1]) (stk := []) cs_X10_249 dX10_put_1 rfl (Nat.le_of_ble_eq_true rfl) (H.mono (fun v1 h1 H => ?_)) ⟨Nat.le_refl _, Nat.le_refl _⟩
  refine r_if_eq (tgt := 14) dX10_put_4 rfl (fun cH => ?_) (fun cH => ?_)
  · replace H := H.1 cH
    refine r_iconst (v := (0 : Int32)) dX10_put_14 rfl ?_
    exact r_zret dX10_put_15 rfl rfl (Nat.le_refl _) (Nat.le_refl _) H
  · replace H := H.2 cH
    refine r_aload_n dX10_put_7 rfl rfl ?_
    refine k_SI (As := [.ref a2]) (stk := []) cs_X10_249 dX10_put_8 rfl (Nat.le_of_ble_eq_true rfl) (H.mono (fun v2 h2 H => ?_)) ⟨Nat.le_refl _, Nat.le_refl _⟩
    refine r_if_ne (tgt := 16) dX10_put_11 rfl (fun cH => ?_) (fun cH => ?_)
    · replace H := H.1 cH
      refine r_aload_n dX10_put_16 rfl rfl ?_
      refine m_getF (x := (a0 + 1)) hp fw_X10_207 dX10_put_17 rfl t0 (ff_11_1 t0) ?_
      refine r_aload_n dX10_put_20 rfl rfl ?_
      refine k_SV (As := [.ref (a0 + 1), .ref a1]) (stk := []) cs_X10_253 dX10_put_21 rfl (Nat.le_of_ble_eq_true rfl) (H.mono (fun h3 H => ?_)) ⟨Nat.le_refl _, Nat.le_refl _⟩
      refine r_aload_n dX10_put_24 rfl rfl ?_
      refine m_getF (x := (a0 + 2)) hp fw_X10_210 dX10_put_25 rfl t0 (ff_11_2 t0) ?_
      refine r_aload_n dX10_put_28 rfl rfl ?_
      refine k_SV (As := [.ref (a0 + 2), .ref a2]) (stk := []) cs_X10_253 dX10_put_29 rfl (Nat.le_of_ble_eq_true rfl) (H.mono (fun h4 H => ?_)) ⟨Nat.le_refl _, Nat.le_refl _⟩
      refine r_iconst (v := (1 : Int32)) dX10_put_32 rfl ?_
      exact r_zret dX10_put_33 rfl rfl (Nat.le_refl _) (Nat.le_refl _) H
    · replace H := H.2 cH
      refine r_iconst (v := (0 : Int32)) dX10_put_14 rfl ?_
      exact r_zret dX10_put_15 rfl rfl (Nat.le_refl _) (Nat.le_refl _) H
abbrev W_X10_fits (g : GX) (d : Nat) (av : List Value) (Q : QT) (n : Nat) (pc : Nat) (ls : LV) (stk : List Value) (h : Hp) : Prop := RJ g m_X10_fits d 0 0 av Q pc ls stk n h 0 0
theorem s_X10_fits_0 {g : GX} {d : Nat} {av : List Value} {Q : QT} {n : Nat} {h : Hp} {a0 : Nat} (hp : g.2.2.2.2 = true) (t0 : lay a0 = (0, 14, 2)) (H : (((13 : Int32) < (ri h a0 1)) → (W_X10_fits g d av Q n 14 [some (.ref a0), none, none] [.int (0 : Int32)] h)) ∧ ((¬ (13 : Int32) < (ri h a0 1)) → (W_X10_fits g d av Q n 14 [some (.ref a0), none, none] [.int (1 : Int32)] h))) : W_X10_fits g d av Q n 0 [some (.ref a0), none, none] [] h := by
  refine r_aload_n dX10_fits_0 rfl rfl ?_
  refine m_getI hp fw_X10_93 dX10_fits_1 rfl t0 ?_
  refine r_bipush (v := (13 : Int32)) dX10_fits_4 rfl ?_
  refine r_icmp_gt (tgt := 13) dX10_fits_6 rfl (fun cH => ?_) (fun cH => ?_)
  · replace H := H.1 cH
    refine r_iconst (v := (0 : Int32)) dX10_fits_13 rfl ?_
    exact H
  · replace H := H.2 cH
    refine r_iconst (v := (1 : Int32)) dX10_fits_9 rfl ?_
    refine r_goto (tgt := 14) dX10_fits_10 rfl ?_
    exact H
theorem s_X10_fits_14 {g : GX} {d : Nat} {av : List Value} {Q : QT} {n : Nat} {h : Hp} {a0 : Nat} {xs0 : Int32} (hp : g.2.2.2.2 = true) (t0 : lay a0 = (0, 14, 2)) (H : W_X10_fits g d av Q n 17 [some (.ref a0), some (.int xs0), some (.int (0 : Int32))] [] h) : W_X10_fits g d av Q n 14 [some (.ref a0), none, none] [.int xs0] h := by
  refine r_istore_n (ls2 := [some (.ref a0), some (.int xs0), none]) dX10_fits_14 rfl (by decide) rfl ?_
  refine r_iconst (v := (0 : Int32)) dX10_fits_15 rfl ?_
  refine r_istore_n (ls2 := [some (.ref a0), some (.int xs0), some (.int (0 : Int32))]) dX10_fits_16 rfl (by decide) rfl ?_
  exact H
theorem s_X10_fits_17 {g : GX} {d : Nat} {av : List Value} {Q : QT} {n : Nat} {h : Hp} {a0 : Nat} {x1 : Int32} {x2 : Int32} (hp : g.2.2.2.2 = true) (t0 : lay a0 = (0, 14, 2)) (H : (((ri h a0 1) ≤ x2) → ((x1 = 0 ∨ x1 = 1) ∧ Q (some (.int x1)) n h)) ∧ ((¬ (ri h a0 1) ≤ x2) → (((x1 = (0 : Int32)) → ((x1 = 0 ∨ x1 = 1) ∧ Q (some (.int x1)) n h)) ∧ ((¬ x1 = (0 : Int32)) → (vp_in x2 64 ∧ ∀ r1, r1 = (a0 + 2) + 2 * (x2).toNatClampNeg → ((((25 : Int32) < (ri h r1 1)) → (W_X10_fits g d av Q n 48 [some (.ref a0), none, some (.int x2)] [.int (0 : Int32)] h)) ∧ ((¬ (25 : Int32) < (ri h r1 1)) → (W_X10_fits g d av Q n 48 [some (.ref a0), none, some (.int x2)] [.int (1 : Int32)] h)))))))) : W_X10_fits g d av Q n 17 [some (.ref a0), some (.int x1), some (.int x2)] [] h := by
  refine r_iload_n dX10_fits_17 rfl rfl ?_
  refine r_aload_n dX10_fits_18 rfl rfl ?_
  refine m_getI hp fw_X10_93 dX10_fits_19 rfl t0 ?_
  refine r_icmp_ge (tgt := 55) dX10_fits_22 rfl (fun cH => ?_) (fun cH => ?_)
  · replace H := H.1 cH
    refine r_iload_n dX10_fits_55 rfl rfl ?_
    exact r_zret dX10_fits_56 rfl (nar01 H.1) (Nat.le_refl _) (Nat.le_refl _) H.2
  · replace H := H.2 cH
    refine r_iload_n dX10_fits_25 rfl rfl ?_
    refine r_if_eq (tgt := 55) dX10_fits_26 rfl (fun cH => ?_) (fun cH => ?_)
    · replace H := H.1 cH
      refine r_iload_n dX10_fits_55 rfl rfl ?_
      exact r_zret dX10_fits_56 rfl (nar01 H.1) (Nat.le_refl _) (Nat.le_refl _) H.2
    · replace H := H.2 cH
      refine r_aload_n dX10_fits_29 rfl rfl ?_
      refine m_getF (x := (a0 + 1)) hp fw_X10_98 dX10_fits_30 rfl t0 (ff_14_0 t0) ?_
      refine r_iload_n dX10_fits_33 rfl rfl ?_
      obtain ⟨r1, er1⟩ : ∃ y, y = (a0 + 2) + 2 * (x2).toNatClampNeg := ⟨_, rfl⟩
      have hir1 := H.1
      replace H := H.2 r1 er1
      have tLr1 := le_14 t0 hir1 er1
      refine m_aalF (x := r1) hp dX10_fits_34 (lf_14_0 t0) rfl rfl (lu_14_0 t0) hir1 (fe_14 t0 hir1 er1) ?_
      refine m_getI hp fw_X10_25 dX10_fits_35 rfl tLr1 ?_
      refine r_bipush (v := (25 : Int32)) dX10_fits_38 rfl ?_
      refine r_icmp_gt (tgt := 47) dX10_fits_40 rfl (fun cH => ?_) (fun cH => ?_)
      · replace H := H.1 cH
        refine r_iconst (v := (0 : Int32)) dX10_fits_47 rfl ?_
        refine r_prune [true, false, true] (ls2 := [some (.ref a0), none, some (.int x2)]) rfl ?_
        exact H
      · replace H := H.2 cH
        refine r_iconst (v := (1 : Int32)) dX10_fits_43 rfl ?_
        refine r_goto (tgt := 48) dX10_fits_44 rfl ?_
        refine r_prune [true, false, true] (ls2 := [some (.ref a0), none, some (.int x2)]) rfl ?_
        exact H
theorem s_X10_fits_48 {g : GX} {d : Nat} {av : List Value} {Q : QT} {n : Nat} {h : Hp} {a0 : Nat} {x2 : Int32} {xs0 : Int32} (hp : g.2.2.2.2 = true) (t0 : lay a0 = (0, 14, 2)) (H : W_X10_fits g d av Q n 17 [some (.ref a0), some (.int xs0), some (.int (x2 + (1 : Int32)))] [] h) : W_X10_fits g d av Q n 48 [some (.ref a0), none, some (.int x2)] [.int xs0] h := by
  refine r_istore_n (ls2 := [some (.ref a0), some (.int xs0), some (.int x2)]) dX10_fits_48 rfl (by decide) rfl ?_
  refine r_iinc (v := (x2 + (1 : Int32))) (ls2 := [some (.ref a0), some (.int xs0), some (.int (x2 + (1 : Int32)))]) dX10_fits_49 rfl rfl (by decide) rfl ?_
  refine r_goto (tgt := 17) dX10_fits_52 rfl ?_
  exact H
abbrev W_X10_store (g : GX) (d : Nat) (av : List Value) (Q : QT) (n : Nat) (pc : Nat) (ls : LV) (stk : List Value) (h : Hp) : Prop := RJ g m_X10_store (d + 1) 0 0 av Q pc ls stk n h 0 0
theorem s_X10_store_0 {g : GX} {d : Nat} {av : List Value} {Q : QT} {n : Nat} {h : Hp} {a0 : Nat} {L0 : Nat} {a1 : Nat} (hp : g.2.2.2.2 = true) (t0 : lay a0 = (1, L0, 0)) (t1 : lay a1 = (0, 14, 2)) (H : W_X10_store g d av Q n 2 [some (.ref a0), some (.ref a1), some (.int (0 : Int32)), none] [] h) : W_X10_store g d av Q n 0 [some (.ref a0), some (.ref a1), none, none] [] h := by
  refine r_iconst (v := (0 : Int32)) dX10_store_0 rfl ?_
  refine r_istore_n (ls2 := [some (.ref a0), some (.ref a1), some (.int (0 : Int32)), none]) dX10_store_1 rfl (by decide) rfl ?_
  exact H
theorem s_X10_store_2 {g : GX} {d : Nat} {av : List Value} {Q : QT} {n : Nat} {h : Hp} {a0 : Nat} {L0 : Nat} {a1 : Nat} {x2 : Int32} (hp : g.2.2.2.2 = true) (t0 : lay a0 = (1, L0, 0)) (t1 : lay a1 = (0, 14, 2)) (H : (((13 : Int32) ≤ x2) → (Q none n h)) ∧ ((¬ (13 : Int32) ≤ x2) → (W_X10_store g d av Q n 10 [some (.ref a0), some (.ref a1), some (.int x2), some (.int (0 : Int32))] [] h))) : W_X10_store g d av Q n 2 [some (.ref a0), some (.ref a1), some (.int x2), none] [] h := by
  refine r_iload_n dX10_store_2 rfl rfl ?_
  refine r_bipush (v := (13 : Int32)) dX10_store_3 rfl ?_
  refine r_icmp_ge (tgt := 58) dX10_store_5 rfl (fun cH => ?_) (fun cH => ?_)
  · replace H := H.1 cH
    exact r_vret dX10_store_58 rfl (Nat.le_refl _) (Nat.le_refl _) H
  · replace H := H.2 cH
    refine r_iconst (v := (0 : Int32)) dX10_store_8 rfl ?_
    refine r_istore_n (ls2 := [some (.ref a0), some (.ref a1), some (.int x2), some (.int (0 : Int32))]) dX10_store_9 rfl (by decide) rfl ?_
    exact H
theorem s_X10_store_10 {g : GX} {d : Nat} {av : List Value} {Q : QT} {n : Nat} {h : Hp} {a0 : Nat} {L0 : Nat} {a1 : Nat} {x2 : Int32} {x3 : Int32} (hp : g.2.2.2.2 = true) (t0 : lay a0 = (1, L0, 0)) (t1 : lay a1 = (0, 14, 2)) (H : (((25 : Int32) ≤ x3) → (W_X10_store g d av Q n 2 [some (.ref a0), some (.ref a1), some (.int (x2 + (1 : Int32))), none] [] h)) ∧ ((¬ (25 : Int32) ≤ x3) → ((((ri h a1 1) ≤ x2) → (W_X10_store g d av Q n 45 [some (.ref a0), some (.ref a1), some (.int x2), some (.int x3)] [.int (0 : Int32), .int (((25 : Int32) * x2) + x3), .ref a0] h)) ∧ ((¬ (ri h a1 1) ≤ x2) → (vp_in x2 64 ∧ ∀ r1, r1 = (a1 + 2) + 2 * (x2).toNatClampNeg → (CallI g m_X13_at d [.ref r1, .int x3] n h (fun v2 h2 => (W_X10_store g d av Q n 45 [some (.ref a0), some (.ref a1), some (.int x2), some (.int x3)] [.int v2, .int (((25 : Int32) * x2) + x3), .ref a0] h2)))))))) : W_X10_store g d av Q n 10 [some (.ref a0), some (.ref a1), some (.int x2), some (.int x3)] [] h := by
  refine r_iload_n dX10_store_10 rfl rfl ?_
  refine r_bipush (v := (25 : Int32)) dX10_store_11 rfl ?_
  refine r_icmp_ge (tgt := 52) dX10_store_13 rfl (fun cH => ?_) (fun cH => ?_)
  · replace H := H.1 cH
    refine r_iinc (v := (x2 + (1 : Int32))) (ls2 := [some (.ref a0), some (.ref a1), some (.int (x2 + (1 : Int32))), some (.int x3)]) dX10_store_52 rfl rfl (by decide) rfl ?_
    refine r_goto (tgt := 2) dX10_store_55 rfl ?_
    refine r_prune [true, true, true, false] (ls2 := [some (.ref a0), some (.ref a1), some (.int (x2 + (1 : Int32))), none]) rfl ?_
    exact H
  · replace H := H.2 cH
    refine r_aload_n dX10_store_16 rfl rfl ?_
    refine r_bipush (v := (25 : Int32)) dX10_store_17 rfl ?_
    refine r_iload_n dX10_store_19 rfl rfl ?_
    refine r_imul dX10_store_20 ?_
    refine r_iload_n dX10_store_21 rfl rfl ?_
    refine r_iadd dX10_store_22 ?_
    refine r_iload_n dX10_store_23 rfl rfl ?_
    refine r_aload_n dX10_store_24 rfl rfl ?_
    refine m_getI hp fw_X10_93 dX10_store_25 rfl t1 ?_
    refine r_icmp_ge (tgt := 44) dX10_store_28 rfl (fun cH => ?_) (fun cH => ?_)
    · replace H := H.1 cH
      refine r_iconst (v := (0 : Int32)) dX10_store_44 rfl ?_
      exact H
    · replace H := H.2 cH
      refine r_aload_n dX10_store_31 rfl rfl ?_
      refine m_getF (x := (a1 + 1)) hp fw_X10_98 dX10_store_32 rfl t1 (ff_14_0 t1) ?_
      refine r_iload_n dX10_store_35 rfl rfl ?_
      obtain ⟨r1, er1⟩ : ∃ y, y = (a1 + 2) + 2 * (x2).toNatClampNeg := ⟨_, rfl⟩
      have hir1 := H.1
      replace H := H.2 r1 er1
      have tLr1 := le_14 t1 hir1 er1
      refine m_aalF (x := r1) hp dX10_store_36 (lf_14_0 t1) rfl rfl (lu_14_0 t1) hir1 (fe_14 t1 hir1 er1) ?_
      refine r_iload_n dX10_store_37 rfl rfl ?_
      refine k_VI (As := [.int x3]) (stk := [.int (((25 : Int32) * x2) + x3), .ref a0]) hp cv_X10_122 dX10_store_38 rfl (Nat.le_of_ble_eq_true rfl) tLr1 (H.mono (fun v2 h2 H => ?_)) ⟨Nat.le_refl _, Nat.le_refl _⟩
      refine r_goto (tgt := 45) dX10_store_41 rfl ?_
      exact H
theorem s_X10_store_45 {g : GX} {d : Nat} {av : List Value} {Q : QT} {n : Nat} {h : Hp} {a0 : Nat} {L0 : Nat} {a1 : Nat} {x2 : Int32} {x3 : Int32} {xs0 : Int32} {xs1 : Int32} {as2 : Nat} {Ls2 : Nat} (hp : g.2.2.2.2 = true) (t0 : lay a0 = (1, L0, 0)) (t1 : lay a1 = (0, 14, 2)) (ts2 : lay as2 = (1, Ls2, 0)) (H : vp_in xs1 Ls2 ∧ ∀ h1, h1 = wi h as2 (xs1).toNatClampNeg xs0 → (W_X10_store g d av Q n 10 [some (.ref a0), some (.ref a1), some (.int x2), some (.int (x3 + (1 : Int32)))] [] h1)) : W_X10_store g d av Q n 45 [some (.ref a0), some (.ref a1), some (.int x2), some (.int x3)] [.int xs0, .int xs1, .ref as2] h := by
  refine m_iast hp dX10_store_45 ts2 H.1 (fun h1 eh1 => ?_)
  replace H := H.2 h1 eh1
  refine r_iinc (v := (x3 + (1 : Int32))) (ls2 := [some (.ref a0), some (.ref a1), some (.int x2), some (.int (x3 + (1 : Int32)))]) dX10_store_46 rfl rfl (by decide) rfl ?_
  refine r_goto (tgt := 10) dX10_store_49 rfl ?_
  exact H
abbrev W_X10_factorial (g : GX) (d : Nat) (av : List Value) (Q : QT) (n : Nat) (pc : Nat) (ls : LV) (stk : List Value) (h : Hp) : Prop := RJ g m_X10_factorial (d + 1) 0 0 av Q pc ls stk n h 0 0
theorem s_X10_factorial_0 {g : GX} {d : Nat} {av : List Value} {Q : QT} {n : Nat} {h : Hp} {a1 : Nat} {x2 : Int32} {x3 : Int32} {x4 : Int32} {x5 : Int32} (hp : g.2.2.2.2 = true) (t1 : lay a1 = (0, 11, 15)) (H : ((¬ x2 = (0 : Int32)) → (W_X10_factorial g d av Q n 8 [none, some (.ref a1), some (.int x2), some (.int x3), some (.int x4), some (.int x5), none, none] [] h)) ∧ ((x2 = (0 : Int32)) → (((x3 = (0 : Int32)) → (W_X10_factorial g d av Q n 25 [none, some (.ref a1), none, none, some (.int x4), some (.int x5), some (.int (1 : Int32)), some (.int (2 : Int32))] [] h)) ∧ ((¬ x3 = (0 : Int32)) → (W_X10_factorial g d av Q n 8 [none, some (.ref a1), some (.int x2), some (.int x3), some (.int x4), some (.int x5), none, none] [] h))))) : W_X10_factorial g d av Q n 0 [some (.ref 2759), some (.ref a1), some (.int x2), some (.int x3), some (.int x4), some (.int x5), none, none] [] h := by
  refine r_iload_n dX10_factorial_0 rfl rfl ?_
  refine r_if_ne (tgt := 8) dX10_factorial_1 rfl (fun cH => ?_) (fun cH => ?_)
  · replace H := H.1 cH
    refine r_prune [false, true, true, true, true, true, false, false] (ls2 := [none, some (.ref a1), some (.int x2), some (.int x3), some (.int x4), some (.int x5), none, none]) rfl ?_
    exact H
  · replace H := H.2 cH
    refine r_iload_n dX10_factorial_4 rfl rfl ?_
    refine r_if_eq (tgt := 19) dX10_factorial_5 rfl (fun cH => ?_) (fun cH => ?_)
    · replace H := H.1 cH
      refine r_iconst (v := (1 : Int32)) dX10_factorial_19 rfl ?_
      refine r_istore (ls2 := [some (.ref 2759), some (.ref a1), some (.int x2), some (.int x3), some (.int x4), some (.int x5), some (.int (1 : Int32)), none]) dX10_factorial_20 (by decide) rfl ?_
      refine r_iconst (v := (2 : Int32)) dX10_factorial_22 rfl ?_
      refine r_istore (ls2 := [some (.ref 2759), some (.ref a1), some (.int x2), some (.int x3), some (.int x4), some (.int x5), some (.int (1 : Int32)), some (.int (2 : Int32))]) dX10_factorial_23 (by decide) rfl ?_
      refine r_prune [false, true, false, false, true, true, true, true] (ls2 := [none, some (.ref a1), none, none, some (.int x4), some (.int x5), some (.int (1 : Int32)), some (.int (2 : Int32))]) rfl ?_
      exact H
    · replace H := H.2 cH
      refine r_prune [false, true, true, true, true, true, false, false] (ls2 := [none, some (.ref a1), some (.int x2), some (.int x3), some (.int x4), some (.int x5), none, none]) rfl ?_
      exact H
theorem s_X10_factorial_8 {g : GX} {d : Nat} {av : List Value} {Q : QT} {n : Nat} {h : Hp} {a1 : Nat} {x2 : Int32} {x3 : Int32} {x4 : Int32} {x5 : Int32} (hp : g.2.2.2.2 = true) (t1 : lay a1 = (0, 11, 15)) (H : CallV g m_X10_factor d [.ref a1, .int x2, .int x3, .int x4, .int x5] n h (fun h1 => (Q none n h1))) : W_X10_factorial g d av Q n 8 [none, some (.ref a1), some (.int x2), some (.int x3), some (.int x4), some (.int x5), none, none] [] h := by
  refine r_aload_n dX10_factorial_8 rfl rfl ?_
  refine r_iload_n dX10_factorial_9 rfl rfl ?_
  refine r_iload_n dX10_factorial_10 rfl rfl ?_
  refine r_iload dX10_factorial_11 rfl ?_
  refine r_iload dX10_factorial_13 rfl ?_
  refine k_SV (As := [.ref a1, .int x2, .int x3, .int x4, .int x5]) (stk := []) cs_X10_284 dX10_factorial_15 rfl (Nat.le_of_ble_eq_true rfl) (H.mono (fun h1 H => ?_)) ⟨Nat.le_refl _, Nat.le_refl _⟩
  exact r_vret dX10_factorial_18 rfl (Nat.le_refl _) (Nat.le_refl _) H
theorem s_X10_factorial_25 {g : GX} {d : Nat} {av : List Value} {Q : QT} {n : Nat} {h : Hp} {a1 : Nat} {x4 : Int32} {x5 : Int32} {x6 : Int32} {x7 : Int32} (hp : g.2.2.2.2 = true) (t1 : lay a1 = (0, 11, 15)) (H : ((x4 < x7) → ((((0 : Int32) ≤ x5) → (W_X10_factorial g d av Q n 62 [none, some (.ref a1), none, none, none, none, none, none] [.int x6] h)) ∧ ((¬ (0 : Int32) ≤ x5) → (CallI g m_X10_inv d [.int x6] n h (fun v1 h1 => (W_X10_factorial g d av Q n 62 [none, some (.ref a1), none, none, none, none, none, none] [.int v1] h1)))))) ∧ ((¬ x4 < x7) → (CallI g m_X10_mul d [.int x6, .int x7] n h (fun v2 h2 => (W_X10_factorial g d av Q n 25 [none, some (.ref a1), none, none, some (.int x4), some (.int x5), some (.int v2), some (.int (x7 + (1 : Int32)))] [] h2))))) : W_X10_factorial g d av Q n 25 [none, some (.ref a1), none, none, some (.int x4), some (.int x5), some (.int x6), some (.int x7)] [] h := by
  refine r_iload dX10_factorial_25 rfl ?_
  refine r_iload dX10_factorial_27 rfl ?_
  refine r_icmp_gt (tgt := 47) dX10_factorial_29 rfl (fun cH => ?_) (fun cH => ?_)
  · replace H := H.1 cH
    refine r_iload dX10_factorial_47 rfl ?_
    refine r_if_ge (tgt := 60) dX10_factorial_49 rfl (fun cH => ?_) (fun cH => ?_)
    · replace H := H.1 cH
      refine r_iload dX10_factorial_60 rfl ?_
      refine r_prune [false, true, false, false, false, false, false, false] (ls2 := [none, some (.ref a1), none, none, none, none, none, none]) rfl ?_
      exact H
    · replace H := H.2 cH
      refine r_iload dX10_factorial_52 rfl ?_
      refine k_SI (As := [.int x6]) (stk := []) cs_X10_13 dX10_factorial_54 rfl (Nat.le_of_ble_eq_true rfl) (H.mono (fun v1 h1 H => ?_)) ⟨Nat.le_refl _, Nat.le_refl _⟩
      refine r_goto (tgt := 62) dX10_factorial_57 rfl ?_
      refine r_prune [false, true, false, false, false, false, false, false] (ls2 := [none, some (.ref a1), none, none, none, none, none, none]) rfl ?_
      exact H
  · replace H := H.2 cH
    refine r_iload dX10_factorial_32 rfl ?_
    refine r_iload dX10_factorial_34 rfl ?_
    refine k_SI (As := [.int x6, .int x7]) (stk := []) cs_X10_56 dX10_factorial_36 rfl (Nat.le_of_ble_eq_true rfl) (H.mono (fun v2 h2 H => ?_)) ⟨Nat.le_refl _, Nat.le_refl _⟩
    refine r_istore (ls2 := [none, some (.ref a1), none, none, some (.int x4), some (.int x5), some (.int v2), some (.int x7)]) dX10_factorial_39 (by decide) rfl ?_
    refine r_iinc (v := (x7 + (1 : Int32))) (ls2 := [none, some (.ref a1), none, none, some (.int x4), some (.int x5), some (.int v2), some (.int (x7 + (1 : Int32)))]) dX10_factorial_41 rfl rfl (by decide) rfl ?_
    refine r_goto (tgt := 25) dX10_factorial_44 rfl ?_
    exact H
theorem s_X10_factorial_62 {g : GX} {d : Nat} {av : List Value} {Q : QT} {n : Nat} {h : Hp} {a1 : Nat} {xs0 : Int32} (hp : g.2.2.2.2 = true) (t1 : lay a1 = (0, 11, 15)) (H : W_X10_factorial g d av Q n 67 [none, some (.ref a1), none, none, none, none, some (.int xs0), some (.int (0 : Int32))] [] h) : W_X10_factorial g d av Q n 62 [none, some (.ref a1), none, none, none, none, none, none] [.int xs0] h := by
  refine r_istore (ls2 := [none, some (.ref a1), none, none, none, none, some (.int xs0), none]) dX10_factorial_62 (by decide) rfl ?_
  refine r_iconst (v := (0 : Int32)) dX10_factorial_64 rfl ?_
  refine r_istore (ls2 := [none, some (.ref a1), none, none, none, none, some (.int xs0), some (.int (0 : Int32))]) dX10_factorial_65 (by decide) rfl ?_
  exact H
theorem s_X10_factorial_67 {g : GX} {d : Nat} {av : List Value} {Q : QT} {n : Nat} {h : Hp} {a1 : Nat} {x6 : Int32} {x7 : Int32} (hp : g.2.2.2.2 = true) (t1 : lay a1 = (0, 11, 15)) (H : (((325 : Int32) ≤ x7) → (Q none n h)) ∧ ((¬ (325 : Int32) ≤ x7) → (vp_in x7 325 ∧ (CallI g m_X10_mul d [.int (ri h (a1 + 1) (x7).toNatClampNeg), .int x6] n h (fun v1 h1 => (vp_in x7 325 ∧ ∀ h2, h2 = wi h1 (a1 + 1) (x7).toNatClampNeg v1 → (W_X10_factorial g d av Q n 67 [none, some (.ref a1), none, none, none, none, some (.int x6), some (.int (x7 + (1 : Int32)))] [] h2))))))) : W_X10_factorial g d av Q n 67 [none, some (.ref a1), none, none, none, none, some (.int x6), some (.int x7)] [] h := by
  refine r_iload dX10_factorial_67 rfl ?_
  refine r_sipush (v := (325 : Int32)) dX10_factorial_69 rfl ?_
  refine r_icmp_ge (tgt := 100) dX10_factorial_72 rfl (fun cH => ?_) (fun cH => ?_)
  · replace H := H.1 cH
    exact r_vret dX10_factorial_100 rfl (Nat.le_refl _) (Nat.le_refl _) H
  · replace H := H.2 cH
    refine r_aload_n dX10_factorial_75 rfl rfl ?_
    refine m_getF (x := (a1 + 1)) hp fw_X10_207 dX10_factorial_76 rfl t1 (ff_11_1 t1) ?_
    refine r_iload dX10_factorial_79 rfl ?_
    refine r_aload_n dX10_factorial_81 rfl rfl ?_
    refine m_getF (x := (a1 + 1)) hp fw_X10_207 dX10_factorial_82 rfl t1 (ff_11_1 t1) ?_
    refine r_iload dX10_factorial_85 rfl ?_
    refine m_iald hp dX10_factorial_87 (lf_11_1 t1) H.1 ?_
    replace H := H.2
    refine r_iload dX10_factorial_88 rfl ?_
    refine k_SI (As := [.int (ri h (a1 + 1) (x7).toNatClampNeg), .int x6]) (stk := [.int x7, .ref (a1 + 1)]) cs_X10_56 dX10_factorial_90 rfl (Nat.le_of_ble_eq_true rfl) (H.mono (fun v1 h1 H => ?_)) ⟨Nat.le_refl _, Nat.le_refl _⟩
    refine m_iast hp dX10_factorial_93 (lf_11_1 t1) H.1 (fun h2 eh2 => ?_)
    replace H := H.2 h2 eh2
    refine r_iinc (v := (x7 + (1 : Int32))) (ls2 := [none, some (.ref a1), none, none, none, none, some (.int x6), some (.int (x7 + (1 : Int32)))]) dX10_factorial_94 rfl rfl (by decide) rfl ?_
    refine r_goto (tgt := 67) dX10_factorial_97 rfl ?_
    exact H
abbrev W_X10_factor (g : GX) (d : Nat) (av : List Value) (Q : QT) (n : Nat) (pc : Nat) (ls : LV) (stk : List Value) (h : Hp) : Prop := RJ g m_X10_factor (d + 1) 0 0 av Q pc ls stk n h 0 0
theorem s_X10_factor_0 {g : GX} {d : Nat} {av : List Value} {Q : QT} {n : Nat} {h : Hp} {a0 : Nat} {x1 : Int32} {x2 : Int32} {x3 : Int32} {x4 : Int32} (hp : g.2.2.2.2 = true) (t0 : lay a0 = (0, 11, 15)) (H : W_X10_factor g d av Q n 3 [some (.ref a0), some (.int x1), some (.int x2), some (.int x3), some (.int x4), some (.int (0 : Int32)), none] [] h) : W_X10_factor g d av Q n 0 [some (.ref a0), some (.int x1), some (.int x2), some (.int x3), some (.int x4), none, none] [] h := by
  refine r_iconst (v := (0 : Int32)) dX10_factor_0 rfl ?_
  refine r_istore (ls2 := [some (.ref a0), some (.int x1), some (.int x2), some (.int x3), some (.int x4), some (.int (0 : Int32)), none]) dX10_factor_1 (by decide) rfl ?_
  exact H
theorem s_X10_factor_3 {g : GX} {d : Nat} {av : List Value} {Q : QT} {n : Nat} {h : Hp} {a0 : Nat} {x1 : Int32} {x2 : Int32} {x3 : Int32} {x4 : Int32} {x5 : Int32} (hp : g.2.2.2.2 = true) (t0 : lay a0 = (0, 11, 15)) (H : (((ri h a0 5) ≤ x5) → (W_X10_factor g d av Q n 73 [some (.ref a0), some (.int x1), some (.int x2), some (.int x3), some (.int x4), some (.int x5), none] [] h)) ∧ ((¬ (ri h a0 5) ≤ x5) → (vp_in x5 13 ∧ ((((ri h (a0 + 3) (x5).toNatClampNeg) < x1) → (W_X10_factor g d av Q n 67 [some (.ref a0), some (.int x1), some (.int x2), some (.int x3), some (.int x4), some (.int x5), none] [] h)) ∧ ((¬ (ri h (a0 + 3) (x5).toNatClampNeg) < x1) → (vp_in x5 13 ∧ (((¬ (ri h (a0 + 3) (x5).toNatClampNeg) = x1) → (W_X10_factor g d av Q n 73 [some (.ref a0), some (.int x1), some (.int x2), some (.int x3), some (.int x4), some (.int x5), none] [] h)) ∧ (((ri h (a0 + 3) (x5).toNatClampNeg) = x1) → (vp_in x5 13 ∧ ((((ri h (a0 + 4) (x5).toNatClampNeg) < x2) → (W_X10_factor g d av Q n 67 [some (.ref a0), some (.int x1), some (.int x2), some (.int x3), some (.int x4), some (.int x5), none] [] h)) ∧ ((¬ (ri h (a0 + 4) (x5).toNatClampNeg) < x2) → (vp_in x5 13 ∧ (((¬ (ri h (a0 + 4) (x5).toNatClampNeg) = x2) → (W_X10_factor g d av Q n 73 [some (.ref a0), some (.int x1), some (.int x2), some (.int x3), some (.int x4), some (.int x5), none] [] h)) ∧ (((ri h (a0 + 4) (x5).toNatClampNeg) = x2) → (vp_in x5 13 ∧ (((x3 ≤ (ri h (a0 + 5) (x5).toNatClampNeg)) → (W_X10_factor g d av Q n 73 [some (.ref a0), some (.int x1), some (.int x2), some (.int x3), some (.int x4), some (.int x5), none] [] h)) ∧ ((¬ x3 ≤ (ri h (a0 + 5) (x5).toNatClampNeg)) → (W_X10_factor g d av Q n 67 [some (.ref a0), some (.int x1), some (.int x2), some (.int x3), some (.int x4), some (.int x5), none] [] h)))))))))))))))))) : W_X10_factor g d av Q n 3 [some (.ref a0), some (.int x1), some (.int x2), some (.int x3), some (.int x4), some (.int x5), none] [] h := by
  refine r_iload dX10_factor_3 rfl ?_
  refine r_aload_n dX10_factor_5 rfl rfl ?_
  refine m_getI hp fw_X10_219 dX10_factor_6 rfl t0 ?_
  refine r_icmp_ge (tgt := 73) dX10_factor_9 rfl (fun cH => ?_) (fun cH => ?_)
  · replace H := H.1 cH
    exact H
  · replace H := H.2 cH
    refine r_aload_n dX10_factor_12 rfl rfl ?_
    refine m_getF (x := (a0 + 3)) hp fw_X10_222 dX10_factor_13 rfl t0 (ff_11_6 t0) ?_
    refine r_iload dX10_factor_16 rfl ?_
    refine m_iald hp dX10_factor_18 (lf_11_6 t0) H.1 ?_
    replace H := H.2
    refine r_iload_n dX10_factor_19 rfl rfl ?_
    refine r_icmp_lt (tgt := 67) dX10_factor_20 rfl (fun cH => ?_) (fun cH => ?_)
    · replace H := H.1 cH
      exact H
    · replace H := H.2 cH
      refine r_aload_n dX10_factor_23 rfl rfl ?_
      refine m_getF (x := (a0 + 3)) hp fw_X10_222 dX10_factor_24 rfl t0 (ff_11_6 t0) ?_
      refine r_iload dX10_factor_27 rfl ?_
      refine m_iald hp dX10_factor_29 (lf_11_6 t0) H.1 ?_
      replace H := H.2
      refine r_iload_n dX10_factor_30 rfl rfl ?_
      refine r_icmp_ne (tgt := 73) dX10_factor_31 rfl (fun cH => ?_) (fun cH => ?_)
      · replace H := H.1 cH
        exact H
      · replace H := H.2 cH
        refine r_aload_n dX10_factor_34 rfl rfl ?_
        refine m_getF (x := (a0 + 4)) hp fw_X10_225 dX10_factor_35 rfl t0 (ff_11_7 t0) ?_
        refine r_iload dX10_factor_38 rfl ?_
        refine m_iald hp dX10_factor_40 (lf_11_7 t0) H.1 ?_
        replace H := H.2
        refine r_iload_n dX10_factor_41 rfl rfl ?_
        refine r_icmp_lt (tgt := 67) dX10_factor_42 rfl (fun cH => ?_) (fun cH => ?_)
        · replace H := H.1 cH
          exact H
        · replace H := H.2 cH
          refine r_aload_n dX10_factor_45 rfl rfl ?_
          refine m_getF (x := (a0 + 4)) hp fw_X10_225 dX10_factor_46 rfl t0 (ff_11_7 t0) ?_
          refine r_iload dX10_factor_49 rfl ?_
          refine m_iald hp dX10_factor_51 (lf_11_7 t0) H.1 ?_
          replace H := H.2
          refine r_iload_n dX10_factor_52 rfl rfl ?_
          refine r_icmp_ne (tgt := 73) dX10_factor_53 rfl (fun cH => ?_) (fun cH => ?_)
          · replace H := H.1 cH
            exact H
          · replace H := H.2 cH
            refine r_aload_n dX10_factor_56 rfl rfl ?_
            refine m_getF (x := (a0 + 5)) hp fw_X10_228 dX10_factor_57 rfl t0 (ff_11_8 t0) ?_
            refine r_iload dX10_factor_60 rfl ?_
            refine m_iald hp dX10_factor_62 (lf_11_8 t0) H.1 ?_
            replace H := H.2
            refine r_iload_n dX10_factor_63 rfl rfl ?_
            refine r_icmp_ge (tgt := 73) dX10_factor_64 rfl (fun cH => ?_) (fun cH => ?_)
            · replace H := H.1 cH
              exact H
            · replace H := H.2 cH
              exact H
theorem s_X10_factor_67 {g : GX} {d : Nat} {av : List Value} {Q : QT} {n : Nat} {h : Hp} {a0 : Nat} {x1 : Int32} {x2 : Int32} {x3 : Int32} {x4 : Int32} {x5 : Int32} (hp : g.2.2.2.2 = true) (t0 : lay a0 = (0, 11, 15)) (H : W_X10_factor g d av Q n 3 [some (.ref a0), some (.int x1), some (.int x2), some (.int x3), some (.int x4), some (.int (x5 + (1 : Int32))), none] [] h) : W_X10_factor g d av Q n 67 [some (.ref a0), some (.int x1), some (.int x2), some (.int x3), some (.int x4), some (.int x5), none] [] h := by
  refine r_iinc (v := (x5 + (1 : Int32))) (ls2 := [some (.ref a0), some (.int x1), some (.int x2), some (.int x3), some (.int x4), some (.int (x5 + (1 : Int32))), none]) dX10_factor_67 rfl rfl (by decide) rfl ?_
  refine r_goto (tgt := 3) dX10_factor_70 rfl ?_
  exact H
theorem s_X10_factor_73 {g : GX} {d : Nat} {av : List Value} {Q : QT} {n : Nat} {h : Hp} {a0 : Nat} {x1 : Int32} {x2 : Int32} {x3 : Int32} {x4 : Int32} {x5 : Int32} (hp : g.2.2.2.2 = true) (t0 : lay a0 = (0, 11, 15)) (H : (((ri h a0 5) ≤ x5) → (W_X10_factor g d av Q n 177 [some (.ref a0), some (.int x1), some (.int x2), some (.int x3), some (.int x4), some (.int x5), none] [] h)) ∧ ((¬ (ri h a0 5) ≤ x5) → (vp_in x5 13 ∧ (((¬ (ri h (a0 + 3) (x5).toNatClampNeg) = x1) → (W_X10_factor g d av Q n 177 [some (.ref a0), some (.int x1), some (.int x2), some (.int x3), some (.int x4), some (.int x5), none] [] h)) ∧ (((ri h (a0 + 3) (x5).toNatClampNeg) = x1) → (vp_in x5 13 ∧ (((¬ (ri h (a0 + 4) (x5).toNatClampNeg) = x2) → (W_X10_factor g d av Q n 177 [some (.ref a0), some (.int x1), some (.int x2), some (.int x3), some (.int x4), some (.int x5), none] [] h)) ∧ (((ri h (a0 + 4) (x5).toNatClampNeg) = x2) → (vp_in x5 13 ∧ (((¬ (ri h (a0 + 5) (x5).toNatClampNeg) = x3) → (W_X10_factor g d av Q n 177 [some (.ref a0), some (.int x1), some (.int x2), some (.int x3), some (.int x4), some (.int x5), none] [] h)) ∧ (((ri h (a0 + 5) (x5).toNatClampNeg) = x3) → (vp_in x5 13 ∧ (vp_in x5 13 ∧ ∀ h1, h1 = wi h (a0 + 6) (x5).toNatClampNeg ((ri h (a0 + 6) (x5).toNatClampNeg) + x4) → (vp_in x5 13 ∧ (((¬ (ri h1 (a0 + 6) (x5).toNatClampNeg) = (0 : Int32)) → (Q none n h1)) ∧ (((ri h1 (a0 + 6) (x5).toNatClampNeg) = (0 : Int32)) → (∀ h2, h2 = wi h1 a0 5 ((ri h1 a0 5) - (1 : Int32)) → (W_X10_factor g d av Q n 151 [some (.ref a0), none, none, none, none, none, some (.int x5)] [] h2)))))))))))))))))) : W_X10_factor g d av Q n 73 [some (.ref a0), some (.int x1), some (.int x2), some (.int x3), some (.int x4), some (.int x5), none] [] h := by
  refine r_iload dX10_factor_73 rfl ?_
  refine r_aload_n dX10_factor_75 rfl rfl ?_
  refine m_getI hp fw_X10_219 dX10_factor_76 rfl t0 ?_
  refine r_icmp_ge (tgt := 177) dX10_factor_79 rfl (fun cH => ?_) (fun cH => ?_)
  · replace H := H.1 cH
    exact H
  · replace H := H.2 cH
    refine r_aload_n dX10_factor_82 rfl rfl ?_
    refine m_getF (x := (a0 + 3)) hp fw_X10_222 dX10_factor_83 rfl t0 (ff_11_6 t0) ?_
    refine r_iload dX10_factor_86 rfl ?_
    refine m_iald hp dX10_factor_88 (lf_11_6 t0) H.1 ?_
    replace H := H.2
    refine r_iload_n dX10_factor_89 rfl rfl ?_
    refine r_icmp_ne (tgt := 177) dX10_factor_90 rfl (fun cH => ?_) (fun cH => ?_)
    · replace H := H.1 cH
      exact H
    · replace H := H.2 cH
      refine r_aload_n dX10_factor_93 rfl rfl ?_
      refine m_getF (x := (a0 + 4)) hp fw_X10_225 dX10_factor_94 rfl t0 (ff_11_7 t0) ?_
      refine r_iload dX10_factor_97 rfl ?_
      refine m_iald hp dX10_factor_99 (lf_11_7 t0) H.1 ?_
      replace H := H.2
      refine r_iload_n dX10_factor_100 rfl rfl ?_
      refine r_icmp_ne (tgt := 177) dX10_factor_101 rfl (fun cH => ?_) (fun cH => ?_)
      · replace H := H.1 cH
        exact H
      · replace H := H.2 cH
        refine r_aload_n dX10_factor_104 rfl rfl ?_
        refine m_getF (x := (a0 + 5)) hp fw_X10_228 dX10_factor_105 rfl t0 (ff_11_8 t0) ?_
        refine r_iload dX10_factor_108 rfl ?_
        refine m_iald hp dX10_factor_110 (lf_11_8 t0) H.1 ?_
        replace H := H.2
        refine r_iload_n dX10_factor_111 rfl rfl ?_
        refine r_icmp_ne (tgt := 177) dX10_factor_112 rfl (fun cH => ?_) (fun cH => ?_)
        · replace H := H.1 cH
          exact H
        · replace H := H.2 cH
          refine r_aload_n dX10_factor_115 rfl rfl ?_
          refine m_getF (x := (a0 + 6)) hp fw_X10_231 dX10_factor_116 rfl t0 (ff_11_9 t0) ?_
          refine r_iload dX10_factor_119 rfl ?_
          refine r_dup2 dX10_factor_121 rfl rfl ?_
          refine m_iald hp dX10_factor_122 (lf_11_9 t0) H.1 ?_
          replace H := H.2
          refine r_iload dX10_factor_123 rfl ?_
          refine r_iadd dX10_factor_125 ?_
          refine m_iast hp dX10_factor_126 (lf_11_9 t0) H.1 (fun h1 eh1 => ?_)
          replace H := H.2 h1 eh1
          refine r_aload_n dX10_factor_127 rfl rfl ?_
          refine m_getF (x := (a0 + 6)) hp fw_X10_231 dX10_factor_128 rfl t0 (ff_11_9 t0) ?_
          refine r_iload dX10_factor_131 rfl ?_
          refine m_iald hp dX10_factor_133 (lf_11_9 t0) H.1 ?_
          replace H := H.2
          refine r_if_ne (tgt := 176) dX10_factor_134 rfl (fun cH => ?_) (fun cH => ?_)
          · replace H := H.1 cH
            exact r_vret dX10_factor_176 rfl (Nat.le_refl _) (Nat.le_refl _) H
          · replace H := H.2 cH
            refine r_aload_n dX10_factor_137 rfl rfl ?_
            refine r_dup dX10_factor_138 rfl ?_
            refine m_getI hp fw_X10_219 dX10_factor_139 rfl t0 ?_
            refine r_iconst (v := (1 : Int32)) dX10_factor_142 rfl ?_
            refine r_isub dX10_factor_143 ?_
            refine m_putI hp fw_X10_219 dX10_factor_144 rfl rfl t0 (fun h2 eh2 => ?_)
            replace H := H h2 eh2
            refine r_iload dX10_factor_147 rfl ?_
            refine r_istore (ls2 := [some (.ref a0), some (.int x1), some (.int x2), some (.int x3), some (.int x4), some (.int x5), some (.int x5)]) dX10_factor_149 (by decide) rfl ?_
            refine r_prune [true, false, false, false, false, false, true] (ls2 := [some (.ref a0), none, none, none, none, none, some (.int x5)]) rfl ?_
            exact H
theorem s_X10_factor_151 {g : GX} {d : Nat} {av : List Value} {Q : QT} {n : Nat} {h : Hp} {a0 : Nat} {x6 : Int32} (hp : g.2.2.2.2 = true) (t0 : lay a0 = (0, 11, 15)) (H : (((ri h a0 5) ≤ x6) → (Q none n h)) ∧ ((¬ (ri h a0 5) ≤ x6) → (CallV g m_X10_move d [.ref a0, .int (x6 + (1 : Int32)), .int x6] n h (fun h1 => (W_X10_factor g d av Q n 151 [some (.ref a0), none, none, none, none, none, some (.int (x6 + (1 : Int32)))] [] h1))))) : W_X10_factor g d av Q n 151 [some (.ref a0), none, none, none, none, none, some (.int x6)] [] h := by
  refine r_iload dX10_factor_151 rfl ?_
  refine r_aload_n dX10_factor_153 rfl rfl ?_
  refine m_getI hp fw_X10_219 dX10_factor_154 rfl t0 ?_
  refine r_icmp_ge (tgt := 176) dX10_factor_157 rfl (fun cH => ?_) (fun cH => ?_)
  · replace H := H.1 cH
    exact r_vret dX10_factor_176 rfl (Nat.le_refl _) (Nat.le_refl _) H
  · replace H := H.2 cH
    refine r_aload_n dX10_factor_160 rfl rfl ?_
    refine r_iload dX10_factor_161 rfl ?_
    refine r_iconst (v := (1 : Int32)) dX10_factor_163 rfl ?_
    refine r_iadd dX10_factor_164 ?_
    refine r_iload dX10_factor_165 rfl ?_
    refine k_SV (As := [.ref a0, .int (x6 + (1 : Int32)), .int x6]) (stk := []) cs_X10_269 dX10_factor_167 rfl (Nat.le_of_ble_eq_true rfl) (H.mono (fun h1 H => ?_)) ⟨Nat.le_refl _, Nat.le_refl _⟩
    refine r_iinc (v := (x6 + (1 : Int32))) (ls2 := [some (.ref a0), none, none, none, none, none, some (.int (x6 + (1 : Int32)))]) dX10_factor_170 rfl rfl (by decide) rfl ?_
    refine r_goto (tgt := 151) dX10_factor_173 rfl ?_
    exact H
theorem s_X10_factor_177 {g : GX} {d : Nat} {av : List Value} {Q : QT} {n : Nat} {h : Hp} {a0 : Nat} {x1 : Int32} {x2 : Int32} {x3 : Int32} {x4 : Int32} {x5 : Int32} (hp : g.2.2.2.2 = true) (t0 : lay a0 = (0, 11, 15)) (H : (((ri h a0 5) ≤ (12 : Int32)) → (W_X10_factor g d av Q n 201 [some (.ref a0), some (.int x1), some (.int x2), some (.int x3), some (.int x4), some (.int x5), some (.int (ri h a0 5))] [] h)) ∧ ((¬ (ri h a0 5) ≤ (12 : Int32)) → (vp_in (0 : Int32) 13 ∧ ∀ h1, h1 = wi h (a0 + 6) ((0 : Int32)).toNatClampNeg (99 : Int32) → (Q none n h1)))) : W_X10_factor g d av Q n 177 [some (.ref a0), some (.int x1), some (.int x2), some (.int x3), some (.int x4), some (.int x5), none] [] h := by
  refine r_aload_n dX10_factor_177 rfl rfl ?_
  refine m_getI hp fw_X10_219 dX10_factor_178 rfl t0 ?_
  refine r_bipush (v := (12 : Int32)) dX10_factor_181 rfl ?_
  refine r_icmp_le (tgt := 195) dX10_factor_183 rfl (fun cH => ?_) (fun cH => ?_)
  · replace H := H.1 cH
    refine r_aload_n dX10_factor_195 rfl rfl ?_
    refine m_getI hp fw_X10_219 dX10_factor_196 rfl t0 ?_
    refine r_istore (ls2 := [some (.ref a0), some (.int x1), some (.int x2), some (.int x3), some (.int x4), some (.int x5), some (.int (ri h a0 5))]) dX10_factor_199 (by decide) rfl ?_
    exact H
  · replace H := H.2 cH
    refine r_aload_n dX10_factor_186 rfl rfl ?_
    refine m_getF (x := (a0 + 6)) hp fw_X10_231 dX10_factor_187 rfl t0 (ff_11_9 t0) ?_
    refine r_iconst (v := (0 : Int32)) dX10_factor_190 rfl ?_
    refine r_bipush (v := (99 : Int32)) dX10_factor_191 rfl ?_
    refine m_iast hp dX10_factor_193 (lf_11_9 t0) H.1 (fun h1 eh1 => ?_)
    replace H := H.2 h1 eh1
    exact r_vret dX10_factor_194 rfl (Nat.le_refl _) (Nat.le_refl _) H
theorem s_X10_factor_201 {g : GX} {d : Nat} {av : List Value} {Q : QT} {n : Nat} {h : Hp} {a0 : Nat} {x1 : Int32} {x2 : Int32} {x3 : Int32} {x4 : Int32} {x5 : Int32} {x6 : Int32} (hp : g.2.2.2.2 = true) (t0 : lay a0 = (0, 11, 15)) (H : ((x6 ≤ x5) → (∀ h1, h1 = wi h a0 5 ((ri h a0 5) + (1 : Int32)) → ((((12 : Int32) < x5) → (Q none n h1)) ∧ ((¬ (12 : Int32) < x5) → (vp_in x5 13 ∧ ∀ h2, h2 = wi h1 (a0 + 3) (x5).toNatClampNeg x1 → (vp_in x5 13 ∧ ∀ h3, h3 = wi h2 (a0 + 4) (x5).toNatClampNeg x2 → (vp_in x5 13 ∧ ∀ h4, h4 = wi h3 (a0 + 5) (x5).toNatClampNeg x3 → (vp_in x5 13 ∧ ∀ h5, h5 = wi h4 (a0 + 6) (x5).toNatClampNeg x4 → (Q none n h5))))))))) ∧ ((¬ x6 ≤ x5) → ((((12 : Int32) < x6) → (W_X10_factor g d av Q n 225 [some (.ref a0), some (.int x1), some (.int x2), some (.int x3), some (.int x4), some (.int x5), some (.int x6)] [] h)) ∧ ((¬ (12 : Int32) < x6) → (CallV g m_X10_move d [.ref a0, .int (x6 - (1 : Int32)), .int x6] n h (fun h6 => (W_X10_factor g d av Q n 225 [some (.ref a0), some (.int x1), some (.int x2), some (.int x3), some (.int x4), some (.int x5), some (.int x6)] [] h6))))))) : W_X10_factor g d av Q n 201 [some (.ref a0), some (.int x1), some (.int x2), some (.int x3), some (.int x4), some (.int x5), some (.int x6)] [] h := by
  refine r_iload dX10_factor_201 rfl ?_
  refine r_iload dX10_factor_203 rfl ?_
  refine r_icmp_le (tgt := 231) dX10_factor_205 rfl (fun cH => ?_) (fun cH => ?_)
  · replace H := H.1 cH
    refine r_aload_n dX10_factor_231 rfl rfl ?_
    refine r_dup dX10_factor_232 rfl ?_
    refine m_getI hp fw_X10_219 dX10_factor_233 rfl t0 ?_
    refine r_iconst (v := (1 : Int32)) dX10_factor_236 rfl ?_
    refine r_iadd dX10_factor_237 ?_
    refine m_putI hp fw_X10_219 dX10_factor_238 rfl rfl t0 (fun h1 eh1 => ?_)
    replace H := H h1 eh1
    refine r_iload dX10_factor_241 rfl ?_
    refine r_bipush (v := (12 : Int32)) dX10_factor_243 rfl ?_
    refine r_icmp_gt (tgt := 281) dX10_factor_245 rfl (fun cH => ?_) (fun cH => ?_)
    · replace H := H.1 cH
      exact r_vret dX10_factor_281 rfl (Nat.le_refl _) (Nat.le_refl _) H
    · replace H := H.2 cH
      refine r_aload_n dX10_factor_248 rfl rfl ?_
      refine m_getF (x := (a0 + 3)) hp fw_X10_222 dX10_factor_249 rfl t0 (ff_11_6 t0) ?_
      refine r_iload dX10_factor_252 rfl ?_
      refine r_iload_n dX10_factor_254 rfl rfl ?_
      refine m_iast hp dX10_factor_255 (lf_11_6 t0) H.1 (fun h2 eh2 => ?_)
      replace H := H.2 h2 eh2
      refine r_aload_n dX10_factor_256 rfl rfl ?_
      refine m_getF (x := (a0 + 4)) hp fw_X10_225 dX10_factor_257 rfl t0 (ff_11_7 t0) ?_
      refine r_iload dX10_factor_260 rfl ?_
      refine r_iload_n dX10_factor_262 rfl rfl ?_
      refine m_iast hp dX10_factor_263 (lf_11_7 t0) H.1 (fun h3 eh3 => ?_)
      replace H := H.2 h3 eh3
      refine r_aload_n dX10_factor_264 rfl rfl ?_
      refine m_getF (x := (a0 + 5)) hp fw_X10_228 dX10_factor_265 rfl t0 (ff_11_8 t0) ?_
      refine r_iload dX10_factor_268 rfl ?_
      refine r_iload_n dX10_factor_270 rfl rfl ?_
      refine m_iast hp dX10_factor_271 (lf_11_8 t0) H.1 (fun h4 eh4 => ?_)
      replace H := H.2 h4 eh4
      refine r_aload_n dX10_factor_272 rfl rfl ?_
      refine m_getF (x := (a0 + 6)) hp fw_X10_231 dX10_factor_273 rfl t0 (ff_11_9 t0) ?_
      refine r_iload dX10_factor_276 rfl ?_
      refine r_iload dX10_factor_278 rfl ?_
      refine m_iast hp dX10_factor_280 (lf_11_9 t0) H.1 (fun h5 eh5 => ?_)
      replace H := H.2 h5 eh5
      exact r_vret dX10_factor_281 rfl (Nat.le_refl _) (Nat.le_refl _) H
  · replace H := H.2 cH
    refine r_iload dX10_factor_208 rfl ?_
    refine r_bipush (v := (12 : Int32)) dX10_factor_210 rfl ?_
    refine r_icmp_gt (tgt := 225) dX10_factor_212 rfl (fun cH => ?_) (fun cH => ?_)
    · replace H := H.1 cH
      exact H
    · replace H := H.2 cH
      refine r_aload_n dX10_factor_215 rfl rfl ?_
      refine r_iload dX10_factor_216 rfl ?_
      refine r_iconst (v := (1 : Int32)) dX10_factor_218 rfl ?_
      refine r_isub dX10_factor_219 ?_
      refine r_iload dX10_factor_220 rfl ?_
      refine k_SV (As := [.ref a0, .int (x6 - (1 : Int32)), .int x6]) (stk := []) cs_X10_269 dX10_factor_222 rfl (Nat.le_of_ble_eq_true rfl) (H.mono (fun h6 H => ?_)) ⟨Nat.le_refl _, Nat.le_refl _⟩
      exact H
theorem s_X10_factor_225 {g : GX} {d : Nat} {av : List Value} {Q : QT} {n : Nat} {h : Hp} {a0 : Nat} {x1 : Int32} {x2 : Int32} {x3 : Int32} {x4 : Int32} {x5 : Int32} {x6 : Int32} (hp : g.2.2.2.2 = true) (t0 : lay a0 = (0, 11, 15)) (H : W_X10_factor g d av Q n 201 [some (.ref a0), some (.int x1), some (.int x2), some (.int x3), some (.int x4), some (.int x5), some (.int (x6 + (-1 : Int32)))] [] h) : W_X10_factor g d av Q n 225 [some (.ref a0), some (.int x1), some (.int x2), some (.int x3), some (.int x4), some (.int x5), some (.int x6)] [] h := by
  refine r_iinc (v := (x6 + (-1 : Int32))) (ls2 := [some (.ref a0), some (.int x1), some (.int x2), some (.int x3), some (.int x4), some (.int x5), some (.int (x6 + (-1 : Int32)))]) dX10_factor_225 rfl rfl (by decide) rfl ?_
  refine r_goto (tgt := 201) dX10_factor_228 rfl ?_
  exact H
abbrev W_X10_move (g : GX) (d : Nat) (av : List Value) (Q : QT) (n : Nat) (pc : Nat) (ls : LV) (stk : List Value) (h : Hp) : Prop := RJ g m_X10_move d 0 0 av Q pc ls stk n h 0 0
theorem s_X10_move_0 {g : GX} {d : Nat} {av : List Value} {Q : QT} {n : Nat} {h : Hp} {a0 : Nat} {x1 : Int32} {x2 : Int32} (hp : g.2.2.2.2 = true) (t0 : lay a0 = (0, 11, 15)) (H : vp_in x1 13 ∧ (vp_in x2 13 ∧ ∀ h1, h1 = wi h (a0 + 3) (x2).toNatClampNeg (ri h (a0 + 3) (x1).toNatClampNeg) → (vp_in x1 13 ∧ (vp_in x2 13 ∧ ∀ h2, h2 = wi h1 (a0 + 4) (x2).toNatClampNeg (ri h1 (a0 + 4) (x1).toNatClampNeg) → (vp_in x1 13 ∧ (vp_in x2 13 ∧ ∀ h3, h3 = wi h2 (a0 + 5) (x2).toNatClampNeg (ri h2 (a0 + 5) (x1).toNatClampNeg) → (vp_in x1 13 ∧ (vp_in x2 13 ∧ ∀ h4, h4 = wi h3 (a0 + 6) (x2).toNatClampNeg (ri h3 (a0 + 6) (x1).toNatClampNeg) → (Q none n h4))))))))) : W_X10_move g d av Q n 0 [some (.ref a0), some (.int x1), some (.int x2)] [] h := by
  refine r_aload_n dX10_move_0 rfl rfl ?_
  refine m_getF (x := (a0 + 3)) hp fw_X10_222 dX10_move_1 rfl t0 (ff_11_6 t0) ?_
  refine r_iload_n dX10_move_4 rfl rfl ?_
  refine r_aload_n dX10_move_5 rfl rfl ?_
  refine m_getF (x := (a0 + 3)) hp fw_X10_222 dX10_move_6 rfl t0 (ff_11_6 t0) ?_
  refine r_iload_n dX10_move_9 rfl rfl ?_
  refine m_iald hp dX10_move_10 (lf_11_6 t0) H.1 ?_
  replace H := H.2
  refine m_iast hp dX10_move_11 (lf_11_6 t0) H.1 (fun h1 eh1 => ?_)
  replace H := H.2 h1 eh1
  refine r_aload_n dX10_move_12 rfl rfl ?_
  refine m_getF (x := (a0 + 4)) hp fw_X10_225 dX10_move_13 rfl t0 (ff_11_7 t0) ?_
  refine r_iload_n dX10_move_16 rfl rfl ?_
  refine r_aload_n dX10_move_17 rfl rfl ?_
  refine m_getF (x := (a0 + 4)) hp fw_X10_225 dX10_move_18 rfl t0 (ff_11_7 t0) ?_
  refine r_iload_n dX10_move_21 rfl rfl ?_
  refine m_iald hp dX10_move_22 (lf_11_7 t0) H.1 ?_
  replace H := H.2
  refine m_iast hp dX10_move_23 (lf_11_7 t0) H.1 (fun h2 eh2 => ?_)
  replace H := H.2 h2 eh2
  refine r_aload_n dX10_move_24 rfl rfl ?_
  refine m_getF (x := (a0 + 5)) hp fw_X10_228 dX10_move_25 rfl t0 (ff_11_8 t0) ?_
  refine r_iload_n dX10_move_28 rfl rfl ?_
  refine r_aload_n dX10_move_29 rfl rfl ?_
  refine m_getF (x := (a0 + 5)) hp fw_X10_228 dX10_move_30 rfl t0 (ff_11_8 t0) ?_
  refine r_iload_n dX10_move_33 rfl rfl ?_
  refine m_iald hp dX10_move_34 (lf_11_8 t0) H.1 ?_
  replace H := H.2
  refine m_iast hp dX10_move_35 (lf_11_8 t0) H.1 (fun h3 eh3 => ?_)
  replace H := H.2 h3 eh3
  refine r_aload_n dX10_move_36 rfl rfl ?_
  refine m_getF (x := (a0 + 6)) hp fw_X10_231 dX10_move_37 rfl t0 (ff_11_9 t0) ?_
  refine r_iload_n dX10_move_40 rfl rfl ?_
  refine r_aload_n dX10_move_41 rfl rfl ?_
  refine m_getF (x := (a0 + 6)) hp fw_X10_231 dX10_move_42 rfl t0 (ff_11_9 t0) ?_
  refine r_iload_n dX10_move_45 rfl rfl ?_
  refine m_iald hp dX10_move_46 (lf_11_9 t0) H.1 ?_
  replace H := H.2
  refine m_iast hp dX10_move_47 (lf_11_9 t0) H.1 (fun h4 eh4 => ?_)
  replace H := H.2 h4 eh4
  exact r_vret dX10_move_48 rfl (Nat.le_refl _) (Nat.le_refl _) H
abbrev W_X10_mul (g : GX) (d : Nat) (av : List Value) (Q : QT) (n : Nat) (pc : Nat) (ls : LV) (stk : List Value) (h : Hp) : Prop := RJ g m_X10_mul d 0 0 av Q pc ls stk n h 0 0
theorem s_X10_mul_0 {g : GX} {d : Nat} {av : List Value} {Q : QT} {n : Nat} {h : Hp} {x0 : Int32} {x1 : Int32} (hp : g.2.2.2.2 = true)  (H : Q (some (.int ((((x0).toInt64 * (x1).toInt64) - ((x0).toInt64 * (x1).toInt64) / (2147483647 : Int64) * (2147483647 : Int64))).toInt32)) n h) : W_X10_mul g d av Q n 0 [some (.int x0), some (.int x1)] [] h := by
  refine r_iload_n dX10_mul_0 rfl rfl ?_
  refine r_i2l dX10_mul_1 ?_
  refine r_iload_n dX10_mul_2 rfl rfl ?_
  refine r_i2l dX10_mul_3 ?_
  refine r_lmul dX10_mul_4 ?_
  refine r_ldc2 (own := "") (v := (2147483647 : Int64)) dX10_mul_5 q2239 ?_
  refine r_lrem dX10_mul_8 (by decide) ?_
  refine r_l2i dX10_mul_9 ?_
  exact r_zret dX10_mul_10 rfl rfl (Nat.le_refl _) (Nat.le_refl _) H
abbrev W_X10_inv (g : GX) (d : Nat) (av : List Value) (Q : QT) (n : Nat) (pc : Nat) (ls : LV) (stk : List Value) (h : Hp) : Prop := RJ g m_X10_inv (d + 1) 0 0 av Q pc ls stk n h 0 0
theorem s_X10_inv_0 {g : GX} {d : Nat} {av : List Value} {Q : QT} {n : Nat} {h : Hp} {x0 : Int32} (hp : g.2.2.2.2 = true)  (H : CallI g m_X10_pow d [.int x0, .long (2147483645 : Int64)] n h (fun v1 h1 => (Q (some (.int v1)) n h1))) : W_X10_inv g d av Q n 0 [some (.int x0)] [] h := by
  refine r_iload_n dX10_inv_0 rfl rfl ?_
  refine r_ldc2 (own := "") (v := (2147483645 : Int64)) dX10_inv_1 q2243 ?_
  refine k_SI (As := [.int x0, .long (2147483645 : Int64)]) (stk := []) cs_X10_8 dX10_inv_4 rfl (Nat.le_of_ble_eq_true rfl) (H.mono (fun v1 h1 H => ?_)) ⟨Nat.le_refl _, Nat.le_refl _⟩
  exact r_zret dX10_inv_7 rfl rfl (Nat.le_refl _) (Nat.le_refl _) H
abbrev W_X10_pow (g : GX) (d : Nat) (av : List Value) (Q : QT) (n : Nat) (pc : Nat) (ls : LV) (stk : List Value) (h : Hp) : Prop := RJ g m_X10_pow d 0 0 av Q pc ls stk n h 0 0
theorem s_X10_pow_0 {g : GX} {d : Nat} {av : List Value} {Q : QT} {n : Nat} {h : Hp} {x0 : Int32} {y1 : Int64} (hp : g.2.2.2.2 = true)  (H : W_X10_pow g d av Q n 9 [none, none, none, some (.long (1 : Int64)), none, some (.long (x0).toInt64), none, some (.long y1), none] [] h) : W_X10_pow g d av Q n 0 [some (.int x0), some (.long y1), none, none, none, none, none, none, none] [] h := by
  refine r_lconst (v := (1 : Int64)) dX10_pow_0 rfl ?_
  refine r_lstore_n (ls2 := [some (.int x0), some (.long y1), none, some (.long (1 : Int64)), none, none, none, none, none]) dX10_pow_1 rfl (by decide) rfl ?_
  refine r_iload_n dX10_pow_2 rfl rfl ?_
  refine r_i2l dX10_pow_3 ?_
  refine r_lstore (ls2 := [some (.int x0), some (.long y1), none, some (.long (1 : Int64)), none, some (.long (x0).toInt64), none, none, none]) dX10_pow_4 (by decide) rfl ?_
  refine r_lload_n dX10_pow_6 rfl rfl ?_
  refine r_lstore (ls2 := [some (.int x0), some (.long y1), none, some (.long (1 : Int64)), none, some (.long (x0).toInt64), none, some (.long y1), none]) dX10_pow_7 (by decide) rfl ?_
  refine r_prune [false, false, false, true, false, true, false, true, false] (ls2 := [none, none, none, some (.long (1 : Int64)), none, some (.long (x0).toInt64), none, some (.long y1), none]) rfl ?_
  exact H
theorem s_X10_pow_9 {g : GX} {d : Nat} {av : List Value} {Q : QT} {n : Nat} {h : Hp} {y3 : Int64} {y5 : Int64} {y7 : Int64} (hp : g.2.2.2.2 = true)  (H : (((lg_cmp y7 (0 : Int64)) ≤ (0 : Int32)) → (Q (some (.int (y3).toInt32)) n h)) ∧ ((¬ (lg_cmp y7 (0 : Int64)) ≤ (0 : Int32)) → (((¬ (lg_cmp (y7 &&& (1 : Int64)) (1 : Int64)) = (0 : Int32)) → (W_X10_pow g d av Q n 37 [none, none, none, none, none, some (.long y5), none, some (.long y7), none] [.long y3] h)) ∧ (((lg_cmp (y7 &&& (1 : Int64)) (1 : Int64)) = (0 : Int32)) → (W_X10_pow g d av Q n 37 [none, none, none, none, none, some (.long y5), none, some (.long y7), none] [.long ((y3 * y5) - (y3 * y5) / (2147483647 : Int64) * (2147483647 : Int64))] h))))) : W_X10_pow g d av Q n 9 [none, none, none, some (.long y3), none, some (.long y5), none, some (.long y7), none] [] h := by
  refine r_lload dX10_pow_9 rfl ?_
  refine r_lconst (v := (0 : Int64)) dX10_pow_11 rfl ?_
  refine r_lcmp dX10_pow_12 ?_
  refine r_if_le (tgt := 58) dX10_pow_13 rfl (fun cH => ?_) (fun cH => ?_)
  · replace H := H.1 cH
    refine r_lload_n dX10_pow_58 rfl rfl ?_
    refine r_l2i dX10_pow_59 ?_
    exact r_zret dX10_pow_60 rfl rfl (Nat.le_refl _) (Nat.le_refl _) H
  · replace H := H.2 cH
    refine r_lload dX10_pow_16 rfl ?_
    refine r_lconst (v := (1 : Int64)) dX10_pow_18 rfl ?_
    refine r_land dX10_pow_19 ?_
    refine r_lconst (v := (1 : Int64)) dX10_pow_20 rfl ?_
    refine r_lcmp dX10_pow_21 ?_
    refine r_if_ne (tgt := 36) dX10_pow_22 rfl (fun cH => ?_) (fun cH => ?_)
    · replace H := H.1 cH
      refine r_lload_n dX10_pow_36 rfl rfl ?_
      refine r_prune [false, false, false, false, false, true, false, true, false] (ls2 := [none, none, none, none, none, some (.long y5), none, some (.long y7), none]) rfl ?_
      exact H
    · replace H := H.2 cH
      refine r_lload_n dX10_pow_25 rfl rfl ?_
      refine r_lload dX10_pow_26 rfl ?_
      refine r_lmul dX10_pow_28 ?_
      refine r_ldc2 (own := "") (v := (2147483647 : Int64)) dX10_pow_29 q2239 ?_
      refine r_lrem dX10_pow_32 (by decide) ?_
      refine r_goto (tgt := 37) dX10_pow_33 rfl ?_
      refine r_prune [false, false, false, false, false, true, false, true, false] (ls2 := [none, none, none, none, none, some (.long y5), none, some (.long y7), none]) rfl ?_
      exact H
theorem s_X10_pow_37 {g : GX} {d : Nat} {av : List Value} {Q : QT} {n : Nat} {h : Hp} {y5 : Int64} {y7 : Int64} {ys0 : Int64} (hp : g.2.2.2.2 = true)  (H : W_X10_pow g d av Q n 9 [none, none, none, some (.long ys0), none, some (.long ((y5 * y5) - (y5 * y5) / (2147483647 : Int64) * (2147483647 : Int64))), none, some (.long (y7 >>> (((1 : Int32)).toInt64 &&& 63))), none] [] h) : W_X10_pow g d av Q n 37 [none, none, none, none, none, some (.long y5), none, some (.long y7), none] [.long ys0] h := by
  refine r_lstore_n (ls2 := [none, none, none, some (.long ys0), none, some (.long y5), none, some (.long y7), none]) dX10_pow_37 rfl (by decide) rfl ?_
  refine r_lload dX10_pow_38 rfl ?_
  refine r_lload dX10_pow_40 rfl ?_
  refine r_lmul dX10_pow_42 ?_
  refine r_ldc2 (own := "") (v := (2147483647 : Int64)) dX10_pow_43 q2239 ?_
  refine r_lrem dX10_pow_46 (by decide) ?_
  refine r_lstore (ls2 := [none, none, none, some (.long ys0), none, some (.long ((y5 * y5) - (y5 * y5) / (2147483647 : Int64) * (2147483647 : Int64))), none, some (.long y7), none]) dX10_pow_47 (by decide) rfl ?_
  refine r_lload dX10_pow_49 rfl ?_
  refine r_iconst (v := (1 : Int32)) dX10_pow_51 rfl ?_
  refine r_lshr dX10_pow_52 ?_
  refine r_lstore (ls2 := [none, none, none, some (.long ys0), none, some (.long ((y5 * y5) - (y5 * y5) / (2147483647 : Int64) * (2147483647 : Int64))), none, some (.long (y7 >>> (((1 : Int32)).toInt64 &&& 63))), none]) dX10_pow_53 (by decide) rfl ?_
  refine r_goto (tgt := 9) dX10_pow_55 rfl ?_
  exact H
abbrev W_X10_name (g : GX) (d : Nat) (av : List Value) (Q : QT) (n : Nat) (pc : Nat) (ls : LV) (stk : List Value) (h : Hp) : Prop := RJ g m_X10_name d 0 0 av Q pc ls stk n h 0 0
theorem s_X10_name_0 {g : GX} {d : Nat} {av : List Value} {Q : QT} {n : Nat} {h : Hp} {a0 : Nat} (hp : g.2.2.2.2 = true) (t0 : lay a0 = (0, 11, 15)) (H : ((¬ (ri h a0 5) = (0 : Int32)) → (W_X10_name g d av Q n 28 [none] [.ref a0] h)) ∧ (((ri h a0 5) = (0 : Int32)) → (((¬ (ri h a0 3) = (1 : Int32)) → (W_X10_name g d av Q n 28 [none] [.ref a0] h)) ∧ (((ri h a0 3) = (1 : Int32)) → (((¬ (ri h a0 4) = (1 : Int32)) → (W_X10_name g d av Q n 28 [none] [.ref a0] h)) ∧ (((ri h a0 4) = (1 : Int32)) → (W_X10_name g d av Q n 29 [none] [.int (1 : Int32), .ref a0] h))))))) : W_X10_name g d av Q n 0 [some (.ref a0)] [] h := by
  refine r_aload_n dX10_name_0 rfl rfl ?_
  refine r_aload_n dX10_name_1 rfl rfl ?_
  refine m_getI hp fw_X10_219 dX10_name_2 rfl t0 ?_
  refine r_if_ne (tgt := 28) dX10_name_5 rfl (fun cH => ?_) (fun cH => ?_)
  · replace H := H.1 cH
    refine r_prune [false] (ls2 := [none]) rfl ?_
    exact H
  · replace H := H.2 cH
    refine r_aload_n dX10_name_8 rfl rfl ?_
    refine m_getI hp fw_X10_213 dX10_name_9 rfl t0 ?_
    refine r_iconst (v := (1 : Int32)) dX10_name_12 rfl ?_
    refine r_icmp_ne (tgt := 28) dX10_name_13 rfl (fun cH => ?_) (fun cH => ?_)
    · replace H := H.1 cH
      refine r_prune [false] (ls2 := [none]) rfl ?_
      exact H
    · replace H := H.2 cH
      refine r_aload_n dX10_name_16 rfl rfl ?_
      refine m_getI hp fw_X10_216 dX10_name_17 rfl t0 ?_
      refine r_iconst (v := (1 : Int32)) dX10_name_20 rfl ?_
      refine r_icmp_ne (tgt := 28) dX10_name_21 rfl (fun cH => ?_) (fun cH => ?_)
      · replace H := H.1 cH
        refine r_prune [false] (ls2 := [none]) rfl ?_
        exact H
      · replace H := H.2 cH
        refine r_iconst (v := (1 : Int32)) dX10_name_24 rfl ?_
        refine r_goto (tgt := 29) dX10_name_25 rfl ?_
        refine r_prune [false] (ls2 := [none]) rfl ?_
        exact H
theorem s_X10_name_28 {g : GX} {d : Nat} {av : List Value} {Q : QT} {n : Nat} {h : Hp} {as0 : Nat} (hp : g.2.2.2.2 = true) (ts0 : lay as0 = (0, 11, 15)) (H : W_X10_name g d av Q n 29 [none] [.int (2 : Int32), .ref as0] h) : W_X10_name g d av Q n 28 [none] [.ref as0] h := by
  refine r_iconst (v := (2 : Int32)) dX10_name_28 rfl ?_
  exact H
theorem s_X10_name_29 {g : GX} {d : Nat} {av : List Value} {Q : QT} {n : Nat} {h : Hp} {xs0 : Int32} {as1 : Nat} (hp : g.2.2.2.2 = true) (ts1 : lay as1 = (0, 11, 15)) (H : ∀ h1, h1 = wi h as1 0 xs0 → (Q none n h1)) : W_X10_name g d av Q n 29 [none] [.int xs0, .ref as1] h := by
  refine m_putI hp fw_X10_202 dX10_name_29 rfl rfl ts1 (fun h1 eh1 => ?_)
  replace H := H h1 eh1
  exact r_vret dX10_name_32 rfl (Nat.le_refl _) (Nat.le_refl _) H
abbrev W_X10_newThing (g : GX) (d : Nat) (av : List Value) (Q : QT) (n : Nat) (pc : Nat) (ls : LV) (stk : List Value) (h : Hp) : Prop := RJ g m_X10_newThing d 0 0 av Q pc ls stk n h 0 0
theorem s_X10_newThing_0 {g : GX} {d : Nat} {av : List Value} {Q : QT} {n : Nat} {h : Hp}  (hp : g.2.2.2.2 = true)  (H : ∀ h1, h1 = wi h 2759 16 ((ri h 2759 16) + (1 : Int32)) → (vp_in (ri h 2759 16) 130 ∧ ∀ r2, r2 = 9075 + 9 * ((ri h 2759 16)).toNatClampNeg → (Q (some (.ref r2)) n h1))) : W_X10_newThing g d av Q n 0 [some (.ref 2759)] [] h := by
  refine r_aload_n dX10_newThing_0 rfl rfl ?_
  refine m_getF (x := 2840) hp fw_X10_371 dX10_newThing_1 rfl ly_10 (ff_10_15 ly_10) ?_
  refine r_aload_n dX10_newThing_4 rfl rfl ?_
  refine r_dup dX10_newThing_5 rfl ?_
  refine m_getI hp fw_X10_375 dX10_newThing_6 rfl ly_10 ?_
  refine r_dup_x1 dX10_newThing_9 rfl rfl ?_
  refine r_iconst (v := (1 : Int32)) dX10_newThing_10 rfl ?_
  refine r_iadd dX10_newThing_11 ?_
  refine m_putI hp fw_X10_375 dX10_newThing_12 rfl rfl ly_10 (fun h1 eh1 => ?_)
  replace H := H h1 eh1
  obtain ⟨r2, er2⟩ : ∃ y, y = 9075 + 9 * ((ri h 2759 16)).toNatClampNeg := ⟨_, rfl⟩
  have hir2 := H.1
  replace H := H.2 r2 er2
  have tLr2 := la_2840 hir2 er2
  refine m_aalF (x := r2) hp dX10_newThing_15 (lf_10_15 ly_10) rfl rfl (lu_10_15 ly_10) hir2 (fa_2840 hir2 er2) ?_
  exact r_aret dX10_newThing_16 rfl (Or.inl ⟨_, rfl⟩) (Nat.le_refl _) (Nat.le_refl _) H
abbrev W_X10_isZero (g : GX) (d : Nat) (av : List Value) (Q : QT) (n : Nat) (pc : Nat) (ls : LV) (stk : List Value) (h : Hp) : Prop := RJ g m_X10_isZero d 0 0 av Q pc ls stk n h 0 0
theorem s_X10_isZero_0 {g : GX} {d : Nat} {av : List Value} {Q : QT} {n : Nat} {h : Hp} {a0 : Nat} (hp : g.2.2.2.2 = true) (t0 : lay a0 = (0, 11, 15)) (H : ((¬ (ri h a0 0) = (1 : Int32)) → (W_X10_isZero g d av Q n 13 [some (.ref a0), none, none] [.int (0 : Int32)] h)) ∧ (((ri h a0 0) = (1 : Int32)) → (W_X10_isZero g d av Q n 13 [some (.ref a0), none, none] [.int (1 : Int32)] h))) : W_X10_isZero g d av Q n 0 [some (.ref a0), none, none] [] h := by
  refine r_aload_n dX10_isZero_0 rfl rfl ?_
  refine m_getI hp fw_X10_202 dX10_isZero_1 rfl t0 ?_
  refine r_iconst (v := (1 : Int32)) dX10_isZero_4 rfl ?_
  refine r_icmp_ne (tgt := 12) dX10_isZero_5 rfl (fun cH => ?_) (fun cH => ?_)
  · replace H := H.1 cH
    refine r_iconst (v := (0 : Int32)) dX10_isZero_12 rfl ?_
    exact H
  · replace H := H.2 cH
    refine r_iconst (v := (1 : Int32)) dX10_isZero_8 rfl ?_
    refine r_goto (tgt := 13) dX10_isZero_9 rfl ?_
    exact H
theorem s_X10_isZero_13 {g : GX} {d : Nat} {av : List Value} {Q : QT} {n : Nat} {h : Hp} {a0 : Nat} {xs0 : Int32} (hp : g.2.2.2.2 = true) (t0 : lay a0 = (0, 11, 15)) (H : W_X10_isZero g d av Q n 16 [some (.ref a0), some (.int xs0), some (.int (0 : Int32))] [] h) : W_X10_isZero g d av Q n 13 [some (.ref a0), none, none] [.int xs0] h := by
  refine r_istore_n (ls2 := [some (.ref a0), some (.int xs0), none]) dX10_isZero_13 rfl (by decide) rfl ?_
  refine r_iconst (v := (0 : Int32)) dX10_isZero_14 rfl ?_
  refine r_istore_n (ls2 := [some (.ref a0), some (.int xs0), some (.int (0 : Int32))]) dX10_isZero_15 rfl (by decide) rfl ?_
  exact H
theorem s_X10_isZero_16 {g : GX} {d : Nat} {av : List Value} {Q : QT} {n : Nat} {h : Hp} {a0 : Nat} {x1 : Int32} {x2 : Int32} (hp : g.2.2.2.2 = true) (t0 : lay a0 = (0, 11, 15)) (H : (((325 : Int32) ≤ x2) → ((x1 = 0 ∨ x1 = 1) ∧ Q (some (.int x1)) n h)) ∧ ((¬ (325 : Int32) ≤ x2) → (((x1 = (0 : Int32)) → ((x1 = 0 ∨ x1 = 1) ∧ Q (some (.int x1)) n h)) ∧ ((¬ x1 = (0 : Int32)) → (vp_in x2 325 ∧ (((¬ (ri h (a0 + 1) (x2).toNatClampNeg) = (0 : Int32)) → (W_X10_isZero g d av Q n 41 [some (.ref a0), none, some (.int x2)] [.int (0 : Int32)] h)) ∧ (((ri h (a0 + 1) (x2).toNatClampNeg) = (0 : Int32)) → (W_X10_isZero g d av Q n 41 [some (.ref a0), none, some (.int x2)] [.int (1 : Int32)] h)))))))) : W_X10_isZero g d av Q n 16 [some (.ref a0), some (.int x1), some (.int x2)] [] h := by
  refine r_iload_n dX10_isZero_16 rfl rfl ?_
  refine r_sipush (v := (325 : Int32)) dX10_isZero_17 rfl ?_
  refine r_icmp_ge (tgt := 48) dX10_isZero_20 rfl (fun cH => ?_) (fun cH => ?_)
  · replace H := H.1 cH
    refine r_iload_n dX10_isZero_48 rfl rfl ?_
    exact r_zret dX10_isZero_49 rfl (nar01 H.1) (Nat.le_refl _) (Nat.le_refl _) H.2
  · replace H := H.2 cH
    refine r_iload_n dX10_isZero_23 rfl rfl ?_
    refine r_if_eq (tgt := 48) dX10_isZero_24 rfl (fun cH => ?_) (fun cH => ?_)
    · replace H := H.1 cH
      refine r_iload_n dX10_isZero_48 rfl rfl ?_
      exact r_zret dX10_isZero_49 rfl (nar01 H.1) (Nat.le_refl _) (Nat.le_refl _) H.2
    · replace H := H.2 cH
      refine r_aload_n dX10_isZero_27 rfl rfl ?_
      refine m_getF (x := (a0 + 1)) hp fw_X10_207 dX10_isZero_28 rfl t0 (ff_11_1 t0) ?_
      refine r_iload_n dX10_isZero_31 rfl rfl ?_
      refine m_iald hp dX10_isZero_32 (lf_11_1 t0) H.1 ?_
      replace H := H.2
      refine r_if_ne (tgt := 40) dX10_isZero_33 rfl (fun cH => ?_) (fun cH => ?_)
      · replace H := H.1 cH
        refine r_iconst (v := (0 : Int32)) dX10_isZero_40 rfl ?_
        refine r_prune [true, false, true] (ls2 := [some (.ref a0), none, some (.int x2)]) rfl ?_
        exact H
      · replace H := H.2 cH
        refine r_iconst (v := (1 : Int32)) dX10_isZero_36 rfl ?_
        refine r_goto (tgt := 41) dX10_isZero_37 rfl ?_
        refine r_prune [true, false, true] (ls2 := [some (.ref a0), none, some (.int x2)]) rfl ?_
        exact H
theorem s_X10_isZero_41 {g : GX} {d : Nat} {av : List Value} {Q : QT} {n : Nat} {h : Hp} {a0 : Nat} {x2 : Int32} {xs0 : Int32} (hp : g.2.2.2.2 = true) (t0 : lay a0 = (0, 11, 15)) (H : W_X10_isZero g d av Q n 16 [some (.ref a0), some (.int xs0), some (.int (x2 + (1 : Int32)))] [] h) : W_X10_isZero g d av Q n 41 [some (.ref a0), none, some (.int x2)] [.int xs0] h := by
  refine r_istore_n (ls2 := [some (.ref a0), some (.int xs0), some (.int x2)]) dX10_isZero_41 rfl (by decide) rfl ?_
  refine r_iinc (v := (x2 + (1 : Int32))) (ls2 := [some (.ref a0), some (.int xs0), some (.int (x2 + (1 : Int32)))]) dX10_isZero_42 rfl rfl (by decide) rfl ?_
  refine r_goto (tgt := 16) dX10_isZero_45 rfl ?_
  exact H
abbrev W_X10_raise (g : GX) (d : Nat) (av : List Value) (Q : QT) (n : Nat) (pc : Nat) (ls : LV) (stk : List Value) (h : Hp) : Prop := RJ g m_X10_raise (d + 1) 0 0 av Q pc ls stk n h 0 0
theorem s_X10_raise_0 {g : GX} {d : Nat} {av : List Value} {Q : QT} {n : Nat} {h : Hp} {a1 : Nat} {x2 : Int32} (hp : g.2.2.2.2 = true) (t1 : lay a1 = (0, 11, 15)) (H : ((¬ x2 = (0 : Int32)) → (CallI g m_X10_isZero d [.ref a1] n h (fun v1 h1 => (((v1 = (0 : Int32)) → (CallR g m_X10_newB d [.ref 2759] n h1 (fun v2 h2 => (lay v2 = (0, 14, 2) ∧ (CallR g m_X10_newB d [.ref 2759] n h2 (fun v3 h3 => (lay v3 = (0, 14, 2) ∧ (CallR g m_X10_newB d [.ref 2759] n h3 (fun v4 h4 => (lay v4 = (0, 14, 2) ∧ (CallR g m_X10_newB d [.ref 2759] n h4 (fun v5 h5 => (lay v5 = (0, 14, 2) ∧ ((((0 : Int32) ≤ x2) → (W_X10_raise g d av Q n 67 [some (.ref 2759), some (.ref a1), some (.int x2), some (.int (ri h1 2759 3)), some (.ref v2), some (.ref v3), some (.ref v4), some (.ref v5), none, none, none, none, none] [.ref (a1 + 1), .ref v2] h5)) ∧ ((¬ (0 : Int32) ≤ x2) → (W_X10_raise g d av Q n 67 [some (.ref 2759), some (.ref a1), some (.int x2), some (.int (ri h1 2759 3)), some (.ref v2), some (.ref v3), some (.ref v4), some (.ref v5), none, none, none, none, none] [.ref (a1 + 2), .ref v2] h5)))))))))))))))) ∧ ((¬ v1 = (0 : Int32)) → (Q (some (.int (1 : Int32))) n h1)))))) ∧ ((x2 = (0 : Int32)) → (CallV g m_X10_number d [.ref 2759, .ref a1, .int (1 : Int32)] n h (fun h6 => (Q (some (.int (1 : Int32))) n h6))))) : W_X10_raise g d av Q n 0 [some (.ref 2759), some (.ref a1), some (.int x2), none, none, none, none, none, none, none, none, none, none] [] h := by
  refine r_iload_n dX10_raise_0 rfl rfl ?_
  refine r_if_ne (tgt := 12) dX10_raise_1 rfl (fun cH => ?_) (fun cH => ?_)
  · replace H := H.1 cH
    refine r_aload_n dX10_raise_12 rfl rfl ?_
    refine k_SI (As := [.ref a1]) (stk := []) cs_X10_288 dX10_raise_13 rfl (Nat.le_of_ble_eq_true rfl) (H.mono (fun v1 h1 H => ?_)) ⟨Nat.le_refl _, Nat.le_refl _⟩
    refine r_if_eq (tgt := 21) dX10_raise_16 rfl (fun cH => ?_) (fun cH => ?_)
    · replace H := H.1 cH
      refine r_aload_n dX10_raise_21 rfl rfl ?_
      refine m_getI hp fw_X10_90 dX10_raise_22 rfl ly_10 ?_
      refine r_istore_n (ls2 := [some (.ref 2759), some (.ref a1), some (.int x2), some (.int (ri h1 2759 3)), none, none, none, none, none, none, none, none, none]) dX10_raise_25 rfl (by decide) rfl ?_
      refine r_aload_n dX10_raise_26 rfl rfl ?_
      refine k_VR (As := []) (stk := []) hp cv_X10_140 dX10_raise_27 rfl (Nat.le_of_ble_eq_true rfl) ly_10 (H.mono (fun v2 h2 H => ?_)) ⟨Nat.le_refl _, Nat.le_refl _⟩
      obtain ⟨tv2, H⟩ := H
      refine r_astore (ls2 := [some (.ref 2759), some (.ref a1), some (.int x2), some (.int (ri h1 2759 3)), some (.ref v2), none, none, none, none, none, none, none, none]) dX10_raise_30 (by decide) rfl ?_
      refine r_aload_n dX10_raise_32 rfl rfl ?_
      refine k_VR (As := []) (stk := []) hp cv_X10_140 dX10_raise_33 rfl (Nat.le_of_ble_eq_true rfl) ly_10 (H.mono (fun v3 h3 H => ?_)) ⟨Nat.le_refl _, Nat.le_refl _⟩
      obtain ⟨tv3, H⟩ := H
      refine r_astore (ls2 := [some (.ref 2759), some (.ref a1), some (.int x2), some (.int (ri h1 2759 3)), some (.ref v2), some (.ref v3), none, none, none, none, none, none, none]) dX10_raise_36 (by decide) rfl ?_
      refine r_aload_n dX10_raise_38 rfl rfl ?_
      refine k_VR (As := []) (stk := []) hp cv_X10_140 dX10_raise_39 rfl (Nat.le_of_ble_eq_true rfl) ly_10 (H.mono (fun v4 h4 H => ?_)) ⟨Nat.le_refl _, Nat.le_refl _⟩
      obtain ⟨tv4, H⟩ := H
      refine r_astore (ls2 := [some (.ref 2759), some (.ref a1), some (.int x2), some (.int (ri h1 2759 3)), some (.ref v2), some (.ref v3), some (.ref v4), none, none, none, none, none, none]) dX10_raise_42 (by decide) rfl ?_
      refine r_aload_n dX10_raise_44 rfl rfl ?_
      refine k_VR (As := []) (stk := []) hp cv_X10_140 dX10_raise_45 rfl (Nat.le_of_ble_eq_true rfl) ly_10 (H.mono (fun v5 h5 H => ?_)) ⟨Nat.le_refl _, Nat.le_refl _⟩
      obtain ⟨tv5, H⟩ := H
      refine r_astore (ls2 := [some (.ref 2759), some (.ref a1), some (.int x2), some (.int (ri h1 2759 3)), some (.ref v2), some (.ref v3), some (.ref v4), some (.ref v5), none, none, none, none, none]) dX10_raise_48 (by decide) rfl ?_
      refine r_aload dX10_raise_50 rfl ?_
      refine r_iload_n dX10_raise_52 rfl rfl ?_
      refine r_if_ge (tgt := 63) dX10_raise_53 rfl (fun cH => ?_) (fun cH => ?_)
      · replace H := H.1 cH
        refine r_aload_n dX10_raise_63 rfl rfl ?_
        refine m_getF (x := (a1 + 1)) hp fw_X10_207 dX10_raise_64 rfl t1 (ff_11_1 t1) ?_
        exact H
      · replace H := H.2 cH
        refine r_aload_n dX10_raise_56 rfl rfl ?_
        refine m_getF (x := (a1 + 2)) hp fw_X10_210 dX10_raise_57 rfl t1 (ff_11_2 t1) ?_
        refine r_goto (tgt := 67) dX10_raise_60 rfl ?_
        exact H
    · replace H := H.2 cH
      refine r_iconst (v := (1 : Int32)) dX10_raise_19 rfl ?_
      exact r_zret dX10_raise_20 rfl rfl (Nat.le_refl _) (Nat.le_refl _) H
  · replace H := H.2 cH
    refine r_aload_n dX10_raise_4 rfl rfl ?_
    refine r_aload_n dX10_raise_5 rfl rfl ?_
    refine r_iconst (v := (1 : Int32)) dX10_raise_6 rfl ?_
    refine k_VV (As := [.ref a1, .int (1 : Int32)]) (stk := []) hp cv_X10_292 dX10_raise_7 rfl (Nat.le_of_ble_eq_true rfl) ly_10 (H.mono (fun h6 H => ?_)) ⟨Nat.le_refl _, Nat.le_refl _⟩
    refine r_iconst (v := (1 : Int32)) dX10_raise_10 rfl ?_
    exact r_zret dX10_raise_11 rfl rfl (Nat.le_refl _) (Nat.le_refl _) H
theorem s_X10_raise_67 {g : GX} {d : Nat} {av : List Value} {Q : QT} {n : Nat} {h : Hp} {a1 : Nat} {x2 : Int32} {x3 : Int32} {a4 : Nat} {a5 : Nat} {a6 : Nat} {a7 : Nat} {as0 : Nat} {Ls0 : Nat} {as1 : Nat} (hp : g.2.2.2.2 = true) (t1 : lay a1 = (0, 11, 15)) (t4 : lay a4 = (0, 14, 2)) (t5 : lay a5 = (0, 14, 2)) (t6 : lay a6 = (0, 14, 2)) (t7 : lay a7 = (0, 14, 2)) (ts0 : lay as0 = (1, Ls0, 0)) (ts1 : lay as1 = (0, 14, 2)) (H : CallV g m_X10_load d [.ref as1, .ref as0] n h (fun h1 => ((((0 : Int32) ≤ x2) → (W_X10_raise g d av Q n 87 [some (.ref 2759), some (.ref a1), some (.int x2), some (.int x3), some (.ref a4), some (.ref a5), some (.ref a6), some (.ref a7), none, none, none, none, none] [.ref (a1 + 2), .ref a5] h1)) ∧ ((¬ (0 : Int32) ≤ x2) → (W_X10_raise g d av Q n 87 [some (.ref 2759), some (.ref a1), some (.int x2), some (.int x3), some (.ref a4), some (.ref a5), some (.ref a6), some (.ref a7), none, none, none, none, none] [.ref (a1 + 1), .ref a5] h1))))) : W_X10_raise g d av Q n 67 [some (.ref 2759), some (.ref a1), some (.int x2), some (.int x3), some (.ref a4), some (.ref a5), some (.ref a6), some (.ref a7), none, none, none, none, none] [.ref as0, .ref as1] h := by
  refine k_SV (As := [.ref as1, .ref as0]) (stk := []) cs_X10_295 dX10_raise_67 rfl (Nat.le_of_ble_eq_true rfl) (H.mono (fun h1 H => ?_)) ⟨Nat.le_refl _, Nat.le_refl _⟩
  refine r_aload dX10_raise_70 rfl ?_
  refine r_iload_n dX10_raise_72 rfl rfl ?_
  refine r_if_ge (tgt := 83) dX10_raise_73 rfl (fun cH => ?_) (fun cH => ?_)
  · replace H := H.1 cH
    refine r_aload_n dX10_raise_83 rfl rfl ?_
    refine m_getF (x := (a1 + 2)) hp fw_X10_210 dX10_raise_84 rfl t1 (ff_11_2 t1) ?_
    exact H
  · replace H := H.2 cH
    refine r_aload_n dX10_raise_76 rfl rfl ?_
    refine m_getF (x := (a1 + 1)) hp fw_X10_207 dX10_raise_77 rfl t1 (ff_11_1 t1) ?_
    refine r_goto (tgt := 87) dX10_raise_80 rfl ?_
    exact H
theorem s_X10_raise_87 {g : GX} {d : Nat} {av : List Value} {Q : QT} {n : Nat} {h : Hp} {a1 : Nat} {x2 : Int32} {x3 : Int32} {a4 : Nat} {a5 : Nat} {a6 : Nat} {a7 : Nat} {as0 : Nat} {Ls0 : Nat} {as1 : Nat} (hp : g.2.2.2.2 = true) (t1 : lay a1 = (0, 11, 15)) (t4 : lay a4 = (0, 14, 2)) (t5 : lay a5 = (0, 14, 2)) (t6 : lay a6 = (0, 14, 2)) (t7 : lay a7 = (0, 14, 2)) (ts0 : lay as0 = (1, Ls0, 0)) (ts1 : lay as1 = (0, 14, 2)) (H : CallV g m_X10_load d [.ref as1, .ref as0] n h (fun h1 => (CallI g m_J3_abs d [.int x2] n h1 (fun v2 h2 => (CallI g m_X14_degreeN d [.ref a4] n h2 (fun v3 h3 => (CallI g m_X14_degreeN d [.ref a5] n h3 (fun v4 h4 => (CallI g m_J3_max d [.int v3, .int v4] n h4 (fun v5 h5 => ((((24 : Int32) < (v2 * v5)) → (W_X10_raise g d av Q n 154 [some (.ref 2759), some (.ref a1), some (.int x2), some (.int x3), some (.ref a4), some (.ref a5), some (.ref a6), some (.ref a7), some (.int v2), none, none, none, none] [] h5)) ∧ ((¬ (24 : Int32) < (v2 * v5)) → (CallI g m_X14_degreeK d [.ref a4] n h5 (fun v6 h6 => (CallI g m_X14_degreeK d [.ref a5] n h6 (fun v7 h7 => (CallI g m_J3_max d [.int v6, .int v7] n h7 (fun v8 h8 => ((((12 : Int32) < (v2 * v8)) → (W_X10_raise g d av Q n 154 [some (.ref 2759), some (.ref a1), some (.int x2), some (.int x3), some (.ref a4), some (.ref a5), some (.ref a6), some (.ref a7), some (.int v2), none, none, none, none] [] h8)) ∧ ((¬ (12 : Int32) < (v2 * v8)) → (CallI g m_X10_weight d [.ref a1] n h8 (fun v9 h9 => ((((12 : Int32) < (v2 * v9)) → (W_X10_raise g d av Q n 154 [some (.ref 2759), some (.ref a1), some (.int x2), some (.int x3), some (.ref a4), some (.ref a5), some (.ref a6), some (.ref a7), some (.int v2), none, none, none, none] [] h9)) ∧ ((¬ (12 : Int32) < (v2 * v9)) → (W_X10_raise g d av Q n 155 [some (.ref 2759), some (.ref a1), some (.int x2), some (.int x3), some (.ref a4), some (.ref a5), some (.ref a6), some (.ref a7), some (.int v2), none, none, none, none] [.int (1 : Int32)] h9))))))))))))))))))))))))) : W_X10_raise g d av Q n 87 [some (.ref 2759), some (.ref a1), some (.int x2), some (.int x3), some (.ref a4), some (.ref a5), some (.ref a6), some (.ref a7), none, none, none, none, none] [.ref as0, .ref as1] h := by
  refine k_SV (As := [.ref as1, .ref as0]) (stk := []) cs_X10_295 dX10_raise_87 rfl (Nat.le_of_ble_eq_true rfl) (H.mono (fun h1 H => ?_)) ⟨Nat.le_refl _, Nat.le_refl _⟩
  refine r_iload_n dX10_raise_90 rfl rfl ?_
  refine k_SI (As := [.int x2]) (stk := []) cs_X10_273 dX10_raise_91 rfl (Nat.le_of_ble_eq_true rfl) (H.mono (fun v2 h2 H => ?_)) ⟨Nat.le_refl _, Nat.le_refl _⟩
  refine r_istore (ls2 := [some (.ref 2759), some (.ref a1), some (.int x2), some (.int x3), some (.ref a4), some (.ref a5), some (.ref a6), some (.ref a7), some (.int v2), none, none, none, none]) dX10_raise_94 (by decide) rfl ?_
  refine r_iload dX10_raise_96 rfl ?_
  refine r_aload dX10_raise_98 rfl ?_
  refine k_VI (As := []) (stk := [.int v2]) hp cv_X10_119 dX10_raise_100 rfl (Nat.le_of_ble_eq_true rfl) t4 (H.mono (fun v3 h3 H => ?_)) ⟨Nat.le_refl _, Nat.le_refl _⟩
  refine r_aload dX10_raise_103 rfl ?_
  refine k_VI (As := []) (stk := [.int v3, .int v2]) hp cv_X10_119 dX10_raise_105 rfl (Nat.le_of_ble_eq_true rfl) t5 (H.mono (fun v4 h4 H => ?_)) ⟨Nat.le_refl _, Nat.le_refl _⟩
  refine k_SI (As := [.int v3, .int v4]) (stk := [.int v2]) cs_X10_40 dX10_raise_108 rfl (Nat.le_of_ble_eq_true rfl) (H.mono (fun v5 h5 H => ?_)) ⟨Nat.le_refl _, Nat.le_refl _⟩
  refine r_imul dX10_raise_111 ?_
  refine r_bipush (v := (24 : Int32)) dX10_raise_112 rfl ?_
  refine r_icmp_gt (tgt := 154) dX10_raise_114 rfl (fun cH => ?_) (fun cH => ?_)
  · replace H := H.1 cH
    exact H
  · replace H := H.2 cH
    refine r_iload dX10_raise_117 rfl ?_
    refine r_aload dX10_raise_119 rfl ?_
    refine k_VI (As := []) (stk := [.int v2]) hp cv_X10_314 dX10_raise_121 rfl (Nat.le_of_ble_eq_true rfl) t4 (H.mono (fun v6 h6 H => ?_)) ⟨Nat.le_refl _, Nat.le_refl _⟩
    refine r_aload dX10_raise_124 rfl ?_
    refine k_VI (As := []) (stk := [.int v6, .int v2]) hp cv_X10_314 dX10_raise_126 rfl (Nat.le_of_ble_eq_true rfl) t5 (H.mono (fun v7 h7 H => ?_)) ⟨Nat.le_refl _, Nat.le_refl _⟩
    refine k_SI (As := [.int v6, .int v7]) (stk := [.int v2]) cs_X10_40 dX10_raise_129 rfl (Nat.le_of_ble_eq_true rfl) (H.mono (fun v8 h8 H => ?_)) ⟨Nat.le_refl _, Nat.le_refl _⟩
    refine r_imul dX10_raise_132 ?_
    refine r_bipush (v := (12 : Int32)) dX10_raise_133 rfl ?_
    refine r_icmp_gt (tgt := 154) dX10_raise_135 rfl (fun cH => ?_) (fun cH => ?_)
    · replace H := H.1 cH
      exact H
    · replace H := H.2 cH
      refine r_iload dX10_raise_138 rfl ?_
      refine r_aload_n dX10_raise_140 rfl rfl ?_
      refine k_SI (As := [.ref a1]) (stk := [.int v2]) cs_X10_276 dX10_raise_141 rfl (Nat.le_of_ble_eq_true rfl) (H.mono (fun v9 h9 H => ?_)) ⟨Nat.le_refl _, Nat.le_refl _⟩
      refine r_imul dX10_raise_144 ?_
      refine r_bipush (v := (12 : Int32)) dX10_raise_145 rfl ?_
      refine r_icmp_gt (tgt := 154) dX10_raise_147 rfl (fun cH => ?_) (fun cH => ?_)
      · replace H := H.1 cH
        exact H
      · replace H := H.2 cH
        refine r_iconst (v := (1 : Int32)) dX10_raise_150 rfl ?_
        refine r_goto (tgt := 155) dX10_raise_151 rfl ?_
        exact H
theorem s_X10_raise_154 {g : GX} {d : Nat} {av : List Value} {Q : QT} {n : Nat} {h : Hp} {a1 : Nat} {x2 : Int32} {x3 : Int32} {a4 : Nat} {a5 : Nat} {a6 : Nat} {a7 : Nat} {x8 : Int32} (hp : g.2.2.2.2 = true) (t1 : lay a1 = (0, 11, 15)) (t4 : lay a4 = (0, 14, 2)) (t5 : lay a5 = (0, 14, 2)) (t6 : lay a6 = (0, 14, 2)) (t7 : lay a7 = (0, 14, 2)) (H : W_X10_raise g d av Q n 155 [some (.ref 2759), some (.ref a1), some (.int x2), some (.int x3), some (.ref a4), some (.ref a5), some (.ref a6), some (.ref a7), some (.int x8), none, none, none, none] [.int (0 : Int32)] h) : W_X10_raise g d av Q n 154 [some (.ref 2759), some (.ref a1), some (.int x2), some (.int x3), some (.ref a4), some (.ref a5), some (.ref a6), some (.ref a7), some (.int x8), none, none, none, none] [] h := by
  refine r_iconst (v := (0 : Int32)) dX10_raise_154 rfl ?_
  exact H
theorem s_X10_raise_155 {g : GX} {d : Nat} {av : List Value} {Q : QT} {n : Nat} {h : Hp} {a1 : Nat} {x2 : Int32} {x3 : Int32} {a4 : Nat} {a5 : Nat} {a6 : Nat} {a7 : Nat} {x8 : Int32} {xs0 : Int32} (hp : g.2.2.2.2 = true) (t1 : lay a1 = (0, 11, 15)) (t4 : lay a4 = (0, 14, 2)) (t5 : lay a5 = (0, 14, 2)) (t6 : lay a6 = (0, 14, 2)) (t7 : lay a7 = (0, 14, 2)) (H : ((xs0 = (0 : Int32)) → (W_X10_raise g d av Q n 304 [some (.ref 2759), none, none, some (.int x3), none, none, none, none, none, some (.int xs0), none, none, none] [] h)) ∧ ((¬ xs0 = (0 : Int32)) → (CallV g m_X14_number d [.ref a6, .int (1 : Int32)] n h (fun h1 => (CallV g m_X14_number d [.ref a7, .int (1 : Int32)] n h1 (fun h2 => (CallR g m_X10_newB d [.ref 2759] n h2 (fun v3 h3 => (lay v3 = (0, 14, 2) ∧ (W_X10_raise g d av Q n 183 [some (.ref 2759), some (.ref a1), some (.int x2), some (.int x3), some (.ref a4), some (.ref a5), some (.ref a6), some (.ref a7), some (.int x8), some (.int xs0), some (.ref v3), some (.int (0 : Int32)), none] [] h3)))))))))) : W_X10_raise g d av Q n 155 [some (.ref 2759), some (.ref a1), some (.int x2), some (.int x3), some (.ref a4), some (.ref a5), some (.ref a6), some (.ref a7), some (.int x8), none, none, none, none] [.int xs0] h := by
  refine r_istore (ls2 := [some (.ref 2759), some (.ref a1), some (.int x2), some (.int x3), some (.ref a4), some (.ref a5), some (.ref a6), some (.ref a7), some (.int x8), some (.int xs0), none, none, none]) dX10_raise_155 (by decide) rfl ?_
  refine r_iload dX10_raise_157 rfl ?_
  refine r_if_eq (tgt := 304) dX10_raise_159 rfl (fun cH => ?_) (fun cH => ?_)
  · replace H := H.1 cH
    refine r_prune [true, false, false, true, false, false, false, false, false, true, false, false, false] (ls2 := [some (.ref 2759), none, none, some (.int x3), none, none, none, none, none, some (.int xs0), none, none, none]) rfl ?_
    exact H
  · replace H := H.2 cH
    refine r_aload dX10_raise_162 rfl ?_
    refine r_iconst (v := (1 : Int32)) dX10_raise_164 rfl ?_
    refine k_VV (As := [.int (1 : Int32)]) (stk := []) hp cv_X10_158 dX10_raise_165 rfl (Nat.le_of_ble_eq_true rfl) t6 (H.mono (fun h1 H => ?_)) ⟨Nat.le_refl _, Nat.le_refl _⟩
    refine r_aload dX10_raise_168 rfl ?_
    refine r_iconst (v := (1 : Int32)) dX10_raise_170 rfl ?_
    refine k_VV (As := [.int (1 : Int32)]) (stk := []) hp cv_X10_158 dX10_raise_171 rfl (Nat.le_of_ble_eq_true rfl) t7 (H.mono (fun h2 H => ?_)) ⟨Nat.le_refl _, Nat.le_refl _⟩
    refine r_aload_n dX10_raise_174 rfl rfl ?_
    refine k_VR (As := []) (stk := []) hp cv_X10_140 dX10_raise_175 rfl (Nat.le_of_ble_eq_true rfl) ly_10 (H.mono (fun v3 h3 H => ?_)) ⟨Nat.le_refl _, Nat.le_refl _⟩
    obtain ⟨tv3, H⟩ := H
    refine r_astore (ls2 := [some (.ref 2759), some (.ref a1), some (.int x2), some (.int x3), some (.ref a4), some (.ref a5), some (.ref a6), some (.ref a7), some (.int x8), some (.int xs0), some (.ref v3), none, none]) dX10_raise_178 (by decide) rfl ?_
    refine r_iconst (v := (0 : Int32)) dX10_raise_180 rfl ?_
    refine r_istore (ls2 := [some (.ref 2759), some (.ref a1), some (.int x2), some (.int x3), some (.ref a4), some (.ref a5), some (.ref a6), some (.ref a7), some (.int x8), some (.int xs0), some (.ref v3), some (.int (0 : Int32)), none]) dX10_raise_181 (by decide) rfl ?_
    exact H
theorem s_X10_raise_183 {g : GX} {d : Nat} {av : List Value} {Q : QT} {n : Nat} {h : Hp} {a1 : Nat} {x2 : Int32} {x3 : Int32} {a4 : Nat} {a5 : Nat} {a6 : Nat} {a7 : Nat} {x8 : Int32} {x9 : Int32} {a10 : Nat} {x11 : Int32} (hp : g.2.2.2.2 = true) (t1 : lay a1 = (0, 11, 15)) (t4 : lay a4 = (0, 14, 2)) (t5 : lay a5 = (0, 14, 2)) (t6 : lay a6 = (0, 14, 2)) (t7 : lay a7 = (0, 14, 2)) (t10 : lay a10 = (0, 14, 2)) (H : ((x8 ≤ x11) → (CallV g m_X10_settle d [.ref a6, .ref a7] n h (fun h1 => (CallI g m_X10_put d [.ref a1, .ref a6, .ref a7] n h1 (fun v2 h2 => (CallI g m_X10_power d [.int (ri h2 a1 3), .int x2] n h2 (fun v3 h3 => (∀ h4, h4 = wi h3 a1 3 v3 → (CallI g m_X10_power d [.int (ri h4 a1 4), .int x2] n h4 (fun v5 h5 => (∀ h6, h6 = wi h5 a1 4 v5 → (W_X10_raise g d av Q n 274 [some (.ref 2759), some (.ref a1), some (.int x2), some (.int x3), none, none, none, none, none, some (.int x9), none, none, some (.int (0 : Int32))] [] h6)))))))))))) ∧ ((¬ x8 ≤ x11) → (CallV g m_X10_times d [.ref 2759, .ref a10, .ref a6, .ref a4] n h (fun h7 => (CallV g m_X10_set d [.ref a6, .ref a10] n h7 (fun h8 => (CallV g m_X10_times d [.ref 2759, .ref a10, .ref a7, .ref a5] n h8 (fun h9 => (CallV g m_X10_set d [.ref a7, .ref a10] n h9 (fun h10 => (W_X10_raise g d av Q n 183 [some (.ref 2759), some (.ref a1), some (.int x2), some (.int x3), some (.ref a4), some (.ref a5), some (.ref a6), some (.ref a7), some (.int x8), some (.int x9), some (.ref a10), some (.int (x11 + (1 : Int32))), none] [] h10))))))))))) : W_X10_raise g d av Q n 183 [some (.ref 2759), some (.ref a1), some (.int x2), some (.int x3), some (.ref a4), some (.ref a5), some (.ref a6), some (.ref a7), some (.int x8), some (.int x9), some (.ref a10), some (.int x11), none] [] h := by
  refine r_iload dX10_raise_183 rfl ?_
  refine r_iload dX10_raise_185 rfl ?_
  refine r_icmp_ge (tgt := 230) dX10_raise_187 rfl (fun cH => ?_) (fun cH => ?_)
  · replace H := H.1 cH
    refine r_aload dX10_raise_230 rfl ?_
    refine r_aload dX10_raise_232 rfl ?_
    refine k_SV (As := [.ref a6, .ref a7]) (stk := []) cs_X10_191 dX10_raise_234 rfl (Nat.le_of_ble_eq_true rfl) (H.mono (fun h1 H => ?_)) ⟨Nat.le_refl _, Nat.le_refl _⟩
    refine r_aload_n dX10_raise_237 rfl rfl ?_
    refine r_aload dX10_raise_238 rfl ?_
    refine r_aload dX10_raise_240 rfl ?_
    refine k_SI (As := [.ref a1, .ref a6, .ref a7]) (stk := []) cs_X10_261 dX10_raise_242 rfl (Nat.le_of_ble_eq_true rfl) (H.mono (fun v2 h2 H => ?_)) ⟨Nat.le_refl _, Nat.le_refl _⟩
    refine r_istore (ls2 := [some (.ref 2759), some (.ref a1), some (.int x2), some (.int x3), some (.ref a4), some (.ref a5), some (.ref a6), some (.ref a7), some (.int x8), some (.int x9), some (.ref a10), some (.int v2), none]) dX10_raise_245 (by decide) rfl ?_
    refine r_aload_n dX10_raise_247 rfl rfl ?_
    refine r_aload_n dX10_raise_248 rfl rfl ?_
    refine m_getI hp fw_X10_213 dX10_raise_249 rfl t1 ?_
    refine r_iload_n dX10_raise_252 rfl rfl ?_
    refine k_SI (As := [.int (ri h2 a1 3), .int x2]) (stk := [.ref a1]) cs_X10_317 dX10_raise_253 rfl (Nat.le_of_ble_eq_true rfl) (H.mono (fun v3 h3 H => ?_)) ⟨Nat.le_refl _, Nat.le_refl _⟩
    refine m_putI hp fw_X10_213 dX10_raise_256 rfl rfl t1 (fun h4 eh4 => ?_)
    replace H := H h4 eh4
    refine r_aload_n dX10_raise_259 rfl rfl ?_
    refine r_aload_n dX10_raise_260 rfl rfl ?_
    refine m_getI hp fw_X10_216 dX10_raise_261 rfl t1 ?_
    refine r_iload_n dX10_raise_264 rfl rfl ?_
    refine k_SI (As := [.int (ri h4 a1 4), .int x2]) (stk := [.ref a1]) cs_X10_317 dX10_raise_265 rfl (Nat.le_of_ble_eq_true rfl) (H.mono (fun v5 h5 H => ?_)) ⟨Nat.le_refl _, Nat.le_refl _⟩
    refine m_putI hp fw_X10_216 dX10_raise_268 rfl rfl t1 (fun h6 eh6 => ?_)
    replace H := H h6 eh6
    refine r_iconst (v := (0 : Int32)) dX10_raise_271 rfl ?_
    refine r_istore (ls2 := [some (.ref 2759), some (.ref a1), some (.int x2), some (.int x3), some (.ref a4), some (.ref a5), some (.ref a6), some (.ref a7), some (.int x8), some (.int x9), some (.ref a10), some (.int v2), some (.int (0 : Int32))]) dX10_raise_272 (by decide) rfl ?_
    refine r_prune [true, true, true, true, false, false, false, false, false, true, false, false, true] (ls2 := [some (.ref 2759), some (.ref a1), some (.int x2), some (.int x3), none, none, none, none, none, some (.int x9), none, none, some (.int (0 : Int32))]) rfl ?_
    exact H
  · replace H := H.2 cH
    refine r_aload_n dX10_raise_190 rfl rfl ?_
    refine r_aload dX10_raise_191 rfl ?_
    refine r_aload dX10_raise_193 rfl ?_
    refine r_aload dX10_raise_195 rfl ?_
    refine k_VV (As := [.ref a10, .ref a6, .ref a4]) (stk := []) hp cv_X10_197 dX10_raise_197 rfl (Nat.le_of_ble_eq_true rfl) ly_10 (H.mono (fun h7 H => ?_)) ⟨Nat.le_refl _, Nat.le_refl _⟩
    refine r_aload dX10_raise_200 rfl ?_
    refine r_aload dX10_raise_202 rfl ?_
    refine k_SV (As := [.ref a6, .ref a10]) (stk := []) cs_X10_113 dX10_raise_204 rfl (Nat.le_of_ble_eq_true rfl) (H.mono (fun h8 H => ?_)) ⟨Nat.le_refl _, Nat.le_refl _⟩
    refine r_aload_n dX10_raise_207 rfl rfl ?_
    refine r_aload dX10_raise_208 rfl ?_
    refine r_aload dX10_raise_210 rfl ?_
    refine r_aload dX10_raise_212 rfl ?_
    refine k_VV (As := [.ref a10, .ref a7, .ref a5]) (stk := []) hp cv_X10_197 dX10_raise_214 rfl (Nat.le_of_ble_eq_true rfl) ly_10 (H.mono (fun h9 H => ?_)) ⟨Nat.le_refl _, Nat.le_refl _⟩
    refine r_aload dX10_raise_217 rfl ?_
    refine r_aload dX10_raise_219 rfl ?_
    refine k_SV (As := [.ref a7, .ref a10]) (stk := []) cs_X10_113 dX10_raise_221 rfl (Nat.le_of_ble_eq_true rfl) (H.mono (fun h10 H => ?_)) ⟨Nat.le_refl _, Nat.le_refl _⟩
    refine r_iinc (v := (x11 + (1 : Int32))) (ls2 := [some (.ref 2759), some (.ref a1), some (.int x2), some (.int x3), some (.ref a4), some (.ref a5), some (.ref a6), some (.ref a7), some (.int x8), some (.int x9), some (.ref a10), some (.int (x11 + (1 : Int32))), none]) dX10_raise_224 rfl rfl (by decide) rfl ?_
    refine r_goto (tgt := 183) dX10_raise_227 rfl ?_
    exact H
theorem s_X10_raise_274 {g : GX} {d : Nat} {av : List Value} {Q : QT} {n : Nat} {h : Hp} {a1 : Nat} {x2 : Int32} {x3 : Int32} {x9 : Int32} {x12 : Int32} (hp : g.2.2.2.2 = true) (t1 : lay a1 = (0, 11, 15)) (H : (((ri h a1 5) ≤ x12) → (CallV g m_X10_name d [.ref a1] n h (fun h1 => (W_X10_raise g d av Q n 304 [some (.ref 2759), none, none, some (.int x3), none, none, none, none, none, some (.int x9), none, none, none] [] h1)))) ∧ ((¬ (ri h a1 5) ≤ x12) → (vp_in x12 13 ∧ (vp_in x12 13 ∧ ∀ h2, h2 = wi h (a1 + 6) (x12).toNatClampNeg ((ri h (a1 + 6) (x12).toNatClampNeg) * x2) → (W_X10_raise g d av Q n 274 [some (.ref 2759), some (.ref a1), some (.int x2), some (.int x3), none, none, none, none, none, some (.int x9), none, none, some (.int (x12 + (1 : Int32)))] [] h2))))) : W_X10_raise g d av Q n 274 [some (.ref 2759), some (.ref a1), some (.int x2), some (.int x3), none, none, none, none, none, some (.int x9), none, none, some (.int x12)] [] h := by
  refine r_iload dX10_raise_274 rfl ?_
  refine r_aload_n dX10_raise_276 rfl rfl ?_
  refine m_getI hp fw_X10_219 dX10_raise_277 rfl t1 ?_
  refine r_icmp_ge (tgt := 300) dX10_raise_280 rfl (fun cH => ?_) (fun cH => ?_)
  · replace H := H.1 cH
    refine r_aload_n dX10_raise_300 rfl rfl ?_
    refine k_SV (As := [.ref a1]) (stk := []) cs_X10_307 dX10_raise_301 rfl (Nat.le_of_ble_eq_true rfl) (H.mono (fun h1 H => ?_)) ⟨Nat.le_refl _, Nat.le_refl _⟩
    refine r_prune [true, false, false, true, false, false, false, false, false, true, false, false, false] (ls2 := [some (.ref 2759), none, none, some (.int x3), none, none, none, none, none, some (.int x9), none, none, none]) rfl ?_
    exact H
  · replace H := H.2 cH
    refine r_aload_n dX10_raise_283 rfl rfl ?_
    refine m_getF (x := (a1 + 6)) hp fw_X10_231 dX10_raise_284 rfl t1 (ff_11_9 t1) ?_
    refine r_iload dX10_raise_287 rfl ?_
    refine r_dup2 dX10_raise_289 rfl rfl ?_
    refine m_iald hp dX10_raise_290 (lf_11_9 t1) H.1 ?_
    replace H := H.2
    refine r_iload_n dX10_raise_291 rfl rfl ?_
    refine r_imul dX10_raise_292 ?_
    refine m_iast hp dX10_raise_293 (lf_11_9 t1) H.1 (fun h2 eh2 => ?_)
    replace H := H.2 h2 eh2
    refine r_iinc (v := (x12 + (1 : Int32))) (ls2 := [some (.ref 2759), some (.ref a1), some (.int x2), some (.int x3), none, none, none, none, none, some (.int x9), none, none, some (.int (x12 + (1 : Int32)))]) dX10_raise_294 rfl rfl (by decide) rfl ?_
    refine r_goto (tgt := 274) dX10_raise_297 rfl ?_
    exact H
theorem s_X10_raise_304 {g : GX} {d : Nat} {av : List Value} {Q : QT} {n : Nat} {h : Hp} {x3 : Int32} {x9 : Int32} (hp : g.2.2.2.2 = true)  (H : ∀ h1, h1 = wi h 2759 3 x3 → ((x9 = 0 ∨ x9 = 1) ∧ Q (some (.int x9)) n h1)) : W_X10_raise g d av Q n 304 [some (.ref 2759), none, none, some (.int x3), none, none, none, none, none, some (.int x9), none, none, none] [] h := by
  refine r_aload_n dX10_raise_304 rfl rfl ?_
  refine r_iload_n dX10_raise_305 rfl rfl ?_
  refine m_putI hp fw_X10_90 dX10_raise_306 rfl rfl ly_10 (fun h1 eh1 => ?_)
  replace H := H h1 eh1
  refine r_iload dX10_raise_309 rfl ?_
  exact r_zret dX10_raise_311 rfl (nar01 H.1) (Nat.le_refl _) (Nat.le_refl _) H.2
abbrev W_X10_load (g : GX) (d : Nat) (av : List Value) (Q : QT) (n : Nat) (pc : Nat) (ls : LV) (stk : List Value) (h : Hp) : Prop := RJ g m_X10_load (d + 1) 0 0 av Q pc ls stk n h 0 0
theorem s_X10_load_0 {g : GX} {d : Nat} {av : List Value} {Q : QT} {n : Nat} {h : Hp} {a0 : Nat} {a1 : Nat} {L1 : Nat} (hp : g.2.2.2.2 = true) (t0 : lay a0 = (0, 14, 2)) (t1 : lay a1 = (1, L1, 0)) (H : W_X10_load g d av Q n 2 [some (.ref a0), some (.ref a1), some (.int (0 : Int32))] [] h) : W_X10_load g d av Q n 0 [some (.ref a0), some (.ref a1), none] [] h := by
  refine r_iconst (v := (0 : Int32)) dX10_load_0 rfl ?_
  refine r_istore_n (ls2 := [some (.ref a0), some (.ref a1), some (.int (0 : Int32))]) dX10_load_1 rfl (by decide) rfl ?_
  exact H
theorem s_X10_load_2 {g : GX} {d : Nat} {av : List Value} {Q : QT} {n : Nat} {h : Hp} {a0 : Nat} {a1 : Nat} {L1 : Nat} {x2 : Int32} (hp : g.2.2.2.2 = true) (t0 : lay a0 = (0, 14, 2)) (t1 : lay a1 = (1, L1, 0)) (H : (((13 : Int32) ≤ x2) → (∀ h1, h1 = wi h a0 1 (13 : Int32) → (CallV g m_X14_trim d [.ref a0] n h1 (fun h2 => (Q none n h2))))) ∧ ((¬ (13 : Int32) ≤ x2) → (vp_in x2 64 ∧ ∀ r3, r3 = (a0 + 2) + 2 * (x2).toNatClampNeg → (¬ ((25 : Int32) * x2) < 0 ∧ ¬ (0 : Int32) < 0 ∧ ¬ (25 : Int32) < 0 ∧ (((25 : Int32) * x2)).toNatClampNeg + ((25 : Int32)).toNatClampNeg ≤ L1 ∧ ((0 : Int32)).toNatClampNeg + ((25 : Int32)).toNatClampNeg ≤ (rm (r3 + 1)) ∧ ∀ h4, h4 = cpy h a1 (((25 : Int32) * x2)).toNatClampNeg (r3 + 1) ((0 : Int32)).toNatClampNeg ((25 : Int32)).toNatClampNeg → (vp_in x2 64 ∧ ∀ r5, r5 = (a0 + 2) + 2 * (x2).toNatClampNeg → (∀ h6, h6 = wi h4 r5 1 (25 : Int32) → (vp_in x2 64 ∧ ∀ r7, r7 = (a0 + 2) + 2 * (x2).toNatClampNeg → (CallV g m_X13_trim d [.ref r7] n h6 (fun h8 => (W_X10_load g d av Q n 2 [some (.ref a0), some (.ref a1), some (.int (x2 + (1 : Int32)))] [] h8)))))))))) : W_X10_load g d av Q n 2 [some (.ref a0), some (.ref a1), some (.int x2)] [] h := by
  refine r_iload_n dX10_load_2 rfl rfl ?_
  refine r_bipush (v := (13 : Int32)) dX10_load_3 rfl ?_
  refine r_icmp_ge (tgt := 54) dX10_load_5 rfl (fun cH => ?_) (fun cH => ?_)
  · replace H := H.1 cH
    refine r_aload_n dX10_load_54 rfl rfl ?_
    refine r_bipush (v := (13 : Int32)) dX10_load_55 rfl ?_
    refine m_putI hp fw_X10_93 dX10_load_57 rfl rfl t0 (fun h1 eh1 => ?_)
    replace H := H h1 eh1
    refine r_aload_n dX10_load_60 rfl rfl ?_
    refine k_VV (As := []) (stk := []) hp cv_X10_105 dX10_load_61 rfl (Nat.le_of_ble_eq_true rfl) t0 (H.mono (fun h2 H => ?_)) ⟨Nat.le_refl _, Nat.le_refl _⟩
    exact r_vret dX10_load_64 rfl (Nat.le_refl _) (Nat.le_refl _) H
  · replace H := H.2 cH
    refine r_aload_n dX10_load_8 rfl rfl ?_
    refine r_bipush (v := (25 : Int32)) dX10_load_9 rfl ?_
    refine r_iload_n dX10_load_11 rfl rfl ?_
    refine r_imul dX10_load_12 ?_
    refine r_aload_n dX10_load_13 rfl rfl ?_
    refine m_getF (x := (a0 + 1)) hp fw_X10_98 dX10_load_14 rfl t0 (ff_14_0 t0) ?_
    refine r_iload_n dX10_load_17 rfl rfl ?_
    obtain ⟨r3, er3⟩ : ∃ y, y = (a0 + 2) + 2 * (x2).toNatClampNeg := ⟨_, rfl⟩
    have hir3 := H.1
    replace H := H.2 r3 er3
    have tLr3 := le_14 t0 hir3 er3
    refine m_aalF (x := r3) hp dX10_load_18 (lf_14_0 t0) rfl rfl (lu_14_0 t0) hir3 (fe_14 t0 hir3 er3) ?_
    refine m_getF (x := (r3 + 1)) hp fw_X10_30 dX10_load_19 rfl tLr3 (ff_13_0 tLr3) ?_
    refine r_iconst (v := (0 : Int32)) dX10_load_22 rfl ?_
    refine r_bipush (v := (25 : Int32)) dX10_load_23 rfl ?_
    obtain ⟨c1, c2, c3, c4, c5, H⟩ := H
    refine m_copy hp ar_X10_34 dX10_load_25 rfl rfl t1 (lf_13_0 tLr3) c1 c2 c3 c4 c5 (fun _ _ => rfl) (Nat.le_of_ble_eq_true rfl) (Nat.le_add_left 1 d) (fun h4 eh4 => ?_)
    replace H := H h4 eh4
    refine r_aload_n dX10_load_28 rfl rfl ?_
    refine m_getF (x := (a0 + 1)) hp fw_X10_98 dX10_load_29 rfl t0 (ff_14_0 t0) ?_
    refine r_iload_n dX10_load_32 rfl rfl ?_
    obtain ⟨r5, er5⟩ : ∃ y, y = (a0 + 2) + 2 * (x2).toNatClampNeg := ⟨_, rfl⟩
    have hir5 := H.1
    replace H := H.2 r5 er5
    have tLr5 := le_14 t0 hir5 er5
    refine m_aalF (x := r5) hp dX10_load_33 (lf_14_0 t0) rfl rfl (lu_14_0 t0) hir5 (fe_14 t0 hir5 er5) ?_
    refine r_bipush (v := (25 : Int32)) dX10_load_34 rfl ?_
    refine m_putI hp fw_X10_25 dX10_load_36 rfl rfl tLr5 (fun h6 eh6 => ?_)
    replace H := H h6 eh6
    refine r_aload_n dX10_load_39 rfl rfl ?_
    refine m_getF (x := (a0 + 1)) hp fw_X10_98 dX10_load_40 rfl t0 (ff_14_0 t0) ?_
    refine r_iload_n dX10_load_43 rfl rfl ?_
    obtain ⟨r7, er7⟩ : ∃ y, y = (a0 + 2) + 2 * (x2).toNatClampNeg := ⟨_, rfl⟩
    have hir7 := H.1
    replace H := H.2 r7 er7
    have tLr7 := le_14 t0 hir7 er7
    refine m_aalF (x := r7) hp dX10_load_44 (lf_14_0 t0) rfl rfl (lu_14_0 t0) hir7 (fe_14 t0 hir7 er7) ?_
    refine k_VV (As := []) (stk := []) hp cv_X10_52 dX10_load_45 rfl (Nat.le_of_ble_eq_true rfl) tLr7 (H.mono (fun h8 H => ?_)) ⟨Nat.le_refl _, Nat.le_refl _⟩
    refine r_iinc (v := (x2 + (1 : Int32))) (ls2 := [some (.ref a0), some (.ref a1), some (.int (x2 + (1 : Int32)))]) dX10_load_48 rfl rfl (by decide) rfl ?_
    refine r_goto (tgt := 2) dX10_load_51 rfl ?_
    exact H
abbrev W_X10_weight (g : GX) (d : Nat) (av : List Value) (Q : QT) (n : Nat) (pc : Nat) (ls : LV) (stk : List Value) (h : Hp) : Prop := RJ g m_X10_weight (d + 1) 0 0 av Q pc ls stk n h 0 0
theorem s_X10_weight_0 {g : GX} {d : Nat} {av : List Value} {Q : QT} {n : Nat} {h : Hp} {a0 : Nat} (hp : g.2.2.2.2 = true) (t0 : lay a0 = (0, 11, 15)) (H : W_X10_weight g d av Q n 4 [some (.ref a0), some (.int (0 : Int32)), some (.int (0 : Int32))] [] h) : W_X10_weight g d av Q n 0 [some (.ref a0), none, none] [] h := by
  refine r_iconst (v := (0 : Int32)) dX10_weight_0 rfl ?_
  refine r_istore_n (ls2 := [some (.ref a0), some (.int (0 : Int32)), none]) dX10_weight_1 rfl (by decide) rfl ?_
  refine r_iconst (v := (0 : Int32)) dX10_weight_2 rfl ?_
  refine r_istore_n (ls2 := [some (.ref a0), some (.int (0 : Int32)), some (.int (0 : Int32))]) dX10_weight_3 rfl (by decide) rfl ?_
  exact H
theorem s_X10_weight_4 {g : GX} {d : Nat} {av : List Value} {Q : QT} {n : Nat} {h : Hp} {a0 : Nat} {x1 : Int32} {x2 : Int32} (hp : g.2.2.2.2 = true) (t0 : lay a0 = (0, 11, 15)) (H : (((ri h a0 5) ≤ x2) → (Q (some (.int x1)) n h)) ∧ ((¬ (ri h a0 5) ≤ x2) → (vp_in x2 13 ∧ (CallI g m_J3_abs d [.int (ri h (a0 + 6) (x2).toNatClampNeg)] n h (fun v1 h1 => (W_X10_weight g d av Q n 4 [some (.ref a0), some (.int (x1 + v1)), some (.int (x2 + (1 : Int32)))] [] h1)))))) : W_X10_weight g d av Q n 4 [some (.ref a0), some (.int x1), some (.int x2)] [] h := by
  refine r_iload_n dX10_weight_4 rfl rfl ?_
  refine r_aload_n dX10_weight_5 rfl rfl ?_
  refine m_getI hp fw_X10_219 dX10_weight_6 rfl t0 ?_
  refine r_icmp_ge (tgt := 30) dX10_weight_9 rfl (fun cH => ?_) (fun cH => ?_)
  · replace H := H.1 cH
    refine r_iload_n dX10_weight_30 rfl rfl ?_
    exact r_zret dX10_weight_31 rfl rfl (Nat.le_refl _) (Nat.le_refl _) H
  · replace H := H.2 cH
    refine r_iload_n dX10_weight_12 rfl rfl ?_
    refine r_aload_n dX10_weight_13 rfl rfl ?_
    refine m_getF (x := (a0 + 6)) hp fw_X10_231 dX10_weight_14 rfl t0 (ff_11_9 t0) ?_
    refine r_iload_n dX10_weight_17 rfl rfl ?_
    refine m_iald hp dX10_weight_18 (lf_11_9 t0) H.1 ?_
    replace H := H.2
    refine k_SI (As := [.int (ri h (a0 + 6) (x2).toNatClampNeg)]) (stk := [.int x1]) cs_X10_273 dX10_weight_19 rfl (Nat.le_of_ble_eq_true rfl) (H.mono (fun v1 h1 H => ?_)) ⟨Nat.le_refl _, Nat.le_refl _⟩
    refine r_iadd dX10_weight_22 ?_
    refine r_istore_n (ls2 := [some (.ref a0), some (.int (x1 + v1)), some (.int x2)]) dX10_weight_23 rfl (by decide) rfl ?_
    refine r_iinc (v := (x2 + (1 : Int32))) (ls2 := [some (.ref a0), some (.int (x1 + v1)), some (.int (x2 + (1 : Int32)))]) dX10_weight_24 rfl rfl (by decide) rfl ?_
    refine r_goto (tgt := 4) dX10_weight_27 rfl ?_
    exact H
abbrev W_X10_times (g : GX) (d : Nat) (av : List Value) (Q : QT) (n : Nat) (pc : Nat) (ls : LV) (stk : List Value) (h : Hp) : Prop := RJ g m_X10_times (d + 1) 0 0 av Q pc ls stk n h 0 0
theorem s_X10_times_0 {g : GX} {d : Nat} {av : List Value} {Q : QT} {n : Nat} {h : Hp} {a1 : Nat} {a2 : Nat} {a3 : Nat} (hp : g.2.2.2.2 = true) (t1 : lay a1 = (0, 14, 2)) (t2 : lay a2 = (0, 14, 2)) (t3 : lay a3 = (0, 14, 2)) (H : CallR g m_X10_newU d [.ref 2759] n h (fun v1 h1 => (lay v1 = (0, 13, 2) ∧ ((((ri h1 a2 1) = (0 : Int32)) → (W_X10_times g d av Q n 26 [some (.ref 2759), some (.ref a1), some (.ref a2), some (.ref a3), some (.int (ri h 2759 1)), some (.ref v1), none, none, none] [] h1)) ∧ ((¬ (ri h1 a2 1) = (0 : Int32)) → (((¬ (ri h1 a3 1) = (0 : Int32)) → (W_X10_times g d av Q n 41 [some (.ref 2759), some (.ref a1), some (.ref a2), some (.ref a3), some (.int (ri h 2759 1)), some (.ref v1), none, none, none] [.int (((ri h1 a2 1) + (ri h1 a3 1)) - (1 : Int32))] h1)) ∧ (((ri h1 a3 1) = (0 : Int32)) → (W_X10_times g d av Q n 26 [some (.ref 2759), some (.ref a1), some (.ref a2), some (.ref a3), some (.int (ri h 2759 1)), some (.ref v1), none, none, none] [] h1)))))))) : W_X10_times g d av Q n 0 [some (.ref 2759), some (.ref a1), some (.ref a2), some (.ref a3), none, none, none, none, none] [] h := by
  refine r_aload_n dX10_times_0 rfl rfl ?_
  refine m_getI hp fw_X10_21 dX10_times_1 rfl ly_10 ?_
  refine r_istore (ls2 := [some (.ref 2759), some (.ref a1), some (.ref a2), some (.ref a3), some (.int (ri h 2759 1)), none, none, none, none]) dX10_times_4 (by decide) rfl ?_
  refine r_aload_n dX10_times_6 rfl rfl ?_
  refine k_VR (As := []) (stk := []) hp cv_X10_74 dX10_times_7 rfl (Nat.le_of_ble_eq_true rfl) ly_10 (H.mono (fun v1 h1 H => ?_)) ⟨Nat.le_refl _, Nat.le_refl _⟩
  obtain ⟨tv1, H⟩ := H
  refine r_astore (ls2 := [some (.ref 2759), some (.ref a1), some (.ref a2), some (.ref a3), some (.int (ri h 2759 1)), some (.ref v1), none, none, none]) dX10_times_10 (by decide) rfl ?_
  refine r_aload_n dX10_times_12 rfl rfl ?_
  refine m_getI hp fw_X10_93 dX10_times_13 rfl t2 ?_
  refine r_if_eq (tgt := 26) dX10_times_16 rfl (fun cH => ?_) (fun cH => ?_)
  · replace H := H.1 cH
    exact H
  · replace H := H.2 cH
    refine r_aload_n dX10_times_19 rfl rfl ?_
    refine m_getI hp fw_X10_93 dX10_times_20 rfl t3 ?_
    refine r_if_ne (tgt := 30) dX10_times_23 rfl (fun cH => ?_) (fun cH => ?_)
    · replace H := H.1 cH
      refine r_aload_n dX10_times_30 rfl rfl ?_
      refine m_getI hp fw_X10_93 dX10_times_31 rfl t2 ?_
      refine r_aload_n dX10_times_34 rfl rfl ?_
      refine m_getI hp fw_X10_93 dX10_times_35 rfl t3 ?_
      refine r_iadd dX10_times_38 ?_
      refine r_iconst (v := (1 : Int32)) dX10_times_39 rfl ?_
      refine r_isub dX10_times_40 ?_
      exact H
    · replace H := H.2 cH
      exact H
theorem s_X10_times_26 {g : GX} {d : Nat} {av : List Value} {Q : QT} {n : Nat} {h : Hp} {a1 : Nat} {a2 : Nat} {a3 : Nat} {x4 : Int32} {a5 : Nat} (hp : g.2.2.2.2 = true) (t1 : lay a1 = (0, 14, 2)) (t2 : lay a2 = (0, 14, 2)) (t3 : lay a3 = (0, 14, 2)) (t5 : lay a5 = (0, 13, 2)) (H : W_X10_times g d av Q n 41 [some (.ref 2759), some (.ref a1), some (.ref a2), some (.ref a3), some (.int x4), some (.ref a5), none, none, none] [.int (0 : Int32)] h) : W_X10_times g d av Q n 26 [some (.ref 2759), some (.ref a1), some (.ref a2), some (.ref a3), some (.int x4), some (.ref a5), none, none, none] [] h := by
  refine r_iconst (v := (0 : Int32)) dX10_times_26 rfl ?_
  refine r_goto (tgt := 41) dX10_times_27 rfl ?_
  exact H
theorem s_X10_times_41 {g : GX} {d : Nat} {av : List Value} {Q : QT} {n : Nat} {h : Hp} {a1 : Nat} {a2 : Nat} {a3 : Nat} {x4 : Int32} {a5 : Nat} {xs0 : Int32} (hp : g.2.2.2.2 = true) (t1 : lay a1 = (0, 14, 2)) (t2 : lay a2 = (0, 14, 2)) (t3 : lay a3 = (0, 14, 2)) (t5 : lay a5 = (0, 13, 2)) (H : W_X10_times g d av Q n 46 [some (.ref 2759), some (.ref a1), some (.ref a2), some (.ref a3), some (.int x4), some (.ref a5), some (.int xs0), some (.int (0 : Int32)), none] [] h) : W_X10_times g d av Q n 41 [some (.ref 2759), some (.ref a1), some (.ref a2), some (.ref a3), some (.int x4), some (.ref a5), none, none, none] [.int xs0] h := by
  refine r_istore (ls2 := [some (.ref 2759), some (.ref a1), some (.ref a2), some (.ref a3), some (.int x4), some (.ref a5), some (.int xs0), none, none]) dX10_times_41 (by decide) rfl ?_
  refine r_iconst (v := (0 : Int32)) dX10_times_43 rfl ?_
  refine r_istore (ls2 := [some (.ref 2759), some (.ref a1), some (.ref a2), some (.ref a3), some (.int x4), some (.ref a5), some (.int xs0), some (.int (0 : Int32)), none]) dX10_times_44 (by decide) rfl ?_
  exact H
theorem s_X10_times_46 {g : GX} {d : Nat} {av : List Value} {Q : QT} {n : Nat} {h : Hp} {a1 : Nat} {a2 : Nat} {a3 : Nat} {x4 : Int32} {a5 : Nat} {x6 : Int32} {x7 : Int32} (hp : g.2.2.2.2 = true) (t1 : lay a1 = (0, 14, 2)) (t2 : lay a2 = (0, 14, 2)) (t3 : lay a3 = (0, 14, 2)) (t5 : lay a5 = (0, 13, 2)) (H : ((x6 ≤ x7) → (W_X10_times g d av Q n 73 [some (.ref 2759), some (.ref a1), some (.ref a2), some (.ref a3), some (.int x4), some (.ref a5), some (.int x6), some (.int (0 : Int32)), none] [] h)) ∧ ((¬ x6 ≤ x7) → (vp_in x7 64 ∧ ∀ r1, r1 = (a1 + 2) + 2 * (x7).toNatClampNeg → (∀ h2, h2 = wi h r1 1 (0 : Int32) → (W_X10_times g d av Q n 46 [some (.ref 2759), some (.ref a1), some (.ref a2), some (.ref a3), some (.int x4), some (.ref a5), some (.int x6), some (.int (x7 + (1 : Int32))), none] [] h2))))) : W_X10_times g d av Q n 46 [some (.ref 2759), some (.ref a1), some (.ref a2), some (.ref a3), some (.int x4), some (.ref a5), some (.int x6), some (.int x7), none] [] h := by
  refine r_iload dX10_times_46 rfl ?_
  refine r_iload dX10_times_48 rfl ?_
  refine r_icmp_ge (tgt := 70) dX10_times_50 rfl (fun cH => ?_) (fun cH => ?_)
  · replace H := H.1 cH
    refine r_iconst (v := (0 : Int32)) dX10_times_70 rfl ?_
    refine r_istore (ls2 := [some (.ref 2759), some (.ref a1), some (.ref a2), some (.ref a3), some (.int x4), some (.ref a5), some (.int x6), some (.int (0 : Int32)), none]) dX10_times_71 (by decide) rfl ?_
    exact H
  · replace H := H.2 cH
    refine r_aload_n dX10_times_53 rfl rfl ?_
    refine m_getF (x := (a1 + 1)) hp fw_X10_98 dX10_times_54 rfl t1 (ff_14_0 t1) ?_
    refine r_iload dX10_times_57 rfl ?_
    obtain ⟨r1, er1⟩ : ∃ y, y = (a1 + 2) + 2 * (x7).toNatClampNeg := ⟨_, rfl⟩
    have hir1 := H.1
    replace H := H.2 r1 er1
    have tLr1 := le_14 t1 hir1 er1
    refine m_aalF (x := r1) hp dX10_times_59 (lf_14_0 t1) rfl rfl (lu_14_0 t1) hir1 (fe_14 t1 hir1 er1) ?_
    refine r_iconst (v := (0 : Int32)) dX10_times_60 rfl ?_
    refine m_putI hp fw_X10_25 dX10_times_61 rfl rfl tLr1 (fun h2 eh2 => ?_)
    replace H := H h2 eh2
    refine r_iinc (v := (x7 + (1 : Int32))) (ls2 := [some (.ref 2759), some (.ref a1), some (.ref a2), some (.ref a3), some (.int x4), some (.ref a5), some (.int x6), some (.int (x7 + (1 : Int32))), none]) dX10_times_64 rfl rfl (by decide) rfl ?_
    refine r_goto (tgt := 46) dX10_times_67 rfl ?_
    exact H
theorem s_X10_times_73 {g : GX} {d : Nat} {av : List Value} {Q : QT} {n : Nat} {h : Hp} {a1 : Nat} {a2 : Nat} {a3 : Nat} {x4 : Int32} {a5 : Nat} {x6 : Int32} {x7 : Int32} (hp : g.2.2.2.2 = true) (t1 : lay a1 = (0, 14, 2)) (t2 : lay a2 = (0, 14, 2)) (t3 : lay a3 = (0, 14, 2)) (t5 : lay a5 = (0, 13, 2)) (H : (((ri h a2 1) ≤ x7) → (∀ h1, h1 = wi h a1 1 x6 → (CallV g m_X14_trim d [.ref a1] n h1 (fun h2 => (∀ h3, h3 = wi h2 2759 1 x4 → (Q none n h3)))))) ∧ ((¬ (ri h a2 1) ≤ x7) → (W_X10_times g d av Q n 85 [some (.ref 2759), some (.ref a1), some (.ref a2), some (.ref a3), some (.int x4), some (.ref a5), some (.int x6), some (.int x7), some (.int (0 : Int32))] [] h))) : W_X10_times g d av Q n 73 [some (.ref 2759), some (.ref a1), some (.ref a2), some (.ref a3), some (.int x4), some (.ref a5), some (.int x6), some (.int x7), none] [] h := by
  refine r_iload dX10_times_73 rfl ?_
  refine r_aload_n dX10_times_75 rfl rfl ?_
  refine m_getI hp fw_X10_93 dX10_times_76 rfl t2 ?_
  refine r_icmp_ge (tgt := 156) dX10_times_79 rfl (fun cH => ?_) (fun cH => ?_)
  · replace H := H.1 cH
    refine r_aload_n dX10_times_156 rfl rfl ?_
    refine r_iload dX10_times_157 rfl ?_
    refine m_putI hp fw_X10_93 dX10_times_159 rfl rfl t1 (fun h1 eh1 => ?_)
    replace H := H h1 eh1
    refine r_aload_n dX10_times_162 rfl rfl ?_
    refine k_VV (As := []) (stk := []) hp cv_X10_105 dX10_times_163 rfl (Nat.le_of_ble_eq_true rfl) t1 (H.mono (fun h2 H => ?_)) ⟨Nat.le_refl _, Nat.le_refl _⟩
    refine r_aload_n dX10_times_166 rfl rfl ?_
    refine r_iload dX10_times_167 rfl ?_
    refine m_putI hp fw_X10_21 dX10_times_169 rfl rfl ly_10 (fun h3 eh3 => ?_)
    replace H := H h3 eh3
    exact r_vret dX10_times_172 rfl (Nat.le_refl _) (Nat.le_refl _) H
  · replace H := H.2 cH
    refine r_iconst (v := (0 : Int32)) dX10_times_82 rfl ?_
    refine r_istore (ls2 := [some (.ref 2759), some (.ref a1), some (.ref a2), some (.ref a3), some (.int x4), some (.ref a5), some (.int x6), some (.int x7), some (.int (0 : Int32))]) dX10_times_83 (by decide) rfl ?_
    exact H
theorem s_X10_times_85 {g : GX} {d : Nat} {av : List Value} {Q : QT} {n : Nat} {h : Hp} {a1 : Nat} {a2 : Nat} {a3 : Nat} {x4 : Int32} {a5 : Nat} {x6 : Int32} {x7 : Int32} {x8 : Int32} (hp : g.2.2.2.2 = true) (t1 : lay a1 = (0, 14, 2)) (t2 : lay a2 = (0, 14, 2)) (t3 : lay a3 = (0, 14, 2)) (t5 : lay a5 = (0, 13, 2)) (H : (((ri h a3 1) ≤ x8) → (W_X10_times g d av Q n 150 [some (.ref 2759), some (.ref a1), some (.ref a2), some (.ref a3), some (.int x4), some (.ref a5), some (.int x6), some (.int x7), none] [] h)) ∧ ((¬ (ri h a3 1) ≤ x8) → (((x6 ≤ (0 : Int32)) → (W_X10_times g d av Q n 150 [some (.ref 2759), some (.ref a1), some (.ref a2), some (.ref a3), some (.int x4), some (.ref a5), some (.int x6), some (.int x7), none] [] h)) ∧ ((¬ x6 ≤ (0 : Int32)) → (vp_in x7 64 ∧ ∀ r1, r1 = (a2 + 2) + 2 * (x7).toNatClampNeg → (vp_in x8 64 ∧ ∀ r2, r2 = (a3 + 2) + 2 * (x8).toNatClampNeg → (CallV g m_X10_times_2 d [.ref a5, .ref r1, .ref r2] n h (fun h3 => (vp_in (x7 + x8) 64 ∧ ∀ r4, r4 = (a1 + 2) + 2 * ((x7 + x8)).toNatClampNeg → (vp_in (x7 + x8) 64 ∧ ∀ r5, r5 = (a1 + 2) + 2 * ((x7 + x8)).toNatClampNeg → (CallV g m_X10_plus d [.ref r4, .ref r5, .ref a5, .int (0 : Int32)] n h3 (fun h6 => (W_X10_times g d av Q n 85 [some (.ref 2759), some (.ref a1), some (.ref a2), some (.ref a3), some (.int x4), some (.ref a5), some (.int x6), some (.int x7), some (.int (x8 + (1 : Int32)))] [] h6))))))))))))) : W_X10_times g d av Q n 85 [some (.ref 2759), some (.ref a1), some (.ref a2), some (.ref a3), some (.int x4), some (.ref a5), some (.int x6), some (.int x7), some (.int x8)] [] h := by
  refine r_iload dX10_times_85 rfl ?_
  refine r_aload_n dX10_times_87 rfl rfl ?_
  refine m_getI hp fw_X10_93 dX10_times_88 rfl t3 ?_
  refine r_icmp_ge (tgt := 150) dX10_times_91 rfl (fun cH => ?_) (fun cH => ?_)
  · replace H := H.1 cH
    refine r_prune [true, true, true, true, true, true, true, true, false] (ls2 := [some (.ref 2759), some (.ref a1), some (.ref a2), some (.ref a3), some (.int x4), some (.ref a5), some (.int x6), some (.int x7), none]) rfl ?_
    exact H
  · replace H := H.2 cH
    refine r_iload dX10_times_94 rfl ?_
    refine r_if_le (tgt := 150) dX10_times_96 rfl (fun cH => ?_) (fun cH => ?_)
    · replace H := H.1 cH
      refine r_prune [true, true, true, true, true, true, true, true, false] (ls2 := [some (.ref 2759), some (.ref a1), some (.ref a2), some (.ref a3), some (.int x4), some (.ref a5), some (.int x6), some (.int x7), none]) rfl ?_
      exact H
    · replace H := H.2 cH
      refine r_aload dX10_times_99 rfl ?_
      refine r_aload_n dX10_times_101 rfl rfl ?_
      refine m_getF (x := (a2 + 1)) hp fw_X10_98 dX10_times_102 rfl t2 (ff_14_0 t2) ?_
      refine r_iload dX10_times_105 rfl ?_
      obtain ⟨r1, er1⟩ : ∃ y, y = (a2 + 2) + 2 * (x7).toNatClampNeg := ⟨_, rfl⟩
      have hir1 := H.1
      replace H := H.2 r1 er1
      have tLr1 := le_14 t2 hir1 er1
      refine m_aalF (x := r1) hp dX10_times_107 (lf_14_0 t2) rfl rfl (lu_14_0 t2) hir1 (fe_14 t2 hir1 er1) ?_
      refine r_aload_n dX10_times_108 rfl rfl ?_
      refine m_getF (x := (a3 + 1)) hp fw_X10_98 dX10_times_109 rfl t3 (ff_14_0 t3) ?_
      refine r_iload dX10_times_112 rfl ?_
      obtain ⟨r2, er2⟩ : ∃ y, y = (a3 + 2) + 2 * (x8).toNatClampNeg := ⟨_, rfl⟩
      have hir2 := H.1
      replace H := H.2 r2 er2
      have tLr2 := le_14 t3 hir2 er2
      refine m_aalF (x := r2) hp dX10_times_114 (lf_14_0 t3) rfl rfl (lu_14_0 t3) hir2 (fe_14 t3 hir2 er2) ?_
      refine k_SV (As := [.ref a5, .ref r1, .ref r2]) (stk := []) cs_X10_106 dX10_times_115 rfl (Nat.le_of_ble_eq_true rfl) (H.mono (fun h3 H => ?_)) ⟨Nat.le_refl _, Nat.le_refl _⟩
      refine r_aload_n dX10_times_118 rfl rfl ?_
      refine m_getF (x := (a1 + 1)) hp fw_X10_98 dX10_times_119 rfl t1 (ff_14_0 t1) ?_
      refine r_iload dX10_times_122 rfl ?_
      refine r_iload dX10_times_124 rfl ?_
      refine r_iadd dX10_times_126 ?_
      obtain ⟨r4, er4⟩ : ∃ y, y = (a1 + 2) + 2 * ((x7 + x8)).toNatClampNeg := ⟨_, rfl⟩
      have hir4 := H.1
      replace H := H.2 r4 er4
      have tLr4 := le_14 t1 hir4 er4
      refine m_aalF (x := r4) hp dX10_times_127 (lf_14_0 t1) rfl rfl (lu_14_0 t1) hir4 (fe_14 t1 hir4 er4) ?_
      refine r_aload_n dX10_times_128 rfl rfl ?_
      refine m_getF (x := (a1 + 1)) hp fw_X10_98 dX10_times_129 rfl t1 (ff_14_0 t1) ?_
      refine r_iload dX10_times_132 rfl ?_
      refine r_iload dX10_times_134 rfl ?_
      refine r_iadd dX10_times_136 ?_
      obtain ⟨r5, er5⟩ : ∃ y, y = (a1 + 2) + 2 * ((x7 + x8)).toNatClampNeg := ⟨_, rfl⟩
      have hir5 := H.1
      replace H := H.2 r5 er5
      have tLr5 := le_14 t1 hir5 er5
      refine m_aalF (x := r5) hp dX10_times_137 (lf_14_0 t1) rfl rfl (lu_14_0 t1) hir5 (fe_14 t1 hir5 er5) ?_
      refine r_aload dX10_times_138 rfl ?_
      refine r_iconst (v := (0 : Int32)) dX10_times_140 rfl ?_
      refine k_SV (As := [.ref r4, .ref r5, .ref a5, .int (0 : Int32)]) (stk := []) cs_X10_101 dX10_times_141 rfl (Nat.le_of_ble_eq_true rfl) (H.mono (fun h6 H => ?_)) ⟨Nat.le_refl _, Nat.le_refl _⟩
      refine r_iinc (v := (x8 + (1 : Int32))) (ls2 := [some (.ref 2759), some (.ref a1), some (.ref a2), some (.ref a3), some (.int x4), some (.ref a5), some (.int x6), some (.int x7), some (.int (x8 + (1 : Int32)))]) dX10_times_144 rfl rfl (by decide) rfl ?_
      refine r_goto (tgt := 85) dX10_times_147 rfl ?_
      exact H
theorem s_X10_times_150 {g : GX} {d : Nat} {av : List Value} {Q : QT} {n : Nat} {h : Hp} {a1 : Nat} {a2 : Nat} {a3 : Nat} {x4 : Int32} {a5 : Nat} {x6 : Int32} {x7 : Int32} (hp : g.2.2.2.2 = true) (t1 : lay a1 = (0, 14, 2)) (t2 : lay a2 = (0, 14, 2)) (t3 : lay a3 = (0, 14, 2)) (t5 : lay a5 = (0, 13, 2)) (H : W_X10_times g d av Q n 73 [some (.ref 2759), some (.ref a1), some (.ref a2), some (.ref a3), some (.int x4), some (.ref a5), some (.int x6), some (.int (x7 + (1 : Int32))), none] [] h) : W_X10_times g d av Q n 150 [some (.ref 2759), some (.ref a1), some (.ref a2), some (.ref a3), some (.int x4), some (.ref a5), some (.int x6), some (.int x7), none] [] h := by
  refine r_iinc (v := (x7 + (1 : Int32))) (ls2 := [some (.ref 2759), some (.ref a1), some (.ref a2), some (.ref a3), some (.int x4), some (.ref a5), some (.int x6), some (.int (x7 + (1 : Int32))), none]) dX10_times_150 rfl rfl (by decide) rfl ?_
  refine r_goto (tgt := 73) dX10_times_153 rfl ?_
  exact H
abbrev W_X10_newU (g : GX) (d : Nat) (av : List Value) (Q : QT) (n : Nat) (pc : Nat) (ls : LV) (stk : List Value) (h : Hp) : Prop := RJ g m_X10_newU d 0 0 av Q pc ls stk n h 0 0
theorem s_X10_newU_0 {g : GX} {d : Nat} {av : List Value} {Q : QT} {n : Nat} {h : Hp}  (hp : g.2.2.2.2 = true)  (H : ∀ h1, h1 = wi h 2759 1 ((ri h 2759 1) + (1 : Int32)) → (vp_in (ri h 2759 1) 160 ∧ ∀ r2, r2 = 3035 + 2 * ((ri h 2759 1)).toNatClampNeg → (∀ h3, h3 = wi h1 r2 1 (0 : Int32) → (Q (some (.ref r2)) n h3)))) : W_X10_newU g d av Q n 0 [some (.ref 2759), none] [] h := by
  refine r_aload_n dX10_newU_0 rfl rfl ?_
  refine m_getF (x := 2760) hp fw_X10_17 dX10_newU_1 rfl ly_10 (ff_10_0 ly_10) ?_
  refine r_aload_n dX10_newU_4 rfl rfl ?_
  refine r_dup dX10_newU_5 rfl ?_
  refine m_getI hp fw_X10_21 dX10_newU_6 rfl ly_10 ?_
  refine r_dup_x1 dX10_newU_9 rfl rfl ?_
  refine r_iconst (v := (1 : Int32)) dX10_newU_10 rfl ?_
  refine r_iadd dX10_newU_11 ?_
  refine m_putI hp fw_X10_21 dX10_newU_12 rfl rfl ly_10 (fun h1 eh1 => ?_)
  replace H := H h1 eh1
  obtain ⟨r2, er2⟩ : ∃ y, y = 3035 + 2 * ((ri h 2759 1)).toNatClampNeg := ⟨_, rfl⟩
  have hir2 := H.1
  replace H := H.2 r2 er2
  have tLr2 := la_2760 hir2 er2
  refine m_aalF (x := r2) hp dX10_newU_15 (lf_10_0 ly_10) rfl rfl (lu_10_0 ly_10) hir2 (fa_2760 hir2 er2) ?_
  refine r_astore_n (ls2 := [some (.ref 2759), some (.ref r2)]) dX10_newU_16 rfl (by decide) rfl ?_
  refine r_aload_n dX10_newU_17 rfl rfl ?_
  refine r_iconst (v := (0 : Int32)) dX10_newU_18 rfl ?_
  refine m_putI hp fw_X10_25 dX10_newU_19 rfl rfl tLr2 (fun h3 eh3 => ?_)
  replace H := H h3 eh3
  refine r_aload_n dX10_newU_22 rfl rfl ?_
  exact r_aret dX10_newU_23 rfl (Or.inl ⟨_, rfl⟩) (Nat.le_refl _) (Nat.le_refl _) H
abbrev W_X10_times_2 (g : GX) (d : Nat) (av : List Value) (Q : QT) (n : Nat) (pc : Nat) (ls : LV) (stk : List Value) (h : Hp) : Prop := RJ g m_X10_times_2 (d + 1) 0 0 av Q pc ls stk n h 0 0
theorem s_X10_times_2_0 {g : GX} {d : Nat} {av : List Value} {Q : QT} {n : Nat} {h : Hp} {a0 : Nat} {a1 : Nat} {a2 : Nat} (hp : g.2.2.2.2 = true) (t0 : lay a0 = (0, 13, 2)) (t1 : lay a1 = (0, 13, 2)) (t2 : lay a2 = (0, 13, 2)) (H : (((ri h a1 1) = (0 : Int32)) → (W_X10_times_2 g d av Q n 14 [some (.ref a0), none, none, none, none, none, none, none, none, none] [] h)) ∧ ((¬ (ri h a1 1) = (0 : Int32)) → (((¬ (ri h a2 1) = (0 : Int32)) → (W_X10_times_2 g d av Q n 35 [some (.ref a0), some (.ref a1), some (.ref a2), some (.int (((ri h a1 1) + (ri h a2 1)) - (1 : Int32))), some (.int (0 : Int32)), none, none, none, none, none] [] h)) ∧ (((ri h a2 1) = (0 : Int32)) → (W_X10_times_2 g d av Q n 14 [some (.ref a0), none, none, none, none, none, none, none, none, none] [] h))))) : W_X10_times_2 g d av Q n 0 [some (.ref a0), some (.ref a1), some (.ref a2), none, none, none, none, none, none, none] [] h := by
  refine r_aload_n dX10_times_2_0 rfl rfl ?_
  refine m_getI hp fw_X10_25 dX10_times_2_1 rfl t1 ?_
  refine r_if_eq (tgt := 14) dX10_times_2_4 rfl (fun cH => ?_) (fun cH => ?_)
  · replace H := H.1 cH
    refine r_prune [true, false, false, false, false, false, false, false, false, false] (ls2 := [some (.ref a0), none, none, none, none, none, none, none, none, none]) rfl ?_
    exact H
  · replace H := H.2 cH
    refine r_aload_n dX10_times_2_7 rfl rfl ?_
    refine m_getI hp fw_X10_25 dX10_times_2_8 rfl t2 ?_
    refine r_if_ne (tgt := 20) dX10_times_2_11 rfl (fun cH => ?_) (fun cH => ?_)
    · replace H := H.1 cH
      refine r_aload_n dX10_times_2_20 rfl rfl ?_
      refine m_getI hp fw_X10_25 dX10_times_2_21 rfl t1 ?_
      refine r_aload_n dX10_times_2_24 rfl rfl ?_
      refine m_getI hp fw_X10_25 dX10_times_2_25 rfl t2 ?_
      refine r_iadd dX10_times_2_28 ?_
      refine r_iconst (v := (1 : Int32)) dX10_times_2_29 rfl ?_
      refine r_isub dX10_times_2_30 ?_
      refine r_istore_n (ls2 := [some (.ref a0), some (.ref a1), some (.ref a2), some (.int (((ri h a1 1) + (ri h a2 1)) - (1 : Int32))), none, none, none, none, none, none]) dX10_times_2_31 rfl (by decide) rfl ?_
      refine r_iconst (v := (0 : Int32)) dX10_times_2_32 rfl ?_
      refine r_istore (ls2 := [some (.ref a0), some (.ref a1), some (.ref a2), some (.int (((ri h a1 1) + (ri h a2 1)) - (1 : Int32))), some (.int (0 : Int32)), none, none, none, none, none]) dX10_times_2_33 (by decide) rfl ?_
      exact H
    · replace H := H.2 cH
      refine r_prune [true, false, false, false, false, false, false, false, false, false] (ls2 := [some (.ref a0), none, none, none, none, none, none, none, none, none]) rfl ?_
      exact H
theorem s_X10_times_2_14 {g : GX} {d : Nat} {av : List Value} {Q : QT} {n : Nat} {h : Hp} {a0 : Nat} (hp : g.2.2.2.2 = true) (t0 : lay a0 = (0, 13, 2)) (H : ∀ h1, h1 = wi h a0 1 (0 : Int32) → (Q none n h1)) : W_X10_times_2 g d av Q n 14 [some (.ref a0), none, none, none, none, none, none, none, none, none] [] h := by
  refine r_aload_n dX10_times_2_14 rfl rfl ?_
  refine r_iconst (v := (0 : Int32)) dX10_times_2_15 rfl ?_
  refine m_putI hp fw_X10_25 dX10_times_2_16 rfl rfl t0 (fun h1 eh1 => ?_)
  replace H := H h1 eh1
  exact r_vret dX10_times_2_19 rfl (Nat.le_refl _) (Nat.le_refl _) H
theorem s_X10_times_2_35 {g : GX} {d : Nat} {av : List Value} {Q : QT} {n : Nat} {h : Hp} {a0 : Nat} {a1 : Nat} {a2 : Nat} {x3 : Int32} {x4 : Int32} (hp : g.2.2.2.2 = true) (t0 : lay a0 = (0, 13, 2)) (t1 : lay a1 = (0, 13, 2)) (t2 : lay a2 = (0, 13, 2)) (H : ((x3 ≤ x4) → (∀ h1, h1 = wi h a0 1 x3 → (Q none n h1))) ∧ ((¬ x3 ≤ x4) → (CallI g m_J3_max d [.int (0 : Int32), .int ((x4 - (ri h a2 1)) + (1 : Int32))] n h (fun v2 h2 => (CallI g m_J3_min d [.int x4, .int ((ri h2 a1 1) - (1 : Int32))] n h2 (fun v3 h3 => (W_X10_times_2 g d av Q n 76 [some (.ref a0), some (.ref a1), some (.ref a2), some (.int x3), some (.int x4), some (.long (0 : Int64)), none, none, some (.int v3), some (.int v2)] [] h3))))))) : W_X10_times_2 g d av Q n 35 [some (.ref a0), some (.ref a1), some (.ref a2), some (.int x3), some (.int x4), none, none, none, none, none] [] h := by
  refine r_iload dX10_times_2_35 rfl ?_
  refine r_iload_n dX10_times_2_37 rfl rfl ?_
  refine r_icmp_ge (tgt := 134) dX10_times_2_38 rfl (fun cH => ?_) (fun cH => ?_)
  · replace H := H.1 cH
    refine r_aload_n dX10_times_2_134 rfl rfl ?_
    refine r_iload_n dX10_times_2_135 rfl rfl ?_
    refine m_putI hp fw_X10_25 dX10_times_2_136 rfl rfl t0 (fun h1 eh1 => ?_)
    replace H := H h1 eh1
    exact r_vret dX10_times_2_139 rfl (Nat.le_refl _) (Nat.le_refl _) H
  · replace H := H.2 cH
    refine r_lconst (v := (0 : Int64)) dX10_times_2_41 rfl ?_
    refine r_lstore (ls2 := [some (.ref a0), some (.ref a1), some (.ref a2), some (.int x3), some (.int x4), some (.long (0 : Int64)), none, none, none, none]) dX10_times_2_42 (by decide) rfl ?_
    refine r_iconst (v := (0 : Int32)) dX10_times_2_44 rfl ?_
    refine r_iload dX10_times_2_45 rfl ?_
    refine r_aload_n dX10_times_2_47 rfl rfl ?_
    refine m_getI hp fw_X10_25 dX10_times_2_48 rfl t2 ?_
    refine r_isub dX10_times_2_51 ?_
    refine r_iconst (v := (1 : Int32)) dX10_times_2_52 rfl ?_
    refine r_iadd dX10_times_2_53 ?_
    refine k_SI (As := [.int (0 : Int32), .int ((x4 - (ri h a2 1)) + (1 : Int32))]) (stk := []) cs_X10_40 dX10_times_2_54 rfl (Nat.le_of_ble_eq_true rfl) (H.mono (fun v2 h2 H => ?_)) ⟨Nat.le_refl _, Nat.le_refl _⟩
    refine r_istore (ls2 := [some (.ref a0), some (.ref a1), some (.ref a2), some (.int x3), some (.int x4), some (.long (0 : Int64)), none, some (.int v2), none, none]) dX10_times_2_57 (by decide) rfl ?_
    refine r_iload dX10_times_2_59 rfl ?_
    refine r_aload_n dX10_times_2_61 rfl rfl ?_
    refine m_getI hp fw_X10_25 dX10_times_2_62 rfl t1 ?_
    refine r_iconst (v := (1 : Int32)) dX10_times_2_65 rfl ?_
    refine r_isub dX10_times_2_66 ?_
    refine k_SI (As := [.int x4, .int ((ri h2 a1 1) - (1 : Int32))]) (stk := []) cs_X10_59 dX10_times_2_67 rfl (Nat.le_of_ble_eq_true rfl) (H.mono (fun v3 h3 H => ?_)) ⟨Nat.le_refl _, Nat.le_refl _⟩
    refine r_istore (ls2 := [some (.ref a0), some (.ref a1), some (.ref a2), some (.int x3), some (.int x4), some (.long (0 : Int64)), none, some (.int v2), some (.int v3), none]) dX10_times_2_70 (by decide) rfl ?_
    refine r_iload dX10_times_2_72 rfl ?_
    refine r_istore (ls2 := [some (.ref a0), some (.ref a1), some (.ref a2), some (.int x3), some (.int x4), some (.long (0 : Int64)), none, some (.int v2), some (.int v3), some (.int v2)]) dX10_times_2_74 (by decide) rfl ?_
    refine r_prune [true, true, true, true, true, true, false, false, true, true] (ls2 := [some (.ref a0), some (.ref a1), some (.ref a2), some (.int x3), some (.int x4), some (.long (0 : Int64)), none, none, some (.int v3), some (.int v2)]) rfl ?_
    exact H
theorem s_X10_times_2_76 {g : GX} {d : Nat} {av : List Value} {Q : QT} {n : Nat} {h : Hp} {a0 : Nat} {a1 : Nat} {a2 : Nat} {x3 : Int32} {x4 : Int32} {y5 : Int64} {x8 : Int32} {x9 : Int32} (hp : g.2.2.2.2 = true) (t0 : lay a0 = (0, 13, 2)) (t1 : lay a1 = (0, 13, 2)) (t2 : lay a2 = (0, 13, 2)) (H : ((x8 < x9) → (vp_in x4 (rm (a0 + 1)) ∧ ∀ h1, h1 = wi h (a0 + 1) (x4).toNatClampNeg (y5).toInt32 → (W_X10_times_2 g d av Q n 35 [some (.ref a0), some (.ref a1), some (.ref a2), some (.int x3), some (.int (x4 + (1 : Int32))), none, none, none, none, none] [] h1))) ∧ ((¬ x8 < x9) → (vp_in x9 (rm (a1 + 1)) ∧ (vp_in (x4 - x9) (rm (a2 + 1)) ∧ (W_X10_times_2 g d av Q n 76 [some (.ref a0), some (.ref a1), some (.ref a2), some (.int x3), some (.int x4), some (.long ((y5 + (((ri h (a1 + 1) (x9).toNatClampNeg)).toInt64 * ((ri h (a2 + 1) ((x4 - x9)).toNatClampNeg)).toInt64)) - (y5 + (((ri h (a1 + 1) (x9).toNatClampNeg)).toInt64 * ((ri h (a2 + 1) ((x4 - x9)).toNatClampNeg)).toInt64)) / (2147483647 : Int64) * (2147483647 : Int64))), none, none, some (.int x8), some (.int (x9 + (1 : Int32)))] [] h))))) : W_X10_times_2 g d av Q n 76 [some (.ref a0), some (.ref a1), some (.ref a2), some (.int x3), some (.int x4), some (.long y5), none, none, some (.int x8), some (.int x9)] [] h := by
  refine r_iload dX10_times_2_76 rfl ?_
  refine r_iload dX10_times_2_78 rfl ?_
  refine r_icmp_gt (tgt := 118) dX10_times_2_80 rfl (fun cH => ?_) (fun cH => ?_)
  · replace H := H.1 cH
    refine r_aload_n dX10_times_2_118 rfl rfl ?_
    refine m_getF (x := (a0 + 1)) hp fw_X10_30 dX10_times_2_119 rfl t0 (ff_13_0 t0) ?_
    refine r_iload dX10_times_2_122 rfl ?_
    refine r_lload dX10_times_2_124 rfl ?_
    refine r_l2i dX10_times_2_126 ?_
    refine m_iast hp dX10_times_2_127 (lf_13_0 t0) H.1 (fun h1 eh1 => ?_)
    replace H := H.2 h1 eh1
    refine r_iinc (v := (x4 + (1 : Int32))) (ls2 := [some (.ref a0), some (.ref a1), some (.ref a2), some (.int x3), some (.int (x4 + (1 : Int32))), some (.long y5), none, none, some (.int x8), some (.int x9)]) dX10_times_2_128 rfl rfl (by decide) rfl ?_
    refine r_goto (tgt := 35) dX10_times_2_131 rfl ?_
    refine r_prune [true, true, true, true, true, false, false, false, false, false] (ls2 := [some (.ref a0), some (.ref a1), some (.ref a2), some (.int x3), some (.int (x4 + (1 : Int32))), none, none, none, none, none]) rfl ?_
    exact H
  · replace H := H.2 cH
    refine r_lload dX10_times_2_83 rfl ?_
    refine r_aload_n dX10_times_2_85 rfl rfl ?_
    refine m_getF (x := (a1 + 1)) hp fw_X10_30 dX10_times_2_86 rfl t1 (ff_13_0 t1) ?_
    refine r_iload dX10_times_2_89 rfl ?_
    refine m_iald hp dX10_times_2_91 (lf_13_0 t1) H.1 ?_
    replace H := H.2
    refine r_i2l dX10_times_2_92 ?_
    refine r_aload_n dX10_times_2_93 rfl rfl ?_
    refine m_getF (x := (a2 + 1)) hp fw_X10_30 dX10_times_2_94 rfl t2 (ff_13_0 t2) ?_
    refine r_iload dX10_times_2_97 rfl ?_
    refine r_iload dX10_times_2_99 rfl ?_
    refine r_isub dX10_times_2_101 ?_
    refine m_iald hp dX10_times_2_102 (lf_13_0 t2) H.1 ?_
    replace H := H.2
    refine r_i2l dX10_times_2_103 ?_
    refine r_lmul dX10_times_2_104 ?_
    refine r_ladd dX10_times_2_105 ?_
    refine r_ldc2 (own := "") (v := (2147483647 : Int64)) dX10_times_2_106 q2239 ?_
    refine r_lrem dX10_times_2_109 (by decide) ?_
    refine r_lstore (ls2 := [some (.ref a0), some (.ref a1), some (.ref a2), some (.int x3), some (.int x4), some (.long ((y5 + (((ri h (a1 + 1) (x9).toNatClampNeg)).toInt64 * ((ri h (a2 + 1) ((x4 - x9)).toNatClampNeg)).toInt64)) - (y5 + (((ri h (a1 + 1) (x9).toNatClampNeg)).toInt64 * ((ri h (a2 + 1) ((x4 - x9)).toNatClampNeg)).toInt64)) / (2147483647 : Int64) * (2147483647 : Int64))), none, none, some (.int x8), some (.int x9)]) dX10_times_2_110 (by decide) rfl ?_
    refine r_iinc (v := (x9 + (1 : Int32))) (ls2 := [some (.ref a0), some (.ref a1), some (.ref a2), some (.int x3), some (.int x4), some (.long ((y5 + (((ri h (a1 + 1) (x9).toNatClampNeg)).toInt64 * ((ri h (a2 + 1) ((x4 - x9)).toNatClampNeg)).toInt64)) - (y5 + (((ri h (a1 + 1) (x9).toNatClampNeg)).toInt64 * ((ri h (a2 + 1) ((x4 - x9)).toNatClampNeg)).toInt64)) / (2147483647 : Int64) * (2147483647 : Int64))), none, none, some (.int x8), some (.int (x9 + (1 : Int32)))]) dX10_times_2_112 rfl rfl (by decide) rfl ?_
    refine r_goto (tgt := 76) dX10_times_2_115 rfl ?_
    exact H
abbrev W_X10_plus (g : GX) (d : Nat) (av : List Value) (Q : QT) (n : Nat) (pc : Nat) (ls : LV) (stk : List Value) (h : Hp) : Prop := RJ g m_X10_plus (d + 1) 0 0 av Q pc ls stk n h 0 0
theorem s_X10_plus_0 {g : GX} {d : Nat} {av : List Value} {Q : QT} {n : Nat} {h : Hp} {a0 : Nat} {a1 : Nat} {a2 : Nat} {x3 : Int32} (hp : g.2.2.2.2 = true) (t0 : lay a0 = (0, 13, 2)) (t1 : lay a1 = (0, 13, 2)) (t2 : lay a2 = (0, 13, 2)) (H : CallI g m_J3_max d [.int (ri h a1 1), .int (ri h a2 1)] n h (fun v1 h1 => (W_X10_plus g d av Q n 16 [some (.ref a0), some (.ref a1), some (.ref a2), some (.int x3), some (.int v1), some (.int (0 : Int32)), none, none] [] h1))) : W_X10_plus g d av Q n 0 [some (.ref a0), some (.ref a1), some (.ref a2), some (.int x3), none, none, none, none] [] h := by
  refine r_aload_n dX10_plus_0 rfl rfl ?_
  refine m_getI hp fw_X10_25 dX10_plus_1 rfl t1 ?_
  refine r_aload_n dX10_plus_4 rfl rfl ?_
  refine m_getI hp fw_X10_25 dX10_plus_5 rfl t2 ?_
  refine k_SI (As := [.int (ri h a1 1), .int (ri h a2 1)]) (stk := []) cs_X10_40 dX10_plus_8 rfl (Nat.le_of_ble_eq_true rfl) (H.mono (fun v1 h1 H => ?_)) ⟨Nat.le_refl _, Nat.le_refl _⟩
  refine r_istore (ls2 := [some (.ref a0), some (.ref a1), some (.ref a2), some (.int x3), some (.int v1), none, none, none]) dX10_plus_11 (by decide) rfl ?_
  refine r_iconst (v := (0 : Int32)) dX10_plus_13 rfl ?_
  refine r_istore (ls2 := [some (.ref a0), some (.ref a1), some (.ref a2), some (.int x3), some (.int v1), some (.int (0 : Int32)), none, none]) dX10_plus_14 (by decide) rfl ?_
  exact H
theorem s_X10_plus_16 {g : GX} {d : Nat} {av : List Value} {Q : QT} {n : Nat} {h : Hp} {a0 : Nat} {a1 : Nat} {a2 : Nat} {x3 : Int32} {x4 : Int32} {x5 : Int32} (hp : g.2.2.2.2 = true) (t0 : lay a0 = (0, 13, 2)) (t1 : lay a1 = (0, 13, 2)) (t2 : lay a2 = (0, 13, 2)) (H : ((x4 ≤ x5) → (∀ h1, h1 = wi h a0 1 x4 → (CallV g m_X13_trim d [.ref a0] n h1 (fun h2 => (Q none n h2))))) ∧ ((¬ x4 ≤ x5) → ((((ri h a1 1) ≤ x5) → (W_X10_plus g d av Q n 43 [some (.ref a0), some (.ref a1), some (.ref a2), some (.int x3), some (.int x4), some (.int x5), none, none] [.int (0 : Int32)] h)) ∧ ((¬ (ri h a1 1) ≤ x5) → (vp_in x5 (rm (a1 + 1)) ∧ (W_X10_plus g d av Q n 43 [some (.ref a0), some (.ref a1), some (.ref a2), some (.int x3), some (.int x4), some (.int x5), none, none] [.int (ri h (a1 + 1) (x5).toNatClampNeg)] h)))))) : W_X10_plus g d av Q n 16 [some (.ref a0), some (.ref a1), some (.ref a2), some (.int x3), some (.int x4), some (.int x5), none, none] [] h := by
  refine r_iload dX10_plus_16 rfl ?_
  refine r_iload dX10_plus_18 rfl ?_
  refine r_icmp_ge (tgt := 101) dX10_plus_20 rfl (fun cH => ?_) (fun cH => ?_)
  · replace H := H.1 cH
    refine r_aload_n dX10_plus_101 rfl rfl ?_
    refine r_iload dX10_plus_102 rfl ?_
    refine m_putI hp fw_X10_25 dX10_plus_104 rfl rfl t0 (fun h1 eh1 => ?_)
    replace H := H h1 eh1
    refine r_aload_n dX10_plus_107 rfl rfl ?_
    refine k_VV (As := []) (stk := []) hp cv_X10_52 dX10_plus_108 rfl (Nat.le_of_ble_eq_true rfl) t0 (H.mono (fun h2 H => ?_)) ⟨Nat.le_refl _, Nat.le_refl _⟩
    exact r_vret dX10_plus_111 rfl (Nat.le_refl _) (Nat.le_refl _) H
  · replace H := H.2 cH
    refine r_iload dX10_plus_23 rfl ?_
    refine r_aload_n dX10_plus_25 rfl rfl ?_
    refine m_getI hp fw_X10_25 dX10_plus_26 rfl t1 ?_
    refine r_icmp_ge (tgt := 42) dX10_plus_29 rfl (fun cH => ?_) (fun cH => ?_)
    · replace H := H.1 cH
      refine r_iconst (v := (0 : Int32)) dX10_plus_42 rfl ?_
      exact H
    · replace H := H.2 cH
      refine r_aload_n dX10_plus_32 rfl rfl ?_
      refine m_getF (x := (a1 + 1)) hp fw_X10_30 dX10_plus_33 rfl t1 (ff_13_0 t1) ?_
      refine r_iload dX10_plus_36 rfl ?_
      refine m_iald hp dX10_plus_38 (lf_13_0 t1) H.1 ?_
      replace H := H.2
      refine r_goto (tgt := 43) dX10_plus_39 rfl ?_
      exact H
theorem s_X10_plus_43 {g : GX} {d : Nat} {av : List Value} {Q : QT} {n : Nat} {h : Hp} {a0 : Nat} {a1 : Nat} {a2 : Nat} {x3 : Int32} {x4 : Int32} {x5 : Int32} {xs0 : Int32} (hp : g.2.2.2.2 = true) (t0 : lay a0 = (0, 13, 2)) (t1 : lay a1 = (0, 13, 2)) (t2 : lay a2 = (0, 13, 2)) (H : (((ri h a2 1) ≤ x5) → (W_X10_plus g d av Q n 65 [some (.ref a0), some (.ref a1), some (.ref a2), some (.int x3), some (.int x4), some (.int x5), some (.int xs0), none] [.int (0 : Int32)] h)) ∧ ((¬ (ri h a2 1) ≤ x5) → (vp_in x5 (rm (a2 + 1)) ∧ (W_X10_plus g d av Q n 65 [some (.ref a0), some (.ref a1), some (.ref a2), some (.int x3), some (.int x4), some (.int x5), some (.int xs0), none] [.int (ri h (a2 + 1) (x5).toNatClampNeg)] h)))) : W_X10_plus g d av Q n 43 [some (.ref a0), some (.ref a1), some (.ref a2), some (.int x3), some (.int x4), some (.int x5), none, none] [.int xs0] h := by
  refine r_istore (ls2 := [some (.ref a0), some (.ref a1), some (.ref a2), some (.int x3), some (.int x4), some (.int x5), some (.int xs0), none]) dX10_plus_43 (by decide) rfl ?_
  refine r_iload dX10_plus_45 rfl ?_
  refine r_aload_n dX10_plus_47 rfl rfl ?_
  refine m_getI hp fw_X10_25 dX10_plus_48 rfl t2 ?_
  refine r_icmp_ge (tgt := 64) dX10_plus_51 rfl (fun cH => ?_) (fun cH => ?_)
  · replace H := H.1 cH
    refine r_iconst (v := (0 : Int32)) dX10_plus_64 rfl ?_
    exact H
  · replace H := H.2 cH
    refine r_aload_n dX10_plus_54 rfl rfl ?_
    refine m_getF (x := (a2 + 1)) hp fw_X10_30 dX10_plus_55 rfl t2 (ff_13_0 t2) ?_
    refine r_iload dX10_plus_58 rfl ?_
    refine m_iald hp dX10_plus_60 (lf_13_0 t2) H.1 ?_
    replace H := H.2
    refine r_goto (tgt := 65) dX10_plus_61 rfl ?_
    exact H
theorem s_X10_plus_65 {g : GX} {d : Nat} {av : List Value} {Q : QT} {n : Nat} {h : Hp} {a0 : Nat} {a1 : Nat} {a2 : Nat} {x3 : Int32} {x4 : Int32} {x5 : Int32} {x6 : Int32} {xs0 : Int32} (hp : g.2.2.2.2 = true) (t0 : lay a0 = (0, 13, 2)) (t1 : lay a1 = (0, 13, 2)) (t2 : lay a2 = (0, 13, 2)) (H : ((x3 = (0 : Int32)) → (CallI g m_X10_add d [.int x6, .int xs0] n h (fun v1 h1 => (W_X10_plus g d av Q n 94 [some (.ref a0), some (.ref a1), some (.ref a2), some (.int x3), some (.int x4), some (.int x5), none, none] [.int v1, .int x5, .ref (a0 + 1)] h1)))) ∧ ((¬ x3 = (0 : Int32)) → (CallI g m_X10_sub d [.int x6, .int xs0] n h (fun v2 h2 => (W_X10_plus g d av Q n 94 [some (.ref a0), some (.ref a1), some (.ref a2), some (.int x3), some (.int x4), some (.int x5), none, none] [.int v2, .int x5, .ref (a0 + 1)] h2))))) : W_X10_plus g d av Q n 65 [some (.ref a0), some (.ref a1), some (.ref a2), some (.int x3), some (.int x4), some (.int x5), some (.int x6), none] [.int xs0] h := by
  refine r_istore (ls2 := [some (.ref a0), some (.ref a1), some (.ref a2), some (.int x3), some (.int x4), some (.int x5), some (.int x6), some (.int xs0)]) dX10_plus_65 (by decide) rfl ?_
  refine r_aload_n dX10_plus_67 rfl rfl ?_
  refine m_getF (x := (a0 + 1)) hp fw_X10_30 dX10_plus_68 rfl t0 (ff_13_0 t0) ?_
  refine r_iload dX10_plus_71 rfl ?_
  refine r_iload_n dX10_plus_73 rfl rfl ?_
  refine r_if_eq (tgt := 87) dX10_plus_74 rfl (fun cH => ?_) (fun cH => ?_)
  · replace H := H.1 cH
    refine r_iload dX10_plus_87 rfl ?_
    refine r_iload dX10_plus_89 rfl ?_
    refine k_SI (As := [.int x6, .int xs0]) (stk := [.int x5, .ref (a0 + 1)]) cs_X10_49 dX10_plus_91 rfl (Nat.le_of_ble_eq_true rfl) (H.mono (fun v1 h1 H => ?_)) ⟨Nat.le_refl _, Nat.le_refl _⟩
    refine r_prune [true, true, true, true, true, true, false, false] (ls2 := [some (.ref a0), some (.ref a1), some (.ref a2), some (.int x3), some (.int x4), some (.int x5), none, none]) rfl ?_
    exact H
  · replace H := H.2 cH
    refine r_iload dX10_plus_77 rfl ?_
    refine r_iload dX10_plus_79 rfl ?_
    refine k_SI (As := [.int x6, .int xs0]) (stk := [.int x5, .ref (a0 + 1)]) cs_X10_46 dX10_plus_81 rfl (Nat.le_of_ble_eq_true rfl) (H.mono (fun v2 h2 H => ?_)) ⟨Nat.le_refl _, Nat.le_refl _⟩
    refine r_goto (tgt := 94) dX10_plus_84 rfl ?_
    refine r_prune [true, true, true, true, true, true, false, false] (ls2 := [some (.ref a0), some (.ref a1), some (.ref a2), some (.int x3), some (.int x4), some (.int x5), none, none]) rfl ?_
    exact H
theorem s_X10_plus_94 {g : GX} {d : Nat} {av : List Value} {Q : QT} {n : Nat} {h : Hp} {a0 : Nat} {a1 : Nat} {a2 : Nat} {x3 : Int32} {x4 : Int32} {x5 : Int32} {xs0 : Int32} {xs1 : Int32} {as2 : Nat} {Ls2 : Nat} (hp : g.2.2.2.2 = true) (t0 : lay a0 = (0, 13, 2)) (t1 : lay a1 = (0, 13, 2)) (t2 : lay a2 = (0, 13, 2)) (ts2 : lay as2 = (1, Ls2, 0)) (H : vp_in xs1 Ls2 ∧ ∀ h1, h1 = wi h as2 (xs1).toNatClampNeg xs0 → (W_X10_plus g d av Q n 16 [some (.ref a0), some (.ref a1), some (.ref a2), some (.int x3), some (.int x4), some (.int (x5 + (1 : Int32))), none, none] [] h1)) : W_X10_plus g d av Q n 94 [some (.ref a0), some (.ref a1), some (.ref a2), some (.int x3), some (.int x4), some (.int x5), none, none] [.int xs0, .int xs1, .ref as2] h := by
  refine m_iast hp dX10_plus_94 ts2 H.1 (fun h1 eh1 => ?_)
  replace H := H.2 h1 eh1
  refine r_iinc (v := (x5 + (1 : Int32))) (ls2 := [some (.ref a0), some (.ref a1), some (.ref a2), some (.int x3), some (.int x4), some (.int (x5 + (1 : Int32))), none, none]) dX10_plus_95 rfl rfl (by decide) rfl ?_
  refine r_goto (tgt := 16) dX10_plus_98 rfl ?_
  exact H
abbrev W_X10_sub (g : GX) (d : Nat) (av : List Value) (Q : QT) (n : Nat) (pc : Nat) (ls : LV) (stk : List Value) (h : Hp) : Prop := RJ g m_X10_sub d 0 0 av Q pc ls stk n h 0 0
theorem s_X10_sub_0 {g : GX} {d : Nat} {av : List Value} {Q : QT} {n : Nat} {h : Hp} {x0 : Int32} {x1 : Int32} (hp : g.2.2.2.2 = true)  (H : ((x0 < x1) → (Q (some (.int ((x0 - x1) + (2147483647 : Int32)))) n h)) ∧ ((¬ x0 < x1) → (Q (some (.int (x0 - x1))) n h))) : W_X10_sub g d av Q n 0 [some (.int x0), some (.int x1)] [] h := by
  refine r_iload_n dX10_sub_0 rfl rfl ?_
  refine r_iload_n dX10_sub_1 rfl rfl ?_
  refine r_icmp_lt (tgt := 11) dX10_sub_2 rfl (fun cH => ?_) (fun cH => ?_)
  · replace H := H.1 cH
    refine r_iload_n dX10_sub_11 rfl rfl ?_
    refine r_iload_n dX10_sub_12 rfl rfl ?_
    refine r_isub dX10_sub_13 ?_
    refine r_ldc (own := "") (v := (2147483647 : Int32)) dX10_sub_14 q2190 ?_
    refine r_iadd dX10_sub_16 ?_
    exact r_zret dX10_sub_17 rfl rfl (Nat.le_refl _) (Nat.le_refl _) H
  · replace H := H.2 cH
    refine r_iload_n dX10_sub_5 rfl rfl ?_
    refine r_iload_n dX10_sub_6 rfl rfl ?_
    refine r_isub dX10_sub_7 ?_
    refine r_goto (tgt := 17) dX10_sub_8 rfl ?_
    exact r_zret dX10_sub_17 rfl rfl (Nat.le_refl _) (Nat.le_refl _) H
abbrev W_X10_add (g : GX) (d : Nat) (av : List Value) (Q : QT) (n : Nat) (pc : Nat) (ls : LV) (stk : List Value) (h : Hp) : Prop := RJ g m_X10_add d 0 0 av Q pc ls stk n h 0 0
theorem s_X10_add_0 {g : GX} {d : Nat} {av : List Value} {Q : QT} {n : Nat} {h : Hp} {x0 : Int32} {x1 : Int32} (hp : g.2.2.2.2 = true)  (H : (((lg_cmp ((x0).toInt64 + (x1).toInt64) (2147483647 : Int64)) < (0 : Int32)) → (Q (some (.int (((x0).toInt64 + (x1).toInt64)).toInt32)) n h)) ∧ ((¬ (lg_cmp ((x0).toInt64 + (x1).toInt64) (2147483647 : Int64)) < (0 : Int32)) → (Q (some (.int ((((x0).toInt64 + (x1).toInt64) - (2147483647 : Int64))).toInt32)) n h))) : W_X10_add g d av Q n 0 [some (.int x0), some (.int x1), none, none] [] h := by
  refine r_iload_n dX10_add_0 rfl rfl ?_
  refine r_i2l dX10_add_1 ?_
  refine r_iload_n dX10_add_2 rfl rfl ?_
  refine r_i2l dX10_add_3 ?_
  refine r_ladd dX10_add_4 ?_
  refine r_lstore_n (ls2 := [some (.int x0), some (.int x1), some (.long ((x0).toInt64 + (x1).toInt64)), none]) dX10_add_5 rfl (by decide) rfl ?_
  refine r_lload_n dX10_add_6 rfl rfl ?_
  refine r_ldc2 (own := "") (v := (2147483647 : Int64)) dX10_add_7 q2239 ?_
  refine r_lcmp dX10_add_10 ?_
  refine r_if_lt (tgt := 22) dX10_add_11 rfl (fun cH => ?_) (fun cH => ?_)
  · replace H := H.1 cH
    refine r_lload_n dX10_add_22 rfl rfl ?_
    refine r_l2i dX10_add_23 ?_
    exact r_zret dX10_add_24 rfl rfl (Nat.le_refl _) (Nat.le_refl _) H
  · replace H := H.2 cH
    refine r_lload_n dX10_add_14 rfl rfl ?_
    refine r_ldc2 (own := "") (v := (2147483647 : Int64)) dX10_add_15 q2239 ?_
    refine r_lsub dX10_add_18 ?_
    refine r_goto (tgt := 23) dX10_add_19 rfl ?_
    refine r_l2i dX10_add_23 ?_
    exact r_zret dX10_add_24 rfl rfl (Nat.le_refl _) (Nat.le_refl _) H
abbrev W_X10_set (g : GX) (d : Nat) (av : List Value) (Q : QT) (n : Nat) (pc : Nat) (ls : LV) (stk : List Value) (h : Hp) : Prop := RJ g m_X10_set (d + 1) 0 0 av Q pc ls stk n h 0 0
theorem s_X10_set_0 {g : GX} {d : Nat} {av : List Value} {Q : QT} {n : Nat} {h : Hp} {a0 : Nat} {a1 : Nat} (hp : g.2.2.2.2 = true) (t0 : lay a0 = (0, 14, 2)) (t1 : lay a1 = (0, 14, 2)) (H : W_X10_set g d av Q n 2 [some (.ref a0), some (.ref a1), some (.int (0 : Int32))] [] h) : W_X10_set g d av Q n 0 [some (.ref a0), some (.ref a1), none] [] h := by
  refine r_iconst (v := (0 : Int32)) dX10_set_0 rfl ?_
  refine r_istore_n (ls2 := [some (.ref a0), some (.ref a1), some (.int (0 : Int32))]) dX10_set_1 rfl (by decide) rfl ?_
  exact H
theorem s_X10_set_2 {g : GX} {d : Nat} {av : List Value} {Q : QT} {n : Nat} {h : Hp} {a0 : Nat} {a1 : Nat} {x2 : Int32} (hp : g.2.2.2.2 = true) (t0 : lay a0 = (0, 14, 2)) (t1 : lay a1 = (0, 14, 2)) (H : (((ri h a1 1) ≤ x2) → (∀ h1, h1 = wi h a0 1 (ri h a1 1) → (Q none n h1))) ∧ ((¬ (ri h a1 1) ≤ x2) → (vp_in x2 64 ∧ ∀ r2, r2 = (a0 + 2) + 2 * (x2).toNatClampNeg → (vp_in x2 64 ∧ ∀ r3, r3 = (a1 + 2) + 2 * (x2).toNatClampNeg → (CallV g m_X10_set_2 d [.ref r2, .ref r3] n h (fun h4 => (W_X10_set g d av Q n 2 [some (.ref a0), some (.ref a1), some (.int (x2 + (1 : Int32)))] [] h4))))))) : W_X10_set g d av Q n 2 [some (.ref a0), some (.ref a1), some (.int x2)] [] h := by
  refine r_iload_n dX10_set_2 rfl rfl ?_
  refine r_aload_n dX10_set_3 rfl rfl ?_
  refine m_getI hp fw_X10_93 dX10_set_4 rfl t1 ?_
  refine r_icmp_ge (tgt := 31) dX10_set_7 rfl (fun cH => ?_) (fun cH => ?_)
  · replace H := H.1 cH
    refine r_aload_n dX10_set_31 rfl rfl ?_
    refine r_aload_n dX10_set_32 rfl rfl ?_
    refine m_getI hp fw_X10_93 dX10_set_33 rfl t1 ?_
    refine m_putI hp fw_X10_93 dX10_set_36 rfl rfl t0 (fun h1 eh1 => ?_)
    replace H := H h1 eh1
    exact r_vret dX10_set_39 rfl (Nat.le_refl _) (Nat.le_refl _) H
  · replace H := H.2 cH
    refine r_aload_n dX10_set_10 rfl rfl ?_
    refine m_getF (x := (a0 + 1)) hp fw_X10_98 dX10_set_11 rfl t0 (ff_14_0 t0) ?_
    refine r_iload_n dX10_set_14 rfl rfl ?_
    obtain ⟨r2, er2⟩ : ∃ y, y = (a0 + 2) + 2 * (x2).toNatClampNeg := ⟨_, rfl⟩
    have hir2 := H.1
    replace H := H.2 r2 er2
    have tLr2 := le_14 t0 hir2 er2
    refine m_aalF (x := r2) hp dX10_set_15 (lf_14_0 t0) rfl rfl (lu_14_0 t0) hir2 (fe_14 t0 hir2 er2) ?_
    refine r_aload_n dX10_set_16 rfl rfl ?_
    refine m_getF (x := (a1 + 1)) hp fw_X10_98 dX10_set_17 rfl t1 (ff_14_0 t1) ?_
    refine r_iload_n dX10_set_20 rfl rfl ?_
    obtain ⟨r3, er3⟩ : ∃ y, y = (a1 + 2) + 2 * (x2).toNatClampNeg := ⟨_, rfl⟩
    have hir3 := H.1
    replace H := H.2 r3 er3
    have tLr3 := le_14 t1 hir3 er3
    refine m_aalF (x := r3) hp dX10_set_21 (lf_14_0 t1) rfl rfl (lu_14_0 t1) hir3 (fe_14 t1 hir3 er3) ?_
    refine k_SV (As := [.ref r2, .ref r3]) (stk := []) cs_X10_62 dX10_set_22 rfl (Nat.le_of_ble_eq_true rfl) (H.mono (fun h4 H => ?_)) ⟨Nat.le_refl _, Nat.le_refl _⟩
    refine r_iinc (v := (x2 + (1 : Int32))) (ls2 := [some (.ref a0), some (.ref a1), some (.int (x2 + (1 : Int32)))]) dX10_set_25 rfl rfl (by decide) rfl ?_
    refine r_goto (tgt := 2) dX10_set_28 rfl ?_
    exact H
abbrev W_X10_set_2 (g : GX) (d : Nat) (av : List Value) (Q : QT) (n : Nat) (pc : Nat) (ls : LV) (stk : List Value) (h : Hp) : Prop := RJ g m_X10_set_2 (d + 1) 0 0 av Q pc ls stk n h 0 0
theorem s_X10_set_2_0 {g : GX} {d : Nat} {av : List Value} {Q : QT} {n : Nat} {h : Hp} {a0 : Nat} {a1 : Nat} (hp : g.2.2.2.2 = true) (t0 : lay a0 = (0, 13, 2)) (t1 : lay a1 = (0, 13, 2)) (H : ¬ (0 : Int32) < 0 ∧ ¬ (0 : Int32) < 0 ∧ ¬ (ri h a1 1) < 0 ∧ ((0 : Int32)).toNatClampNeg + ((ri h a1 1)).toNatClampNeg ≤ (rm (a1 + 1)) ∧ ((0 : Int32)).toNatClampNeg + ((ri h a1 1)).toNatClampNeg ≤ (rm (a0 + 1)) ∧ ∀ h1, h1 = cpy h (a1 + 1) ((0 : Int32)).toNatClampNeg (a0 + 1) ((0 : Int32)).toNatClampNeg ((ri h a1 1)).toNatClampNeg → (∀ h2, h2 = wi h1 a0 1 (ri h1 a1 1) → (Q none n h2))) : W_X10_set_2 g d av Q n 0 [some (.ref a0), some (.ref a1)] [] h := by
  refine r_aload_n dX10_set_2_0 rfl rfl ?_
  refine m_getF (x := (a1 + 1)) hp fw_X10_30 dX10_set_2_1 rfl t1 (ff_13_0 t1) ?_
  refine r_iconst (v := (0 : Int32)) dX10_set_2_4 rfl ?_
  refine r_aload_n dX10_set_2_5 rfl rfl ?_
  refine m_getF (x := (a0 + 1)) hp fw_X10_30 dX10_set_2_6 rfl t0 (ff_13_0 t0) ?_
  refine r_iconst (v := (0 : Int32)) dX10_set_2_9 rfl ?_
  refine r_aload_n dX10_set_2_10 rfl rfl ?_
  refine m_getI hp fw_X10_25 dX10_set_2_11 rfl t1 ?_
  obtain ⟨c1, c2, c3, c4, c5, H⟩ := H
  refine m_copy hp ar_X10_34 dX10_set_2_14 rfl rfl (lf_13_0 t1) (lf_13_0 t0) c1 c2 c3 c4 c5 (fun _ _ => rfl) (Nat.le_of_ble_eq_true rfl) (Nat.le_add_left 1 d) (fun h1 eh1 => ?_)
  replace H := H h1 eh1
  refine r_aload_n dX10_set_2_17 rfl rfl ?_
  refine r_aload_n dX10_set_2_18 rfl rfl ?_
  refine m_getI hp fw_X10_25 dX10_set_2_19 rfl t1 ?_
  refine m_putI hp fw_X10_25 dX10_set_2_22 rfl rfl t0 (fun h2 eh2 => ?_)
  replace H := H h2 eh2
  exact r_vret dX10_set_2_25 rfl (Nat.le_refl _) (Nat.le_refl _) H
abbrev W_X10_settle (g : GX) (d : Nat) (av : List Value) (Q : QT) (n : Nat) (pc : Nat) (ls : LV) (stk : List Value) (h : Hp) : Prop := RJ g m_X10_settle (d + 1) 0 0 av Q pc ls stk n h 0 0
theorem s_X10_settle_0 {g : GX} {d : Nat} {av : List Value} {Q : QT} {n : Nat} {h : Hp} {a0 : Nat} {a1 : Nat} (hp : g.2.2.2.2 = true) (t0 : lay a0 = (0, 14, 2)) (t1 : lay a1 = (0, 14, 2)) (H : ((¬ (ri h a0 1) = (0 : Int32)) → (CallI g m_X14_head d [.ref a1] n h (fun v1 h1 => (CallI g m_X10_inv d [.int v1] n h1 (fun v2 h2 => (CallV g m_X10_scale d [.ref a0, .ref a0, .int v2] n h2 (fun h3 => (CallV g m_X10_scale d [.ref a1, .ref a1, .int v2] n h3 (fun h4 => (Q none n h4)))))))))) ∧ (((ri h a0 1) = (0 : Int32)) → (CallV g m_X14_number d [.ref a1, .int (1 : Int32)] n h (fun h5 => (Q none n h5))))) : W_X10_settle g d av Q n 0 [some (.ref a0), some (.ref a1), none] [] h := by
  refine r_aload_n dX10_settle_0 rfl rfl ?_
  refine m_getI hp fw_X10_93 dX10_settle_1 rfl t0 ?_
  refine r_if_ne (tgt := 15) dX10_settle_4 rfl (fun cH => ?_) (fun cH => ?_)
  · replace H := H.1 cH
    refine r_aload_n dX10_settle_15 rfl rfl ?_
    refine k_VI (As := []) (stk := []) hp cv_X10_181 dX10_settle_16 rfl (Nat.le_of_ble_eq_true rfl) t1 (H.mono (fun v1 h1 H => ?_)) ⟨Nat.le_refl _, Nat.le_refl _⟩
    refine k_SI (As := [.int v1]) (stk := []) cs_X10_13 dX10_settle_19 rfl (Nat.le_of_ble_eq_true rfl) (H.mono (fun v2 h2 H => ?_)) ⟨Nat.le_refl _, Nat.le_refl _⟩
    refine r_istore_n (ls2 := [some (.ref a0), some (.ref a1), some (.int v2)]) dX10_settle_22 rfl (by decide) rfl ?_
    refine r_aload_n dX10_settle_23 rfl rfl ?_
    refine r_aload_n dX10_settle_24 rfl rfl ?_
    refine r_iload_n dX10_settle_25 rfl rfl ?_
    refine k_SV (As := [.ref a0, .ref a0, .int v2]) (stk := []) cs_X10_182 dX10_settle_26 rfl (Nat.le_of_ble_eq_true rfl) (H.mono (fun h3 H => ?_)) ⟨Nat.le_refl _, Nat.le_refl _⟩
    refine r_aload_n dX10_settle_29 rfl rfl ?_
    refine r_aload_n dX10_settle_30 rfl rfl ?_
    refine r_iload_n dX10_settle_31 rfl rfl ?_
    refine k_SV (As := [.ref a1, .ref a1, .int v2]) (stk := []) cs_X10_182 dX10_settle_32 rfl (Nat.le_of_ble_eq_true rfl) (H.mono (fun h4 H => ?_)) ⟨Nat.le_refl _, Nat.le_refl _⟩
    exact r_vret dX10_settle_35 rfl (Nat.le_refl _) (Nat.le_refl _) H
  · replace H := H.2 cH
    refine r_aload_n dX10_settle_7 rfl rfl ?_
    refine r_iconst (v := (1 : Int32)) dX10_settle_8 rfl ?_
    refine k_VV (As := [.int (1 : Int32)]) (stk := []) hp cv_X10_158 dX10_settle_9 rfl (Nat.le_of_ble_eq_true rfl) t1 (H.mono (fun h5 H => ?_)) ⟨Nat.le_refl _, Nat.le_refl _⟩
    refine r_goto (tgt := 35) dX10_settle_12 rfl ?_
    exact r_vret dX10_settle_35 rfl (Nat.le_refl _) (Nat.le_refl _) H
abbrev W_X10_scale (g : GX) (d : Nat) (av : List Value) (Q : QT) (n : Nat) (pc : Nat) (ls : LV) (stk : List Value) (h : Hp) : Prop := RJ g m_X10_scale (d + 1) 0 0 av Q pc ls stk n h 0 0
theorem s_X10_scale_0 {g : GX} {d : Nat} {av : List Value} {Q : QT} {n : Nat} {h : Hp} {a0 : Nat} {a1 : Nat} {x2 : Int32} (hp : g.2.2.2.2 = true) (t0 : lay a0 = (0, 14, 2)) (t1 : lay a1 = (0, 14, 2)) (H : W_X10_scale g d av Q n 2 [some (.ref a0), some (.ref a1), some (.int x2), some (.int (0 : Int32))] [] h) : W_X10_scale g d av Q n 0 [some (.ref a0), some (.ref a1), some (.int x2), none] [] h := by
  refine r_iconst (v := (0 : Int32)) dX10_scale_0 rfl ?_
  refine r_istore_n (ls2 := [some (.ref a0), some (.ref a1), some (.int x2), some (.int (0 : Int32))]) dX10_scale_1 rfl (by decide) rfl ?_
  exact H
theorem s_X10_scale_2 {g : GX} {d : Nat} {av : List Value} {Q : QT} {n : Nat} {h : Hp} {a0 : Nat} {a1 : Nat} {x2 : Int32} {x3 : Int32} (hp : g.2.2.2.2 = true) (t0 : lay a0 = (0, 14, 2)) (t1 : lay a1 = (0, 14, 2)) (H : (((ri h a1 1) ≤ x3) → (∀ h1, h1 = wi h a0 1 (ri h a1 1) → (CallV g m_X14_trim d [.ref a0] n h1 (fun h2 => (Q none n h2))))) ∧ ((¬ (ri h a1 1) ≤ x3) → (vp_in x3 64 ∧ ∀ r3, r3 = (a0 + 2) + 2 * (x3).toNatClampNeg → (vp_in x3 64 ∧ ∀ r4, r4 = (a1 + 2) + 2 * (x3).toNatClampNeg → (CallV g m_X10_scale_2 d [.ref r3, .ref r4, .int x2] n h (fun h5 => (W_X10_scale g d av Q n 2 [some (.ref a0), some (.ref a1), some (.int x2), some (.int (x3 + (1 : Int32)))] [] h5))))))) : W_X10_scale g d av Q n 2 [some (.ref a0), some (.ref a1), some (.int x2), some (.int x3)] [] h := by
  refine r_iload_n dX10_scale_2 rfl rfl ?_
  refine r_aload_n dX10_scale_3 rfl rfl ?_
  refine m_getI hp fw_X10_93 dX10_scale_4 rfl t1 ?_
  refine r_icmp_ge (tgt := 32) dX10_scale_7 rfl (fun cH => ?_) (fun cH => ?_)
  · replace H := H.1 cH
    refine r_aload_n dX10_scale_32 rfl rfl ?_
    refine r_aload_n dX10_scale_33 rfl rfl ?_
    refine m_getI hp fw_X10_93 dX10_scale_34 rfl t1 ?_
    refine m_putI hp fw_X10_93 dX10_scale_37 rfl rfl t0 (fun h1 eh1 => ?_)
    replace H := H h1 eh1
    refine r_aload_n dX10_scale_40 rfl rfl ?_
    refine k_VV (As := []) (stk := []) hp cv_X10_105 dX10_scale_41 rfl (Nat.le_of_ble_eq_true rfl) t0 (H.mono (fun h2 H => ?_)) ⟨Nat.le_refl _, Nat.le_refl _⟩
    exact r_vret dX10_scale_44 rfl (Nat.le_refl _) (Nat.le_refl _) H
  · replace H := H.2 cH
    refine r_aload_n dX10_scale_10 rfl rfl ?_
    refine m_getF (x := (a0 + 1)) hp fw_X10_98 dX10_scale_11 rfl t0 (ff_14_0 t0) ?_
    refine r_iload_n dX10_scale_14 rfl rfl ?_
    obtain ⟨r3, er3⟩ : ∃ y, y = (a0 + 2) + 2 * (x3).toNatClampNeg := ⟨_, rfl⟩
    have hir3 := H.1
    replace H := H.2 r3 er3
    have tLr3 := le_14 t0 hir3 er3
    refine m_aalF (x := r3) hp dX10_scale_15 (lf_14_0 t0) rfl rfl (lu_14_0 t0) hir3 (fe_14 t0 hir3 er3) ?_
    refine r_aload_n dX10_scale_16 rfl rfl ?_
    refine m_getF (x := (a1 + 1)) hp fw_X10_98 dX10_scale_17 rfl t1 (ff_14_0 t1) ?_
    refine r_iload_n dX10_scale_20 rfl rfl ?_
    obtain ⟨r4, er4⟩ : ∃ y, y = (a1 + 2) + 2 * (x3).toNatClampNeg := ⟨_, rfl⟩
    have hir4 := H.1
    replace H := H.2 r4 er4
    have tLr4 := le_14 t1 hir4 er4
    refine m_aalF (x := r4) hp dX10_scale_21 (lf_14_0 t1) rfl rfl (lu_14_0 t1) hir4 (fe_14 t1 hir4 er4) ?_
    refine r_iload_n dX10_scale_22 rfl rfl ?_
    refine k_SV (As := [.ref r3, .ref r4, .int x2]) (stk := []) cs_X10_70 dX10_scale_23 rfl (Nat.le_of_ble_eq_true rfl) (H.mono (fun h5 H => ?_)) ⟨Nat.le_refl _, Nat.le_refl _⟩
    refine r_iinc (v := (x3 + (1 : Int32))) (ls2 := [some (.ref a0), some (.ref a1), some (.int x2), some (.int (x3 + (1 : Int32)))]) dX10_scale_26 rfl rfl (by decide) rfl ?_
    refine r_goto (tgt := 2) dX10_scale_29 rfl ?_
    exact H
abbrev W_X10_scale_2 (g : GX) (d : Nat) (av : List Value) (Q : QT) (n : Nat) (pc : Nat) (ls : LV) (stk : List Value) (h : Hp) : Prop := RJ g m_X10_scale_2 (d + 1) 0 0 av Q pc ls stk n h 0 0
theorem s_X10_scale_2_0 {g : GX} {d : Nat} {av : List Value} {Q : QT} {n : Nat} {h : Hp} {a0 : Nat} {a1 : Nat} {x2 : Int32} (hp : g.2.2.2.2 = true) (t0 : lay a0 = (0, 13, 2)) (t1 : lay a1 = (0, 13, 2)) (H : W_X10_scale_2 g d av Q n 2 [some (.ref a0), some (.ref a1), some (.int x2), some (.int (0 : Int32))] [] h) : W_X10_scale_2 g d av Q n 0 [some (.ref a0), some (.ref a1), some (.int x2), none] [] h := by
  refine r_iconst (v := (0 : Int32)) dX10_scale_2_0 rfl ?_
  refine r_istore_n (ls2 := [some (.ref a0), some (.ref a1), some (.int x2), some (.int (0 : Int32))]) dX10_scale_2_1 rfl (by decide) rfl ?_
  exact H
theorem s_X10_scale_2_2 {g : GX} {d : Nat} {av : List Value} {Q : QT} {n : Nat} {h : Hp} {a0 : Nat} {a1 : Nat} {x2 : Int32} {x3 : Int32} (hp : g.2.2.2.2 = true) (t0 : lay a0 = (0, 13, 2)) (t1 : lay a1 = (0, 13, 2)) (H : (((ri h a1 1) ≤ x3) → (∀ h1, h1 = wi h a0 1 (ri h a1 1) → (CallV g m_X13_trim d [.ref a0] n h1 (fun h2 => (Q none n h2))))) ∧ ((¬ (ri h a1 1) ≤ x3) → (vp_in x3 (rm (a1 + 1)) ∧ (CallI g m_X10_mul d [.int (ri h (a1 + 1) (x3).toNatClampNeg), .int x2] n h (fun v3 h3 => (vp_in x3 (rm (a0 + 1)) ∧ ∀ h4, h4 = wi h3 (a0 + 1) (x3).toNatClampNeg v3 → (W_X10_scale_2 g d av Q n 2 [some (.ref a0), some (.ref a1), some (.int x2), some (.int (x3 + (1 : Int32)))] [] h4))))))) : W_X10_scale_2 g d av Q n 2 [some (.ref a0), some (.ref a1), some (.int x2), some (.int x3)] [] h := by
  refine r_iload_n dX10_scale_2_2 rfl rfl ?_
  refine r_aload_n dX10_scale_2_3 rfl rfl ?_
  refine m_getI hp fw_X10_25 dX10_scale_2_4 rfl t1 ?_
  refine r_icmp_ge (tgt := 32) dX10_scale_2_7 rfl (fun cH => ?_) (fun cH => ?_)
  · replace H := H.1 cH
    refine r_aload_n dX10_scale_2_32 rfl rfl ?_
    refine r_aload_n dX10_scale_2_33 rfl rfl ?_
    refine m_getI hp fw_X10_25 dX10_scale_2_34 rfl t1 ?_
    refine m_putI hp fw_X10_25 dX10_scale_2_37 rfl rfl t0 (fun h1 eh1 => ?_)
    replace H := H h1 eh1
    refine r_aload_n dX10_scale_2_40 rfl rfl ?_
    refine k_VV (As := []) (stk := []) hp cv_X10_52 dX10_scale_2_41 rfl (Nat.le_of_ble_eq_true rfl) t0 (H.mono (fun h2 H => ?_)) ⟨Nat.le_refl _, Nat.le_refl _⟩
    exact r_vret dX10_scale_2_44 rfl (Nat.le_refl _) (Nat.le_refl _) H
  · replace H := H.2 cH
    refine r_aload_n dX10_scale_2_10 rfl rfl ?_
    refine m_getF (x := (a0 + 1)) hp fw_X10_30 dX10_scale_2_11 rfl t0 (ff_13_0 t0) ?_
    refine r_iload_n dX10_scale_2_14 rfl rfl ?_
    refine r_aload_n dX10_scale_2_15 rfl rfl ?_
    refine m_getF (x := (a1 + 1)) hp fw_X10_30 dX10_scale_2_16 rfl t1 (ff_13_0 t1) ?_
    refine r_iload_n dX10_scale_2_19 rfl rfl ?_
    refine m_iald hp dX10_scale_2_20 (lf_13_0 t1) H.1 ?_
    replace H := H.2
    refine r_iload_n dX10_scale_2_21 rfl rfl ?_
    refine k_SI (As := [.int (ri h (a1 + 1) (x3).toNatClampNeg), .int x2]) (stk := [.int x3, .ref (a0 + 1)]) cs_X10_56 dX10_scale_2_22 rfl (Nat.le_of_ble_eq_true rfl) (H.mono (fun v3 h3 H => ?_)) ⟨Nat.le_refl _, Nat.le_refl _⟩
    refine m_iast hp dX10_scale_2_25 (lf_13_0 t0) H.1 (fun h4 eh4 => ?_)
    replace H := H.2 h4 eh4
    refine r_iinc (v := (x3 + (1 : Int32))) (ls2 := [some (.ref a0), some (.ref a1), some (.int x2), some (.int (x3 + (1 : Int32)))]) dX10_scale_2_26 rfl rfl (by decide) rfl ?_
    refine r_goto (tgt := 2) dX10_scale_2_29 rfl ?_
    exact H
abbrev W_X10_power (g : GX) (d : Nat) (av : List Value) (Q : QT) (n : Nat) (pc : Nat) (ls : LV) (stk : List Value) (h : Hp) : Prop := RJ g m_X10_power (d + 1) 0 0 av Q pc ls stk n h 0 0
theorem s_X10_power_0 {g : GX} {d : Nat} {av : List Value} {Q : QT} {n : Nat} {h : Hp} {x0 : Int32} {x1 : Int32} (hp : g.2.2.2.2 = true)  (H : (((0 : Int32) ≤ x1) → (CallI g m_X10_pow d [.int x0, .long (x1).toInt64] n h (fun v1 h1 => (Q (some (.int v1)) n h1)))) ∧ ((¬ (0 : Int32) ≤ x1) → (CallI g m_X10_pow d [.int x0, .long (-(x1).toInt64)] n h (fun v2 h2 => (CallI g m_X10_inv d [.int v2] n h2 (fun v3 h3 => (Q (some (.int v3)) n h3))))))) : W_X10_power g d av Q n 0 [some (.int x0), some (.int x1)] [] h := by
  refine r_iload_n dX10_power_0 rfl rfl ?_
  refine r_if_ge (tgt := 17) dX10_power_1 rfl (fun cH => ?_) (fun cH => ?_)
  · replace H := H.1 cH
    refine r_iload_n dX10_power_17 rfl rfl ?_
    refine r_iload_n dX10_power_18 rfl rfl ?_
    refine r_i2l dX10_power_19 ?_
    refine k_SI (As := [.int x0, .long (x1).toInt64]) (stk := []) cs_X10_8 dX10_power_20 rfl (Nat.le_of_ble_eq_true rfl) (H.mono (fun v1 h1 H => ?_)) ⟨Nat.le_refl _, Nat.le_refl _⟩
    exact r_zret dX10_power_23 rfl rfl (Nat.le_refl _) (Nat.le_refl _) H
  · replace H := H.2 cH
    refine r_iload_n dX10_power_4 rfl rfl ?_
    refine r_iload_n dX10_power_5 rfl rfl ?_
    refine r_i2l dX10_power_6 ?_
    refine r_lneg dX10_power_7 ?_
    refine k_SI (As := [.int x0, .long (-(x1).toInt64)]) (stk := []) cs_X10_8 dX10_power_8 rfl (Nat.le_of_ble_eq_true rfl) (H.mono (fun v2 h2 H => ?_)) ⟨Nat.le_refl _, Nat.le_refl _⟩
    refine k_SI (As := [.int v2]) (stk := []) cs_X10_13 dX10_power_11 rfl (Nat.le_of_ble_eq_true rfl) (H.mono (fun v3 h3 H => ?_)) ⟨Nat.le_refl _, Nat.le_refl _⟩
    refine r_goto (tgt := 23) dX10_power_14 rfl ?_
    exact r_zret dX10_power_23 rfl rfl (Nat.le_refl _) (Nat.le_refl _) H
abbrev W_X10_isNumber (g : GX) (d : Nat) (av : List Value) (Q : QT) (n : Nat) (pc : Nat) (ls : LV) (stk : List Value) (h : Hp) : Prop := RJ g m_X10_isNumber (d + 1) 0 0 av Q pc ls stk n h 0 0
theorem s_X10_isNumber_0 {g : GX} {d : Nat} {av : List Value} {Q : QT} {n : Nat} {h : Hp} {a0 : Nat} (hp : g.2.2.2.2 = true) (t0 : lay a0 = (0, 11, 15)) (H : ((¬ (ri h a0 0) = (1 : Int32)) → (W_X10_isNumber g d av Q n 22 [some (.ref a0), none, none] [] h)) ∧ (((ri h a0 0) = (1 : Int32)) → (CallI g m_X10_isOne d [.ref (a0 + 2)] n h (fun v1 h1 => (((v1 = (0 : Int32)) → (W_X10_isNumber g d av Q n 22 [some (.ref a0), none, none] [] h1)) ∧ ((¬ v1 = (0 : Int32)) → (W_X10_isNumber g d av Q n 23 [some (.ref a0), none, none] [.int (1 : Int32)] h1))))))) : W_X10_isNumber g d av Q n 0 [some (.ref a0), none, none] [] h := by
  refine r_aload_n dX10_isNumber_0 rfl rfl ?_
  refine m_getI hp fw_X10_202 dX10_isNumber_1 rfl t0 ?_
  refine r_iconst (v := (1 : Int32)) dX10_isNumber_4 rfl ?_
  refine r_icmp_ne (tgt := 22) dX10_isNumber_5 rfl (fun cH => ?_) (fun cH => ?_)
  · replace H := H.1 cH
    exact H
  · replace H := H.2 cH
    refine r_aload_n dX10_isNumber_8 rfl rfl ?_
    refine m_getF (x := (a0 + 2)) hp fw_X10_210 dX10_isNumber_9 rfl t0 (ff_11_2 t0) ?_
    refine k_SI (As := [.ref (a0 + 2)]) (stk := []) cs_X10_265 dX10_isNumber_12 rfl (Nat.le_of_ble_eq_true rfl) (H.mono (fun v1 h1 H => ?_)) ⟨Nat.le_refl _, Nat.le_refl _⟩
    refine r_if_eq (tgt := 22) dX10_isNumber_15 rfl (fun cH => ?_) (fun cH => ?_)
    · replace H := H.1 cH
      exact H
    · replace H := H.2 cH
      refine r_iconst (v := (1 : Int32)) dX10_isNumber_18 rfl ?_
      refine r_goto (tgt := 23) dX10_isNumber_19 rfl ?_
      exact H
theorem s_X10_isNumber_22 {g : GX} {d : Nat} {av : List Value} {Q : QT} {n : Nat} {h : Hp} {a0 : Nat} (hp : g.2.2.2.2 = true) (t0 : lay a0 = (0, 11, 15)) (H : W_X10_isNumber g d av Q n 23 [some (.ref a0), none, none] [.int (0 : Int32)] h) : W_X10_isNumber g d av Q n 22 [some (.ref a0), none, none] [] h := by
  refine r_iconst (v := (0 : Int32)) dX10_isNumber_22 rfl ?_
  exact H
theorem s_X10_isNumber_23 {g : GX} {d : Nat} {av : List Value} {Q : QT} {n : Nat} {h : Hp} {a0 : Nat} {xs0 : Int32} (hp : g.2.2.2.2 = true) (t0 : lay a0 = (0, 11, 15)) (H : W_X10_isNumber g d av Q n 26 [some (.ref a0), some (.int xs0), some (.int (1 : Int32))] [] h) : W_X10_isNumber g d av Q n 23 [some (.ref a0), none, none] [.int xs0] h := by
  refine r_istore_n (ls2 := [some (.ref a0), some (.int xs0), none]) dX10_isNumber_23 rfl (by decide) rfl ?_
  refine r_iconst (v := (1 : Int32)) dX10_isNumber_24 rfl ?_
  refine r_istore_n (ls2 := [some (.ref a0), some (.int xs0), some (.int (1 : Int32))]) dX10_isNumber_25 rfl (by decide) rfl ?_
  exact H
theorem s_X10_isNumber_26 {g : GX} {d : Nat} {av : List Value} {Q : QT} {n : Nat} {h : Hp} {a0 : Nat} {x1 : Int32} {x2 : Int32} (hp : g.2.2.2.2 = true) (t0 : lay a0 = (0, 11, 15)) (H : (((325 : Int32) ≤ x2) → ((x1 = 0 ∨ x1 = 1) ∧ Q (some (.int x1)) n h)) ∧ ((¬ (325 : Int32) ≤ x2) → (((x1 = (0 : Int32)) → ((x1 = 0 ∨ x1 = 1) ∧ Q (some (.int x1)) n h)) ∧ ((¬ x1 = (0 : Int32)) → (vp_in x2 325 ∧ (((¬ (ri h (a0 + 1) (x2).toNatClampNeg) = (0 : Int32)) → (W_X10_isNumber g d av Q n 51 [some (.ref a0), none, some (.int x2)] [.int (0 : Int32)] h)) ∧ (((ri h (a0 + 1) (x2).toNatClampNeg) = (0 : Int32)) → (W_X10_isNumber g d av Q n 51 [some (.ref a0), none, some (.int x2)] [.int (1 : Int32)] h)))))))) : W_X10_isNumber g d av Q n 26 [some (.ref a0), some (.int x1), some (.int x2)] [] h := by
  refine r_iload_n dX10_isNumber_26 rfl rfl ?_
  refine r_sipush (v := (325 : Int32)) dX10_isNumber_27 rfl ?_
  refine r_icmp_ge (tgt := 58) dX10_isNumber_30 rfl (fun cH => ?_) (fun cH => ?_)
  · replace H := H.1 cH
    refine r_iload_n dX10_isNumber_58 rfl rfl ?_
    exact r_zret dX10_isNumber_59 rfl (nar01 H.1) (Nat.le_refl _) (Nat.le_refl _) H.2
  · replace H := H.2 cH
    refine r_iload_n dX10_isNumber_33 rfl rfl ?_
    refine r_if_eq (tgt := 58) dX10_isNumber_34 rfl (fun cH => ?_) (fun cH => ?_)
    · replace H := H.1 cH
      refine r_iload_n dX10_isNumber_58 rfl rfl ?_
      exact r_zret dX10_isNumber_59 rfl (nar01 H.1) (Nat.le_refl _) (Nat.le_refl _) H.2
    · replace H := H.2 cH
      refine r_aload_n dX10_isNumber_37 rfl rfl ?_
      refine m_getF (x := (a0 + 1)) hp fw_X10_207 dX10_isNumber_38 rfl t0 (ff_11_1 t0) ?_
      refine r_iload_n dX10_isNumber_41 rfl rfl ?_
      refine m_iald hp dX10_isNumber_42 (lf_11_1 t0) H.1 ?_
      replace H := H.2
      refine r_if_ne (tgt := 50) dX10_isNumber_43 rfl (fun cH => ?_) (fun cH => ?_)
      · replace H := H.1 cH
        refine r_iconst (v := (0 : Int32)) dX10_isNumber_50 rfl ?_
        refine r_prune [true, false, true] (ls2 := [some (.ref a0), none, some (.int x2)]) rfl ?_
        exact H
      · replace H := H.2 cH
        refine r_iconst (v := (1 : Int32)) dX10_isNumber_46 rfl ?_
        refine r_goto (tgt := 51) dX10_isNumber_47 rfl ?_
        refine r_prune [true, false, true] (ls2 := [some (.ref a0), none, some (.int x2)]) rfl ?_
        exact H
theorem s_X10_isNumber_51 {g : GX} {d : Nat} {av : List Value} {Q : QT} {n : Nat} {h : Hp} {a0 : Nat} {x2 : Int32} {xs0 : Int32} (hp : g.2.2.2.2 = true) (t0 : lay a0 = (0, 11, 15)) (H : W_X10_isNumber g d av Q n 26 [some (.ref a0), some (.int xs0), some (.int (x2 + (1 : Int32)))] [] h) : W_X10_isNumber g d av Q n 51 [some (.ref a0), none, some (.int x2)] [.int xs0] h := by
  refine r_istore_n (ls2 := [some (.ref a0), some (.int xs0), some (.int x2)]) dX10_isNumber_51 rfl (by decide) rfl ?_
  refine r_iinc (v := (x2 + (1 : Int32))) (ls2 := [some (.ref a0), some (.int xs0), some (.int (x2 + (1 : Int32)))]) dX10_isNumber_52 rfl rfl (by decide) rfl ?_
  refine r_goto (tgt := 26) dX10_isNumber_55 rfl ?_
  exact H
abbrev W_X10_multiply (g : GX) (d : Nat) (av : List Value) (Q : QT) (n : Nat) (pc : Nat) (ls : LV) (stk : List Value) (h : Hp) : Prop := RJ g m_X10_multiply (d + 1) 0 0 av Q pc ls stk n h 0 0
theorem s_X10_multiply_0 {g : GX} {d : Nat} {av : List Value} {Q : QT} {n : Nat} {h : Hp} {a1 : Nat} {a2 : Nat} {x3 : Int32} (hp : g.2.2.2.2 = true) (t1 : lay a1 = (0, 11, 15)) (t2 : lay a2 = (0, 11, 15)) (H : CallI g m_X10_isZero d [.ref a1] n h (fun v1 h1 => (((¬ v1 = (0 : Int32)) → (W_X10_multiply g d av Q n 18 [some (.ref 2759), some (.ref a1), none, none, none, none, none, none, none, none, none, none, none] [] h1)) ∧ ((v1 = (0 : Int32)) → (((¬ x3 = (0 : Int32)) → (W_X10_multiply g d av Q n 26 [some (.ref 2759), some (.ref a1), some (.ref a2), some (.int x3), none, none, none, none, none, none, none, none, none] [] h1)) ∧ ((x3 = (0 : Int32)) → (CallI g m_X10_isZero d [.ref a2] n h1 (fun v2 h2 => (((v2 = (0 : Int32)) → (W_X10_multiply g d av Q n 26 [some (.ref 2759), some (.ref a1), some (.ref a2), some (.int x3), none, none, none, none, none, none, none, none, none] [] h2)) ∧ ((¬ v2 = (0 : Int32)) → (W_X10_multiply g d av Q n 18 [some (.ref 2759), some (.ref a1), none, none, none, none, none, none, none, none, none, none, none] [] h2))))))))))) : W_X10_multiply g d av Q n 0 [some (.ref 2759), some (.ref a1), some (.ref a2), some (.int x3), none, none, none, none, none, none, none, none, none] [] h := by
  refine r_aload_n dX10_multiply_0 rfl rfl ?_
  refine k_SI (As := [.ref a1]) (stk := []) cs_X10_288 dX10_multiply_1 rfl (Nat.le_of_ble_eq_true rfl) (H.mono (fun v1 h1 H => ?_)) ⟨Nat.le_refl _, Nat.le_refl _⟩
  refine r_if_ne (tgt := 18) dX10_multiply_4 rfl (fun cH => ?_) (fun cH => ?_)
  · replace H := H.1 cH
    refine r_prune [true, true, false, false, false, false, false, false, false, false, false, false, false] (ls2 := [some (.ref 2759), some (.ref a1), none, none, none, none, none, none, none, none, none, none, none]) rfl ?_
    exact H
  · replace H := H.2 cH
    refine r_iload_n dX10_multiply_7 rfl rfl ?_
    refine r_if_ne (tgt := 26) dX10_multiply_8 rfl (fun cH => ?_) (fun cH => ?_)
    · replace H := H.1 cH
      exact H
    · replace H := H.2 cH
      refine r_aload_n dX10_multiply_11 rfl rfl ?_
      refine k_SI (As := [.ref a2]) (stk := []) cs_X10_288 dX10_multiply_12 rfl (Nat.le_of_ble_eq_true rfl) (H.mono (fun v2 h2 H => ?_)) ⟨Nat.le_refl _, Nat.le_refl _⟩
      refine r_if_eq (tgt := 26) dX10_multiply_15 rfl (fun cH => ?_) (fun cH => ?_)
      · replace H := H.1 cH
        exact H
      · replace H := H.2 cH
        refine r_prune [true, true, false, false, false, false, false, false, false, false, false, false, false] (ls2 := [some (.ref 2759), some (.ref a1), none, none, none, none, none, none, none, none, none, none, none]) rfl ?_
        exact H
theorem s_X10_multiply_18 {g : GX} {d : Nat} {av : List Value} {Q : QT} {n : Nat} {h : Hp} {a1 : Nat} (hp : g.2.2.2.2 = true) (t1 : lay a1 = (0, 11, 15)) (H : CallV g m_X10_number d [.ref 2759, .ref a1, .int (0 : Int32)] n h (fun h1 => (Q (some (.int (1 : Int32))) n h1))) : W_X10_multiply g d av Q n 18 [some (.ref 2759), some (.ref a1), none, none, none, none, none, none, none, none, none, none, none] [] h := by
  refine r_aload_n dX10_multiply_18 rfl rfl ?_
  refine r_aload_n dX10_multiply_19 rfl rfl ?_
  refine r_iconst (v := (0 : Int32)) dX10_multiply_20 rfl ?_
  refine k_VV (As := [.ref a1, .int (0 : Int32)]) (stk := []) hp cv_X10_292 dX10_multiply_21 rfl (Nat.le_of_ble_eq_true rfl) ly_10 (H.mono (fun h1 H => ?_)) ⟨Nat.le_refl _, Nat.le_refl _⟩
  refine r_iconst (v := (1 : Int32)) dX10_multiply_24 rfl ?_
  exact r_zret dX10_multiply_25 rfl rfl (Nat.le_refl _) (Nat.le_refl _) H
theorem s_X10_multiply_26 {g : GX} {d : Nat} {av : List Value} {Q : QT} {n : Nat} {h : Hp} {a1 : Nat} {a2 : Nat} {x3 : Int32} (hp : g.2.2.2.2 = true) (t1 : lay a1 = (0, 11, 15)) (t2 : lay a2 = (0, 11, 15)) (H : CallR g m_X10_newB d [.ref 2759] n h (fun v1 h1 => (lay v1 = (0, 14, 2) ∧ (CallR g m_X10_newB d [.ref 2759] n h1 (fun v2 h2 => (lay v2 = (0, 14, 2) ∧ (CallR g m_X10_newB d [.ref 2759] n h2 (fun v3 h3 => (lay v3 = (0, 14, 2) ∧ (CallR g m_X10_newB d [.ref 2759] n h3 (fun v4 h4 => (lay v4 = (0, 14, 2) ∧ (CallR g m_X10_newB d [.ref 2759] n h4 (fun v5 h5 => (lay v5 = (0, 14, 2) ∧ (CallR g m_X10_newB d [.ref 2759] n h5 (fun v6 h6 => (lay v6 = (0, 14, 2) ∧ (CallV g m_X10_load d [.ref v1, .ref (a1 + 1)] n h6 (fun h7 => (CallV g m_X10_load d [.ref v2, .ref (a1 + 2)] n h7 (fun h8 => (((x3 = (0 : Int32)) → (W_X10_multiply g d av Q n 103 [some (.ref 2759), some (.ref a1), some (.ref a2), some (.int x3), some (.int (ri h 2759 3)), some (.ref v1), some (.ref v2), some (.ref v3), some (.ref v4), some (.ref v5), some (.ref v6), none, none] [.ref (a2 + 1), .ref v3] h8)) ∧ ((¬ x3 = (0 : Int32)) → (W_X10_multiply g d av Q n 103 [some (.ref 2759), some (.ref a1), some (.ref a2), some (.int x3), some (.int (ri h 2759 3)), some (.ref v1), some (.ref v2), some (.ref v3), some (.ref v4), some (.ref v5), some (.ref v6), none, none] [.ref (a2 + 2), .ref v3] h8))))))))))))))))))))))))) : W_X10_multiply g d av Q n 26 [some (.ref 2759), some (.ref a1), some (.ref a2), some (.int x3), none, none, none, none, none, none, none, none, none] [] h := by
  refine r_aload_n dX10_multiply_26 rfl rfl ?_
  refine m_getI hp fw_X10_90 dX10_multiply_27 rfl ly_10 ?_
  refine r_istore (ls2 := [some (.ref 2759), some (.ref a1), some (.ref a2), some (.int x3), some (.int (ri h 2759 3)), none, none, none, none, none, none, none, none]) dX10_multiply_30 (by decide) rfl ?_
  refine r_aload_n dX10_multiply_32 rfl rfl ?_
  refine k_VR (As := []) (stk := []) hp cv_X10_140 dX10_multiply_33 rfl (Nat.le_of_ble_eq_true rfl) ly_10 (H.mono (fun v1 h1 H => ?_)) ⟨Nat.le_refl _, Nat.le_refl _⟩
  obtain ⟨tv1, H⟩ := H
  refine r_astore (ls2 := [some (.ref 2759), some (.ref a1), some (.ref a2), some (.int x3), some (.int (ri h 2759 3)), some (.ref v1), none, none, none, none, none, none, none]) dX10_multiply_36 (by decide) rfl ?_
  refine r_aload_n dX10_multiply_38 rfl rfl ?_
  refine k_VR (As := []) (stk := []) hp cv_X10_140 dX10_multiply_39 rfl (Nat.le_of_ble_eq_true rfl) ly_10 (H.mono (fun v2 h2 H => ?_)) ⟨Nat.le_refl _, Nat.le_refl _⟩
  obtain ⟨tv2, H⟩ := H
  refine r_astore (ls2 := [some (.ref 2759), some (.ref a1), some (.ref a2), some (.int x3), some (.int (ri h 2759 3)), some (.ref v1), some (.ref v2), none, none, none, none, none, none]) dX10_multiply_42 (by decide) rfl ?_
  refine r_aload_n dX10_multiply_44 rfl rfl ?_
  refine k_VR (As := []) (stk := []) hp cv_X10_140 dX10_multiply_45 rfl (Nat.le_of_ble_eq_true rfl) ly_10 (H.mono (fun v3 h3 H => ?_)) ⟨Nat.le_refl _, Nat.le_refl _⟩
  obtain ⟨tv3, H⟩ := H
  refine r_astore (ls2 := [some (.ref 2759), some (.ref a1), some (.ref a2), some (.int x3), some (.int (ri h 2759 3)), some (.ref v1), some (.ref v2), some (.ref v3), none, none, none, none, none]) dX10_multiply_48 (by decide) rfl ?_
  refine r_aload_n dX10_multiply_50 rfl rfl ?_
  refine k_VR (As := []) (stk := []) hp cv_X10_140 dX10_multiply_51 rfl (Nat.le_of_ble_eq_true rfl) ly_10 (H.mono (fun v4 h4 H => ?_)) ⟨Nat.le_refl _, Nat.le_refl _⟩
  obtain ⟨tv4, H⟩ := H
  refine r_astore (ls2 := [some (.ref 2759), some (.ref a1), some (.ref a2), some (.int x3), some (.int (ri h 2759 3)), some (.ref v1), some (.ref v2), some (.ref v3), some (.ref v4), none, none, none, none]) dX10_multiply_54 (by decide) rfl ?_
  refine r_aload_n dX10_multiply_56 rfl rfl ?_
  refine k_VR (As := []) (stk := []) hp cv_X10_140 dX10_multiply_57 rfl (Nat.le_of_ble_eq_true rfl) ly_10 (H.mono (fun v5 h5 H => ?_)) ⟨Nat.le_refl _, Nat.le_refl _⟩
  obtain ⟨tv5, H⟩ := H
  refine r_astore (ls2 := [some (.ref 2759), some (.ref a1), some (.ref a2), some (.int x3), some (.int (ri h 2759 3)), some (.ref v1), some (.ref v2), some (.ref v3), some (.ref v4), some (.ref v5), none, none, none]) dX10_multiply_60 (by decide) rfl ?_
  refine r_aload_n dX10_multiply_62 rfl rfl ?_
  refine k_VR (As := []) (stk := []) hp cv_X10_140 dX10_multiply_63 rfl (Nat.le_of_ble_eq_true rfl) ly_10 (H.mono (fun v6 h6 H => ?_)) ⟨Nat.le_refl _, Nat.le_refl _⟩
  obtain ⟨tv6, H⟩ := H
  refine r_astore (ls2 := [some (.ref 2759), some (.ref a1), some (.ref a2), some (.int x3), some (.int (ri h 2759 3)), some (.ref v1), some (.ref v2), some (.ref v3), some (.ref v4), some (.ref v5), some (.ref v6), none, none]) dX10_multiply_66 (by decide) rfl ?_
  refine r_aload dX10_multiply_68 rfl ?_
  refine r_aload_n dX10_multiply_70 rfl rfl ?_
  refine m_getF (x := (a1 + 1)) hp fw_X10_207 dX10_multiply_71 rfl t1 (ff_11_1 t1) ?_
  refine k_SV (As := [.ref v1, .ref (a1 + 1)]) (stk := []) cs_X10_295 dX10_multiply_74 rfl (Nat.le_of_ble_eq_true rfl) (H.mono (fun h7 H => ?_)) ⟨Nat.le_refl _, Nat.le_refl _⟩
  refine r_aload dX10_multiply_77 rfl ?_
  refine r_aload_n dX10_multiply_79 rfl rfl ?_
  refine m_getF (x := (a1 + 2)) hp fw_X10_210 dX10_multiply_80 rfl t1 (ff_11_2 t1) ?_
  refine k_SV (As := [.ref v2, .ref (a1 + 2)]) (stk := []) cs_X10_295 dX10_multiply_83 rfl (Nat.le_of_ble_eq_true rfl) (H.mono (fun h8 H => ?_)) ⟨Nat.le_refl _, Nat.le_refl _⟩
  refine r_aload dX10_multiply_86 rfl ?_
  refine r_iload_n dX10_multiply_88 rfl rfl ?_
  refine r_if_eq (tgt := 99) dX10_multiply_89 rfl (fun cH => ?_) (fun cH => ?_)
  · replace H := H.1 cH
    refine r_aload_n dX10_multiply_99 rfl rfl ?_
    refine m_getF (x := (a2 + 1)) hp fw_X10_207 dX10_multiply_100 rfl t2 (ff_11_1 t2) ?_
    exact H
  · replace H := H.2 cH
    refine r_aload_n dX10_multiply_92 rfl rfl ?_
    refine m_getF (x := (a2 + 2)) hp fw_X10_210 dX10_multiply_93 rfl t2 (ff_11_2 t2) ?_
    refine r_goto (tgt := 103) dX10_multiply_96 rfl ?_
    exact H
theorem s_X10_multiply_103 {g : GX} {d : Nat} {av : List Value} {Q : QT} {n : Nat} {h : Hp} {a1 : Nat} {a2 : Nat} {x3 : Int32} {x4 : Int32} {a5 : Nat} {a6 : Nat} {a7 : Nat} {a8 : Nat} {a9 : Nat} {a10 : Nat} {as0 : Nat} {Ls0 : Nat} {as1 : Nat} (hp : g.2.2.2.2 = true) (t1 : lay a1 = (0, 11, 15)) (t2 : lay a2 = (0, 11, 15)) (t5 : lay a5 = (0, 14, 2)) (t6 : lay a6 = (0, 14, 2)) (t7 : lay a7 = (0, 14, 2)) (t8 : lay a8 = (0, 14, 2)) (t9 : lay a9 = (0, 14, 2)) (t10 : lay a10 = (0, 14, 2)) (ts0 : lay as0 = (1, Ls0, 0)) (ts1 : lay as1 = (0, 14, 2)) (H : CallV g m_X10_load d [.ref as1, .ref as0] n h (fun h1 => (((x3 = (0 : Int32)) → (W_X10_multiply g d av Q n 123 [some (.ref 2759), some (.ref a1), some (.ref a2), some (.int x3), some (.int x4), some (.ref a5), some (.ref a6), some (.ref a7), some (.ref a8), some (.ref a9), some (.ref a10), none, none] [.ref (a2 + 2), .ref a8] h1)) ∧ ((¬ x3 = (0 : Int32)) → (W_X10_multiply g d av Q n 123 [some (.ref 2759), some (.ref a1), some (.ref a2), some (.int x3), some (.int x4), some (.ref a5), some (.ref a6), some (.ref a7), some (.ref a8), some (.ref a9), some (.ref a10), none, none] [.ref (a2 + 1), .ref a8] h1))))) : W_X10_multiply g d av Q n 103 [some (.ref 2759), some (.ref a1), some (.ref a2), some (.int x3), some (.int x4), some (.ref a5), some (.ref a6), some (.ref a7), some (.ref a8), some (.ref a9), some (.ref a10), none, none] [.ref as0, .ref as1] h := by
  refine k_SV (As := [.ref as1, .ref as0]) (stk := []) cs_X10_295 dX10_multiply_103 rfl (Nat.le_of_ble_eq_true rfl) (H.mono (fun h1 H => ?_)) ⟨Nat.le_refl _, Nat.le_refl _⟩
  refine r_aload dX10_multiply_106 rfl ?_
  refine r_iload_n dX10_multiply_108 rfl rfl ?_
  refine r_if_eq (tgt := 119) dX10_multiply_109 rfl (fun cH => ?_) (fun cH => ?_)
  · replace H := H.1 cH
    refine r_aload_n dX10_multiply_119 rfl rfl ?_
    refine m_getF (x := (a2 + 2)) hp fw_X10_210 dX10_multiply_120 rfl t2 (ff_11_2 t2) ?_
    exact H
  · replace H := H.2 cH
    refine r_aload_n dX10_multiply_112 rfl rfl ?_
    refine m_getF (x := (a2 + 1)) hp fw_X10_207 dX10_multiply_113 rfl t2 (ff_11_1 t2) ?_
    refine r_goto (tgt := 123) dX10_multiply_116 rfl ?_
    exact H
theorem s_X10_multiply_123 {g : GX} {d : Nat} {av : List Value} {Q : QT} {n : Nat} {h : Hp} {a1 : Nat} {a2 : Nat} {x3 : Int32} {x4 : Int32} {a5 : Nat} {a6 : Nat} {a7 : Nat} {a8 : Nat} {a9 : Nat} {a10 : Nat} {as0 : Nat} {Ls0 : Nat} {as1 : Nat} (hp : g.2.2.2.2 = true) (t1 : lay a1 = (0, 11, 15)) (t2 : lay a2 = (0, 11, 15)) (t5 : lay a5 = (0, 14, 2)) (t6 : lay a6 = (0, 14, 2)) (t7 : lay a7 = (0, 14, 2)) (t8 : lay a8 = (0, 14, 2)) (t9 : lay a9 = (0, 14, 2)) (t10 : lay a10 = (0, 14, 2)) (ts0 : lay as0 = (1, Ls0, 0)) (ts1 : lay as1 = (0, 14, 2)) (H : CallV g m_X10_load d [.ref as1, .ref as0] n h (fun h1 => (CallV g m_X10_multiply_2 d [.ref 2759, .ref a9, .ref a10, .ref a5, .ref a6, .ref a7, .ref a8] n h1 (fun h2 => (CallI g m_X10_fits d [.ref a9] n h2 (fun v3 h3 => (((v3 = (0 : Int32)) → (W_X10_multiply g d av Q n 181 [some (.ref 2759), some (.ref a1), some (.ref a2), some (.int x3), some (.int x4), none, none, none, none, some (.ref a9), some (.ref a10), none, none] [] h3)) ∧ ((¬ v3 = (0 : Int32)) → (CallI g m_X10_fits d [.ref a10] n h3 (fun v4 h4 => (((v4 = (0 : Int32)) → (W_X10_multiply g d av Q n 181 [some (.ref 2759), some (.ref a1), some (.ref a2), some (.int x3), some (.int x4), none, none, none, none, some (.ref a9), some (.ref a10), none, none] [] h4)) ∧ ((¬ v4 = (0 : Int32)) → (((x3 = (0 : Int32)) → (W_X10_multiply g d av Q n 169 [some (.ref 2759), some (.ref a1), some (.ref a2), some (.int x3), some (.int x4), none, none, none, none, some (.ref a9), some (.ref a10), none, none] [.int (1 : Int32), .ref a2, .ref a1] h4)) ∧ ((¬ x3 = (0 : Int32)) → (W_X10_multiply g d av Q n 169 [some (.ref 2759), some (.ref a1), some (.ref a2), some (.int x3), some (.int x4), none, none, none, none, some (.ref a9), some (.ref a10), none, none] [.int (-1 : Int32), .ref a2, .ref a1] h4))))))))))))))) : W_X10_multiply g d av Q n 123 [some (.ref 2759), some (.ref a1), some (.ref a2), some (.int x3), some (.int x4), some (.ref a5), some (.ref a6), some (.ref a7), some (.ref a8), some (.ref a9), some (.ref a10), none, none] [.ref as0, .ref as1] h := by
  refine k_SV (As := [.ref as1, .ref as0]) (stk := []) cs_X10_295 dX10_multiply_123 rfl (Nat.le_of_ble_eq_true rfl) (H.mono (fun h1 H => ?_)) ⟨Nat.le_refl _, Nat.le_refl _⟩
  refine r_aload_n dX10_multiply_126 rfl rfl ?_
  refine r_aload dX10_multiply_127 rfl ?_
  refine r_aload dX10_multiply_129 rfl ?_
  refine r_aload dX10_multiply_131 rfl ?_
  refine r_aload dX10_multiply_133 rfl ?_
  refine r_aload dX10_multiply_135 rfl ?_
  refine r_aload dX10_multiply_137 rfl ?_
  refine k_VV (As := [.ref a9, .ref a10, .ref a5, .ref a6, .ref a7, .ref a8]) (stk := []) hp cv_X10_299 dX10_multiply_139 rfl (Nat.le_of_ble_eq_true rfl) ly_10 (H.mono (fun h2 H => ?_)) ⟨Nat.le_refl _, Nat.le_refl _⟩
  refine r_aload dX10_multiply_142 rfl ?_
  refine k_SI (As := [.ref a9]) (stk := []) cs_X10_249 dX10_multiply_144 rfl (Nat.le_of_ble_eq_true rfl) (H.mono (fun v3 h3 H => ?_)) ⟨Nat.le_refl _, Nat.le_refl _⟩
  refine r_if_eq (tgt := 181) dX10_multiply_147 rfl (fun cH => ?_) (fun cH => ?_)
  · replace H := H.1 cH
    refine r_prune [true, true, true, true, true, false, false, false, false, true, true, false, false] (ls2 := [some (.ref 2759), some (.ref a1), some (.ref a2), some (.int x3), some (.int x4), none, none, none, none, some (.ref a9), some (.ref a10), none, none]) rfl ?_
    exact H
  · replace H := H.2 cH
    refine r_aload dX10_multiply_150 rfl ?_
    refine k_SI (As := [.ref a10]) (stk := []) cs_X10_249 dX10_multiply_152 rfl (Nat.le_of_ble_eq_true rfl) (H.mono (fun v4 h4 H => ?_)) ⟨Nat.le_refl _, Nat.le_refl _⟩
    refine r_if_eq (tgt := 181) dX10_multiply_155 rfl (fun cH => ?_) (fun cH => ?_)
    · replace H := H.1 cH
      refine r_prune [true, true, true, true, true, false, false, false, false, true, true, false, false] (ls2 := [some (.ref 2759), some (.ref a1), some (.ref a2), some (.int x3), some (.int x4), none, none, none, none, some (.ref a9), some (.ref a10), none, none]) rfl ?_
      exact H
    · replace H := H.2 cH
      refine r_aload_n dX10_multiply_158 rfl rfl ?_
      refine r_aload_n dX10_multiply_159 rfl rfl ?_
      refine r_iload_n dX10_multiply_160 rfl rfl ?_
      refine r_if_eq (tgt := 168) dX10_multiply_161 rfl (fun cH => ?_) (fun cH => ?_)
      · replace H := H.1 cH
        refine r_iconst (v := (1 : Int32)) dX10_multiply_168 rfl ?_
        refine r_prune [true, true, true, true, true, false, false, false, false, true, true, false, false] (ls2 := [some (.ref 2759), some (.ref a1), some (.ref a2), some (.int x3), some (.int x4), none, none, none, none, some (.ref a9), some (.ref a10), none, none]) rfl ?_
        exact H
      · replace H := H.2 cH
        refine r_iconst (v := (-1 : Int32)) dX10_multiply_164 rfl ?_
        refine r_goto (tgt := 169) dX10_multiply_165 rfl ?_
        refine r_prune [true, true, true, true, true, false, false, false, false, true, true, false, false] (ls2 := [some (.ref 2759), some (.ref a1), some (.ref a2), some (.int x3), some (.int x4), none, none, none, none, some (.ref a9), some (.ref a10), none, none]) rfl ?_
        exact H
theorem s_X10_multiply_169 {g : GX} {d : Nat} {av : List Value} {Q : QT} {n : Nat} {h : Hp} {a1 : Nat} {a2 : Nat} {x3 : Int32} {x4 : Int32} {a9 : Nat} {a10 : Nat} {xs0 : Int32} {as1 : Nat} {as2 : Nat} (hp : g.2.2.2.2 = true) (t1 : lay a1 = (0, 11, 15)) (t2 : lay a2 = (0, 11, 15)) (t9 : lay a9 = (0, 14, 2)) (t10 : lay a10 = (0, 14, 2)) (ts1 : lay as1 = (0, 11, 15)) (ts2 : lay as2 = (0, 11, 15)) (H : CallI g m_X10_joined d [.ref as2, .ref as1, .int xs0] n h (fun v1 h1 => ((((12 : Int32) < v1) → (W_X10_multiply g d av Q n 181 [some (.ref 2759), some (.ref a1), some (.ref a2), some (.int x3), some (.int x4), none, none, none, none, some (.ref a9), some (.ref a10), none, none] [] h1)) ∧ ((¬ (12 : Int32) < v1) → (W_X10_multiply g d av Q n 182 [some (.ref 2759), some (.ref a1), some (.ref a2), some (.int x3), some (.int x4), none, none, none, none, some (.ref a9), some (.ref a10), none, none] [.int (1 : Int32)] h1))))) : W_X10_multiply g d av Q n 169 [some (.ref 2759), some (.ref a1), some (.ref a2), some (.int x3), some (.int x4), none, none, none, none, some (.ref a9), some (.ref a10), none, none] [.int xs0, .ref as1, .ref as2] h := by
  refine k_SI (As := [.ref as2, .ref as1, .int xs0]) (stk := []) cs_X10_280 dX10_multiply_169 rfl (Nat.le_of_ble_eq_true rfl) (H.mono (fun v1 h1 H => ?_)) ⟨Nat.le_refl _, Nat.le_refl _⟩
  refine r_bipush (v := (12 : Int32)) dX10_multiply_172 rfl ?_
  refine r_icmp_gt (tgt := 181) dX10_multiply_174 rfl (fun cH => ?_) (fun cH => ?_)
  · replace H := H.1 cH
    exact H
  · replace H := H.2 cH
    refine r_iconst (v := (1 : Int32)) dX10_multiply_177 rfl ?_
    refine r_goto (tgt := 182) dX10_multiply_178 rfl ?_
    exact H
theorem s_X10_multiply_181 {g : GX} {d : Nat} {av : List Value} {Q : QT} {n : Nat} {h : Hp} {a1 : Nat} {a2 : Nat} {x3 : Int32} {x4 : Int32} {a9 : Nat} {a10 : Nat} (hp : g.2.2.2.2 = true) (t1 : lay a1 = (0, 11, 15)) (t2 : lay a2 = (0, 11, 15)) (t9 : lay a9 = (0, 14, 2)) (t10 : lay a10 = (0, 14, 2)) (H : W_X10_multiply g d av Q n 182 [some (.ref 2759), some (.ref a1), some (.ref a2), some (.int x3), some (.int x4), none, none, none, none, some (.ref a9), some (.ref a10), none, none] [.int (0 : Int32)] h) : W_X10_multiply g d av Q n 181 [some (.ref 2759), some (.ref a1), some (.ref a2), some (.int x3), some (.int x4), none, none, none, none, some (.ref a9), some (.ref a10), none, none] [] h := by
  refine r_iconst (v := (0 : Int32)) dX10_multiply_181 rfl ?_
  exact H
theorem s_X10_multiply_182 {g : GX} {d : Nat} {av : List Value} {Q : QT} {n : Nat} {h : Hp} {a1 : Nat} {a2 : Nat} {x3 : Int32} {x4 : Int32} {a9 : Nat} {a10 : Nat} {xs0 : Int32} (hp : g.2.2.2.2 = true) (t1 : lay a1 = (0, 11, 15)) (t2 : lay a2 = (0, 11, 15)) (t9 : lay a9 = (0, 14, 2)) (t10 : lay a10 = (0, 14, 2)) (H : ((xs0 = (0 : Int32)) → (W_X10_multiply g d av Q n 276 [some (.ref 2759), none, none, none, some (.int x4), none, none, none, none, none, none, some (.int xs0), none] [] h)) ∧ ((¬ xs0 = (0 : Int32)) → (CallI g m_X10_put d [.ref a1, .ref a9, .ref a10] n h (fun v1 h1 => (((x3 = (0 : Int32)) → (W_X10_multiply g d av Q n 211 [some (.ref 2759), some (.ref a1), some (.ref a2), some (.int x3), some (.int x4), none, none, none, none, none, none, some (.int xs0), none] [.int (1 : Int32), .ref a2, .ref a1, .ref 2759] h1)) ∧ ((¬ x3 = (0 : Int32)) → (W_X10_multiply g d av Q n 211 [some (.ref 2759), some (.ref a1), some (.ref a2), some (.int x3), some (.int x4), none, none, none, none, none, none, some (.int xs0), none] [.int (-1 : Int32), .ref a2, .ref a1, .ref 2759] h1))))))) : W_X10_multiply g d av Q n 182 [some (.ref 2759), some (.ref a1), some (.ref a2), some (.int x3), some (.int x4), none, none, none, none, some (.ref a9), some (.ref a10), none, none] [.int xs0] h := by
  refine r_istore (ls2 := [some (.ref 2759), some (.ref a1), some (.ref a2), some (.int x3), some (.int x4), none, none, none, none, some (.ref a9), some (.ref a10), some (.int xs0), none]) dX10_multiply_182 (by decide) rfl ?_
  refine r_iload dX10_multiply_184 rfl ?_
  refine r_if_eq (tgt := 276) dX10_multiply_186 rfl (fun cH => ?_) (fun cH => ?_)
  · replace H := H.1 cH
    refine r_prune [true, false, false, false, true, false, false, false, false, false, false, true, false] (ls2 := [some (.ref 2759), none, none, none, some (.int x4), none, none, none, none, none, none, some (.int xs0), none]) rfl ?_
    exact H
  · replace H := H.2 cH
    refine r_aload_n dX10_multiply_189 rfl rfl ?_
    refine r_aload dX10_multiply_190 rfl ?_
    refine r_aload dX10_multiply_192 rfl ?_
    refine k_SI (As := [.ref a1, .ref a9, .ref a10]) (stk := []) cs_X10_261 dX10_multiply_194 rfl (Nat.le_of_ble_eq_true rfl) (H.mono (fun v1 h1 H => ?_)) ⟨Nat.le_refl _, Nat.le_refl _⟩
    refine r_istore (ls2 := [some (.ref 2759), some (.ref a1), some (.ref a2), some (.int x3), some (.int x4), none, none, none, none, some (.ref a9), some (.ref a10), some (.int xs0), some (.int v1)]) dX10_multiply_197 (by decide) rfl ?_
    refine r_aload_n dX10_multiply_199 rfl rfl ?_
    refine r_aload_n dX10_multiply_200 rfl rfl ?_
    refine r_aload_n dX10_multiply_201 rfl rfl ?_
    refine r_iload_n dX10_multiply_202 rfl rfl ?_
    refine r_if_eq (tgt := 210) dX10_multiply_203 rfl (fun cH => ?_) (fun cH => ?_)
    · replace H := H.1 cH
      refine r_iconst (v := (1 : Int32)) dX10_multiply_210 rfl ?_
      refine r_prune [true, true, true, true, true, false, false, false, false, false, false, true, false] (ls2 := [some (.ref 2759), some (.ref a1), some (.ref a2), some (.int x3), some (.int x4), none, none, none, none, none, none, some (.int xs0), none]) rfl ?_
      exact H
    · replace H := H.2 cH
      refine r_iconst (v := (-1 : Int32)) dX10_multiply_206 rfl ?_
      refine r_goto (tgt := 211) dX10_multiply_207 rfl ?_
      refine r_prune [true, true, true, true, true, false, false, false, false, false, false, true, false] (ls2 := [some (.ref 2759), some (.ref a1), some (.ref a2), some (.int x3), some (.int x4), none, none, none, none, none, none, some (.int xs0), none]) rfl ?_
      exact H
theorem s_X10_multiply_211 {g : GX} {d : Nat} {av : List Value} {Q : QT} {n : Nat} {h : Hp} {a1 : Nat} {a2 : Nat} {x3 : Int32} {x4 : Int32} {x11 : Int32} {xs0 : Int32} {as1 : Nat} {as2 : Nat} {as3 : Nat} (hp : g.2.2.2.2 = true) (t1 : lay a1 = (0, 11, 15)) (t2 : lay a2 = (0, 11, 15)) (ts1 : lay as1 = (0, 11, 15)) (ts2 : lay as2 = (0, 11, 15)) (ts3 : lay as3 = (0, 10, 65)) (H : CallV g m_X10_mergeAll d [.ref as3, .ref as2, .ref as1, .int xs0] n h (fun h1 => (((x3 = (0 : Int32)) → (W_X10_multiply g d av Q n 237 [some (.ref 2759), some (.ref a1), some (.ref a2), some (.int x3), some (.int x4), none, none, none, none, none, none, some (.int x11), none] [.int (ri h1 a2 3), .int (ri h1 a1 3), .ref a1] h1)) ∧ ((¬ x3 = (0 : Int32)) → (CallI g m_X10_inv d [.int (ri h1 a2 3)] n h1 (fun v2 h2 => (W_X10_multiply g d av Q n 237 [some (.ref 2759), some (.ref a1), some (.ref a2), some (.int x3), some (.int x4), none, none, none, none, none, none, some (.int x11), none] [.int v2, .int (ri h1 a1 3), .ref a1] h2))))))) : W_X10_multiply g d av Q n 211 [some (.ref 2759), some (.ref a1), some (.ref a2), some (.int x3), some (.int x4), none, none, none, none, none, none, some (.int x11), none] [.int xs0, .ref as1, .ref as2, .ref as3] h := by
  refine k_VV (As := [.ref as2, .ref as1, .int xs0]) (stk := []) hp cv_X10_303 dX10_multiply_211 rfl (Nat.le_of_ble_eq_true rfl) ts3 (H.mono (fun h1 H => ?_)) ⟨Nat.le_refl _, Nat.le_refl _⟩
  refine r_aload_n dX10_multiply_214 rfl rfl ?_
  refine r_aload_n dX10_multiply_215 rfl rfl ?_
  refine m_getI hp fw_X10_213 dX10_multiply_216 rfl t1 ?_
  refine r_iload_n dX10_multiply_219 rfl rfl ?_
  refine r_if_eq (tgt := 233) dX10_multiply_220 rfl (fun cH => ?_) (fun cH => ?_)
  · replace H := H.1 cH
    refine r_aload_n dX10_multiply_233 rfl rfl ?_
    refine m_getI hp fw_X10_213 dX10_multiply_234 rfl t2 ?_
    exact H
  · replace H := H.2 cH
    refine r_aload_n dX10_multiply_223 rfl rfl ?_
    refine m_getI hp fw_X10_213 dX10_multiply_224 rfl t2 ?_
    refine k_SI (As := [.int (ri h1 a2 3)]) (stk := [.int (ri h1 a1 3), .ref a1]) cs_X10_13 dX10_multiply_227 rfl (Nat.le_of_ble_eq_true rfl) (H.mono (fun v2 h2 H => ?_)) ⟨Nat.le_refl _, Nat.le_refl _⟩
    refine r_goto (tgt := 237) dX10_multiply_230 rfl ?_
    exact H
theorem s_X10_multiply_237 {g : GX} {d : Nat} {av : List Value} {Q : QT} {n : Nat} {h : Hp} {a1 : Nat} {a2 : Nat} {x3 : Int32} {x4 : Int32} {x11 : Int32} {xs0 : Int32} {xs1 : Int32} {as2 : Nat} (hp : g.2.2.2.2 = true) (t1 : lay a1 = (0, 11, 15)) (t2 : lay a2 = (0, 11, 15)) (ts2 : lay as2 = (0, 11, 15)) (H : CallI g m_X10_mul d [.int xs1, .int xs0] n h (fun v1 h1 => (∀ h2, h2 = wi h1 as2 3 v1 → (((x3 = (0 : Int32)) → (W_X10_multiply g d av Q n 266 [some (.ref 2759), some (.ref a1), none, none, some (.int x4), none, none, none, none, none, none, some (.int x11), none] [.int (ri h2 a2 4), .int (ri h2 a1 4), .ref a1] h2)) ∧ ((¬ x3 = (0 : Int32)) → (CallI g m_X10_inv d [.int (ri h2 a2 4)] n h2 (fun v3 h3 => (W_X10_multiply g d av Q n 266 [some (.ref 2759), some (.ref a1), none, none, some (.int x4), none, none, none, none, none, none, some (.int x11), none] [.int v3, .int (ri h2 a1 4), .ref a1] h3)))))))) : W_X10_multiply g d av Q n 237 [some (.ref 2759), some (.ref a1), some (.ref a2), some (.int x3), some (.int x4), none, none, none, none, none, none, some (.int x11), none] [.int xs0, .int xs1, .ref as2] h := by
  refine k_SI (As := [.int xs1, .int xs0]) (stk := [.ref as2]) cs_X10_56 dX10_multiply_237 rfl (Nat.le_of_ble_eq_true rfl) (H.mono (fun v1 h1 H => ?_)) ⟨Nat.le_refl _, Nat.le_refl _⟩
  refine m_putI hp fw_X10_213 dX10_multiply_240 rfl rfl ts2 (fun h2 eh2 => ?_)
  replace H := H h2 eh2
  refine r_aload_n dX10_multiply_243 rfl rfl ?_
  refine r_aload_n dX10_multiply_244 rfl rfl ?_
  refine m_getI hp fw_X10_216 dX10_multiply_245 rfl t1 ?_
  refine r_iload_n dX10_multiply_248 rfl rfl ?_
  refine r_if_eq (tgt := 262) dX10_multiply_249 rfl (fun cH => ?_) (fun cH => ?_)
  · replace H := H.1 cH
    refine r_aload_n dX10_multiply_262 rfl rfl ?_
    refine m_getI hp fw_X10_216 dX10_multiply_263 rfl t2 ?_
    refine r_prune [true, true, false, false, true, false, false, false, false, false, false, true, false] (ls2 := [some (.ref 2759), some (.ref a1), none, none, some (.int x4), none, none, none, none, none, none, some (.int x11), none]) rfl ?_
    exact H
  · replace H := H.2 cH
    refine r_aload_n dX10_multiply_252 rfl rfl ?_
    refine m_getI hp fw_X10_216 dX10_multiply_253 rfl t2 ?_
    refine k_SI (As := [.int (ri h2 a2 4)]) (stk := [.int (ri h2 a1 4), .ref a1]) cs_X10_13 dX10_multiply_256 rfl (Nat.le_of_ble_eq_true rfl) (H.mono (fun v3 h3 H => ?_)) ⟨Nat.le_refl _, Nat.le_refl _⟩
    refine r_goto (tgt := 266) dX10_multiply_259 rfl ?_
    refine r_prune [true, true, false, false, true, false, false, false, false, false, false, true, false] (ls2 := [some (.ref 2759), some (.ref a1), none, none, some (.int x4), none, none, none, none, none, none, some (.int x11), none]) rfl ?_
    exact H
theorem s_X10_multiply_266 {g : GX} {d : Nat} {av : List Value} {Q : QT} {n : Nat} {h : Hp} {a1 : Nat} {x4 : Int32} {x11 : Int32} {xs0 : Int32} {xs1 : Int32} {as2 : Nat} (hp : g.2.2.2.2 = true) (t1 : lay a1 = (0, 11, 15)) (ts2 : lay as2 = (0, 11, 15)) (H : CallI g m_X10_mul d [.int xs1, .int xs0] n h (fun v1 h1 => (∀ h2, h2 = wi h1 as2 4 v1 → (CallV g m_X10_name d [.ref a1] n h2 (fun h3 => (W_X10_multiply g d av Q n 276 [some (.ref 2759), none, none, none, some (.int x4), none, none, none, none, none, none, some (.int x11), none] [] h3)))))) : W_X10_multiply g d av Q n 266 [some (.ref 2759), some (.ref a1), none, none, some (.int x4), none, none, none, none, none, none, some (.int x11), none] [.int xs0, .int xs1, .ref as2] h := by
  refine k_SI (As := [.int xs1, .int xs0]) (stk := [.ref as2]) cs_X10_56 dX10_multiply_266 rfl (Nat.le_of_ble_eq_true rfl) (H.mono (fun v1 h1 H => ?_)) ⟨Nat.le_refl _, Nat.le_refl _⟩
  refine m_putI hp fw_X10_216 dX10_multiply_269 rfl rfl ts2 (fun h2 eh2 => ?_)
  replace H := H h2 eh2
  refine r_aload_n dX10_multiply_272 rfl rfl ?_
  refine k_SV (As := [.ref a1]) (stk := []) cs_X10_307 dX10_multiply_273 rfl (Nat.le_of_ble_eq_true rfl) (H.mono (fun h3 H => ?_)) ⟨Nat.le_refl _, Nat.le_refl _⟩
  refine r_prune [true, false, false, false, true, false, false, false, false, false, false, true, false] (ls2 := [some (.ref 2759), none, none, none, some (.int x4), none, none, none, none, none, none, some (.int x11), none]) rfl ?_
  exact H
theorem s_X10_multiply_276 {g : GX} {d : Nat} {av : List Value} {Q : QT} {n : Nat} {h : Hp} {x4 : Int32} {x11 : Int32} (hp : g.2.2.2.2 = true)  (H : ∀ h1, h1 = wi h 2759 3 x4 → ((x11 = 0 ∨ x11 = 1) ∧ Q (some (.int x11)) n h1)) : W_X10_multiply g d av Q n 276 [some (.ref 2759), none, none, none, some (.int x4), none, none, none, none, none, none, some (.int x11), none] [] h := by
  refine r_aload_n dX10_multiply_276 rfl rfl ?_
  refine r_iload dX10_multiply_277 rfl ?_
  refine m_putI hp fw_X10_90 dX10_multiply_279 rfl rfl ly_10 (fun h1 eh1 => ?_)
  replace H := H h1 eh1
  refine r_iload dX10_multiply_282 rfl ?_
  exact r_zret dX10_multiply_284 rfl (nar01 H.1) (Nat.le_refl _) (Nat.le_refl _) H.2
abbrev W_X10_multiply_2 (g : GX) (d : Nat) (av : List Value) (Q : QT) (n : Nat) (pc : Nat) (ls : LV) (stk : List Value) (h : Hp) : Prop := RJ g m_X10_multiply_2 (d + 1) 0 0 av Q pc ls stk n h 0 0
theorem s_X10_multiply_2_0 {g : GX} {d : Nat} {av : List Value} {Q : QT} {n : Nat} {h : Hp} {a1 : Nat} {a2 : Nat} {a3 : Nat} {a4 : Nat} {a5 : Nat} {a6 : Nat} (hp : g.2.2.2.2 = true) (t1 : lay a1 = (0, 14, 2)) (t2 : lay a2 = (0, 14, 2)) (t3 : lay a3 = (0, 14, 2)) (t4 : lay a4 = (0, 14, 2)) (t5 : lay a5 = (0, 14, 2)) (t6 : lay a6 = (0, 14, 2)) (H : CallR g m_X10_newB d [.ref 2759] n h (fun v1 h1 => (lay v1 = (0, 14, 2) ∧ (CallR g m_X10_newB d [.ref 2759] n h1 (fun v2 h2 => (lay v2 = (0, 14, 2) ∧ (CallR g m_X10_newB d [.ref 2759] n h2 (fun v3 h3 => (lay v3 = (0, 14, 2) ∧ (CallR g m_X10_newB d [.ref 2759] n h3 (fun v4 h4 => (lay v4 = (0, 14, 2) ∧ (CallV g m_X10_set d [.ref v1, .ref a3] n h4 (fun h5 => (CallV g m_X10_set d [.ref v4, .ref a6] n h5 (fun h6 => (CallV g m_X10_cancel d [.ref 2759, .ref v1, .ref v4] n h6 (fun h7 => (CallV g m_X10_set d [.ref v3, .ref a5] n h7 (fun h8 => (CallV g m_X10_set d [.ref v2, .ref a4] n h8 (fun h9 => (CallV g m_X10_cancel d [.ref 2759, .ref v3, .ref v2] n h9 (fun h10 => (CallV g m_X10_times d [.ref 2759, .ref a1, .ref v1, .ref v3] n h10 (fun h11 => (CallV g m_X10_times d [.ref 2759, .ref a2, .ref v2, .ref v4] n h11 (fun h12 => (CallV g m_X10_settle d [.ref a1, .ref a2] n h12 (fun h13 => (∀ h14, h14 = wi h13 2759 3 (ri h 2759 3) → (Q none n h14)))))))))))))))))))))))))))))))) : W_X10_multiply_2 g d av Q n 0 [some (.ref 2759), some (.ref a1), some (.ref a2), some (.ref a3), some (.ref a4), some (.ref a5), some (.ref a6), none, none, none, none, none] [] h := by
  refine r_aload_n dX10_multiply_2_0 rfl rfl ?_
  refine m_getI hp fw_X10_90 dX10_multiply_2_1 rfl ly_10 ?_
  refine r_istore (ls2 := [some (.ref 2759), some (.ref a1), some (.ref a2), some (.ref a3), some (.ref a4), some (.ref a5), some (.ref a6), some (.int (ri h 2759 3)), none, none, none, none]) dX10_multiply_2_4 (by decide) rfl ?_
  refine r_aload_n dX10_multiply_2_6 rfl rfl ?_
  refine k_VR (As := []) (stk := []) hp cv_X10_140 dX10_multiply_2_7 rfl (Nat.le_of_ble_eq_true rfl) ly_10 (H.mono (fun v1 h1 H => ?_)) ⟨Nat.le_refl _, Nat.le_refl _⟩
  obtain ⟨tv1, H⟩ := H
  refine r_astore (ls2 := [some (.ref 2759), some (.ref a1), some (.ref a2), some (.ref a3), some (.ref a4), some (.ref a5), some (.ref a6), some (.int (ri h 2759 3)), some (.ref v1), none, none, none]) dX10_multiply_2_10 (by decide) rfl ?_
  refine r_aload_n dX10_multiply_2_12 rfl rfl ?_
  refine k_VR (As := []) (stk := []) hp cv_X10_140 dX10_multiply_2_13 rfl (Nat.le_of_ble_eq_true rfl) ly_10 (H.mono (fun v2 h2 H => ?_)) ⟨Nat.le_refl _, Nat.le_refl _⟩
  obtain ⟨tv2, H⟩ := H
  refine r_astore (ls2 := [some (.ref 2759), some (.ref a1), some (.ref a2), some (.ref a3), some (.ref a4), some (.ref a5), some (.ref a6), some (.int (ri h 2759 3)), some (.ref v1), some (.ref v2), none, none]) dX10_multiply_2_16 (by decide) rfl ?_
  refine r_aload_n dX10_multiply_2_18 rfl rfl ?_
  refine k_VR (As := []) (stk := []) hp cv_X10_140 dX10_multiply_2_19 rfl (Nat.le_of_ble_eq_true rfl) ly_10 (H.mono (fun v3 h3 H => ?_)) ⟨Nat.le_refl _, Nat.le_refl _⟩
  obtain ⟨tv3, H⟩ := H
  refine r_astore (ls2 := [some (.ref 2759), some (.ref a1), some (.ref a2), some (.ref a3), some (.ref a4), some (.ref a5), some (.ref a6), some (.int (ri h 2759 3)), some (.ref v1), some (.ref v2), some (.ref v3), none]) dX10_multiply_2_22 (by decide) rfl ?_
  refine r_aload_n dX10_multiply_2_24 rfl rfl ?_
  refine k_VR (As := []) (stk := []) hp cv_X10_140 dX10_multiply_2_25 rfl (Nat.le_of_ble_eq_true rfl) ly_10 (H.mono (fun v4 h4 H => ?_)) ⟨Nat.le_refl _, Nat.le_refl _⟩
  obtain ⟨tv4, H⟩ := H
  refine r_astore (ls2 := [some (.ref 2759), some (.ref a1), some (.ref a2), some (.ref a3), some (.ref a4), some (.ref a5), some (.ref a6), some (.int (ri h 2759 3)), some (.ref v1), some (.ref v2), some (.ref v3), some (.ref v4)]) dX10_multiply_2_28 (by decide) rfl ?_
  refine r_aload dX10_multiply_2_30 rfl ?_
  refine r_aload_n dX10_multiply_2_32 rfl rfl ?_
  refine k_SV (As := [.ref v1, .ref a3]) (stk := []) cs_X10_113 dX10_multiply_2_33 rfl (Nat.le_of_ble_eq_true rfl) (H.mono (fun h5 H => ?_)) ⟨Nat.le_refl _, Nat.le_refl _⟩
  refine r_aload dX10_multiply_2_36 rfl ?_
  refine r_aload dX10_multiply_2_38 rfl ?_
  refine k_SV (As := [.ref v4, .ref a6]) (stk := []) cs_X10_113 dX10_multiply_2_40 rfl (Nat.le_of_ble_eq_true rfl) (H.mono (fun h6 H => ?_)) ⟨Nat.le_refl _, Nat.le_refl _⟩
  refine r_aload_n dX10_multiply_2_43 rfl rfl ?_
  refine r_aload dX10_multiply_2_44 rfl ?_
  refine r_aload dX10_multiply_2_46 rfl ?_
  refine k_VV (As := [.ref v1, .ref v4]) (stk := []) hp cv_X10_194 dX10_multiply_2_48 rfl (Nat.le_of_ble_eq_true rfl) ly_10 (H.mono (fun h7 H => ?_)) ⟨Nat.le_refl _, Nat.le_refl _⟩
  refine r_aload dX10_multiply_2_51 rfl ?_
  refine r_aload dX10_multiply_2_53 rfl ?_
  refine k_SV (As := [.ref v3, .ref a5]) (stk := []) cs_X10_113 dX10_multiply_2_55 rfl (Nat.le_of_ble_eq_true rfl) (H.mono (fun h8 H => ?_)) ⟨Nat.le_refl _, Nat.le_refl _⟩
  refine r_aload dX10_multiply_2_58 rfl ?_
  refine r_aload dX10_multiply_2_60 rfl ?_
  refine k_SV (As := [.ref v2, .ref a4]) (stk := []) cs_X10_113 dX10_multiply_2_62 rfl (Nat.le_of_ble_eq_true rfl) (H.mono (fun h9 H => ?_)) ⟨Nat.le_refl _, Nat.le_refl _⟩
  refine r_aload_n dX10_multiply_2_65 rfl rfl ?_
  refine r_aload dX10_multiply_2_66 rfl ?_
  refine r_aload dX10_multiply_2_68 rfl ?_
  refine k_VV (As := [.ref v3, .ref v2]) (stk := []) hp cv_X10_194 dX10_multiply_2_70 rfl (Nat.le_of_ble_eq_true rfl) ly_10 (H.mono (fun h10 H => ?_)) ⟨Nat.le_refl _, Nat.le_refl _⟩
  refine r_aload_n dX10_multiply_2_73 rfl rfl ?_
  refine r_aload_n dX10_multiply_2_74 rfl rfl ?_
  refine r_aload dX10_multiply_2_75 rfl ?_
  refine r_aload dX10_multiply_2_77 rfl ?_
  refine k_VV (As := [.ref a1, .ref v1, .ref v3]) (stk := []) hp cv_X10_197 dX10_multiply_2_79 rfl (Nat.le_of_ble_eq_true rfl) ly_10 (H.mono (fun h11 H => ?_)) ⟨Nat.le_refl _, Nat.le_refl _⟩
  refine r_aload_n dX10_multiply_2_82 rfl rfl ?_
  refine r_aload_n dX10_multiply_2_83 rfl rfl ?_
  refine r_aload dX10_multiply_2_84 rfl ?_
  refine r_aload dX10_multiply_2_86 rfl ?_
  refine k_VV (As := [.ref a2, .ref v2, .ref v4]) (stk := []) hp cv_X10_197 dX10_multiply_2_88 rfl (Nat.le_of_ble_eq_true rfl) ly_10 (H.mono (fun h12 H => ?_)) ⟨Nat.le_refl _, Nat.le_refl _⟩
  refine r_aload_n dX10_multiply_2_91 rfl rfl ?_
  refine r_aload_n dX10_multiply_2_92 rfl rfl ?_
  refine k_SV (As := [.ref a1, .ref a2]) (stk := []) cs_X10_191 dX10_multiply_2_93 rfl (Nat.le_of_ble_eq_true rfl) (H.mono (fun h13 H => ?_)) ⟨Nat.le_refl _, Nat.le_refl _⟩
  refine r_aload_n dX10_multiply_2_96 rfl rfl ?_
  refine r_iload dX10_multiply_2_97 rfl ?_
  refine m_putI hp fw_X10_90 dX10_multiply_2_99 rfl rfl ly_10 (fun h14 eh14 => ?_)
  replace H := H h14 eh14
  exact r_vret dX10_multiply_2_102 rfl (Nat.le_refl _) (Nat.le_refl _) H
abbrev W_X10_cancel (g : GX) (d : Nat) (av : List Value) (Q : QT) (n : Nat) (pc : Nat) (ls : LV) (stk : List Value) (h : Hp) : Prop := RJ g m_X10_cancel (d + 1) 0 0 av Q pc ls stk n h 0 0
theorem s_X10_cancel_0 {g : GX} {d : Nat} {av : List Value} {Q : QT} {n : Nat} {h : Hp} {a1 : Nat} {a2 : Nat} (hp : g.2.2.2.2 = true) (t1 : lay a1 = (0, 14, 2)) (t2 : lay a2 = (0, 14, 2)) (H : CallR g m_X10_newB d [.ref 2759] n h (fun v1 h1 => (lay v1 = (0, 14, 2) ∧ (CallR g m_X10_newB d [.ref 2759] n h1 (fun v2 h2 => (lay v2 = (0, 14, 2) ∧ ((((ri h2 a1 1) ≤ (0 : Int32)) → (W_X10_cancel g d av Q n 74 [some (.ref 2759), none, none, some (.int (ri h 2759 3)), none, none, none] [] h2)) ∧ ((¬ (ri h2 a1 1) ≤ (0 : Int32)) → (CallV g m_X10_gcd d [.ref 2759, .ref v1, .ref a1, .ref a2] n h2 (fun h3 => (CallI g m_X14_isNumber d [.ref v1] n h3 (fun v4 h4 => (((¬ v4 = (0 : Int32)) → (W_X10_cancel g d av Q n 74 [some (.ref 2759), none, none, some (.int (ri h 2759 3)), none, none, none] [] h4)) ∧ ((v4 = (0 : Int32)) → (CallI g m_X10_divides d [.ref 2759, .ref v2, .ref a1, .ref v1] n h4 (fun v5 h5 => (CallV g m_X10_set d [.ref a1, .ref v2] n h5 (fun h6 => (CallI g m_X10_divides d [.ref 2759, .ref v2, .ref a2, .ref v1] n h6 (fun v7 h7 => (CallV g m_X10_set d [.ref a2, .ref v2] n h7 (fun h8 => (W_X10_cancel g d av Q n 74 [some (.ref 2759), none, none, some (.int (ri h 2759 3)), none, none, none] [] h8))))))))))))))))))))))) : W_X10_cancel g d av Q n 0 [some (.ref 2759), some (.ref a1), some (.ref a2), none, none, none, none] [] h := by
  refine r_aload_n dX10_cancel_0 rfl rfl ?_
  refine m_getI hp fw_X10_90 dX10_cancel_1 rfl ly_10 ?_
  refine r_istore_n (ls2 := [some (.ref 2759), some (.ref a1), some (.ref a2), some (.int (ri h 2759 3)), none, none, none]) dX10_cancel_4 rfl (by decide) rfl ?_
  refine r_aload_n dX10_cancel_5 rfl rfl ?_
  refine k_VR (As := []) (stk := []) hp cv_X10_140 dX10_cancel_6 rfl (Nat.le_of_ble_eq_true rfl) ly_10 (H.mono (fun v1 h1 H => ?_)) ⟨Nat.le_refl _, Nat.le_refl _⟩
  obtain ⟨tv1, H⟩ := H
  refine r_astore (ls2 := [some (.ref 2759), some (.ref a1), some (.ref a2), some (.int (ri h 2759 3)), some (.ref v1), none, none]) dX10_cancel_9 (by decide) rfl ?_
  refine r_aload_n dX10_cancel_11 rfl rfl ?_
  refine k_VR (As := []) (stk := []) hp cv_X10_140 dX10_cancel_12 rfl (Nat.le_of_ble_eq_true rfl) ly_10 (H.mono (fun v2 h2 H => ?_)) ⟨Nat.le_refl _, Nat.le_refl _⟩
  obtain ⟨tv2, H⟩ := H
  refine r_astore (ls2 := [some (.ref 2759), some (.ref a1), some (.ref a2), some (.int (ri h 2759 3)), some (.ref v1), some (.ref v2), none]) dX10_cancel_15 (by decide) rfl ?_
  refine r_aload_n dX10_cancel_17 rfl rfl ?_
  refine m_getI hp fw_X10_93 dX10_cancel_18 rfl t1 ?_
  refine r_if_le (tgt := 74) dX10_cancel_21 rfl (fun cH => ?_) (fun cH => ?_)
  · replace H := H.1 cH
    refine r_prune [true, false, false, true, false, false, false] (ls2 := [some (.ref 2759), none, none, some (.int (ri h 2759 3)), none, none, none]) rfl ?_
    exact H
  · replace H := H.2 cH
    refine r_aload_n dX10_cancel_24 rfl rfl ?_
    refine r_aload dX10_cancel_25 rfl ?_
    refine r_aload_n dX10_cancel_27 rfl rfl ?_
    refine r_aload_n dX10_cancel_28 rfl rfl ?_
    refine k_VV (As := [.ref v1, .ref a1, .ref a2]) (stk := []) hp cv_X10_185 dX10_cancel_29 rfl (Nat.le_of_ble_eq_true rfl) ly_10 (H.mono (fun h3 H => ?_)) ⟨Nat.le_refl _, Nat.le_refl _⟩
    refine r_aload dX10_cancel_32 rfl ?_
    refine k_VI (As := []) (stk := []) hp cv_X10_187 dX10_cancel_34 rfl (Nat.le_of_ble_eq_true rfl) tv1 (H.mono (fun v4 h4 H => ?_)) ⟨Nat.le_refl _, Nat.le_refl _⟩
    refine r_if_ne (tgt := 74) dX10_cancel_37 rfl (fun cH => ?_) (fun cH => ?_)
    · replace H := H.1 cH
      refine r_prune [true, false, false, true, false, false, false] (ls2 := [some (.ref 2759), none, none, some (.int (ri h 2759 3)), none, none, none]) rfl ?_
      exact H
    · replace H := H.2 cH
      refine r_aload_n dX10_cancel_40 rfl rfl ?_
      refine r_aload dX10_cancel_41 rfl ?_
      refine r_aload_n dX10_cancel_43 rfl rfl ?_
      refine r_aload dX10_cancel_44 rfl ?_
      refine k_VI (As := [.ref v2, .ref a1, .ref v1]) (stk := []) hp cv_X10_170 dX10_cancel_46 rfl (Nat.le_of_ble_eq_true rfl) ly_10 (H.mono (fun v5 h5 H => ?_)) ⟨Nat.le_refl _, Nat.le_refl _⟩
      refine r_istore (ls2 := [some (.ref 2759), some (.ref a1), some (.ref a2), some (.int (ri h 2759 3)), some (.ref v1), some (.ref v2), some (.int v5)]) dX10_cancel_49 (by decide) rfl ?_
      refine r_aload_n dX10_cancel_51 rfl rfl ?_
      refine r_aload dX10_cancel_52 rfl ?_
      refine k_SV (As := [.ref a1, .ref v2]) (stk := []) cs_X10_113 dX10_cancel_54 rfl (Nat.le_of_ble_eq_true rfl) (H.mono (fun h6 H => ?_)) ⟨Nat.le_refl _, Nat.le_refl _⟩
      refine r_aload_n dX10_cancel_57 rfl rfl ?_
      refine r_aload dX10_cancel_58 rfl ?_
      refine r_aload_n dX10_cancel_60 rfl rfl ?_
      refine r_aload dX10_cancel_61 rfl ?_
      refine k_VI (As := [.ref v2, .ref a2, .ref v1]) (stk := []) hp cv_X10_170 dX10_cancel_63 rfl (Nat.le_of_ble_eq_true rfl) ly_10 (H.mono (fun v7 h7 H => ?_)) ⟨Nat.le_refl _, Nat.le_refl _⟩
      refine r_istore (ls2 := [some (.ref 2759), some (.ref a1), some (.ref a2), some (.int (ri h 2759 3)), some (.ref v1), some (.ref v2), some (.int v7)]) dX10_cancel_66 (by decide) rfl ?_
      refine r_aload_n dX10_cancel_68 rfl rfl ?_
      refine r_aload dX10_cancel_69 rfl ?_
      refine k_SV (As := [.ref a2, .ref v2]) (stk := []) cs_X10_113 dX10_cancel_71 rfl (Nat.le_of_ble_eq_true rfl) (H.mono (fun h8 H => ?_)) ⟨Nat.le_refl _, Nat.le_refl _⟩
      refine r_prune [true, false, false, true, false, false, false] (ls2 := [some (.ref 2759), none, none, some (.int (ri h 2759 3)), none, none, none]) rfl ?_
      exact H
theorem s_X10_cancel_74 {g : GX} {d : Nat} {av : List Value} {Q : QT} {n : Nat} {h : Hp} {x3 : Int32} (hp : g.2.2.2.2 = true)  (H : ∀ h1, h1 = wi h 2759 3 x3 → (Q none n h1)) : W_X10_cancel g d av Q n 74 [some (.ref 2759), none, none, some (.int x3), none, none, none] [] h := by
  refine r_aload_n dX10_cancel_74 rfl rfl ?_
  refine r_iload_n dX10_cancel_75 rfl rfl ?_
  refine m_putI hp fw_X10_90 dX10_cancel_76 rfl rfl ly_10 (fun h1 eh1 => ?_)
  replace H := H h1 eh1
  exact r_vret dX10_cancel_79 rfl (Nat.le_refl _) (Nat.le_refl _) H
abbrev W_X10_gcd (g : GX) (d : Nat) (av : List Value) (Q : QT) (n : Nat) (pc : Nat) (ls : LV) (stk : List Value) (h : Hp) : Prop := RJ g m_X10_gcd (d + 1) 0 0 av Q pc ls stk n h 0 0
theorem s_X10_gcd_0 {g : GX} {d : Nat} {av : List Value} {Q : QT} {n : Nat} {h : Hp} {a1 : Nat} {a2 : Nat} {a3 : Nat} (hp : g.2.2.2.2 = true) (t1 : lay a1 = (0, 14, 2)) (t2 : lay a2 = (0, 14, 2)) (t3 : lay a3 = (0, 14, 2)) (H : (((ri h a2 1) = (0 : Int32)) → (W_X10_gcd g d av Q n 26 [some (.ref 2759), some (.ref a1), some (.ref a2), some (.ref a3), some (.int (ri h 2759 1)), some (.int (ri h 2759 3)), none, none, none, none] [] h)) ∧ ((¬ (ri h a2 1) = (0 : Int32)) → (((¬ (ri h a3 1) = (0 : Int32)) → (CallR g m_X10_newU d [.ref 2759] n h (fun v1 h1 => (lay v1 = (0, 13, 2) ∧ (CallR g m_X10_newU d [.ref 2759] n h1 (fun v2 h2 => (lay v2 = (0, 13, 2) ∧ (CallR g m_X10_newB d [.ref 2759] n h2 (fun v3 h3 => (lay v3 = (0, 14, 2) ∧ (CallR g m_X10_newB d [.ref 2759] n h3 (fun v4 h4 => (lay v4 = (0, 14, 2) ∧ (CallV g m_X10_primitive d [.ref 2759, .ref v3, .ref a2, .ref v1] n h4 (fun h5 => (CallV g m_X10_primitive d [.ref 2759, .ref v4, .ref a3, .ref v2] n h5 (fun h6 => ((((ri h6 v3 1) = (1 : Int32)) → (W_X10_gcd g d av Q n 105 [some (.ref 2759), some (.ref a1), none, none, some (.int (ri h 2759 1)), some (.int (ri h 2759 3)), some (.ref v1), some (.ref v2), none, none] [] h6)) ∧ ((¬ (ri h6 v3 1) = (1 : Int32)) → (((¬ (ri h6 v4 1) = (1 : Int32)) → (CallV g m_X10_gcdK d [.ref 2759, .ref a1, .ref v3, .ref v4] n h6 (fun h7 => (W_X10_gcd g d av Q n 122 [some (.ref 2759), some (.ref a1), none, none, some (.int (ri h 2759 1)), some (.int (ri h 2759 3)), some (.ref v1), some (.ref v2), none, none] [] h7)))) ∧ (((ri h6 v4 1) = (1 : Int32)) → (W_X10_gcd g d av Q n 105 [some (.ref 2759), some (.ref a1), none, none, some (.int (ri h 2759 1)), some (.int (ri h 2759 3)), some (.ref v1), some (.ref v2), none, none] [] h6)))))))))))))))))))))) ∧ (((ri h a3 1) = (0 : Int32)) → (W_X10_gcd g d av Q n 26 [some (.ref 2759), some (.ref a1), some (.ref a2), some (.ref a3), some (.int (ri h 2759 1)), some (.int (ri h 2759 3)), none, none, none, none] [] h))))) : W_X10_gcd g d av Q n 0 [some (.ref 2759), some (.ref a1), some (.ref a2), some (.ref a3), none, none, none, none, none, none] [] h := by
  refine r_aload_n dX10_gcd_0 rfl rfl ?_
  refine m_getI hp fw_X10_21 dX10_gcd_1 rfl ly_10 ?_
  refine r_istore (ls2 := [some (.ref 2759), some (.ref a1), some (.ref a2), some (.ref a3), some (.int (ri h 2759 1)), none, none, none, none, none]) dX10_gcd_4 (by decide) rfl ?_
  refine r_aload_n dX10_gcd_6 rfl rfl ?_
  refine m_getI hp fw_X10_90 dX10_gcd_7 rfl ly_10 ?_
  refine r_istore (ls2 := [some (.ref 2759), some (.ref a1), some (.ref a2), some (.ref a3), some (.int (ri h 2759 1)), some (.int (ri h 2759 3)), none, none, none, none]) dX10_gcd_10 (by decide) rfl ?_
  refine r_aload_n dX10_gcd_12 rfl rfl ?_
  refine m_getI hp fw_X10_93 dX10_gcd_13 rfl t2 ?_
  refine r_if_eq (tgt := 26) dX10_gcd_16 rfl (fun cH => ?_) (fun cH => ?_)
  · replace H := H.1 cH
    exact H
  · replace H := H.2 cH
    refine r_aload_n dX10_gcd_19 rfl rfl ?_
    refine m_getI hp fw_X10_93 dX10_gcd_20 rfl t3 ?_
    refine r_if_ne (tgt := 45) dX10_gcd_23 rfl (fun cH => ?_) (fun cH => ?_)
    · replace H := H.1 cH
      refine r_aload_n dX10_gcd_45 rfl rfl ?_
      refine k_VR (As := []) (stk := []) hp cv_X10_74 dX10_gcd_46 rfl (Nat.le_of_ble_eq_true rfl) ly_10 (H.mono (fun v1 h1 H => ?_)) ⟨Nat.le_refl _, Nat.le_refl _⟩
      obtain ⟨tv1, H⟩ := H
      refine r_astore (ls2 := [some (.ref 2759), some (.ref a1), some (.ref a2), some (.ref a3), some (.int (ri h 2759 1)), some (.int (ri h 2759 3)), some (.ref v1), none, none, none]) dX10_gcd_49 (by decide) rfl ?_
      refine r_aload_n dX10_gcd_51 rfl rfl ?_
      refine k_VR (As := []) (stk := []) hp cv_X10_74 dX10_gcd_52 rfl (Nat.le_of_ble_eq_true rfl) ly_10 (H.mono (fun v2 h2 H => ?_)) ⟨Nat.le_refl _, Nat.le_refl _⟩
      obtain ⟨tv2, H⟩ := H
      refine r_astore (ls2 := [some (.ref 2759), some (.ref a1), some (.ref a2), some (.ref a3), some (.int (ri h 2759 1)), some (.int (ri h 2759 3)), some (.ref v1), some (.ref v2), none, none]) dX10_gcd_55 (by decide) rfl ?_
      refine r_aload_n dX10_gcd_57 rfl rfl ?_
      refine k_VR (As := []) (stk := []) hp cv_X10_140 dX10_gcd_58 rfl (Nat.le_of_ble_eq_true rfl) ly_10 (H.mono (fun v3 h3 H => ?_)) ⟨Nat.le_refl _, Nat.le_refl _⟩
      obtain ⟨tv3, H⟩ := H
      refine r_astore (ls2 := [some (.ref 2759), some (.ref a1), some (.ref a2), some (.ref a3), some (.int (ri h 2759 1)), some (.int (ri h 2759 3)), some (.ref v1), some (.ref v2), some (.ref v3), none]) dX10_gcd_61 (by decide) rfl ?_
      refine r_aload_n dX10_gcd_63 rfl rfl ?_
      refine k_VR (As := []) (stk := []) hp cv_X10_140 dX10_gcd_64 rfl (Nat.le_of_ble_eq_true rfl) ly_10 (H.mono (fun v4 h4 H => ?_)) ⟨Nat.le_refl _, Nat.le_refl _⟩
      obtain ⟨tv4, H⟩ := H
      refine r_astore (ls2 := [some (.ref 2759), some (.ref a1), some (.ref a2), some (.ref a3), some (.int (ri h 2759 1)), some (.int (ri h 2759 3)), some (.ref v1), some (.ref v2), some (.ref v3), some (.ref v4)]) dX10_gcd_67 (by decide) rfl ?_
      refine r_aload_n dX10_gcd_69 rfl rfl ?_
      refine r_aload dX10_gcd_70 rfl ?_
      refine r_aload_n dX10_gcd_72 rfl rfl ?_
      refine r_aload dX10_gcd_73 rfl ?_
      refine k_VV (As := [.ref v3, .ref a2, .ref v1]) (stk := []) hp cv_X10_167 dX10_gcd_75 rfl (Nat.le_of_ble_eq_true rfl) ly_10 (H.mono (fun h5 H => ?_)) ⟨Nat.le_refl _, Nat.le_refl _⟩
      refine r_aload_n dX10_gcd_78 rfl rfl ?_
      refine r_aload dX10_gcd_79 rfl ?_
      refine r_aload_n dX10_gcd_81 rfl rfl ?_
      refine r_aload dX10_gcd_82 rfl ?_
      refine k_VV (As := [.ref v4, .ref a3, .ref v2]) (stk := []) hp cv_X10_167 dX10_gcd_84 rfl (Nat.le_of_ble_eq_true rfl) ly_10 (H.mono (fun h6 H => ?_)) ⟨Nat.le_refl _, Nat.le_refl _⟩
      refine r_aload dX10_gcd_87 rfl ?_
      refine m_getI hp fw_X10_93 dX10_gcd_89 rfl tv3 ?_
      refine r_iconst (v := (1 : Int32)) dX10_gcd_92 rfl ?_
      refine r_icmp_eq (tgt := 105) dX10_gcd_93 rfl (fun cH => ?_) (fun cH => ?_)
      · replace H := H.1 cH
        refine r_prune [true, true, false, false, true, true, true, true, false, false] (ls2 := [some (.ref 2759), some (.ref a1), none, none, some (.int (ri h 2759 1)), some (.int (ri h 2759 3)), some (.ref v1), some (.ref v2), none, none]) rfl ?_
        exact H
      · replace H := H.2 cH
        refine r_aload dX10_gcd_96 rfl ?_
        refine m_getI hp fw_X10_93 dX10_gcd_98 rfl tv4 ?_
        refine r_iconst (v := (1 : Int32)) dX10_gcd_101 rfl ?_
        refine r_icmp_ne (tgt := 113) dX10_gcd_102 rfl (fun cH => ?_) (fun cH => ?_)
        · replace H := H.1 cH
          refine r_aload_n dX10_gcd_113 rfl rfl ?_
          refine r_aload_n dX10_gcd_114 rfl rfl ?_
          refine r_aload dX10_gcd_115 rfl ?_
          refine r_aload dX10_gcd_117 rfl ?_
          refine k_VV (As := [.ref a1, .ref v3, .ref v4]) (stk := []) hp cv_X10_174 dX10_gcd_119 rfl (Nat.le_of_ble_eq_true rfl) ly_10 (H.mono (fun h7 H => ?_)) ⟨Nat.le_refl _, Nat.le_refl _⟩
          refine r_prune [true, true, false, false, true, true, true, true, false, false] (ls2 := [some (.ref 2759), some (.ref a1), none, none, some (.int (ri h 2759 1)), some (.int (ri h 2759 3)), some (.ref v1), some (.ref v2), none, none]) rfl ?_
          exact H
        · replace H := H.2 cH
          refine r_prune [true, true, false, false, true, true, true, true, false, false] (ls2 := [some (.ref 2759), some (.ref a1), none, none, some (.int (ri h 2759 1)), some (.int (ri h 2759 3)), some (.ref v1), some (.ref v2), none, none]) rfl ?_
          exact H
    · replace H := H.2 cH
      exact H
theorem s_X10_gcd_26 {g : GX} {d : Nat} {av : List Value} {Q : QT} {n : Nat} {h : Hp} {a1 : Nat} {a2 : Nat} {a3 : Nat} {x4 : Int32} {x5 : Int32} (hp : g.2.2.2.2 = true) (t1 : lay a1 = (0, 14, 2)) (t2 : lay a2 = (0, 14, 2)) (t3 : lay a3 = (0, 14, 2)) (H : ((¬ (ri h a2 1) = (0 : Int32)) → (W_X10_gcd g d av Q n 39 [some (.ref 2759), some (.ref a1), none, none, some (.int x4), some (.int x5), none, none, none, none] [.ref a2, .ref a1] h)) ∧ (((ri h a2 1) = (0 : Int32)) → (W_X10_gcd g d av Q n 39 [some (.ref 2759), some (.ref a1), none, none, some (.int x4), some (.int x5), none, none, none, none] [.ref a3, .ref a1] h))) : W_X10_gcd g d av Q n 26 [some (.ref 2759), some (.ref a1), some (.ref a2), some (.ref a3), some (.int x4), some (.int x5), none, none, none, none] [] h := by
  refine r_aload_n dX10_gcd_26 rfl rfl ?_
  refine r_aload_n dX10_gcd_27 rfl rfl ?_
  refine m_getI hp fw_X10_93 dX10_gcd_28 rfl t2 ?_
  refine r_if_ne (tgt := 38) dX10_gcd_31 rfl (fun cH => ?_) (fun cH => ?_)
  · replace H := H.1 cH
    refine r_aload_n dX10_gcd_38 rfl rfl ?_
    refine r_prune [true, true, false, false, true, true, false, false, false, false] (ls2 := [some (.ref 2759), some (.ref a1), none, none, some (.int x4), some (.int x5), none, none, none, none]) rfl ?_
    exact H
  · replace H := H.2 cH
    refine r_aload_n dX10_gcd_34 rfl rfl ?_
    refine r_goto (tgt := 39) dX10_gcd_35 rfl ?_
    refine r_prune [true, true, false, false, true, true, false, false, false, false] (ls2 := [some (.ref 2759), some (.ref a1), none, none, some (.int x4), some (.int x5), none, none, none, none]) rfl ?_
    exact H
theorem s_X10_gcd_39 {g : GX} {d : Nat} {av : List Value} {Q : QT} {n : Nat} {h : Hp} {a1 : Nat} {x4 : Int32} {x5 : Int32} {as0 : Nat} {as1 : Nat} (hp : g.2.2.2.2 = true) (t1 : lay a1 = (0, 14, 2)) (ts0 : lay as0 = (0, 14, 2)) (ts1 : lay as1 = (0, 14, 2)) (H : CallV g m_X10_set d [.ref as1, .ref as0] n h (fun h1 => (W_X10_gcd g d av Q n 140 [some (.ref 2759), some (.ref a1), none, none, some (.int x4), some (.int x5), none, none, none, none] [] h1))) : W_X10_gcd g d av Q n 39 [some (.ref 2759), some (.ref a1), none, none, some (.int x4), some (.int x5), none, none, none, none] [.ref as0, .ref as1] h := by
  refine k_SV (As := [.ref as1, .ref as0]) (stk := []) cs_X10_113 dX10_gcd_39 rfl (Nat.le_of_ble_eq_true rfl) (H.mono (fun h1 H => ?_)) ⟨Nat.le_refl _, Nat.le_refl _⟩
  refine r_goto (tgt := 140) dX10_gcd_42 rfl ?_
  exact H
theorem s_X10_gcd_105 {g : GX} {d : Nat} {av : List Value} {Q : QT} {n : Nat} {h : Hp} {a1 : Nat} {x4 : Int32} {x5 : Int32} {a6 : Nat} {a7 : Nat} (hp : g.2.2.2.2 = true) (t1 : lay a1 = (0, 14, 2)) (t6 : lay a6 = (0, 13, 2)) (t7 : lay a7 = (0, 13, 2)) (H : CallV g m_X14_number d [.ref a1, .int (1 : Int32)] n h (fun h1 => (W_X10_gcd g d av Q n 122 [some (.ref 2759), some (.ref a1), none, none, some (.int x4), some (.int x5), some (.ref a6), some (.ref a7), none, none] [] h1))) : W_X10_gcd g d av Q n 105 [some (.ref 2759), some (.ref a1), none, none, some (.int x4), some (.int x5), some (.ref a6), some (.ref a7), none, none] [] h := by
  refine r_aload_n dX10_gcd_105 rfl rfl ?_
  refine r_iconst (v := (1 : Int32)) dX10_gcd_106 rfl ?_
  refine k_VV (As := [.int (1 : Int32)]) (stk := []) hp cv_X10_158 dX10_gcd_107 rfl (Nat.le_of_ble_eq_true rfl) t1 (H.mono (fun h1 H => ?_)) ⟨Nat.le_refl _, Nat.le_refl _⟩
  refine r_goto (tgt := 122) dX10_gcd_110 rfl ?_
  exact H
theorem s_X10_gcd_122 {g : GX} {d : Nat} {av : List Value} {Q : QT} {n : Nat} {h : Hp} {a1 : Nat} {x4 : Int32} {x5 : Int32} {a6 : Nat} {a7 : Nat} (hp : g.2.2.2.2 = true) (t1 : lay a1 = (0, 14, 2)) (t6 : lay a6 = (0, 13, 2)) (t7 : lay a7 = (0, 13, 2)) (H : CallV g m_X10_gcd_2 d [.ref 2759, .ref a6, .ref a6, .ref a7] n h (fun h1 => (CallV g m_X10_timesU d [.ref 2759, .ref a1, .ref a1, .ref a6] n h1 (fun h2 => (W_X10_gcd g d av Q n 140 [some (.ref 2759), some (.ref a1), none, none, some (.int x4), some (.int x5), none, none, none, none] [] h2))))) : W_X10_gcd g d av Q n 122 [some (.ref 2759), some (.ref a1), none, none, some (.int x4), some (.int x5), some (.ref a6), some (.ref a7), none, none] [] h := by
  refine r_aload_n dX10_gcd_122 rfl rfl ?_
  refine r_aload dX10_gcd_123 rfl ?_
  refine r_aload dX10_gcd_125 rfl ?_
  refine r_aload dX10_gcd_127 rfl ?_
  refine k_VV (As := [.ref a6, .ref a6, .ref a7]) (stk := []) hp cv_X10_125 dX10_gcd_129 rfl (Nat.le_of_ble_eq_true rfl) ly_10 (H.mono (fun h1 H => ?_)) ⟨Nat.le_refl _, Nat.le_refl _⟩
  refine r_aload_n dX10_gcd_132 rfl rfl ?_
  refine r_aload_n dX10_gcd_133 rfl rfl ?_
  refine r_aload_n dX10_gcd_134 rfl rfl ?_
  refine r_aload dX10_gcd_135 rfl ?_
  refine k_VV (As := [.ref a1, .ref a1, .ref a6]) (stk := []) hp cv_X10_178 dX10_gcd_137 rfl (Nat.le_of_ble_eq_true rfl) ly_10 (H.mono (fun h2 H => ?_)) ⟨Nat.le_refl _, Nat.le_refl _⟩
  refine r_prune [true, true, false, false, true, true, false, false, false, false] (ls2 := [some (.ref 2759), some (.ref a1), none, none, some (.int x4), some (.int x5), none, none, none, none]) rfl ?_
  exact H
theorem s_X10_gcd_140 {g : GX} {d : Nat} {av : List Value} {Q : QT} {n : Nat} {h : Hp} {a1 : Nat} {x4 : Int32} {x5 : Int32} (hp : g.2.2.2.2 = true) (t1 : lay a1 = (0, 14, 2)) (H : (((ri h a1 1) ≤ (0 : Int32)) → (W_X10_gcd g d av Q n 159 [some (.ref 2759), none, none, none, some (.int x4), some (.int x5), none, none, none, none] [] h)) ∧ ((¬ (ri h a1 1) ≤ (0 : Int32)) → (CallI g m_X14_head d [.ref a1] n h (fun v1 h1 => (CallI g m_X10_inv d [.int v1] n h1 (fun v2 h2 => (CallV g m_X10_scale d [.ref a1, .ref a1, .int v2] n h2 (fun h3 => (W_X10_gcd g d av Q n 159 [some (.ref 2759), none, none, none, some (.int x4), some (.int x5), none, none, none, none] [] h3))))))))) : W_X10_gcd g d av Q n 140 [some (.ref 2759), some (.ref a1), none, none, some (.int x4), some (.int x5), none, none, none, none] [] h := by
  refine r_aload_n dX10_gcd_140 rfl rfl ?_
  refine m_getI hp fw_X10_93 dX10_gcd_141 rfl t1 ?_
  refine r_if_le (tgt := 159) dX10_gcd_144 rfl (fun cH => ?_) (fun cH => ?_)
  · replace H := H.1 cH
    refine r_prune [true, false, false, false, true, true, false, false, false, false] (ls2 := [some (.ref 2759), none, none, none, some (.int x4), some (.int x5), none, none, none, none]) rfl ?_
    exact H
  · replace H := H.2 cH
    refine r_aload_n dX10_gcd_147 rfl rfl ?_
    refine r_aload_n dX10_gcd_148 rfl rfl ?_
    refine r_aload_n dX10_gcd_149 rfl rfl ?_
    refine k_VI (As := []) (stk := [.ref a1, .ref a1]) hp cv_X10_181 dX10_gcd_150 rfl (Nat.le_of_ble_eq_true rfl) t1 (H.mono (fun v1 h1 H => ?_)) ⟨Nat.le_refl _, Nat.le_refl _⟩
    refine k_SI (As := [.int v1]) (stk := [.ref a1, .ref a1]) cs_X10_13 dX10_gcd_153 rfl (Nat.le_of_ble_eq_true rfl) (H.mono (fun v2 h2 H => ?_)) ⟨Nat.le_refl _, Nat.le_refl _⟩
    refine k_SV (As := [.ref a1, .ref a1, .int v2]) (stk := []) cs_X10_182 dX10_gcd_156 rfl (Nat.le_of_ble_eq_true rfl) (H.mono (fun h3 H => ?_)) ⟨Nat.le_refl _, Nat.le_refl _⟩
    refine r_prune [true, false, false, false, true, true, false, false, false, false] (ls2 := [some (.ref 2759), none, none, none, some (.int x4), some (.int x5), none, none, none, none]) rfl ?_
    exact H
theorem s_X10_gcd_159 {g : GX} {d : Nat} {av : List Value} {Q : QT} {n : Nat} {h : Hp} {x4 : Int32} {x5 : Int32} (hp : g.2.2.2.2 = true)  (H : ∀ h1, h1 = wi h 2759 3 x5 → (∀ h2, h2 = wi h1 2759 1 x4 → (Q none n h2))) : W_X10_gcd g d av Q n 159 [some (.ref 2759), none, none, none, some (.int x4), some (.int x5), none, none, none, none] [] h := by
  refine r_aload_n dX10_gcd_159 rfl rfl ?_
  refine r_iload dX10_gcd_160 rfl ?_
  refine m_putI hp fw_X10_90 dX10_gcd_162 rfl rfl ly_10 (fun h1 eh1 => ?_)
  replace H := H h1 eh1
  refine r_aload_n dX10_gcd_165 rfl rfl ?_
  refine r_iload dX10_gcd_166 rfl ?_
  refine m_putI hp fw_X10_21 dX10_gcd_168 rfl rfl ly_10 (fun h2 eh2 => ?_)
  replace H := H h2 eh2
  exact r_vret dX10_gcd_171 rfl (Nat.le_refl _) (Nat.le_refl _) H
abbrev W_X10_primitive (g : GX) (d : Nat) (av : List Value) (Q : QT) (n : Nat) (pc : Nat) (ls : LV) (stk : List Value) (h : Hp) : Prop := RJ g m_X10_primitive (d + 1) 0 0 av Q pc ls stk n h 0 0
theorem s_X10_primitive_0 {g : GX} {d : Nat} {av : List Value} {Q : QT} {n : Nat} {h : Hp} {a1 : Nat} {a2 : Nat} {a3 : Nat} (hp : g.2.2.2.2 = true) (t1 : lay a1 = (0, 14, 2)) (t2 : lay a2 = (0, 14, 2)) (t3 : lay a3 = (0, 13, 2)) (H : CallV g m_X10_content d [.ref 2759, .ref a3, .ref a2] n h (fun h1 => (CallV g m_X10_byU d [.ref 2759, .ref a1, .ref a2, .ref a3] n h1 (fun h2 => (Q none n h2))))) : W_X10_primitive g d av Q n 0 [some (.ref 2759), some (.ref a1), some (.ref a2), some (.ref a3)] [] h := by
  refine r_aload_n dX10_primitive_0 rfl rfl ?_
  refine r_aload_n dX10_primitive_1 rfl rfl ?_
  refine r_aload_n dX10_primitive_2 rfl rfl ?_
  refine k_VV (As := [.ref a3, .ref a2]) (stk := []) hp cv_X10_128 dX10_primitive_3 rfl (Nat.le_of_ble_eq_true rfl) ly_10 (H.mono (fun h1 H => ?_)) ⟨Nat.le_refl _, Nat.le_refl _⟩
  refine r_aload_n dX10_primitive_6 rfl rfl ?_
  refine r_aload_n dX10_primitive_7 rfl rfl ?_
  refine r_aload_n dX10_primitive_8 rfl rfl ?_
  refine r_aload_n dX10_primitive_9 rfl rfl ?_
  refine k_VV (As := [.ref a1, .ref a2, .ref a3]) (stk := []) hp cv_X10_132 dX10_primitive_10 rfl (Nat.le_of_ble_eq_true rfl) ly_10 (H.mono (fun h2 H => ?_)) ⟨Nat.le_refl _, Nat.le_refl _⟩
  exact r_vret dX10_primitive_13 rfl (Nat.le_refl _) (Nat.le_refl _) H
abbrev W_X10_content (g : GX) (d : Nat) (av : List Value) (Q : QT) (n : Nat) (pc : Nat) (ls : LV) (stk : List Value) (h : Hp) : Prop := RJ g m_X10_content (d + 1) 0 0 av Q pc ls stk n h 0 0
theorem s_X10_content_0 {g : GX} {d : Nat} {av : List Value} {Q : QT} {n : Nat} {h : Hp} {a1 : Nat} {a2 : Nat} (hp : g.2.2.2.2 = true) (t1 : lay a1 = (0, 13, 2)) (t2 : lay a2 = (0, 14, 2)) (H : ∀ h1, h1 = wi h a1 1 (0 : Int32) → (W_X10_content g d av Q n 7 [some (.ref 2759), some (.ref a1), some (.ref a2), some (.int (0 : Int32))] [] h1)) : W_X10_content g d av Q n 0 [some (.ref 2759), some (.ref a1), some (.ref a2), none] [] h := by
  refine r_aload_n dX10_content_0 rfl rfl ?_
  refine r_iconst (v := (0 : Int32)) dX10_content_1 rfl ?_
  refine m_putI hp fw_X10_25 dX10_content_2 rfl rfl t1 (fun h1 eh1 => ?_)
  replace H := H h1 eh1
  refine r_iconst (v := (0 : Int32)) dX10_content_5 rfl ?_
  refine r_istore_n (ls2 := [some (.ref 2759), some (.ref a1), some (.ref a2), some (.int (0 : Int32))]) dX10_content_6 rfl (by decide) rfl ?_
  exact H
theorem s_X10_content_7 {g : GX} {d : Nat} {av : List Value} {Q : QT} {n : Nat} {h : Hp} {a1 : Nat} {a2 : Nat} {x3 : Int32} (hp : g.2.2.2.2 = true) (t1 : lay a1 = (0, 13, 2)) (t2 : lay a2 = (0, 14, 2)) (H : (((ri h a2 1) ≤ x3) → (Q none n h)) ∧ ((¬ (ri h a2 1) ≤ x3) → ((((ri h a1 1) = (1 : Int32)) → (Q none n h)) ∧ ((¬ (ri h a1 1) = (1 : Int32)) → (vp_in x3 64 ∧ ∀ r1, r1 = (a2 + 2) + 2 * (x3).toNatClampNeg → (CallV g m_X10_gcd_2 d [.ref 2759, .ref a1, .ref a1, .ref r1] n h (fun h2 => (W_X10_content g d av Q n 7 [some (.ref 2759), some (.ref a1), some (.ref a2), some (.int (x3 + (1 : Int32)))] [] h2)))))))) : W_X10_content g d av Q n 7 [some (.ref 2759), some (.ref a1), some (.ref a2), some (.int x3)] [] h := by
  refine r_iload_n dX10_content_7 rfl rfl ?_
  refine r_aload_n dX10_content_8 rfl rfl ?_
  refine m_getI hp fw_X10_93 dX10_content_9 rfl t2 ?_
  refine r_icmp_ge (tgt := 41) dX10_content_12 rfl (fun cH => ?_) (fun cH => ?_)
  · replace H := H.1 cH
    exact r_vret dX10_content_41 rfl (Nat.le_refl _) (Nat.le_refl _) H
  · replace H := H.2 cH
    refine r_aload_n dX10_content_15 rfl rfl ?_
    refine m_getI hp fw_X10_25 dX10_content_16 rfl t1 ?_
    refine r_iconst (v := (1 : Int32)) dX10_content_19 rfl ?_
    refine r_icmp_eq (tgt := 41) dX10_content_20 rfl (fun cH => ?_) (fun cH => ?_)
    · replace H := H.1 cH
      exact r_vret dX10_content_41 rfl (Nat.le_refl _) (Nat.le_refl _) H
    · replace H := H.2 cH
      refine r_aload_n dX10_content_23 rfl rfl ?_
      refine r_aload_n dX10_content_24 rfl rfl ?_
      refine r_aload_n dX10_content_25 rfl rfl ?_
      refine r_aload_n dX10_content_26 rfl rfl ?_
      refine m_getF (x := (a2 + 1)) hp fw_X10_98 dX10_content_27 rfl t2 (ff_14_0 t2) ?_
      refine r_iload_n dX10_content_30 rfl rfl ?_
      obtain ⟨r1, er1⟩ : ∃ y, y = (a2 + 2) + 2 * (x3).toNatClampNeg := ⟨_, rfl⟩
      have hir1 := H.1
      replace H := H.2 r1 er1
      have tLr1 := le_14 t2 hir1 er1
      refine m_aalF (x := r1) hp dX10_content_31 (lf_14_0 t2) rfl rfl (lu_14_0 t2) hir1 (fe_14 t2 hir1 er1) ?_
      refine k_VV (As := [.ref a1, .ref a1, .ref r1]) (stk := []) hp cv_X10_125 dX10_content_32 rfl (Nat.le_of_ble_eq_true rfl) ly_10 (H.mono (fun h2 H => ?_)) ⟨Nat.le_refl _, Nat.le_refl _⟩
      refine r_iinc (v := (x3 + (1 : Int32))) (ls2 := [some (.ref 2759), some (.ref a1), some (.ref a2), some (.int (x3 + (1 : Int32)))]) dX10_content_35 rfl rfl (by decide) rfl ?_
      refine r_goto (tgt := 7) dX10_content_38 rfl ?_
      exact H
abbrev W_X10_gcd_2 (g : GX) (d : Nat) (av : List Value) (Q : QT) (n : Nat) (pc : Nat) (ls : LV) (stk : List Value) (h : Hp) : Prop := RJ g m_X10_gcd_2 (d + 1) 0 0 av Q pc ls stk n h 0 0
theorem s_X10_gcd_2_0 {g : GX} {d : Nat} {av : List Value} {Q : QT} {n : Nat} {h : Hp} {a1 : Nat} {a2 : Nat} {a3 : Nat} (hp : g.2.2.2.2 = true) (t1 : lay a1 = (0, 13, 2)) (t2 : lay a2 = (0, 13, 2)) (t3 : lay a3 = (0, 13, 2)) (H : CallR g m_X10_newU d [.ref 2759] n h (fun v1 h1 => (lay v1 = (0, 13, 2) ∧ (CallR g m_X10_newU d [.ref 2759] n h1 (fun v2 h2 => (lay v2 = (0, 13, 2) ∧ (CallR g m_X10_newU d [.ref 2759] n h2 (fun v3 h3 => (lay v3 = (0, 13, 2) ∧ (CallV g m_X10_set_2 d [.ref v1, .ref a2] n h3 (fun h4 => (CallV g m_X10_set_2 d [.ref v2, .ref a3] n h4 (fun h5 => (W_X10_gcd_2 g d av Q n 36 [some (.ref 2759), some (.ref a1), none, none, some (.int (ri h 2759 1)), some (.ref v1), some (.ref v2), some (.ref v3), none] [] h5)))))))))))))) : W_X10_gcd_2 g d av Q n 0 [some (.ref 2759), some (.ref a1), some (.ref a2), some (.ref a3), none, none, none, none, none] [] h := by
  refine r_aload_n dX10_gcd_2_0 rfl rfl ?_
  refine m_getI hp fw_X10_21 dX10_gcd_2_1 rfl ly_10 ?_
  refine r_istore (ls2 := [some (.ref 2759), some (.ref a1), some (.ref a2), some (.ref a3), some (.int (ri h 2759 1)), none, none, none, none]) dX10_gcd_2_4 (by decide) rfl ?_
  refine r_aload_n dX10_gcd_2_6 rfl rfl ?_
  refine k_VR (As := []) (stk := []) hp cv_X10_74 dX10_gcd_2_7 rfl (Nat.le_of_ble_eq_true rfl) ly_10 (H.mono (fun v1 h1 H => ?_)) ⟨Nat.le_refl _, Nat.le_refl _⟩
  obtain ⟨tv1, H⟩ := H
  refine r_astore (ls2 := [some (.ref 2759), some (.ref a1), some (.ref a2), some (.ref a3), some (.int (ri h 2759 1)), some (.ref v1), none, none, none]) dX10_gcd_2_10 (by decide) rfl ?_
  refine r_aload_n dX10_gcd_2_12 rfl rfl ?_
  refine k_VR (As := []) (stk := []) hp cv_X10_74 dX10_gcd_2_13 rfl (Nat.le_of_ble_eq_true rfl) ly_10 (H.mono (fun v2 h2 H => ?_)) ⟨Nat.le_refl _, Nat.le_refl _⟩
  obtain ⟨tv2, H⟩ := H
  refine r_astore (ls2 := [some (.ref 2759), some (.ref a1), some (.ref a2), some (.ref a3), some (.int (ri h 2759 1)), some (.ref v1), some (.ref v2), none, none]) dX10_gcd_2_16 (by decide) rfl ?_
  refine r_aload_n dX10_gcd_2_18 rfl rfl ?_
  refine k_VR (As := []) (stk := []) hp cv_X10_74 dX10_gcd_2_19 rfl (Nat.le_of_ble_eq_true rfl) ly_10 (H.mono (fun v3 h3 H => ?_)) ⟨Nat.le_refl _, Nat.le_refl _⟩
  obtain ⟨tv3, H⟩ := H
  refine r_astore (ls2 := [some (.ref 2759), some (.ref a1), some (.ref a2), some (.ref a3), some (.int (ri h 2759 1)), some (.ref v1), some (.ref v2), some (.ref v3), none]) dX10_gcd_2_22 (by decide) rfl ?_
  refine r_aload dX10_gcd_2_24 rfl ?_
  refine r_aload_n dX10_gcd_2_26 rfl rfl ?_
  refine k_SV (As := [.ref v1, .ref a2]) (stk := []) cs_X10_62 dX10_gcd_2_27 rfl (Nat.le_of_ble_eq_true rfl) (H.mono (fun h4 H => ?_)) ⟨Nat.le_refl _, Nat.le_refl _⟩
  refine r_aload dX10_gcd_2_30 rfl ?_
  refine r_aload_n dX10_gcd_2_32 rfl rfl ?_
  refine k_SV (As := [.ref v2, .ref a3]) (stk := []) cs_X10_62 dX10_gcd_2_33 rfl (Nat.le_of_ble_eq_true rfl) (H.mono (fun h5 H => ?_)) ⟨Nat.le_refl _, Nat.le_refl _⟩
  refine r_prune [true, true, false, false, true, true, true, true, false] (ls2 := [some (.ref 2759), some (.ref a1), none, none, some (.int (ri h 2759 1)), some (.ref v1), some (.ref v2), some (.ref v3), none]) rfl ?_
  exact H
theorem s_X10_gcd_2_36 {g : GX} {d : Nat} {av : List Value} {Q : QT} {n : Nat} {h : Hp} {a1 : Nat} {x4 : Int32} {a5 : Nat} {a6 : Nat} {a7 : Nat} (hp : g.2.2.2.2 = true) (t1 : lay a1 = (0, 13, 2)) (t5 : lay a5 = (0, 13, 2)) (t6 : lay a6 = (0, 13, 2)) (t7 : lay a7 = (0, 13, 2)) (H : (((ri h a6 1) ≤ (0 : Int32)) → (CallV g m_X10_monic d [.ref 2759, .ref a5] n h (fun h1 => (CallV g m_X10_set_2 d [.ref a1, .ref a5] n h1 (fun h2 => (∀ h3, h3 = wi h2 2759 1 x4 → (Q none n h3))))))) ∧ ((¬ (ri h a6 1) ≤ (0 : Int32)) → (CallV g m_X10_divide d [.null, .ref a7, .ref a5, .ref a6] n h (fun h4 => (W_X10_gcd_2 g d av Q n 36 [some (.ref 2759), some (.ref a1), none, none, some (.int x4), some (.ref a6), some (.ref a7), some (.ref a5), none] [] h4))))) : W_X10_gcd_2 g d av Q n 36 [some (.ref 2759), some (.ref a1), none, none, some (.int x4), some (.ref a5), some (.ref a6), some (.ref a7), none] [] h := by
  refine r_aload dX10_gcd_2_36 rfl ?_
  refine m_getI hp fw_X10_25 dX10_gcd_2_38 rfl t6 ?_
  refine r_if_le (tgt := 73) dX10_gcd_2_41 rfl (fun cH => ?_) (fun cH => ?_)
  · replace H := H.1 cH
    refine r_aload_n dX10_gcd_2_73 rfl rfl ?_
    refine r_aload dX10_gcd_2_74 rfl ?_
    refine k_VV (As := [.ref a5]) (stk := []) hp cv_X10_82 dX10_gcd_2_76 rfl (Nat.le_of_ble_eq_true rfl) ly_10 (H.mono (fun h1 H => ?_)) ⟨Nat.le_refl _, Nat.le_refl _⟩
    refine r_aload_n dX10_gcd_2_79 rfl rfl ?_
    refine r_aload dX10_gcd_2_80 rfl ?_
    refine k_SV (As := [.ref a1, .ref a5]) (stk := []) cs_X10_62 dX10_gcd_2_82 rfl (Nat.le_of_ble_eq_true rfl) (H.mono (fun h2 H => ?_)) ⟨Nat.le_refl _, Nat.le_refl _⟩
    refine r_aload_n dX10_gcd_2_85 rfl rfl ?_
    refine r_iload dX10_gcd_2_86 rfl ?_
    refine m_putI hp fw_X10_21 dX10_gcd_2_88 rfl rfl ly_10 (fun h3 eh3 => ?_)
    replace H := H h3 eh3
    exact r_vret dX10_gcd_2_91 rfl (Nat.le_refl _) (Nat.le_refl _) H
  · replace H := H.2 cH
    refine r_null dX10_gcd_2_44 ?_
    refine r_aload dX10_gcd_2_45 rfl ?_
    refine r_aload dX10_gcd_2_47 rfl ?_
    refine r_aload dX10_gcd_2_49 rfl ?_
    refine k_SV (As := [.null, .ref a7, .ref a5, .ref a6]) (stk := []) cs_X10_78 dX10_gcd_2_51 rfl (Nat.le_of_ble_eq_true rfl) (H.mono (fun h4 H => ?_)) ⟨Nat.le_refl _, Nat.le_refl _⟩
    refine r_aload dX10_gcd_2_54 rfl ?_
    refine r_astore (ls2 := [some (.ref 2759), some (.ref a1), none, none, some (.int x4), some (.ref a5), some (.ref a6), some (.ref a7), some (.ref a5)]) dX10_gcd_2_56 (by decide) rfl ?_
    refine r_aload dX10_gcd_2_58 rfl ?_
    refine r_astore (ls2 := [some (.ref 2759), some (.ref a1), none, none, some (.int x4), some (.ref a6), some (.ref a6), some (.ref a7), some (.ref a5)]) dX10_gcd_2_60 (by decide) rfl ?_
    refine r_aload dX10_gcd_2_62 rfl ?_
    refine r_astore (ls2 := [some (.ref 2759), some (.ref a1), none, none, some (.int x4), some (.ref a6), some (.ref a7), some (.ref a7), some (.ref a5)]) dX10_gcd_2_64 (by decide) rfl ?_
    refine r_aload dX10_gcd_2_66 rfl ?_
    refine r_astore (ls2 := [some (.ref 2759), some (.ref a1), none, none, some (.int x4), some (.ref a6), some (.ref a7), some (.ref a5), some (.ref a5)]) dX10_gcd_2_68 (by decide) rfl ?_
    refine r_goto (tgt := 36) dX10_gcd_2_70 rfl ?_
    refine r_prune [true, true, false, false, true, true, true, true, false] (ls2 := [some (.ref 2759), some (.ref a1), none, none, some (.int x4), some (.ref a6), some (.ref a7), some (.ref a5), none]) rfl ?_
    exact H
abbrev W_X10_divide (g : GX) (d : Nat) (av : List Value) (Q : QT) (n : Nat) (pc : Nat) (ls : LV) (stk : List Value) (h : Hp) : Prop := RJ g m_X10_divide (d + 1) 0 0 av Q pc ls stk n h 0 0
theorem s_X10_divide_0 {g : GX} {d : Nat} {av : List Value} {Q : QT} {n : Nat} {h : Hp} {a0 : Nat} {a1 : Nat} {a2 : Nat} {a3 : Nat} (hp : g.2.2.2.2 = true) (t0 : lay a0 = (0, 13, 2)) (t1 : lay a1 = (0, 13, 2)) (t2 : lay a2 = (0, 13, 2)) (t3 : lay a3 = (0, 13, 2)) (H : CallV g m_X10_set_2 d [.ref a1, .ref a2] n h (fun h1 => (CallI g m_X13_head d [.ref a3] n h1 (fun v2 h2 => (CallI g m_X10_inv d [.int v2] n h2 (fun v3 h3 => (CallI g m_J3_max d [.int (0 : Int32), .int (((ri h3 a2 1) - (ri h3 a3 1)) + (1 : Int32))] n h3 (fun v4 h4 => (∀ h5, h5 = wi h4 a0 1 v4 → (W_X10_divide g d av Q n 37 [some (.ref a0), some (.ref a1), some (.ref a2), some (.ref a3), some (.int v3), none, none, none] [] h5)))))))))) : W_X10_divide g d av Q n 0 [some (.ref a0), some (.ref a1), some (.ref a2), some (.ref a3), none, none, none, none] [] h := by
  refine r_aload_n dX10_divide_0 rfl rfl ?_
  refine r_aload_n dX10_divide_1 rfl rfl ?_
  refine k_SV (As := [.ref a1, .ref a2]) (stk := []) cs_X10_62 dX10_divide_2 rfl (Nat.le_of_ble_eq_true rfl) (H.mono (fun h1 H => ?_)) ⟨Nat.le_refl _, Nat.le_refl _⟩
  refine r_aload_n dX10_divide_5 rfl rfl ?_
  refine k_VI (As := []) (stk := []) hp cv_X10_66 dX10_divide_6 rfl (Nat.le_of_ble_eq_true rfl) t3 (H.mono (fun v2 h2 H => ?_)) ⟨Nat.le_refl _, Nat.le_refl _⟩
  refine k_SI (As := [.int v2]) (stk := []) cs_X10_13 dX10_divide_9 rfl (Nat.le_of_ble_eq_true rfl) (H.mono (fun v3 h3 H => ?_)) ⟨Nat.le_refl _, Nat.le_refl _⟩
  refine r_istore (ls2 := [some (.ref a0), some (.ref a1), some (.ref a2), some (.ref a3), some (.int v3), none, none, none]) dX10_divide_12 (by decide) rfl ?_
  refine r_aload_n dX10_divide_14 rfl rfl ?_
  refine r_ifnull dX10_divide_15 ?_
  refine r_aload_n dX10_divide_18 rfl rfl ?_
  refine r_iconst (v := (0 : Int32)) dX10_divide_19 rfl ?_
  refine r_aload_n dX10_divide_20 rfl rfl ?_
  refine m_getI hp fw_X10_25 dX10_divide_21 rfl t2 ?_
  refine r_aload_n dX10_divide_24 rfl rfl ?_
  refine m_getI hp fw_X10_25 dX10_divide_25 rfl t3 ?_
  refine r_isub dX10_divide_28 ?_
  refine r_iconst (v := (1 : Int32)) dX10_divide_29 rfl ?_
  refine r_iadd dX10_divide_30 ?_
  refine k_SI (As := [.int (0 : Int32), .int (((ri h3 a2 1) - (ri h3 a3 1)) + (1 : Int32))]) (stk := [.ref a0]) cs_X10_40 dX10_divide_31 rfl (Nat.le_of_ble_eq_true rfl) (H.mono (fun v4 h4 H => ?_)) ⟨Nat.le_refl _, Nat.le_refl _⟩
  refine m_putI hp fw_X10_25 dX10_divide_34 rfl rfl t0 (fun h5 eh5 => ?_)
  replace H := H h5 eh5
  exact H
theorem s_X10_divide_37 {g : GX} {d : Nat} {av : List Value} {Q : QT} {n : Nat} {h : Hp} {a0 : Nat} {a1 : Nat} {a2 : Nat} {a3 : Nat} {x4 : Int32} (hp : g.2.2.2.2 = true) (t0 : lay a0 = (0, 13, 2)) (t1 : lay a1 = (0, 13, 2)) (t2 : lay a2 = (0, 13, 2)) (t3 : lay a3 = (0, 13, 2)) (H : W_X10_divide g d av Q n 48 [some (.ref a0), some (.ref a1), none, some (.ref a3), some (.int x4), some (.int ((ri h a2 1) - (ri h a3 1))), none, none] [] h) : W_X10_divide g d av Q n 37 [some (.ref a0), some (.ref a1), some (.ref a2), some (.ref a3), some (.int x4), none, none, none] [] h := by
  refine r_aload_n dX10_divide_37 rfl rfl ?_
  refine m_getI hp fw_X10_25 dX10_divide_38 rfl t2 ?_
  refine r_aload_n dX10_divide_41 rfl rfl ?_
  refine m_getI hp fw_X10_25 dX10_divide_42 rfl t3 ?_
  refine r_isub dX10_divide_45 ?_
  refine r_istore (ls2 := [some (.ref a0), some (.ref a1), some (.ref a2), some (.ref a3), some (.int x4), some (.int ((ri h a2 1) - (ri h a3 1))), none, none]) dX10_divide_46 (by decide) rfl ?_
  refine r_prune [true, true, false, true, true, true, false, false] (ls2 := [some (.ref a0), some (.ref a1), none, some (.ref a3), some (.int x4), some (.int ((ri h a2 1) - (ri h a3 1))), none, none]) rfl ?_
  exact H
theorem s_X10_divide_48 {g : GX} {d : Nat} {av : List Value} {Q : QT} {n : Nat} {h : Hp} {a0 : Nat} {a1 : Nat} {a3 : Nat} {x4 : Int32} {x5 : Int32} (hp : g.2.2.2.2 = true) (t0 : lay a0 = (0, 13, 2)) (t1 : lay a1 = (0, 13, 2)) (t3 : lay a3 = (0, 13, 2)) (H : ((x5 < (0 : Int32)) → (CallV g m_X13_trim d [.ref a1] n h (fun h1 => (Q none n h1)))) ∧ ((¬ x5 < (0 : Int32)) → ((((ri h a1 1) ≤ ((x5 + (ri h a3 1)) - (1 : Int32))) → (W_X10_divide g d av Q n 92 [some (.ref a0), some (.ref a1), none, some (.ref a3), some (.int x4), some (.int x5), none, none] [.int (0 : Int32)] h)) ∧ ((¬ (ri h a1 1) ≤ ((x5 + (ri h a3 1)) - (1 : Int32))) → (vp_in ((x5 + (ri h a3 1)) - (1 : Int32)) (rm (a1 + 1)) ∧ (CallI g m_X10_mul d [.int (ri h (a1 + 1) (((x5 + (ri h a3 1)) - (1 : Int32))).toNatClampNeg), .int x4] n h (fun v2 h2 => (W_X10_divide g d av Q n 92 [some (.ref a0), some (.ref a1), none, some (.ref a3), some (.int x4), some (.int x5), none, none] [.int v2] h2)))))))) : W_X10_divide g d av Q n 48 [some (.ref a0), some (.ref a1), none, some (.ref a3), some (.int x4), some (.int x5), none, none] [] h := by
  refine r_iload dX10_divide_48 rfl ?_
  refine r_if_lt (tgt := 171) dX10_divide_50 rfl (fun cH => ?_) (fun cH => ?_)
  · replace H := H.1 cH
    refine r_aload_n dX10_divide_171 rfl rfl ?_
    refine k_VV (As := []) (stk := []) hp cv_X10_52 dX10_divide_172 rfl (Nat.le_of_ble_eq_true rfl) t1 (H.mono (fun h1 H => ?_)) ⟨Nat.le_refl _, Nat.le_refl _⟩
    exact r_vret dX10_divide_175 rfl (Nat.le_refl _) (Nat.le_refl _) H
  · replace H := H.2 cH
    refine r_iload dX10_divide_53 rfl ?_
    refine r_aload_n dX10_divide_55 rfl rfl ?_
    refine m_getI hp fw_X10_25 dX10_divide_56 rfl t3 ?_
    refine r_iadd dX10_divide_59 ?_
    refine r_iconst (v := (1 : Int32)) dX10_divide_60 rfl ?_
    refine r_isub dX10_divide_61 ?_
    refine r_aload_n dX10_divide_62 rfl rfl ?_
    refine m_getI hp fw_X10_25 dX10_divide_63 rfl t1 ?_
    refine r_icmp_ge (tgt := 91) dX10_divide_66 rfl (fun cH => ?_) (fun cH => ?_)
    · replace H := H.1 cH
      refine r_iconst (v := (0 : Int32)) dX10_divide_91 rfl ?_
      exact H
    · replace H := H.2 cH
      refine r_aload_n dX10_divide_69 rfl rfl ?_
      refine m_getF (x := (a1 + 1)) hp fw_X10_30 dX10_divide_70 rfl t1 (ff_13_0 t1) ?_
      refine r_iload dX10_divide_73 rfl ?_
      refine r_aload_n dX10_divide_75 rfl rfl ?_
      refine m_getI hp fw_X10_25 dX10_divide_76 rfl t3 ?_
      refine r_iadd dX10_divide_79 ?_
      refine r_iconst (v := (1 : Int32)) dX10_divide_80 rfl ?_
      refine r_isub dX10_divide_81 ?_
      refine m_iald hp dX10_divide_82 (lf_13_0 t1) H.1 ?_
      replace H := H.2
      refine r_iload dX10_divide_83 rfl ?_
      refine k_SI (As := [.int (ri h (a1 + 1) (((x5 + (ri h a3 1)) - (1 : Int32))).toNatClampNeg), .int x4]) (stk := []) cs_X10_56 dX10_divide_85 rfl (Nat.le_of_ble_eq_true rfl) (H.mono (fun v2 h2 H => ?_)) ⟨Nat.le_refl _, Nat.le_refl _⟩
      refine r_goto (tgt := 92) dX10_divide_88 rfl ?_
      exact H
theorem s_X10_divide_92 {g : GX} {d : Nat} {av : List Value} {Q : QT} {n : Nat} {h : Hp} {a0 : Nat} {a1 : Nat} {a3 : Nat} {x4 : Int32} {x5 : Int32} {xs0 : Int32} (hp : g.2.2.2.2 = true) (t0 : lay a0 = (0, 13, 2)) (t1 : lay a1 = (0, 13, 2)) (t3 : lay a3 = (0, 13, 2)) (H : vp_in x5 (rm (a0 + 1)) ∧ ∀ h1, h1 = wi h (a0 + 1) (x5).toNatClampNeg xs0 → (W_X10_divide g d av Q n 107 [some (.ref a0), some (.ref a1), none, some (.ref a3), some (.int x4), some (.int x5), some (.int xs0), none] [] h1)) : W_X10_divide g d av Q n 92 [some (.ref a0), some (.ref a1), none, some (.ref a3), some (.int x4), some (.int x5), none, none] [.int xs0] h := by
  refine r_istore (ls2 := [some (.ref a0), some (.ref a1), none, some (.ref a3), some (.int x4), some (.int x5), some (.int xs0), none]) dX10_divide_92 (by decide) rfl ?_
  refine r_aload_n dX10_divide_94 rfl rfl ?_
  refine r_ifnull dX10_divide_95 ?_
  refine r_aload_n dX10_divide_98 rfl rfl ?_
  refine m_getF (x := (a0 + 1)) hp fw_X10_30 dX10_divide_99 rfl t0 (ff_13_0 t0) ?_
  refine r_iload dX10_divide_102 rfl ?_
  refine r_iload dX10_divide_104 rfl ?_
  refine m_iast hp dX10_divide_106 (lf_13_0 t0) H.1 (fun h1 eh1 => ?_)
  replace H := H.2 h1 eh1
  exact H
theorem s_X10_divide_107 {g : GX} {d : Nat} {av : List Value} {Q : QT} {n : Nat} {h : Hp} {a0 : Nat} {a1 : Nat} {a3 : Nat} {x4 : Int32} {x5 : Int32} {x6 : Int32} (hp : g.2.2.2.2 = true) (t0 : lay a0 = (0, 13, 2)) (t1 : lay a1 = (0, 13, 2)) (t3 : lay a3 = (0, 13, 2)) (H : W_X10_divide g d av Q n 110 [some (.ref a0), some (.ref a1), none, some (.ref a3), some (.int x4), some (.int x5), some (.int x6), some (.int (0 : Int32))] [] h) : W_X10_divide g d av Q n 107 [some (.ref a0), some (.ref a1), none, some (.ref a3), some (.int x4), some (.int x5), some (.int x6), none] [] h := by
  refine r_iconst (v := (0 : Int32)) dX10_divide_107 rfl ?_
  refine r_istore (ls2 := [some (.ref a0), some (.ref a1), none, some (.ref a3), some (.int x4), some (.int x5), some (.int x6), some (.int (0 : Int32))]) dX10_divide_108 (by decide) rfl ?_
  exact H
theorem s_X10_divide_110 {g : GX} {d : Nat} {av : List Value} {Q : QT} {n : Nat} {h : Hp} {a0 : Nat} {a1 : Nat} {a3 : Nat} {x4 : Int32} {x5 : Int32} {x6 : Int32} {x7 : Int32} (hp : g.2.2.2.2 = true) (t0 : lay a0 = (0, 13, 2)) (t1 : lay a1 = (0, 13, 2)) (t3 : lay a3 = (0, 13, 2)) (H : (((ri h a3 1) ≤ x7) → (W_X10_divide g d av Q n 165 [some (.ref a0), some (.ref a1), none, some (.ref a3), some (.int x4), some (.int x5), none, none] [] h)) ∧ ((¬ (ri h a3 1) ≤ x7) → (((x6 = (0 : Int32)) → (W_X10_divide g d av Q n 165 [some (.ref a0), some (.ref a1), none, some (.ref a3), some (.int x4), some (.int x5), none, none] [] h)) ∧ ((¬ x6 = (0 : Int32)) → (vp_in (x5 + x7) (rm (a1 + 1)) ∧ (vp_in x7 (rm (a3 + 1)) ∧ (CallI g m_X10_mul d [.int x6, .int (ri h (a3 + 1) (x7).toNatClampNeg)] n h (fun v1 h1 => (CallI g m_X10_sub d [.int (ri h (a1 + 1) ((x5 + x7)).toNatClampNeg), .int v1] n h1 (fun v2 h2 => (vp_in (x5 + x7) (rm (a1 + 1)) ∧ ∀ h3, h3 = wi h2 (a1 + 1) ((x5 + x7)).toNatClampNeg v2 → (W_X10_divide g d av Q n 110 [some (.ref a0), some (.ref a1), none, some (.ref a3), some (.int x4), some (.int x5), some (.int x6), some (.int (x7 + (1 : Int32)))] [] h3)))))))))))) : W_X10_divide g d av Q n 110 [some (.ref a0), some (.ref a1), none, some (.ref a3), some (.int x4), some (.int x5), some (.int x6), some (.int x7)] [] h := by
  refine r_iload dX10_divide_110 rfl ?_
  refine r_aload_n dX10_divide_112 rfl rfl ?_
  refine m_getI hp fw_X10_25 dX10_divide_113 rfl t3 ?_
  refine r_icmp_ge (tgt := 165) dX10_divide_116 rfl (fun cH => ?_) (fun cH => ?_)
  · replace H := H.1 cH
    refine r_prune [true, true, false, true, true, true, false, false] (ls2 := [some (.ref a0), some (.ref a1), none, some (.ref a3), some (.int x4), some (.int x5), none, none]) rfl ?_
    exact H
  · replace H := H.2 cH
    refine r_iload dX10_divide_119 rfl ?_
    refine r_if_eq (tgt := 165) dX10_divide_121 rfl (fun cH => ?_) (fun cH => ?_)
    · replace H := H.1 cH
      refine r_prune [true, true, false, true, true, true, false, false] (ls2 := [some (.ref a0), some (.ref a1), none, some (.ref a3), some (.int x4), some (.int x5), none, none]) rfl ?_
      exact H
    · replace H := H.2 cH
      refine r_aload_n dX10_divide_124 rfl rfl ?_
      refine m_getF (x := (a1 + 1)) hp fw_X10_30 dX10_divide_125 rfl t1 (ff_13_0 t1) ?_
      refine r_iload dX10_divide_128 rfl ?_
      refine r_iload dX10_divide_130 rfl ?_
      refine r_iadd dX10_divide_132 ?_
      refine r_aload_n dX10_divide_133 rfl rfl ?_
      refine m_getF (x := (a1 + 1)) hp fw_X10_30 dX10_divide_134 rfl t1 (ff_13_0 t1) ?_
      refine r_iload dX10_divide_137 rfl ?_
      refine r_iload dX10_divide_139 rfl ?_
      refine r_iadd dX10_divide_141 ?_
      refine m_iald hp dX10_divide_142 (lf_13_0 t1) H.1 ?_
      replace H := H.2
      refine r_iload dX10_divide_143 rfl ?_
      refine r_aload_n dX10_divide_145 rfl rfl ?_
      refine m_getF (x := (a3 + 1)) hp fw_X10_30 dX10_divide_146 rfl t3 (ff_13_0 t3) ?_
      refine r_iload dX10_divide_149 rfl ?_
      refine m_iald hp dX10_divide_151 (lf_13_0 t3) H.1 ?_
      replace H := H.2
      refine k_SI (As := [.int x6, .int (ri h (a3 + 1) (x7).toNatClampNeg)]) (stk := [.int (ri h (a1 + 1) ((x5 + x7)).toNatClampNeg), .int (x5 + x7), .ref (a1 + 1)]) cs_X10_56 dX10_divide_152 rfl (Nat.le_of_ble_eq_true rfl) (H.mono (fun v1 h1 H => ?_)) ⟨Nat.le_refl _, Nat.le_refl _⟩
      refine k_SI (As := [.int (ri h (a1 + 1) ((x5 + x7)).toNatClampNeg), .int v1]) (stk := [.int (x5 + x7), .ref (a1 + 1)]) cs_X10_46 dX10_divide_155 rfl (Nat.le_of_ble_eq_true rfl) (H.mono (fun v2 h2 H => ?_)) ⟨Nat.le_refl _, Nat.le_refl _⟩
      refine m_iast hp dX10_divide_158 (lf_13_0 t1) H.1 (fun h3 eh3 => ?_)
      replace H := H.2 h3 eh3
      refine r_iinc (v := (x7 + (1 : Int32))) (ls2 := [some (.ref a0), some (.ref a1), none, some (.ref a3), some (.int x4), some (.int x5), some (.int x6), some (.int (x7 + (1 : Int32)))]) dX10_divide_159 rfl rfl (by decide) rfl ?_
      refine r_goto (tgt := 110) dX10_divide_162 rfl ?_
      exact H
theorem s_X10_divide_165 {g : GX} {d : Nat} {av : List Value} {Q : QT} {n : Nat} {h : Hp} {a0 : Nat} {a1 : Nat} {a3 : Nat} {x4 : Int32} {x5 : Int32} (hp : g.2.2.2.2 = true) (t0 : lay a0 = (0, 13, 2)) (t1 : lay a1 = (0, 13, 2)) (t3 : lay a3 = (0, 13, 2)) (H : W_X10_divide g d av Q n 48 [some (.ref a0), some (.ref a1), none, some (.ref a3), some (.int x4), some (.int (x5 + (-1 : Int32))), none, none] [] h) : W_X10_divide g d av Q n 165 [some (.ref a0), some (.ref a1), none, some (.ref a3), some (.int x4), some (.int x5), none, none] [] h := by
  refine r_iinc (v := (x5 + (-1 : Int32))) (ls2 := [some (.ref a0), some (.ref a1), none, some (.ref a3), some (.int x4), some (.int (x5 + (-1 : Int32))), none, none]) dX10_divide_165 rfl rfl (by decide) rfl ?_
  refine r_goto (tgt := 48) dX10_divide_168 rfl ?_
  exact H
abbrev W_X10_monic (g : GX) (d : Nat) (av : List Value) (Q : QT) (n : Nat) (pc : Nat) (ls : LV) (stk : List Value) (h : Hp) : Prop := RJ g m_X10_monic (d + 1) 0 0 av Q pc ls stk n h 0 0
theorem s_X10_monic_0 {g : GX} {d : Nat} {av : List Value} {Q : QT} {n : Nat} {h : Hp} {a1 : Nat} (hp : g.2.2.2.2 = true) (t1 : lay a1 = (0, 13, 2)) (H : (((ri h a1 1) ≤ (0 : Int32)) → (Q none n h)) ∧ ((¬ (ri h a1 1) ≤ (0 : Int32)) → (CallI g m_X13_head d [.ref a1] n h (fun v1 h1 => (CallI g m_X10_inv d [.int v1] n h1 (fun v2 h2 => (CallV g m_X10_scale_2 d [.ref a1, .ref a1, .int v2] n h2 (fun h3 => (Q none n h3))))))))) : W_X10_monic g d av Q n 0 [some (.ref 2759), some (.ref a1)] [] h := by
  refine r_aload_n dX10_monic_0 rfl rfl ?_
  refine m_getI hp fw_X10_25 dX10_monic_1 rfl t1 ?_
  refine r_if_le (tgt := 19) dX10_monic_4 rfl (fun cH => ?_) (fun cH => ?_)
  · replace H := H.1 cH
    exact r_vret dX10_monic_19 rfl (Nat.le_refl _) (Nat.le_refl _) H
  · replace H := H.2 cH
    refine r_aload_n dX10_monic_7 rfl rfl ?_
    refine r_aload_n dX10_monic_8 rfl rfl ?_
    refine r_aload_n dX10_monic_9 rfl rfl ?_
    refine k_VI (As := []) (stk := [.ref a1, .ref a1]) hp cv_X10_66 dX10_monic_10 rfl (Nat.le_of_ble_eq_true rfl) t1 (H.mono (fun v1 h1 H => ?_)) ⟨Nat.le_refl _, Nat.le_refl _⟩
    refine k_SI (As := [.int v1]) (stk := [.ref a1, .ref a1]) cs_X10_13 dX10_monic_13 rfl (Nat.le_of_ble_eq_true rfl) (H.mono (fun v2 h2 H => ?_)) ⟨Nat.le_refl _, Nat.le_refl _⟩
    refine k_SV (As := [.ref a1, .ref a1, .int v2]) (stk := []) cs_X10_70 dX10_monic_16 rfl (Nat.le_of_ble_eq_true rfl) (H.mono (fun h3 H => ?_)) ⟨Nat.le_refl _, Nat.le_refl _⟩
    exact r_vret dX10_monic_19 rfl (Nat.le_refl _) (Nat.le_refl _) H
abbrev W_X10_byU (g : GX) (d : Nat) (av : List Value) (Q : QT) (n : Nat) (pc : Nat) (ls : LV) (stk : List Value) (h : Hp) : Prop := RJ g m_X10_byU (d + 1) 0 0 av Q pc ls stk n h 0 0
theorem s_X10_byU_0 {g : GX} {d : Nat} {av : List Value} {Q : QT} {n : Nat} {h : Hp} {a1 : Nat} {a2 : Nat} {a3 : Nat} (hp : g.2.2.2.2 = true) (t1 : lay a1 = (0, 14, 2)) (t2 : lay a2 = (0, 14, 2)) (t3 : lay a3 = (0, 13, 2)) (H : W_X10_byU g d av Q n 3 [some (.ref 2759), some (.ref a1), some (.ref a2), some (.ref a3), some (.int (0 : Int32))] [] h) : W_X10_byU g d av Q n 0 [some (.ref 2759), some (.ref a1), some (.ref a2), some (.ref a3), none] [] h := by
  refine r_iconst (v := (0 : Int32)) dX10_byU_0 rfl ?_
  refine r_istore (ls2 := [some (.ref 2759), some (.ref a1), some (.ref a2), some (.ref a3), some (.int (0 : Int32))]) dX10_byU_1 (by decide) rfl ?_
  exact H
theorem s_X10_byU_3 {g : GX} {d : Nat} {av : List Value} {Q : QT} {n : Nat} {h : Hp} {a1 : Nat} {a2 : Nat} {a3 : Nat} {x4 : Int32} (hp : g.2.2.2.2 = true) (t1 : lay a1 = (0, 14, 2)) (t2 : lay a2 = (0, 14, 2)) (t3 : lay a3 = (0, 13, 2)) (H : (((ri h a2 1) ≤ x4) → (∀ h1, h1 = wi h a1 1 (ri h a2 1) → (Q none n h1))) ∧ ((¬ (ri h a2 1) ≤ x4) → (vp_in x4 64 ∧ ∀ r2, r2 = (a1 + 2) + 2 * (x4).toNatClampNeg → (vp_in x4 64 ∧ ∀ r3, r3 = (a2 + 2) + 2 * (x4).toNatClampNeg → (CallV g m_X10_exact d [.ref 2759, .ref r2, .ref r3, .ref a3] n h (fun h4 => (W_X10_byU g d av Q n 3 [some (.ref 2759), some (.ref a1), some (.ref a2), some (.ref a3), some (.int (x4 + (1 : Int32)))] [] h4))))))) : W_X10_byU g d av Q n 3 [some (.ref 2759), some (.ref a1), some (.ref a2), some (.ref a3), some (.int x4)] [] h := by
  refine r_iload dX10_byU_3 rfl ?_
  refine r_aload_n dX10_byU_5 rfl rfl ?_
  refine m_getI hp fw_X10_93 dX10_byU_6 rfl t2 ?_
  refine r_icmp_ge (tgt := 37) dX10_byU_9 rfl (fun cH => ?_) (fun cH => ?_)
  · replace H := H.1 cH
    refine r_aload_n dX10_byU_37 rfl rfl ?_
    refine r_aload_n dX10_byU_38 rfl rfl ?_
    refine m_getI hp fw_X10_93 dX10_byU_39 rfl t2 ?_
    refine m_putI hp fw_X10_93 dX10_byU_42 rfl rfl t1 (fun h1 eh1 => ?_)
    replace H := H h1 eh1
    exact r_vret dX10_byU_45 rfl (Nat.le_refl _) (Nat.le_refl _) H
  · replace H := H.2 cH
    refine r_aload_n dX10_byU_12 rfl rfl ?_
    refine r_aload_n dX10_byU_13 rfl rfl ?_
    refine m_getF (x := (a1 + 1)) hp fw_X10_98 dX10_byU_14 rfl t1 (ff_14_0 t1) ?_
    refine r_iload dX10_byU_17 rfl ?_
    obtain ⟨r2, er2⟩ : ∃ y, y = (a1 + 2) + 2 * (x4).toNatClampNeg := ⟨_, rfl⟩
    have hir2 := H.1
    replace H := H.2 r2 er2
    have tLr2 := le_14 t1 hir2 er2
    refine m_aalF (x := r2) hp dX10_byU_19 (lf_14_0 t1) rfl rfl (lu_14_0 t1) hir2 (fe_14 t1 hir2 er2) ?_
    refine r_aload_n dX10_byU_20 rfl rfl ?_
    refine m_getF (x := (a2 + 1)) hp fw_X10_98 dX10_byU_21 rfl t2 (ff_14_0 t2) ?_
    refine r_iload dX10_byU_24 rfl ?_
    obtain ⟨r3, er3⟩ : ∃ y, y = (a2 + 2) + 2 * (x4).toNatClampNeg := ⟨_, rfl⟩
    have hir3 := H.1
    replace H := H.2 r3 er3
    have tLr3 := le_14 t2 hir3 er3
    refine m_aalF (x := r3) hp dX10_byU_26 (lf_14_0 t2) rfl rfl (lu_14_0 t2) hir3 (fe_14 t2 hir3 er3) ?_
    refine r_aload_n dX10_byU_27 rfl rfl ?_
    refine k_VV (As := [.ref r2, .ref r3, .ref a3]) (stk := []) hp cv_X10_110 dX10_byU_28 rfl (Nat.le_of_ble_eq_true rfl) ly_10 (H.mono (fun h4 H => ?_)) ⟨Nat.le_refl _, Nat.le_refl _⟩
    refine r_iinc (v := (x4 + (1 : Int32))) (ls2 := [some (.ref 2759), some (.ref a1), some (.ref a2), some (.ref a3), some (.int (x4 + (1 : Int32)))]) dX10_byU_31 rfl rfl (by decide) rfl ?_
    refine r_goto (tgt := 3) dX10_byU_34 rfl ?_
    exact H
abbrev W_X10_exact (g : GX) (d : Nat) (av : List Value) (Q : QT) (n : Nat) (pc : Nat) (ls : LV) (stk : List Value) (h : Hp) : Prop := RJ g m_X10_exact (d + 1) 0 0 av Q pc ls stk n h 0 0
theorem s_X10_exact_0 {g : GX} {d : Nat} {av : List Value} {Q : QT} {n : Nat} {h : Hp} {a1 : Nat} {a2 : Nat} {a3 : Nat} (hp : g.2.2.2.2 = true) (t1 : lay a1 = (0, 13, 2)) (t2 : lay a2 = (0, 13, 2)) (t3 : lay a3 = (0, 13, 2)) (H : CallR g m_X10_newU d [.ref 2759] n h (fun v1 h1 => (lay v1 = (0, 13, 2) ∧ (CallR g m_X10_newU d [.ref 2759] n h1 (fun v2 h2 => (lay v2 = (0, 13, 2) ∧ (CallV g m_X10_divide d [.ref v1, .ref v2, .ref a2, .ref a3] n h2 (fun h3 => (CallV g m_X10_set_2 d [.ref a1, .ref v1] n h3 (fun h4 => (∀ h5, h5 = wi h4 2759 1 (ri h 2759 1) → (Q none n h5)))))))))))) : W_X10_exact g d av Q n 0 [some (.ref 2759), some (.ref a1), some (.ref a2), some (.ref a3), none, none, none] [] h := by
  refine r_aload_n dX10_exact_0 rfl rfl ?_
  refine m_getI hp fw_X10_21 dX10_exact_1 rfl ly_10 ?_
  refine r_istore (ls2 := [some (.ref 2759), some (.ref a1), some (.ref a2), some (.ref a3), some (.int (ri h 2759 1)), none, none]) dX10_exact_4 (by decide) rfl ?_
  refine r_aload_n dX10_exact_6 rfl rfl ?_
  refine k_VR (As := []) (stk := []) hp cv_X10_74 dX10_exact_7 rfl (Nat.le_of_ble_eq_true rfl) ly_10 (H.mono (fun v1 h1 H => ?_)) ⟨Nat.le_refl _, Nat.le_refl _⟩
  obtain ⟨tv1, H⟩ := H
  refine r_astore (ls2 := [some (.ref 2759), some (.ref a1), some (.ref a2), some (.ref a3), some (.int (ri h 2759 1)), some (.ref v1), none]) dX10_exact_10 (by decide) rfl ?_
  refine r_aload_n dX10_exact_12 rfl rfl ?_
  refine k_VR (As := []) (stk := []) hp cv_X10_74 dX10_exact_13 rfl (Nat.le_of_ble_eq_true rfl) ly_10 (H.mono (fun v2 h2 H => ?_)) ⟨Nat.le_refl _, Nat.le_refl _⟩
  obtain ⟨tv2, H⟩ := H
  refine r_astore (ls2 := [some (.ref 2759), some (.ref a1), some (.ref a2), some (.ref a3), some (.int (ri h 2759 1)), some (.ref v1), some (.ref v2)]) dX10_exact_16 (by decide) rfl ?_
  refine r_aload dX10_exact_18 rfl ?_
  refine r_aload dX10_exact_20 rfl ?_
  refine r_aload_n dX10_exact_22 rfl rfl ?_
  refine r_aload_n dX10_exact_23 rfl rfl ?_
  refine k_SV (As := [.ref v1, .ref v2, .ref a2, .ref a3]) (stk := []) cs_X10_78 dX10_exact_24 rfl (Nat.le_of_ble_eq_true rfl) (H.mono (fun h3 H => ?_)) ⟨Nat.le_refl _, Nat.le_refl _⟩
  refine r_aload_n dX10_exact_27 rfl rfl ?_
  refine r_aload dX10_exact_28 rfl ?_
  refine k_SV (As := [.ref a1, .ref v1]) (stk := []) cs_X10_62 dX10_exact_30 rfl (Nat.le_of_ble_eq_true rfl) (H.mono (fun h4 H => ?_)) ⟨Nat.le_refl _, Nat.le_refl _⟩
  refine r_aload_n dX10_exact_33 rfl rfl ?_
  refine r_iload dX10_exact_34 rfl ?_
  refine m_putI hp fw_X10_21 dX10_exact_36 rfl rfl ly_10 (fun h5 eh5 => ?_)
  replace H := H h5 eh5
  exact r_vret dX10_exact_39 rfl (Nat.le_refl _) (Nat.le_refl _) H
abbrev W_X10_gcdK (g : GX) (d : Nat) (av : List Value) (Q : QT) (n : Nat) (pc : Nat) (ls : LV) (stk : List Value) (h : Hp) : Prop := RJ g m_X10_gcdK (d + 1) 0 0 av Q pc ls stk n h 0 0
theorem s_X10_gcdK_0 {g : GX} {d : Nat} {av : List Value} {Q : QT} {n : Nat} {h : Hp} {a1 : Nat} {a2 : Nat} {a3 : Nat} (hp : g.2.2.2.2 = true) (t1 : lay a1 = (0, 14, 2)) (t2 : lay a2 = (0, 14, 2)) (t3 : lay a3 = (0, 14, 2)) (H : CallR g m_X10_newU d [.ref 2759] n h (fun v1 h1 => (lay v1 = (0, 13, 2) ∧ (CallR g m_X14_lead d [.ref a2] n h1 (fun v2 h2 => (lay v2 = (0, 13, 2) ∧ (CallR g m_X14_lead d [.ref a3] n h2 (fun v3 h3 => (lay v3 = (0, 13, 2) ∧ (CallV g m_X10_gcd_2 d [.ref 2759, .ref v1, .ref v2, .ref v3] n h3 (fun h4 => (CallR g m_X10_newU d [.ref 2759] n h4 (fun v5 h5 => (lay v5 = (0, 13, 2) ∧ (CallR g m_X10_newU d [.ref 2759] n h5 (fun v6 h6 => (lay v6 = (0, 13, 2) ∧ (CallR g m_X10_newU d [.ref 2759] n h6 (fun v7 h7 => (lay v7 = (0, 13, 2) ∧ (CallR g m_X10_newB d [.ref 2759] n h7 (fun v8 h8 => (lay v8 = (0, 14, 2) ∧ (CallI g m_X14_degreeN d [.ref a2] n h8 (fun v9 h9 => (CallI g m_X14_degreeN d [.ref a3] n h9 (fun v10 h10 => (CallI g m_J3_min d [.int v9, .int v10] n h10 (fun v11 h11 => (W_X10_gcdK g d av Q n 88 [some (.ref 2759), some (.ref a1), some (.ref a2), some (.ref a3), some (.int (ri h 2759 1)), some (.int (ri h 2759 3)), some (.ref v1), some (.ref v5), some (.ref v6), some (.ref v7), some (.ref v8), some (.int (v11 + (ri h11 v1 1))), some (.int (65 : Int32)), some (.int (0 : Int32)), some (.int (0 : Int32)), some (.int (0 : Int32)), none, none] [] h11)))))))))))))))))))))))))))))) : W_X10_gcdK g d av Q n 0 [some (.ref 2759), some (.ref a1), some (.ref a2), some (.ref a3), none, none, none, none, none, none, none, none, none, none, none, none, none, none] [] h := by
  refine r_aload_n dX10_gcdK_0 rfl rfl ?_
  refine m_getI hp fw_X10_21 dX10_gcdK_1 rfl ly_10 ?_
  refine r_istore (ls2 := [some (.ref 2759), some (.ref a1), some (.ref a2), some (.ref a3), some (.int (ri h 2759 1)), none, none, none, none, none, none, none, none, none, none, none, none, none]) dX10_gcdK_4 (by decide) rfl ?_
  refine r_aload_n dX10_gcdK_6 rfl rfl ?_
  refine m_getI hp fw_X10_90 dX10_gcdK_7 rfl ly_10 ?_
  refine r_istore (ls2 := [some (.ref 2759), some (.ref a1), some (.ref a2), some (.ref a3), some (.int (ri h 2759 1)), some (.int (ri h 2759 3)), none, none, none, none, none, none, none, none, none, none, none, none]) dX10_gcdK_10 (by decide) rfl ?_
  refine r_aload_n dX10_gcdK_12 rfl rfl ?_
  refine k_VR (As := []) (stk := []) hp cv_X10_74 dX10_gcdK_13 rfl (Nat.le_of_ble_eq_true rfl) ly_10 (H.mono (fun v1 h1 H => ?_)) ⟨Nat.le_refl _, Nat.le_refl _⟩
  obtain ⟨tv1, H⟩ := H
  refine r_astore (ls2 := [some (.ref 2759), some (.ref a1), some (.ref a2), some (.ref a3), some (.int (ri h 2759 1)), some (.int (ri h 2759 3)), some (.ref v1), none, none, none, none, none, none, none, none, none, none, none]) dX10_gcdK_16 (by decide) rfl ?_
  refine r_aload_n dX10_gcdK_18 rfl rfl ?_
  refine r_aload dX10_gcdK_19 rfl ?_
  refine r_aload_n dX10_gcdK_21 rfl rfl ?_
  refine k_VR (As := []) (stk := [.ref v1, .ref 2759]) hp cv_X10_144 dX10_gcdK_22 rfl (Nat.le_of_ble_eq_true rfl) t2 (H.mono (fun v2 h2 H => ?_)) ⟨Nat.le_refl _, Nat.le_refl _⟩
  obtain ⟨tv2, H⟩ := H
  refine r_aload_n dX10_gcdK_25 rfl rfl ?_
  refine k_VR (As := []) (stk := [.ref v2, .ref v1, .ref 2759]) hp cv_X10_144 dX10_gcdK_26 rfl (Nat.le_of_ble_eq_true rfl) t3 (H.mono (fun v3 h3 H => ?_)) ⟨Nat.le_refl _, Nat.le_refl _⟩
  obtain ⟨tv3, H⟩ := H
  refine k_VV (As := [.ref v1, .ref v2, .ref v3]) (stk := []) hp cv_X10_125 dX10_gcdK_29 rfl (Nat.le_of_ble_eq_true rfl) ly_10 (H.mono (fun h4 H => ?_)) ⟨Nat.le_refl _, Nat.le_refl _⟩
  refine r_aload_n dX10_gcdK_32 rfl rfl ?_
  refine k_VR (As := []) (stk := []) hp cv_X10_74 dX10_gcdK_33 rfl (Nat.le_of_ble_eq_true rfl) ly_10 (H.mono (fun v5 h5 H => ?_)) ⟨Nat.le_refl _, Nat.le_refl _⟩
  obtain ⟨tv5, H⟩ := H
  refine r_astore (ls2 := [some (.ref 2759), some (.ref a1), some (.ref a2), some (.ref a3), some (.int (ri h 2759 1)), some (.int (ri h 2759 3)), some (.ref v1), some (.ref v5), none, none, none, none, none, none, none, none, none, none]) dX10_gcdK_36 (by decide) rfl ?_
  refine r_aload_n dX10_gcdK_38 rfl rfl ?_
  refine k_VR (As := []) (stk := []) hp cv_X10_74 dX10_gcdK_39 rfl (Nat.le_of_ble_eq_true rfl) ly_10 (H.mono (fun v6 h6 H => ?_)) ⟨Nat.le_refl _, Nat.le_refl _⟩
  obtain ⟨tv6, H⟩ := H
  refine r_astore (ls2 := [some (.ref 2759), some (.ref a1), some (.ref a2), some (.ref a3), some (.int (ri h 2759 1)), some (.int (ri h 2759 3)), some (.ref v1), some (.ref v5), some (.ref v6), none, none, none, none, none, none, none, none, none]) dX10_gcdK_42 (by decide) rfl ?_
  refine r_aload_n dX10_gcdK_44 rfl rfl ?_
  refine k_VR (As := []) (stk := []) hp cv_X10_74 dX10_gcdK_45 rfl (Nat.le_of_ble_eq_true rfl) ly_10 (H.mono (fun v7 h7 H => ?_)) ⟨Nat.le_refl _, Nat.le_refl _⟩
  obtain ⟨tv7, H⟩ := H
  refine r_astore (ls2 := [some (.ref 2759), some (.ref a1), some (.ref a2), some (.ref a3), some (.int (ri h 2759 1)), some (.int (ri h 2759 3)), some (.ref v1), some (.ref v5), some (.ref v6), some (.ref v7), none, none, none, none, none, none, none, none]) dX10_gcdK_48 (by decide) rfl ?_
  refine r_aload_n dX10_gcdK_50 rfl rfl ?_
  refine k_VR (As := []) (stk := []) hp cv_X10_140 dX10_gcdK_51 rfl (Nat.le_of_ble_eq_true rfl) ly_10 (H.mono (fun v8 h8 H => ?_)) ⟨Nat.le_refl _, Nat.le_refl _⟩
  obtain ⟨tv8, H⟩ := H
  refine r_astore (ls2 := [some (.ref 2759), some (.ref a1), some (.ref a2), some (.ref a3), some (.int (ri h 2759 1)), some (.int (ri h 2759 3)), some (.ref v1), some (.ref v5), some (.ref v6), some (.ref v7), some (.ref v8), none, none, none, none, none, none, none]) dX10_gcdK_54 (by decide) rfl ?_
  refine r_aload_n dX10_gcdK_56 rfl rfl ?_
  refine k_VI (As := []) (stk := []) hp cv_X10_119 dX10_gcdK_57 rfl (Nat.le_of_ble_eq_true rfl) t2 (H.mono (fun v9 h9 H => ?_)) ⟨Nat.le_refl _, Nat.le_refl _⟩
  refine r_aload_n dX10_gcdK_60 rfl rfl ?_
  refine k_VI (As := []) (stk := [.int v9]) hp cv_X10_119 dX10_gcdK_61 rfl (Nat.le_of_ble_eq_true rfl) t3 (H.mono (fun v10 h10 H => ?_)) ⟨Nat.le_refl _, Nat.le_refl _⟩
  refine k_SI (As := [.int v9, .int v10]) (stk := []) cs_X10_59 dX10_gcdK_64 rfl (Nat.le_of_ble_eq_true rfl) (H.mono (fun v11 h11 H => ?_)) ⟨Nat.le_refl _, Nat.le_refl _⟩
  refine r_aload dX10_gcdK_67 rfl ?_
  refine m_getI hp fw_X10_25 dX10_gcdK_69 rfl tv1 ?_
  refine r_iadd dX10_gcdK_72 ?_
  refine r_istore (ls2 := [some (.ref 2759), some (.ref a1), some (.ref a2), some (.ref a3), some (.int (ri h 2759 1)), some (.int (ri h 2759 3)), some (.ref v1), some (.ref v5), some (.ref v6), some (.ref v7), some (.ref v8), some (.int (v11 + (ri h11 v1 1))), none, none, none, none, none, none]) dX10_gcdK_73 (by decide) rfl ?_
  refine r_bipush (v := (65 : Int32)) dX10_gcdK_75 rfl ?_
  refine r_istore (ls2 := [some (.ref 2759), some (.ref a1), some (.ref a2), some (.ref a3), some (.int (ri h 2759 1)), some (.int (ri h 2759 3)), some (.ref v1), some (.ref v5), some (.ref v6), some (.ref v7), some (.ref v8), some (.int (v11 + (ri h11 v1 1))), some (.int (65 : Int32)), none, none, none, none, none]) dX10_gcdK_77 (by decide) rfl ?_
  refine r_iconst (v := (0 : Int32)) dX10_gcdK_79 rfl ?_
  refine r_istore (ls2 := [some (.ref 2759), some (.ref a1), some (.ref a2), some (.ref a3), some (.int (ri h 2759 1)), some (.int (ri h 2759 3)), some (.ref v1), some (.ref v5), some (.ref v6), some (.ref v7), some (.ref v8), some (.int (v11 + (ri h11 v1 1))), some (.int (65 : Int32)), some (.int (0 : Int32)), none, none, none, none]) dX10_gcdK_80 (by decide) rfl ?_
  refine r_iconst (v := (0 : Int32)) dX10_gcdK_82 rfl ?_
  refine r_istore (ls2 := [some (.ref 2759), some (.ref a1), some (.ref a2), some (.ref a3), some (.int (ri h 2759 1)), some (.int (ri h 2759 3)), some (.ref v1), some (.ref v5), some (.ref v6), some (.ref v7), some (.ref v8), some (.int (v11 + (ri h11 v1 1))), some (.int (65 : Int32)), some (.int (0 : Int32)), some (.int (0 : Int32)), none, none, none]) dX10_gcdK_83 (by decide) rfl ?_
  refine r_iconst (v := (0 : Int32)) dX10_gcdK_85 rfl ?_
  refine r_istore (ls2 := [some (.ref 2759), some (.ref a1), some (.ref a2), some (.ref a3), some (.int (ri h 2759 1)), some (.int (ri h 2759 3)), some (.ref v1), some (.ref v5), some (.ref v6), some (.ref v7), some (.ref v8), some (.int (v11 + (ri h11 v1 1))), some (.int (65 : Int32)), some (.int (0 : Int32)), some (.int (0 : Int32)), some (.int (0 : Int32)), none, none]) dX10_gcdK_86 (by decide) rfl ?_
  exact H
theorem s_X10_gcdK_88 {g : GX} {d : Nat} {av : List Value} {Q : QT} {n : Nat} {h : Hp} {a1 : Nat} {a2 : Nat} {a3 : Nat} {x4 : Int32} {x5 : Int32} {a6 : Nat} {a7 : Nat} {a8 : Nat} {a9 : Nat} {a10 : Nat} {x11 : Int32} {x12 : Int32} {x13 : Int32} {x14 : Int32} {x15 : Int32} (hp : g.2.2.2.2 = true) (t1 : lay a1 = (0, 14, 2)) (t2 : lay a2 = (0, 14, 2)) (t3 : lay a3 = (0, 14, 2)) (t6 : lay a6 = (0, 13, 2)) (t7 : lay a7 = (0, 13, 2)) (t8 : lay a8 = (0, 13, 2)) (t9 : lay a9 = (0, 13, 2)) (t10 : lay a10 = (0, 14, 2)) (H : ((¬ x15 = (0 : Int32)) → (∀ h1, h1 = wi h 2759 3 x5 → (∀ h2, h2 = wi h1 2759 1 x4 → (Q none n h2)))) ∧ ((x15 = (0 : Int32)) → (CallR g m_X14_lead d [.ref a2] n h (fun v3 h3 => (lay v3 = (0, 13, 2) ∧ (CallI g m_X10_eval d [.ref v3, .int (x14 + (1 : Int32))] n h3 (fun v4 h4 => (((v4 = (0 : Int32)) → (W_X10_gcdK g d av Q n 88 [some (.ref 2759), some (.ref a1), some (.ref a2), some (.ref a3), some (.int x4), some (.int x5), some (.ref a6), some (.ref a7), some (.ref a8), some (.ref a9), some (.ref a10), some (.int x11), some (.int x12), some (.int x13), some (.int (x14 + (1 : Int32))), some (.int x15), none, none] [] h4)) ∧ ((¬ v4 = (0 : Int32)) → (CallR g m_X14_lead d [.ref a3] n h4 (fun v5 h5 => (lay v5 = (0, 13, 2) ∧ (CallI g m_X10_eval d [.ref v5, .int (x14 + (1 : Int32))] n h5 (fun v6 h6 => (((¬ v6 = (0 : Int32)) → (CallV g m_X10_atN d [.ref a7, .ref a2, .int (x14 + (1 : Int32))] n h6 (fun h7 => (CallV g m_X10_atN d [.ref a8, .ref a3, .int (x14 + (1 : Int32))] n h7 (fun h8 => (CallV g m_X10_gcd_2 d [.ref 2759, .ref a7, .ref a7, .ref a8] n h8 (fun h9 => (((¬ (ri h9 a7 1) = (1 : Int32)) → (((x12 ≤ (ri h9 a7 1)) → (W_X10_gcdK g d av Q n 189 [some (.ref 2759), some (.ref a1), some (.ref a2), some (.ref a3), some (.int x4), some (.int x5), some (.ref a6), some (.ref a7), some (.ref a8), some (.ref a9), some (.ref a10), some (.int x11), some (.int x12), some (.int x13), some (.int (x14 + (1 : Int32))), some (.int x15), none, none] [] h9)) ∧ ((¬ x12 ≤ (ri h9 a7 1)) → (W_X10_gcdK g d av Q n 189 [some (.ref 2759), some (.ref a1), some (.ref a2), some (.ref a3), some (.int x4), some (.int x5), some (.ref a6), some (.ref a7), some (.ref a8), some (.ref a9), some (.ref a10), some (.int x11), some (.int (ri h9 a7 1)), some (.int (0 : Int32)), some (.int (x14 + (1 : Int32))), some (.int x15), none, none] [] h9)))) ∧ (((ri h9 a7 1) = (1 : Int32)) → (CallV g m_X14_number d [.ref a1, .int (1 : Int32)] n h9 (fun h10 => (W_X10_gcdK g d av Q n 88 [some (.ref 2759), some (.ref a1), some (.ref a2), some (.ref a3), some (.int x4), some (.int x5), some (.ref a6), some (.ref a7), some (.ref a8), some (.ref a9), some (.ref a10), some (.int x11), some (.int x12), some (.int x13), some (.int (x14 + (1 : Int32))), some (.int (1 : Int32)), none, none] [] h10)))))))))))) ∧ ((v6 = (0 : Int32)) → (W_X10_gcdK g d av Q n 88 [some (.ref 2759), some (.ref a1), some (.ref a2), some (.ref a3), some (.int x4), some (.int x5), some (.ref a6), some (.ref a7), some (.ref a8), some (.ref a9), some (.ref a10), some (.int x11), some (.int x12), some (.int x13), some (.int (x14 + (1 : Int32))), some (.int x15), none, none] [] h6))))))))))))))))) : W_X10_gcdK g d av Q n 88 [some (.ref 2759), some (.ref a1), some (.ref a2), some (.ref a3), some (.int x4), some (.int x5), some (.ref a6), some (.ref a7), some (.ref a8), some (.ref a9), some (.ref a10), some (.int x11), some (.int x12), some (.int x13), some (.int x14), some (.int x15), none, none] [] h := by
  refine r_iload dX10_gcdK_88 rfl ?_
  refine r_if_ne (tgt := 376) dX10_gcdK_90 rfl (fun cH => ?_) (fun cH => ?_)
  · replace H := H.1 cH
    refine r_aload_n dX10_gcdK_376 rfl rfl ?_
    refine r_iload dX10_gcdK_377 rfl ?_
    refine m_putI hp fw_X10_90 dX10_gcdK_379 rfl rfl ly_10 (fun h1 eh1 => ?_)
    replace H := H h1 eh1
    refine r_aload_n dX10_gcdK_382 rfl rfl ?_
    refine r_iload dX10_gcdK_383 rfl ?_
    refine m_putI hp fw_X10_21 dX10_gcdK_385 rfl rfl ly_10 (fun h2 eh2 => ?_)
    replace H := H h2 eh2
    exact r_vret dX10_gcdK_388 rfl (Nat.le_refl _) (Nat.le_refl _) H
  · replace H := H.2 cH
    refine r_iinc (v := (x14 + (1 : Int32))) (ls2 := [some (.ref 2759), some (.ref a1), some (.ref a2), some (.ref a3), some (.int x4), some (.int x5), some (.ref a6), some (.ref a7), some (.ref a8), some (.ref a9), some (.ref a10), some (.int x11), some (.int x12), some (.int x13), some (.int (x14 + (1 : Int32))), some (.int x15), none, none]) dX10_gcdK_93 rfl rfl (by decide) rfl ?_
    refine r_aload_n dX10_gcdK_96 rfl rfl ?_
    refine k_VR (As := []) (stk := []) hp cv_X10_144 dX10_gcdK_97 rfl (Nat.le_of_ble_eq_true rfl) t2 (H.mono (fun v3 h3 H => ?_)) ⟨Nat.le_refl _, Nat.le_refl _⟩
    obtain ⟨tv3, H⟩ := H
    refine r_iload dX10_gcdK_100 rfl ?_
    refine k_SI (As := [.ref v3, .int (x14 + (1 : Int32))]) (stk := []) cs_X10_136 dX10_gcdK_102 rfl (Nat.le_of_ble_eq_true rfl) (H.mono (fun v4 h4 H => ?_)) ⟨Nat.le_refl _, Nat.le_refl _⟩
    refine r_if_eq (tgt := 88) dX10_gcdK_105 rfl (fun cH => ?_) (fun cH => ?_)
    · replace H := H.1 cH
      exact H
    · replace H := H.2 cH
      refine r_aload_n dX10_gcdK_108 rfl rfl ?_
      refine k_VR (As := []) (stk := []) hp cv_X10_144 dX10_gcdK_109 rfl (Nat.le_of_ble_eq_true rfl) t3 (H.mono (fun v5 h5 H => ?_)) ⟨Nat.le_refl _, Nat.le_refl _⟩
      obtain ⟨tv5, H⟩ := H
      refine r_iload dX10_gcdK_112 rfl ?_
      refine k_SI (As := [.ref v5, .int (x14 + (1 : Int32))]) (stk := []) cs_X10_136 dX10_gcdK_114 rfl (Nat.le_of_ble_eq_true rfl) (H.mono (fun v6 h6 H => ?_)) ⟨Nat.le_refl _, Nat.le_refl _⟩
      refine r_if_ne (tgt := 123) dX10_gcdK_117 rfl (fun cH => ?_) (fun cH => ?_)
      · replace H := H.1 cH
        refine r_aload dX10_gcdK_123 rfl ?_
        refine r_aload_n dX10_gcdK_125 rfl rfl ?_
        refine r_iload dX10_gcdK_126 rfl ?_
        refine k_SV (As := [.ref a7, .ref a2, .int (x14 + (1 : Int32))]) (stk := []) cs_X10_154 dX10_gcdK_128 rfl (Nat.le_of_ble_eq_true rfl) (H.mono (fun h7 H => ?_)) ⟨Nat.le_refl _, Nat.le_refl _⟩
        refine r_aload dX10_gcdK_131 rfl ?_
        refine r_aload_n dX10_gcdK_133 rfl rfl ?_
        refine r_iload dX10_gcdK_134 rfl ?_
        refine k_SV (As := [.ref a8, .ref a3, .int (x14 + (1 : Int32))]) (stk := []) cs_X10_154 dX10_gcdK_136 rfl (Nat.le_of_ble_eq_true rfl) (H.mono (fun h8 H => ?_)) ⟨Nat.le_refl _, Nat.le_refl _⟩
        refine r_aload_n dX10_gcdK_139 rfl rfl ?_
        refine r_aload dX10_gcdK_140 rfl ?_
        refine r_aload dX10_gcdK_142 rfl ?_
        refine r_aload dX10_gcdK_144 rfl ?_
        refine k_VV (As := [.ref a7, .ref a7, .ref a8]) (stk := []) hp cv_X10_125 dX10_gcdK_146 rfl (Nat.le_of_ble_eq_true rfl) ly_10 (H.mono (fun h9 H => ?_)) ⟨Nat.le_refl _, Nat.le_refl _⟩
        refine r_aload dX10_gcdK_149 rfl ?_
        refine m_getI hp fw_X10_25 dX10_gcdK_151 rfl t7 ?_
        refine r_iconst (v := (1 : Int32)) dX10_gcdK_154 rfl ?_
        refine r_icmp_ne (tgt := 169) dX10_gcdK_155 rfl (fun cH => ?_) (fun cH => ?_)
        · replace H := H.1 cH
          refine r_aload dX10_gcdK_169 rfl ?_
          refine m_getI hp fw_X10_25 dX10_gcdK_171 rfl t7 ?_
          refine r_iload dX10_gcdK_174 rfl ?_
          refine r_icmp_ge (tgt := 189) dX10_gcdK_176 rfl (fun cH => ?_) (fun cH => ?_)
          · replace H := H.1 cH
            exact H
          · replace H := H.2 cH
            refine r_aload dX10_gcdK_179 rfl ?_
            refine m_getI hp fw_X10_25 dX10_gcdK_181 rfl t7 ?_
            refine r_istore (ls2 := [some (.ref 2759), some (.ref a1), some (.ref a2), some (.ref a3), some (.int x4), some (.int x5), some (.ref a6), some (.ref a7), some (.ref a8), some (.ref a9), some (.ref a10), some (.int x11), some (.int (ri h9 a7 1)), some (.int x13), some (.int (x14 + (1 : Int32))), some (.int x15), none, none]) dX10_gcdK_184 (by decide) rfl ?_
            refine r_iconst (v := (0 : Int32)) dX10_gcdK_186 rfl ?_
            refine r_istore (ls2 := [some (.ref 2759), some (.ref a1), some (.ref a2), some (.ref a3), some (.int x4), some (.int x5), some (.ref a6), some (.ref a7), some (.ref a8), some (.ref a9), some (.ref a10), some (.int x11), some (.int (ri h9 a7 1)), some (.int (0 : Int32)), some (.int (x14 + (1 : Int32))), some (.int x15), none, none]) dX10_gcdK_187 (by decide) rfl ?_
            exact H
        · replace H := H.2 cH
          refine r_aload_n dX10_gcdK_158 rfl rfl ?_
          refine r_iconst (v := (1 : Int32)) dX10_gcdK_159 rfl ?_
          refine k_VV (As := [.int (1 : Int32)]) (stk := []) hp cv_X10_158 dX10_gcdK_160 rfl (Nat.le_of_ble_eq_true rfl) t1 (H.mono (fun h10 H => ?_)) ⟨Nat.le_refl _, Nat.le_refl _⟩
          refine r_iconst (v := (1 : Int32)) dX10_gcdK_163 rfl ?_
          refine r_istore (ls2 := [some (.ref 2759), some (.ref a1), some (.ref a2), some (.ref a3), some (.int x4), some (.int x5), some (.ref a6), some (.ref a7), some (.ref a8), some (.ref a9), some (.ref a10), some (.int x11), some (.int x12), some (.int x13), some (.int (x14 + (1 : Int32))), some (.int (1 : Int32)), none, none]) dX10_gcdK_164 (by decide) rfl ?_
          refine r_goto (tgt := 88) dX10_gcdK_166 rfl ?_
          exact H
      · replace H := H.2 cH
        refine r_goto (tgt := 88) dX10_gcdK_120 rfl ?_
        exact H
theorem s_X10_gcdK_189 {g : GX} {d : Nat} {av : List Value} {Q : QT} {n : Nat} {h : Hp} {a1 : Nat} {a2 : Nat} {a3 : Nat} {x4 : Int32} {x5 : Int32} {a6 : Nat} {a7 : Nat} {a8 : Nat} {a9 : Nat} {a10 : Nat} {x11 : Int32} {x12 : Int32} {x13 : Int32} {x14 : Int32} {x15 : Int32} (hp : g.2.2.2.2 = true) (t1 : lay a1 = (0, 14, 2)) (t2 : lay a2 = (0, 14, 2)) (t3 : lay a3 = (0, 14, 2)) (t6 : lay a6 = (0, 13, 2)) (t7 : lay a7 = (0, 13, 2)) (t8 : lay a8 = (0, 13, 2)) (t9 : lay a9 = (0, 13, 2)) (t10 : lay a10 = (0, 14, 2)) (H : ((¬ (ri h a7 1) = x12) → (W_X10_gcdK g d av Q n 259 [some (.ref 2759), some (.ref a1), some (.ref a2), some (.ref a3), some (.int x4), some (.int x5), some (.ref a6), some (.ref a7), some (.ref a8), some (.ref a9), some (.ref a10), some (.int x11), some (.int x12), some (.int x13), some (.int x14), some (.int x15), none, none] [] h)) ∧ (((ri h a7 1) = x12) → (CallI g m_X10_eval d [.ref a6, .int x14] n h (fun v1 h1 => (vp_in x13 700 ∧ ∀ h2, h2 = wi h1 2762 (x13).toNatClampNeg x14 → (W_X10_gcdK g d av Q n 220 [some (.ref 2759), some (.ref a1), some (.ref a2), some (.ref a3), some (.int x4), some (.int x5), some (.ref a6), some (.ref a7), some (.ref a8), some (.ref a9), some (.ref a10), some (.int x11), some (.int x12), some (.int x13), some (.int x14), some (.int x15), some (.int v1), some (.int (0 : Int32))] [] h2)))))) : W_X10_gcdK g d av Q n 189 [some (.ref 2759), some (.ref a1), some (.ref a2), some (.ref a3), some (.int x4), some (.int x5), some (.ref a6), some (.ref a7), some (.ref a8), some (.ref a9), some (.ref a10), some (.int x11), some (.int x12), some (.int x13), some (.int x14), some (.int x15), none, none] [] h := by
  refine r_aload dX10_gcdK_189 rfl ?_
  refine m_getI hp fw_X10_25 dX10_gcdK_191 rfl t7 ?_
  refine r_iload dX10_gcdK_194 rfl ?_
  refine r_icmp_ne (tgt := 259) dX10_gcdK_196 rfl (fun cH => ?_) (fun cH => ?_)
  · replace H := H.1 cH
    exact H
  · replace H := H.2 cH
    refine r_aload dX10_gcdK_199 rfl ?_
    refine r_iload dX10_gcdK_201 rfl ?_
    refine k_SI (As := [.ref a6, .int x14]) (stk := []) cs_X10_136 dX10_gcdK_203 rfl (Nat.le_of_ble_eq_true rfl) (H.mono (fun v1 h1 H => ?_)) ⟨Nat.le_refl _, Nat.le_refl _⟩
    refine r_istore (ls2 := [some (.ref 2759), some (.ref a1), some (.ref a2), some (.ref a3), some (.int x4), some (.int x5), some (.ref a6), some (.ref a7), some (.ref a8), some (.ref a9), some (.ref a10), some (.int x11), some (.int x12), some (.int x13), some (.int x14), some (.int x15), some (.int v1), none]) dX10_gcdK_206 (by decide) rfl ?_
    refine r_aload_n dX10_gcdK_208 rfl rfl ?_
    refine m_getF (x := 2762) hp fw_X10_151 dX10_gcdK_209 rfl ly_10 (ff_10_4 ly_10) ?_
    refine r_iload dX10_gcdK_212 rfl ?_
    refine r_iload dX10_gcdK_214 rfl ?_
    refine m_iast hp dX10_gcdK_216 (lf_10_4 ly_10) H.1 (fun h2 eh2 => ?_)
    replace H := H.2 h2 eh2
    refine r_iconst (v := (0 : Int32)) dX10_gcdK_217 rfl ?_
    refine r_istore (ls2 := [some (.ref 2759), some (.ref a1), some (.ref a2), some (.ref a3), some (.int x4), some (.int x5), some (.ref a6), some (.ref a7), some (.ref a8), some (.ref a9), some (.ref a10), some (.int x11), some (.int x12), some (.int x13), some (.int x14), some (.int x15), some (.int v1), some (.int (0 : Int32))]) dX10_gcdK_218 (by decide) rfl ?_
    exact H
theorem s_X10_gcdK_220 {g : GX} {d : Nat} {av : List Value} {Q : QT} {n : Nat} {h : Hp} {a1 : Nat} {a2 : Nat} {a3 : Nat} {x4 : Int32} {x5 : Int32} {a6 : Nat} {a7 : Nat} {a8 : Nat} {a9 : Nat} {a10 : Nat} {x11 : Int32} {x12 : Int32} {x13 : Int32} {x14 : Int32} {x15 : Int32} {x16 : Int32} {x17 : Int32} (hp : g.2.2.2.2 = true) (t1 : lay a1 = (0, 14, 2)) (t2 : lay a2 = (0, 14, 2)) (t3 : lay a3 = (0, 14, 2)) (t6 : lay a6 = (0, 13, 2)) (t7 : lay a7 = (0, 13, 2)) (t8 : lay a8 = (0, 13, 2)) (t9 : lay a9 = (0, 13, 2)) (t10 : lay a10 = (0, 14, 2)) (H : ((x12 ≤ x17) → (W_X10_gcdK g d av Q n 259 [some (.ref 2759), some (.ref a1), some (.ref a2), some (.ref a3), some (.int x4), some (.int x5), some (.ref a6), some (.ref a7), some (.ref a8), some (.ref a9), some (.ref a10), some (.int x11), some (.int x12), some (.int (x13 + (1 : Int32))), some (.int x14), some (.int x15), none, none] [] h)) ∧ ((¬ x12 ≤ x17) → (vp_in x17 64 ∧ ∀ r1, r1 = 2764 + 1 * (x17).toNatClampNeg → (vp_in x17 (rm (a7 + 1)) ∧ (CallI g m_X10_mul d [.int x16, .int (ri h (a7 + 1) (x17).toNatClampNeg)] n h (fun v2 h2 => (vp_in x13 700 ∧ ∀ h3, h3 = wi h2 r1 (x13).toNatClampNeg v2 → (W_X10_gcdK g d av Q n 220 [some (.ref 2759), some (.ref a1), some (.ref a2), some (.ref a3), some (.int x4), some (.int x5), some (.ref a6), some (.ref a7), some (.ref a8), some (.ref a9), some (.ref a10), some (.int x11), some (.int x12), some (.int x13), some (.int x14), some (.int x15), some (.int x16), some (.int (x17 + (1 : Int32)))] [] h3)))))))) : W_X10_gcdK g d av Q n 220 [some (.ref 2759), some (.ref a1), some (.ref a2), some (.ref a3), some (.int x4), some (.int x5), some (.ref a6), some (.ref a7), some (.ref a8), some (.ref a9), some (.ref a10), some (.int x11), some (.int x12), some (.int x13), some (.int x14), some (.int x15), some (.int x16), some (.int x17)] [] h := by
  refine r_iload dX10_gcdK_220 rfl ?_
  refine r_iload dX10_gcdK_222 rfl ?_
  refine r_icmp_ge (tgt := 256) dX10_gcdK_224 rfl (fun cH => ?_) (fun cH => ?_)
  · replace H := H.1 cH
    refine r_iinc (v := (x13 + (1 : Int32))) (ls2 := [some (.ref 2759), some (.ref a1), some (.ref a2), some (.ref a3), some (.int x4), some (.int x5), some (.ref a6), some (.ref a7), some (.ref a8), some (.ref a9), some (.ref a10), some (.int x11), some (.int x12), some (.int (x13 + (1 : Int32))), some (.int x14), some (.int x15), some (.int x16), some (.int x17)]) dX10_gcdK_256 rfl rfl (by decide) rfl ?_
    refine r_prune [true, true, true, true, true, true, true, true, true, true, true, true, true, true, true, true, false, false] (ls2 := [some (.ref 2759), some (.ref a1), some (.ref a2), some (.ref a3), some (.int x4), some (.int x5), some (.ref a6), some (.ref a7), some (.ref a8), some (.ref a9), some (.ref a10), some (.int x11), some (.int x12), some (.int (x13 + (1 : Int32))), some (.int x14), some (.int x15), none, none]) rfl ?_
    exact H
  · replace H := H.2 cH
    refine r_aload_n dX10_gcdK_227 rfl rfl ?_
    refine m_getF (x := 2763) hp fw_X10_159 dX10_gcdK_228 rfl ly_10 (ff_10_5 ly_10) ?_
    refine r_iload dX10_gcdK_231 rfl ?_
    obtain ⟨r1, er1⟩ : ∃ y, y = 2764 + 1 * (x17).toNatClampNeg := ⟨_, rfl⟩
    have hir1 := H.1
    replace H := H.2 r1 er1
    have tLr1 := la_2763 hir1 er1
    refine m_aalF (x := r1) hp dX10_gcdK_233 (lf_10_5 ly_10) rfl rfl (lu_10_5 ly_10) hir1 (fa_2763 hir1 er1) ?_
    refine r_iload dX10_gcdK_234 rfl ?_
    refine r_iload dX10_gcdK_236 rfl ?_
    refine r_aload dX10_gcdK_238 rfl ?_
    refine m_getF (x := (a7 + 1)) hp fw_X10_30 dX10_gcdK_240 rfl t7 (ff_13_0 t7) ?_
    refine r_iload dX10_gcdK_243 rfl ?_
    refine m_iald hp dX10_gcdK_245 (lf_13_0 t7) H.1 ?_
    replace H := H.2
    refine k_SI (As := [.int x16, .int (ri h (a7 + 1) (x17).toNatClampNeg)]) (stk := [.int x13, .ref r1]) cs_X10_56 dX10_gcdK_246 rfl (Nat.le_of_ble_eq_true rfl) (H.mono (fun v2 h2 H => ?_)) ⟨Nat.le_refl _, Nat.le_refl _⟩
    refine m_iast hp dX10_gcdK_249 tLr1 H.1 (fun h3 eh3 => ?_)
    replace H := H.2 h3 eh3
    refine r_iinc (v := (x17 + (1 : Int32))) (ls2 := [some (.ref 2759), some (.ref a1), some (.ref a2), some (.ref a3), some (.int x4), some (.int x5), some (.ref a6), some (.ref a7), some (.ref a8), some (.ref a9), some (.ref a10), some (.int x11), some (.int x12), some (.int x13), some (.int x14), some (.int x15), some (.int x16), some (.int (x17 + (1 : Int32)))]) dX10_gcdK_250 rfl rfl (by decide) rfl ?_
    refine r_goto (tgt := 220) dX10_gcdK_253 rfl ?_
    exact H
theorem s_X10_gcdK_259 {g : GX} {d : Nat} {av : List Value} {Q : QT} {n : Nat} {h : Hp} {a1 : Nat} {a2 : Nat} {a3 : Nat} {x4 : Int32} {x5 : Int32} {a6 : Nat} {a7 : Nat} {a8 : Nat} {a9 : Nat} {a10 : Nat} {x11 : Int32} {x12 : Int32} {x13 : Int32} {x14 : Int32} {x15 : Int32} (hp : g.2.2.2.2 = true) (t1 : lay a1 = (0, 14, 2)) (t2 : lay a2 = (0, 14, 2)) (t3 : lay a3 = (0, 14, 2)) (t6 : lay a6 = (0, 13, 2)) (t7 : lay a7 = (0, 13, 2)) (t8 : lay a8 = (0, 13, 2)) (t9 : lay a9 = (0, 13, 2)) (t10 : lay a10 = (0, 14, 2)) (H : ((¬ x13 = x11) → (W_X10_gcdK g d av Q n 88 [some (.ref 2759), some (.ref a1), some (.ref a2), some (.ref a3), some (.int x4), some (.int x5), some (.ref a6), some (.ref a7), some (.ref a8), some (.ref a9), some (.ref a10), some (.int x11), some (.int x12), some (.int x13), some (.int x14), some (.int x15), none, none] [] h)) ∧ ((x13 = x11) → (W_X10_gcdK g d av Q n 269 [some (.ref 2759), some (.ref a1), some (.ref a2), some (.ref a3), some (.int x4), some (.int x5), some (.ref a6), some (.ref a7), some (.ref a8), some (.ref a9), some (.ref a10), some (.int x11), some (.int x12), some (.int x13), some (.int x14), none, some (.int (0 : Int32)), none] [] h))) : W_X10_gcdK g d av Q n 259 [some (.ref 2759), some (.ref a1), some (.ref a2), some (.ref a3), some (.int x4), some (.int x5), some (.ref a6), some (.ref a7), some (.ref a8), some (.ref a9), some (.ref a10), some (.int x11), some (.int x12), some (.int x13), some (.int x14), some (.int x15), none, none] [] h := by
  refine r_iload dX10_gcdK_259 rfl ?_
  refine r_iload dX10_gcdK_261 rfl ?_
  refine r_icmp_ne (tgt := 88) dX10_gcdK_263 rfl (fun cH => ?_) (fun cH => ?_)
  · replace H := H.1 cH
    exact H
  · replace H := H.2 cH
    refine r_iconst (v := (0 : Int32)) dX10_gcdK_266 rfl ?_
    refine r_istore (ls2 := [some (.ref 2759), some (.ref a1), some (.ref a2), some (.ref a3), some (.int x4), some (.int x5), some (.ref a6), some (.ref a7), some (.ref a8), some (.ref a9), some (.ref a10), some (.int x11), some (.int x12), some (.int x13), some (.int x14), some (.int x15), some (.int (0 : Int32)), none]) dX10_gcdK_267 (by decide) rfl ?_
    refine r_prune [true, true, true, true, true, true, true, true, true, true, true, true, true, true, true, false, true, false] (ls2 := [some (.ref 2759), some (.ref a1), some (.ref a2), some (.ref a3), some (.int x4), some (.int x5), some (.ref a6), some (.ref a7), some (.ref a8), some (.ref a9), some (.ref a10), some (.int x11), some (.int x12), some (.int x13), some (.int x14), none, some (.int (0 : Int32)), none]) rfl ?_
    exact H
theorem s_X10_gcdK_269 {g : GX} {d : Nat} {av : List Value} {Q : QT} {n : Nat} {h : Hp} {a1 : Nat} {a2 : Nat} {a3 : Nat} {x4 : Int32} {x5 : Int32} {a6 : Nat} {a7 : Nat} {a8 : Nat} {a9 : Nat} {a10 : Nat} {x11 : Int32} {x12 : Int32} {x13 : Int32} {x14 : Int32} {x16 : Int32} (hp : g.2.2.2.2 = true) (t1 : lay a1 = (0, 14, 2)) (t2 : lay a2 = (0, 14, 2)) (t3 : lay a3 = (0, 14, 2)) (t6 : lay a6 = (0, 13, 2)) (t7 : lay a7 = (0, 13, 2)) (t8 : lay a8 = (0, 13, 2)) (t9 : lay a9 = (0, 13, 2)) (t10 : lay a10 = (0, 14, 2)) (H : ((x12 ≤ x16) → (∀ h1, h1 = wi h a1 1 x12 → (CallV g m_X14_trim d [.ref a1] n h1 (fun h2 => (CallV g m_X10_primitive d [.ref 2759, .ref a1, .ref a1, .ref a9] n h2 (fun h3 => (CallI g m_X10_divides d [.ref 2759, .ref a10, .ref a2, .ref a1] n h3 (fun v4 h4 => (((v4 = (0 : Int32)) → (W_X10_gcdK g d av Q n 353 [some (.ref 2759), some (.ref a1), some (.ref a2), some (.ref a3), some (.int x4), some (.int x5), some (.ref a6), some (.ref a7), some (.ref a8), some (.ref a9), some (.ref a10), some (.int x11), some (.int x12), none, some (.int x14), none, none, none] [] h4)) ∧ ((¬ v4 = (0 : Int32)) → (CallI g m_X10_divides d [.ref 2759, .ref a10, .ref a3, .ref a1] n h4 (fun v5 h5 => (((v5 = (0 : Int32)) → (W_X10_gcdK g d av Q n 353 [some (.ref 2759), some (.ref a1), some (.ref a2), some (.ref a3), some (.int x4), some (.int x5), some (.ref a6), some (.ref a7), some (.ref a8), some (.ref a9), some (.ref a10), some (.int x11), some (.int x12), none, some (.int x14), none, none, none] [] h5)) ∧ ((¬ v5 = (0 : Int32)) → (W_X10_gcdK g d av Q n 354 [some (.ref 2759), some (.ref a1), some (.ref a2), some (.ref a3), some (.int x4), some (.int x5), some (.ref a6), some (.ref a7), some (.ref a8), some (.ref a9), some (.ref a10), some (.int x11), some (.int x12), none, some (.int x14), none, none, none] [.int (1 : Int32)] h5))))))))))))))) ∧ ((¬ x12 ≤ x16) → (vp_in x16 64 ∧ ∀ r6, r6 = 2764 + 1 * (x16).toNatClampNeg → (CallV g m_X10_through d [.ref 2759, .ref a9, .ref r6, .int x13] n h (fun h7 => (vp_in x16 64 ∧ ∀ r8, r8 = (a1 + 2) + 2 * (x16).toNatClampNeg → (CallV g m_X10_set_2 d [.ref r8, .ref a9] n h7 (fun h9 => (W_X10_gcdK g d av Q n 269 [some (.ref 2759), some (.ref a1), some (.ref a2), some (.ref a3), some (.int x4), some (.int x5), some (.ref a6), some (.ref a7), some (.ref a8), some (.ref a9), some (.ref a10), some (.int x11), some (.int x12), some (.int x13), some (.int x14), none, some (.int (x16 + (1 : Int32))), none] [] h9))))))))) : W_X10_gcdK g d av Q n 269 [some (.ref 2759), some (.ref a1), some (.ref a2), some (.ref a3), some (.int x4), some (.int x5), some (.ref a6), some (.ref a7), some (.ref a8), some (.ref a9), some (.ref a10), some (.int x11), some (.int x12), some (.int x13), some (.int x14), none, some (.int x16), none] [] h := by
  refine r_iload dX10_gcdK_269 rfl ?_
  refine r_iload dX10_gcdK_271 rfl ?_
  refine r_icmp_ge (tgt := 309) dX10_gcdK_273 rfl (fun cH => ?_) (fun cH => ?_)
  · replace H := H.1 cH
    refine r_aload_n dX10_gcdK_309 rfl rfl ?_
    refine r_iload dX10_gcdK_310 rfl ?_
    refine m_putI hp fw_X10_93 dX10_gcdK_312 rfl rfl t1 (fun h1 eh1 => ?_)
    replace H := H h1 eh1
    refine r_aload_n dX10_gcdK_315 rfl rfl ?_
    refine k_VV (As := []) (stk := []) hp cv_X10_105 dX10_gcdK_316 rfl (Nat.le_of_ble_eq_true rfl) t1 (H.mono (fun h2 H => ?_)) ⟨Nat.le_refl _, Nat.le_refl _⟩
    refine r_aload_n dX10_gcdK_319 rfl rfl ?_
    refine r_aload_n dX10_gcdK_320 rfl rfl ?_
    refine r_aload_n dX10_gcdK_321 rfl rfl ?_
    refine r_aload dX10_gcdK_322 rfl ?_
    refine k_VV (As := [.ref a1, .ref a1, .ref a9]) (stk := []) hp cv_X10_167 dX10_gcdK_324 rfl (Nat.le_of_ble_eq_true rfl) ly_10 (H.mono (fun h3 H => ?_)) ⟨Nat.le_refl _, Nat.le_refl _⟩
    refine r_aload_n dX10_gcdK_327 rfl rfl ?_
    refine r_aload dX10_gcdK_328 rfl ?_
    refine r_aload_n dX10_gcdK_330 rfl rfl ?_
    refine r_aload_n dX10_gcdK_331 rfl rfl ?_
    refine k_VI (As := [.ref a10, .ref a2, .ref a1]) (stk := []) hp cv_X10_170 dX10_gcdK_332 rfl (Nat.le_of_ble_eq_true rfl) ly_10 (H.mono (fun v4 h4 H => ?_)) ⟨Nat.le_refl _, Nat.le_refl _⟩
    refine r_if_eq (tgt := 353) dX10_gcdK_335 rfl (fun cH => ?_) (fun cH => ?_)
    · replace H := H.1 cH
      refine r_prune [true, true, true, true, true, true, true, true, true, true, true, true, true, false, true, false, false, false] (ls2 := [some (.ref 2759), some (.ref a1), some (.ref a2), some (.ref a3), some (.int x4), some (.int x5), some (.ref a6), some (.ref a7), some (.ref a8), some (.ref a9), some (.ref a10), some (.int x11), some (.int x12), none, some (.int x14), none, none, none]) rfl ?_
      exact H
    · replace H := H.2 cH
      refine r_aload_n dX10_gcdK_338 rfl rfl ?_
      refine r_aload dX10_gcdK_339 rfl ?_
      refine r_aload_n dX10_gcdK_341 rfl rfl ?_
      refine r_aload_n dX10_gcdK_342 rfl rfl ?_
      refine k_VI (As := [.ref a10, .ref a3, .ref a1]) (stk := []) hp cv_X10_170 dX10_gcdK_343 rfl (Nat.le_of_ble_eq_true rfl) ly_10 (H.mono (fun v5 h5 H => ?_)) ⟨Nat.le_refl _, Nat.le_refl _⟩
      refine r_if_eq (tgt := 353) dX10_gcdK_346 rfl (fun cH => ?_) (fun cH => ?_)
      · replace H := H.1 cH
        refine r_prune [true, true, true, true, true, true, true, true, true, true, true, true, true, false, true, false, false, false] (ls2 := [some (.ref 2759), some (.ref a1), some (.ref a2), some (.ref a3), some (.int x4), some (.int x5), some (.ref a6), some (.ref a7), some (.ref a8), some (.ref a9), some (.ref a10), some (.int x11), some (.int x12), none, some (.int x14), none, none, none]) rfl ?_
        exact H
      · replace H := H.2 cH
        refine r_iconst (v := (1 : Int32)) dX10_gcdK_349 rfl ?_
        refine r_goto (tgt := 354) dX10_gcdK_350 rfl ?_
        refine r_prune [true, true, true, true, true, true, true, true, true, true, true, true, true, false, true, false, false, false] (ls2 := [some (.ref 2759), some (.ref a1), some (.ref a2), some (.ref a3), some (.int x4), some (.int x5), some (.ref a6), some (.ref a7), some (.ref a8), some (.ref a9), some (.ref a10), some (.int x11), some (.int x12), none, some (.int x14), none, none, none]) rfl ?_
        exact H
  · replace H := H.2 cH
    refine r_aload_n dX10_gcdK_276 rfl rfl ?_
    refine r_aload dX10_gcdK_277 rfl ?_
    refine r_aload_n dX10_gcdK_279 rfl rfl ?_
    refine m_getF (x := 2763) hp fw_X10_159 dX10_gcdK_280 rfl ly_10 (ff_10_5 ly_10) ?_
    refine r_iload dX10_gcdK_283 rfl ?_
    obtain ⟨r6, er6⟩ : ∃ y, y = 2764 + 1 * (x16).toNatClampNeg := ⟨_, rfl⟩
    have hir6 := H.1
    replace H := H.2 r6 er6
    have tLr6 := la_2763 hir6 er6
    refine m_aalF (x := r6) hp dX10_gcdK_285 (lf_10_5 ly_10) rfl rfl (lu_10_5 ly_10) hir6 (fa_2763 hir6 er6) ?_
    refine r_iload dX10_gcdK_286 rfl ?_
    refine k_VV (As := [.ref a9, .ref r6, .int x13]) (stk := []) hp cv_X10_163 dX10_gcdK_288 rfl (Nat.le_of_ble_eq_true rfl) ly_10 (H.mono (fun h7 H => ?_)) ⟨Nat.le_refl _, Nat.le_refl _⟩
    refine r_aload_n dX10_gcdK_291 rfl rfl ?_
    refine m_getF (x := (a1 + 1)) hp fw_X10_98 dX10_gcdK_292 rfl t1 (ff_14_0 t1) ?_
    refine r_iload dX10_gcdK_295 rfl ?_
    obtain ⟨r8, er8⟩ : ∃ y, y = (a1 + 2) + 2 * (x16).toNatClampNeg := ⟨_, rfl⟩
    have hir8 := H.1
    replace H := H.2 r8 er8
    have tLr8 := le_14 t1 hir8 er8
    refine m_aalF (x := r8) hp dX10_gcdK_297 (lf_14_0 t1) rfl rfl (lu_14_0 t1) hir8 (fe_14 t1 hir8 er8) ?_
    refine r_aload dX10_gcdK_298 rfl ?_
    refine k_SV (As := [.ref r8, .ref a9]) (stk := []) cs_X10_62 dX10_gcdK_300 rfl (Nat.le_of_ble_eq_true rfl) (H.mono (fun h9 H => ?_)) ⟨Nat.le_refl _, Nat.le_refl _⟩
    refine r_iinc (v := (x16 + (1 : Int32))) (ls2 := [some (.ref 2759), some (.ref a1), some (.ref a2), some (.ref a3), some (.int x4), some (.int x5), some (.ref a6), some (.ref a7), some (.ref a8), some (.ref a9), some (.ref a10), some (.int x11), some (.int x12), some (.int x13), some (.int x14), none, some (.int (x16 + (1 : Int32))), none]) dX10_gcdK_303 rfl rfl (by decide) rfl ?_
    refine r_goto (tgt := 269) dX10_gcdK_306 rfl ?_
    exact H
theorem s_X10_gcdK_353 {g : GX} {d : Nat} {av : List Value} {Q : QT} {n : Nat} {h : Hp} {a1 : Nat} {a2 : Nat} {a3 : Nat} {x4 : Int32} {x5 : Int32} {a6 : Nat} {a7 : Nat} {a8 : Nat} {a9 : Nat} {a10 : Nat} {x11 : Int32} {x12 : Int32} {x14 : Int32} (hp : g.2.2.2.2 = true) (t1 : lay a1 = (0, 14, 2)) (t2 : lay a2 = (0, 14, 2)) (t3 : lay a3 = (0, 14, 2)) (t6 : lay a6 = (0, 13, 2)) (t7 : lay a7 = (0, 13, 2)) (t8 : lay a8 = (0, 13, 2)) (t9 : lay a9 = (0, 13, 2)) (t10 : lay a10 = (0, 14, 2)) (H : W_X10_gcdK g d av Q n 354 [some (.ref 2759), some (.ref a1), some (.ref a2), some (.ref a3), some (.int x4), some (.int x5), some (.ref a6), some (.ref a7), some (.ref a8), some (.ref a9), some (.ref a10), some (.int x11), some (.int x12), none, some (.int x14), none, none, none] [.int (0 : Int32)] h) : W_X10_gcdK g d av Q n 353 [some (.ref 2759), some (.ref a1), some (.ref a2), some (.ref a3), some (.int x4), some (.int x5), some (.ref a6), some (.ref a7), some (.ref a8), some (.ref a9), some (.ref a10), some (.int x11), some (.int x12), none, some (.int x14), none, none, none] [] h := by
  refine r_iconst (v := (0 : Int32)) dX10_gcdK_353 rfl ?_
  exact H
theorem s_X10_gcdK_354 {g : GX} {d : Nat} {av : List Value} {Q : QT} {n : Nat} {h : Hp} {a1 : Nat} {a2 : Nat} {a3 : Nat} {x4 : Int32} {x5 : Int32} {a6 : Nat} {a7 : Nat} {a8 : Nat} {a9 : Nat} {a10 : Nat} {x11 : Int32} {x12 : Int32} {x14 : Int32} {xs0 : Int32} (hp : g.2.2.2.2 = true) (t1 : lay a1 = (0, 14, 2)) (t2 : lay a2 = (0, 14, 2)) (t3 : lay a3 = (0, 14, 2)) (t6 : lay a6 = (0, 13, 2)) (t7 : lay a7 = (0, 13, 2)) (t8 : lay a8 = (0, 13, 2)) (t9 : lay a9 = (0, 13, 2)) (t10 : lay a10 = (0, 14, 2)) (H : ((xs0 = (0 : Int32)) → (W_X10_gcdK g d av Q n 371 [some (.ref 2759), some (.ref a1), some (.ref a2), some (.ref a3), some (.int x4), some (.int x5), some (.ref a6), some (.ref a7), some (.ref a8), some (.ref a9), some (.ref a10), some (.int x11), none, some (.int (0 : Int32)), some (.int x14), some (.int xs0), none, none] [.int (65 : Int32)] h)) ∧ ((¬ xs0 = (0 : Int32)) → (W_X10_gcdK g d av Q n 371 [some (.ref 2759), some (.ref a1), some (.ref a2), some (.ref a3), some (.int x4), some (.int x5), some (.ref a6), some (.ref a7), some (.ref a8), some (.ref a9), some (.ref a10), some (.int x11), none, some (.int (0 : Int32)), some (.int x14), some (.int xs0), none, none] [.int x12] h))) : W_X10_gcdK g d av Q n 354 [some (.ref 2759), some (.ref a1), some (.ref a2), some (.ref a3), some (.int x4), some (.int x5), some (.ref a6), some (.ref a7), some (.ref a8), some (.ref a9), some (.ref a10), some (.int x11), some (.int x12), none, some (.int x14), none, none, none] [.int xs0] h := by
  refine r_istore (ls2 := [some (.ref 2759), some (.ref a1), some (.ref a2), some (.ref a3), some (.int x4), some (.int x5), some (.ref a6), some (.ref a7), some (.ref a8), some (.ref a9), some (.ref a10), some (.int x11), some (.int x12), none, some (.int x14), some (.int xs0), none, none]) dX10_gcdK_354 (by decide) rfl ?_
  refine r_iconst (v := (0 : Int32)) dX10_gcdK_356 rfl ?_
  refine r_istore (ls2 := [some (.ref 2759), some (.ref a1), some (.ref a2), some (.ref a3), some (.int x4), some (.int x5), some (.ref a6), some (.ref a7), some (.ref a8), some (.ref a9), some (.ref a10), some (.int x11), some (.int x12), some (.int (0 : Int32)), some (.int x14), some (.int xs0), none, none]) dX10_gcdK_357 (by decide) rfl ?_
  refine r_iload dX10_gcdK_359 rfl ?_
  refine r_if_eq (tgt := 369) dX10_gcdK_361 rfl (fun cH => ?_) (fun cH => ?_)
  · replace H := H.1 cH
    refine r_bipush (v := (65 : Int32)) dX10_gcdK_369 rfl ?_
    refine r_prune [true, true, true, true, true, true, true, true, true, true, true, true, false, true, true, true, false, false] (ls2 := [some (.ref 2759), some (.ref a1), some (.ref a2), some (.ref a3), some (.int x4), some (.int x5), some (.ref a6), some (.ref a7), some (.ref a8), some (.ref a9), some (.ref a10), some (.int x11), none, some (.int (0 : Int32)), some (.int x14), some (.int xs0), none, none]) rfl ?_
    exact H
  · replace H := H.2 cH
    refine r_iload dX10_gcdK_364 rfl ?_
    refine r_goto (tgt := 371) dX10_gcdK_366 rfl ?_
    refine r_prune [true, true, true, true, true, true, true, true, true, true, true, true, false, true, true, true, false, false] (ls2 := [some (.ref 2759), some (.ref a1), some (.ref a2), some (.ref a3), some (.int x4), some (.int x5), some (.ref a6), some (.ref a7), some (.ref a8), some (.ref a9), some (.ref a10), some (.int x11), none, some (.int (0 : Int32)), some (.int x14), some (.int xs0), none, none]) rfl ?_
    exact H
theorem s_X10_gcdK_371 {g : GX} {d : Nat} {av : List Value} {Q : QT} {n : Nat} {h : Hp} {a1 : Nat} {a2 : Nat} {a3 : Nat} {x4 : Int32} {x5 : Int32} {a6 : Nat} {a7 : Nat} {a8 : Nat} {a9 : Nat} {a10 : Nat} {x11 : Int32} {x13 : Int32} {x14 : Int32} {x15 : Int32} {xs0 : Int32} (hp : g.2.2.2.2 = true) (t1 : lay a1 = (0, 14, 2)) (t2 : lay a2 = (0, 14, 2)) (t3 : lay a3 = (0, 14, 2)) (t6 : lay a6 = (0, 13, 2)) (t7 : lay a7 = (0, 13, 2)) (t8 : lay a8 = (0, 13, 2)) (t9 : lay a9 = (0, 13, 2)) (t10 : lay a10 = (0, 14, 2)) (H : W_X10_gcdK g d av Q n 88 [some (.ref 2759), some (.ref a1), some (.ref a2), some (.ref a3), some (.int x4), some (.int x5), some (.ref a6), some (.ref a7), some (.ref a8), some (.ref a9), some (.ref a10), some (.int x11), some (.int xs0), some (.int x13), some (.int x14), some (.int x15), none, none] [] h) : W_X10_gcdK g d av Q n 371 [some (.ref 2759), some (.ref a1), some (.ref a2), some (.ref a3), some (.int x4), some (.int x5), some (.ref a6), some (.ref a7), some (.ref a8), some (.ref a9), some (.ref a10), some (.int x11), none, some (.int x13), some (.int x14), some (.int x15), none, none] [.int xs0] h := by
  refine r_istore (ls2 := [some (.ref 2759), some (.ref a1), some (.ref a2), some (.ref a3), some (.int x4), some (.int x5), some (.ref a6), some (.ref a7), some (.ref a8), some (.ref a9), some (.ref a10), some (.int x11), some (.int xs0), some (.int x13), some (.int x14), some (.int x15), none, none]) dX10_gcdK_371 (by decide) rfl ?_
  refine r_goto (tgt := 88) dX10_gcdK_373 rfl ?_
  exact H
abbrev W_X10_eval (g : GX) (d : Nat) (av : List Value) (Q : QT) (n : Nat) (pc : Nat) (ls : LV) (stk : List Value) (h : Hp) : Prop := RJ g m_X10_eval d 0 0 av Q pc ls stk n h 0 0
theorem s_X10_eval_0 {g : GX} {d : Nat} {av : List Value} {Q : QT} {n : Nat} {h : Hp} {a0 : Nat} {x1 : Int32} (hp : g.2.2.2.2 = true) (t0 : lay a0 = (0, 13, 2)) (H : W_X10_eval g d av Q n 10 [some (.ref a0), some (.int x1), some (.long (0 : Int64)), none, some (.int ((ri h a0 1) - (1 : Int32)))] [] h) : W_X10_eval g d av Q n 0 [some (.ref a0), some (.int x1), none, none, none] [] h := by
  refine r_lconst (v := (0 : Int64)) dX10_eval_0 rfl ?_
  refine r_lstore_n (ls2 := [some (.ref a0), some (.int x1), some (.long (0 : Int64)), none, none]) dX10_eval_1 rfl (by decide) rfl ?_
  refine r_aload_n dX10_eval_2 rfl rfl ?_
  refine m_getI hp fw_X10_25 dX10_eval_3 rfl t0 ?_
  refine r_iconst (v := (1 : Int32)) dX10_eval_6 rfl ?_
  refine r_isub dX10_eval_7 ?_
  refine r_istore (ls2 := [some (.ref a0), some (.int x1), some (.long (0 : Int64)), none, some (.int ((ri h a0 1) - (1 : Int32)))]) dX10_eval_8 (by decide) rfl ?_
  exact H
theorem s_X10_eval_10 {g : GX} {d : Nat} {av : List Value} {Q : QT} {n : Nat} {h : Hp} {a0 : Nat} {x1 : Int32} {y2 : Int64} {x4 : Int32} (hp : g.2.2.2.2 = true) (t0 : lay a0 = (0, 13, 2)) (H : ((x4 < (0 : Int32)) → (Q (some (.int (y2).toInt32)) n h)) ∧ ((¬ x4 < (0 : Int32)) → (vp_in x4 (rm (a0 + 1)) ∧ (W_X10_eval g d av Q n 10 [some (.ref a0), some (.int x1), some (.long (((y2 * (x1).toInt64) + ((ri h (a0 + 1) (x4).toNatClampNeg)).toInt64) - ((y2 * (x1).toInt64) + ((ri h (a0 + 1) (x4).toNatClampNeg)).toInt64) / (2147483647 : Int64) * (2147483647 : Int64))), none, some (.int (x4 + (-1 : Int32)))] [] h)))) : W_X10_eval g d av Q n 10 [some (.ref a0), some (.int x1), some (.long y2), none, some (.int x4)] [] h := by
  refine r_iload dX10_eval_10 rfl ?_
  refine r_if_lt (tgt := 39) dX10_eval_12 rfl (fun cH => ?_) (fun cH => ?_)
  · replace H := H.1 cH
    refine r_lload_n dX10_eval_39 rfl rfl ?_
    refine r_l2i dX10_eval_40 ?_
    exact r_zret dX10_eval_41 rfl rfl (Nat.le_refl _) (Nat.le_refl _) H
  · replace H := H.2 cH
    refine r_lload_n dX10_eval_15 rfl rfl ?_
    refine r_iload_n dX10_eval_16 rfl rfl ?_
    refine r_i2l dX10_eval_17 ?_
    refine r_lmul dX10_eval_18 ?_
    refine r_aload_n dX10_eval_19 rfl rfl ?_
    refine m_getF (x := (a0 + 1)) hp fw_X10_30 dX10_eval_20 rfl t0 (ff_13_0 t0) ?_
    refine r_iload dX10_eval_23 rfl ?_
    refine m_iald hp dX10_eval_25 (lf_13_0 t0) H.1 ?_
    replace H := H.2
    refine r_i2l dX10_eval_26 ?_
    refine r_ladd dX10_eval_27 ?_
    refine r_ldc2 (own := "") (v := (2147483647 : Int64)) dX10_eval_28 q2239 ?_
    refine r_lrem dX10_eval_31 (by decide) ?_
    refine r_lstore_n (ls2 := [some (.ref a0), some (.int x1), some (.long (((y2 * (x1).toInt64) + ((ri h (a0 + 1) (x4).toNatClampNeg)).toInt64) - ((y2 * (x1).toInt64) + ((ri h (a0 + 1) (x4).toNatClampNeg)).toInt64) / (2147483647 : Int64) * (2147483647 : Int64))), none, some (.int x4)]) dX10_eval_32 rfl (by decide) rfl ?_
    refine r_iinc (v := (x4 + (-1 : Int32))) (ls2 := [some (.ref a0), some (.int x1), some (.long (((y2 * (x1).toInt64) + ((ri h (a0 + 1) (x4).toNatClampNeg)).toInt64) - ((y2 * (x1).toInt64) + ((ri h (a0 + 1) (x4).toNatClampNeg)).toInt64) / (2147483647 : Int64) * (2147483647 : Int64))), none, some (.int (x4 + (-1 : Int32)))]) dX10_eval_33 rfl rfl (by decide) rfl ?_
    refine r_goto (tgt := 10) dX10_eval_36 rfl ?_
    exact H
abbrev W_X10_divideN (g : GX) (d : Nat) (av : List Value) (Q : QT) (n : Nat) (pc : Nat) (ls : LV) (stk : List Value) (h : Hp) : Prop := RJ g m_X10_divide (d + 1) 0 0 av Q pc ls stk n h 0 0
theorem s_X10_divideN_0 {g : GX} {d : Nat} {av : List Value} {Q : QT} {n : Nat} {h : Hp} {a1 : Nat} {a2 : Nat} {a3 : Nat} (hp : g.2.2.2.2 = true) (t1 : lay a1 = (0, 13, 2)) (t2 : lay a2 = (0, 13, 2)) (t3 : lay a3 = (0, 13, 2)) (H : CallV g m_X10_set_2 d [.ref a1, .ref a2] n h (fun h1 => (CallI g m_X13_head d [.ref a3] n h1 (fun v2 h2 => (CallI g m_X10_inv d [.int v2] n h2 (fun v3 h3 => (W_X10_divideN g d av Q n 48 [some (.null), some (.ref a1), none, some (.ref a3), some (.int v3), some (.int ((ri h3 a2 1) - (ri h3 a3 1))), none, none] [] h3))))))) : W_X10_divideN g d av Q n 0 [some (.null), some (.ref a1), some (.ref a2), some (.ref a3), none, none, none, none] [] h := by
  refine r_aload_n dX10_divide_0 rfl rfl ?_
  refine r_aload_n dX10_divide_1 rfl rfl ?_
  refine k_SV (As := [.ref a1, .ref a2]) (stk := []) cs_X10_62 dX10_divide_2 rfl (Nat.le_of_ble_eq_true rfl) (H.mono (fun h1 H => ?_)) ⟨Nat.le_refl _, Nat.le_refl _⟩
  refine r_aload_n dX10_divide_5 rfl rfl ?_
  refine k_VI (As := []) (stk := []) hp cv_X10_66 dX10_divide_6 rfl (Nat.le_of_ble_eq_true rfl) t3 (H.mono (fun v2 h2 H => ?_)) ⟨Nat.le_refl _, Nat.le_refl _⟩
  refine k_SI (As := [.int v2]) (stk := []) cs_X10_13 dX10_divide_9 rfl (Nat.le_of_ble_eq_true rfl) (H.mono (fun v3 h3 H => ?_)) ⟨Nat.le_refl _, Nat.le_refl _⟩
  refine r_istore (ls2 := [some (.null), some (.ref a1), some (.ref a2), some (.ref a3), some (.int v3), none, none, none]) dX10_divide_12 (by decide) rfl ?_
  refine r_aload_nN dX10_divide_14 rfl rfl ?_
  refine r_ifnullN (tgt := 37) dX10_divide_15 rfl ?_
  refine r_aload_n dX10_divide_37 rfl rfl ?_
  refine m_getI hp fw_X10_25 dX10_divide_38 rfl t2 ?_
  refine r_aload_n dX10_divide_41 rfl rfl ?_
  refine m_getI hp fw_X10_25 dX10_divide_42 rfl t3 ?_
  refine r_isub dX10_divide_45 ?_
  refine r_istore (ls2 := [some (.null), some (.ref a1), some (.ref a2), some (.ref a3), some (.int v3), some (.int ((ri h3 a2 1) - (ri h3 a3 1))), none, none]) dX10_divide_46 (by decide) rfl ?_
  refine r_prune [true, true, false, true, true, true, false, false] (ls2 := [some (.null), some (.ref a1), none, some (.ref a3), some (.int v3), some (.int ((ri h3 a2 1) - (ri h3 a3 1))), none, none]) rfl ?_
  exact H
theorem s_X10_divideN_48 {g : GX} {d : Nat} {av : List Value} {Q : QT} {n : Nat} {h : Hp} {a1 : Nat} {a3 : Nat} {x4 : Int32} {x5 : Int32} (hp : g.2.2.2.2 = true) (t1 : lay a1 = (0, 13, 2)) (t3 : lay a3 = (0, 13, 2)) (H : ((x5 < (0 : Int32)) → (CallV g m_X13_trim d [.ref a1] n h (fun h1 => (Q none n h1)))) ∧ ((¬ x5 < (0 : Int32)) → ((((ri h a1 1) ≤ ((x5 + (ri h a3 1)) - (1 : Int32))) → (W_X10_divideN g d av Q n 92 [some (.null), some (.ref a1), none, some (.ref a3), some (.int x4), some (.int x5), none, none] [.int (0 : Int32)] h)) ∧ ((¬ (ri h a1 1) ≤ ((x5 + (ri h a3 1)) - (1 : Int32))) → (vp_in ((x5 + (ri h a3 1)) - (1 : Int32)) (rm (a1 + 1)) ∧ (CallI g m_X10_mul d [.int (ri h (a1 + 1) (((x5 + (ri h a3 1)) - (1 : Int32))).toNatClampNeg), .int x4] n h (fun v2 h2 => (W_X10_divideN g d av Q n 92 [some (.null), some (.ref a1), none, some (.ref a3), some (.int x4), some (.int x5), none, none] [.int v2] h2)))))))) : W_X10_divideN g d av Q n 48 [some (.null), some (.ref a1), none, some (.ref a3), some (.int x4), some (.int x5), none, none] [] h := by
  refine r_iload dX10_divide_48 rfl ?_
  refine r_if_lt (tgt := 171) dX10_divide_50 rfl (fun cH => ?_) (fun cH => ?_)
  · replace H := H.1 cH
    refine r_aload_n dX10_divide_171 rfl rfl ?_
    refine k_VV (As := []) (stk := []) hp cv_X10_52 dX10_divide_172 rfl (Nat.le_of_ble_eq_true rfl) t1 (H.mono (fun h1 H => ?_)) ⟨Nat.le_refl _, Nat.le_refl _⟩
    exact r_vret dX10_divide_175 rfl (Nat.le_refl _) (Nat.le_refl _) H
  · replace H := H.2 cH
    refine r_iload dX10_divide_53 rfl ?_
    refine r_aload_n dX10_divide_55 rfl rfl ?_
    refine m_getI hp fw_X10_25 dX10_divide_56 rfl t3 ?_
    refine r_iadd dX10_divide_59 ?_
    refine r_iconst (v := (1 : Int32)) dX10_divide_60 rfl ?_
    refine r_isub dX10_divide_61 ?_
    refine r_aload_n dX10_divide_62 rfl rfl ?_
    refine m_getI hp fw_X10_25 dX10_divide_63 rfl t1 ?_
    refine r_icmp_ge (tgt := 91) dX10_divide_66 rfl (fun cH => ?_) (fun cH => ?_)
    · replace H := H.1 cH
      refine r_iconst (v := (0 : Int32)) dX10_divide_91 rfl ?_
      exact H
    · replace H := H.2 cH
      refine r_aload_n dX10_divide_69 rfl rfl ?_
      refine m_getF (x := (a1 + 1)) hp fw_X10_30 dX10_divide_70 rfl t1 (ff_13_0 t1) ?_
      refine r_iload dX10_divide_73 rfl ?_
      refine r_aload_n dX10_divide_75 rfl rfl ?_
      refine m_getI hp fw_X10_25 dX10_divide_76 rfl t3 ?_
      refine r_iadd dX10_divide_79 ?_
      refine r_iconst (v := (1 : Int32)) dX10_divide_80 rfl ?_
      refine r_isub dX10_divide_81 ?_
      refine m_iald hp dX10_divide_82 (lf_13_0 t1) H.1 ?_
      replace H := H.2
      refine r_iload dX10_divide_83 rfl ?_
      refine k_SI (As := [.int (ri h (a1 + 1) (((x5 + (ri h a3 1)) - (1 : Int32))).toNatClampNeg), .int x4]) (stk := []) cs_X10_56 dX10_divide_85 rfl (Nat.le_of_ble_eq_true rfl) (H.mono (fun v2 h2 H => ?_)) ⟨Nat.le_refl _, Nat.le_refl _⟩
      refine r_goto (tgt := 92) dX10_divide_88 rfl ?_
      exact H
theorem s_X10_divideN_92 {g : GX} {d : Nat} {av : List Value} {Q : QT} {n : Nat} {h : Hp} {a1 : Nat} {a3 : Nat} {x4 : Int32} {x5 : Int32} {xs0 : Int32} (hp : g.2.2.2.2 = true) (t1 : lay a1 = (0, 13, 2)) (t3 : lay a3 = (0, 13, 2)) (H : W_X10_divideN g d av Q n 110 [some (.null), some (.ref a1), none, some (.ref a3), some (.int x4), some (.int x5), some (.int xs0), some (.int (0 : Int32))] [] h) : W_X10_divideN g d av Q n 92 [some (.null), some (.ref a1), none, some (.ref a3), some (.int x4), some (.int x5), none, none] [.int xs0] h := by
  refine r_istore (ls2 := [some (.null), some (.ref a1), none, some (.ref a3), some (.int x4), some (.int x5), some (.int xs0), none]) dX10_divide_92 (by decide) rfl ?_
  refine r_aload_nN dX10_divide_94 rfl rfl ?_
  refine r_ifnullN (tgt := 107) dX10_divide_95 rfl ?_
  refine r_iconst (v := (0 : Int32)) dX10_divide_107 rfl ?_
  refine r_istore (ls2 := [some (.null), some (.ref a1), none, some (.ref a3), some (.int x4), some (.int x5), some (.int xs0), some (.int (0 : Int32))]) dX10_divide_108 (by decide) rfl ?_
  exact H
theorem s_X10_divideN_110 {g : GX} {d : Nat} {av : List Value} {Q : QT} {n : Nat} {h : Hp} {a1 : Nat} {a3 : Nat} {x4 : Int32} {x5 : Int32} {x6 : Int32} {x7 : Int32} (hp : g.2.2.2.2 = true) (t1 : lay a1 = (0, 13, 2)) (t3 : lay a3 = (0, 13, 2)) (H : (((ri h a3 1) ≤ x7) → (W_X10_divideN g d av Q n 165 [some (.null), some (.ref a1), none, some (.ref a3), some (.int x4), some (.int x5), none, none] [] h)) ∧ ((¬ (ri h a3 1) ≤ x7) → (((x6 = (0 : Int32)) → (W_X10_divideN g d av Q n 165 [some (.null), some (.ref a1), none, some (.ref a3), some (.int x4), some (.int x5), none, none] [] h)) ∧ ((¬ x6 = (0 : Int32)) → (vp_in (x5 + x7) (rm (a1 + 1)) ∧ (vp_in x7 (rm (a3 + 1)) ∧ (CallI g m_X10_mul d [.int x6, .int (ri h (a3 + 1) (x7).toNatClampNeg)] n h (fun v1 h1 => (CallI g m_X10_sub d [.int (ri h (a1 + 1) ((x5 + x7)).toNatClampNeg), .int v1] n h1 (fun v2 h2 => (vp_in (x5 + x7) (rm (a1 + 1)) ∧ ∀ h3, h3 = wi h2 (a1 + 1) ((x5 + x7)).toNatClampNeg v2 → (W_X10_divideN g d av Q n 110 [some (.null), some (.ref a1), none, some (.ref a3), some (.int x4), some (.int x5), some (.int x6), some (.int (x7 + (1 : Int32)))] [] h3)))))))))))) : W_X10_divideN g d av Q n 110 [some (.null), some (.ref a1), none, some (.ref a3), some (.int x4), some (.int x5), some (.int x6), some (.int x7)] [] h := by
  refine r_iload dX10_divide_110 rfl ?_
  refine r_aload_n dX10_divide_112 rfl rfl ?_
  refine m_getI hp fw_X10_25 dX10_divide_113 rfl t3 ?_
  refine r_icmp_ge (tgt := 165) dX10_divide_116 rfl (fun cH => ?_) (fun cH => ?_)
  · replace H := H.1 cH
    refine r_prune [true, true, false, true, true, true, false, false] (ls2 := [some (.null), some (.ref a1), none, some (.ref a3), some (.int x4), some (.int x5), none, none]) rfl ?_
    exact H
  · replace H := H.2 cH
    refine r_iload dX10_divide_119 rfl ?_
    refine r_if_eq (tgt := 165) dX10_divide_121 rfl (fun cH => ?_) (fun cH => ?_)
    · replace H := H.1 cH
      refine r_prune [true, true, false, true, true, true, false, false] (ls2 := [some (.null), some (.ref a1), none, some (.ref a3), some (.int x4), some (.int x5), none, none]) rfl ?_
      exact H
    · replace H := H.2 cH
      refine r_aload_n dX10_divide_124 rfl rfl ?_
      refine m_getF (x := (a1 + 1)) hp fw_X10_30 dX10_divide_125 rfl t1 (ff_13_0 t1) ?_
      refine r_iload dX10_divide_128 rfl ?_
      refine r_iload dX10_divide_130 rfl ?_
      refine r_iadd dX10_divide_132 ?_
      refine r_aload_n dX10_divide_133 rfl rfl ?_
      refine m_getF (x := (a1 + 1)) hp fw_X10_30 dX10_divide_134 rfl t1 (ff_13_0 t1) ?_
      refine r_iload dX10_divide_137 rfl ?_
      refine r_iload dX10_divide_139 rfl ?_
      refine r_iadd dX10_divide_141 ?_
      refine m_iald hp dX10_divide_142 (lf_13_0 t1) H.1 ?_
      replace H := H.2
      refine r_iload dX10_divide_143 rfl ?_
      refine r_aload_n dX10_divide_145 rfl rfl ?_
      refine m_getF (x := (a3 + 1)) hp fw_X10_30 dX10_divide_146 rfl t3 (ff_13_0 t3) ?_
      refine r_iload dX10_divide_149 rfl ?_
      refine m_iald hp dX10_divide_151 (lf_13_0 t3) H.1 ?_
      replace H := H.2
      refine k_SI (As := [.int x6, .int (ri h (a3 + 1) (x7).toNatClampNeg)]) (stk := [.int (ri h (a1 + 1) ((x5 + x7)).toNatClampNeg), .int (x5 + x7), .ref (a1 + 1)]) cs_X10_56 dX10_divide_152 rfl (Nat.le_of_ble_eq_true rfl) (H.mono (fun v1 h1 H => ?_)) ⟨Nat.le_refl _, Nat.le_refl _⟩
      refine k_SI (As := [.int (ri h (a1 + 1) ((x5 + x7)).toNatClampNeg), .int v1]) (stk := [.int (x5 + x7), .ref (a1 + 1)]) cs_X10_46 dX10_divide_155 rfl (Nat.le_of_ble_eq_true rfl) (H.mono (fun v2 h2 H => ?_)) ⟨Nat.le_refl _, Nat.le_refl _⟩
      refine m_iast hp dX10_divide_158 (lf_13_0 t1) H.1 (fun h3 eh3 => ?_)
      replace H := H.2 h3 eh3
      refine r_iinc (v := (x7 + (1 : Int32))) (ls2 := [some (.null), some (.ref a1), none, some (.ref a3), some (.int x4), some (.int x5), some (.int x6), some (.int (x7 + (1 : Int32)))]) dX10_divide_159 rfl rfl (by decide) rfl ?_
      refine r_goto (tgt := 110) dX10_divide_162 rfl ?_
      exact H
theorem s_X10_divideN_165 {g : GX} {d : Nat} {av : List Value} {Q : QT} {n : Nat} {h : Hp} {a1 : Nat} {a3 : Nat} {x4 : Int32} {x5 : Int32} (hp : g.2.2.2.2 = true) (t1 : lay a1 = (0, 13, 2)) (t3 : lay a3 = (0, 13, 2)) (H : W_X10_divideN g d av Q n 48 [some (.null), some (.ref a1), none, some (.ref a3), some (.int x4), some (.int (x5 + (-1 : Int32))), none, none] [] h) : W_X10_divideN g d av Q n 165 [some (.null), some (.ref a1), none, some (.ref a3), some (.int x4), some (.int x5), none, none] [] h := by
  refine r_iinc (v := (x5 + (-1 : Int32))) (ls2 := [some (.null), some (.ref a1), none, some (.ref a3), some (.int x4), some (.int (x5 + (-1 : Int32))), none, none]) dX10_divide_165 rfl rfl (by decide) rfl ?_
  refine r_goto (tgt := 48) dX10_divide_168 rfl ?_
  exact H
