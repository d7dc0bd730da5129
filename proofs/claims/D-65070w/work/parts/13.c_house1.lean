set_option maxRecDepth 100000
theorem dX0_type_0 : decode cX0_type 0 = .ok (.iload_n 3, 1) := by decide +kernel
theorem dX0_type_1 : decode cX0_type 1 = .ok (.iconst 1, 1) := by decide +kernel
theorem dX0_type_2 : decode cX0_type 2 = .ok (.if_icmp .lt 21, 3) := by decide +kernel
theorem dX0_type_5 : decode cX0_type 5 = .ok (.iload_n 3, 1) := by decide +kernel
theorem dX0_type_6 : decode cX0_type 6 = .ok (.bipush 8, 2) := by decide +kernel
theorem dX0_type_8 : decode cX0_type 8 = .ok (.if_icmp .gt 15, 3) := by decide +kernel
theorem dX0_type_11 : decode cX0_type 11 = .ok (.aload_n 0, 1) := by decide +kernel
theorem dX0_type_12 : decode cX0_type 12 = .ok (.getfield 204, 3) := by decide +kernel
theorem dX0_type_15 : decode cX0_type 15 = .ok (.iload_n 3, 1) := by decide +kernel
theorem dX0_type_16 : decode cX0_type 16 = .ok (.iadd, 1) := by decide +kernel
theorem dX0_type_17 : decode cX0_type 17 = .ok (.sipush 400, 3) := by decide +kernel
theorem dX0_type_20 : decode cX0_type 20 = .ok (.if_icmp .le 5, 3) := by decide +kernel
theorem dX0_type_23 : decode cX0_type 23 = .ok (.iconst (-1), 1) := by decide +kernel
theorem dX0_type_24 : decode cX0_type 24 = .ok (.ireturn, 1) := by decide +kernel
theorem dX0_type_25 : decode cX0_type 25 = .ok (.iload_n 3, 1) := by decide +kernel
theorem dX0_type_26 : decode cX0_type 26 = .ok (.iconst 1, 1) := by decide +kernel
theorem dX0_type_27 : decode cX0_type 27 = .ok (.isub, 1) := by decide +kernel
theorem dX0_type_28 : decode cX0_type 28 = .ok (.istore 4, 2) := by decide +kernel
theorem dX0_type_30 : decode cX0_type 30 = .ok (.iload 4, 2) := by decide +kernel
theorem dX0_type_32 : decode cX0_type 32 = .ok (.ifCond .lt 34, 3) := by decide +kernel
theorem dX0_type_35 : decode cX0_type 35 = .ok (.aload_n 0, 1) := by decide +kernel
theorem dX0_type_36 : decode cX0_type 36 = .ok (.getfield 207, 3) := by decide +kernel
theorem dX0_type_39 : decode cX0_type 39 = .ok (.aload_n 0, 1) := by decide +kernel
theorem dX0_type_40 : decode cX0_type 40 = .ok (.dup, 1) := by decide +kernel
theorem dX0_type_41 : decode cX0_type 41 = .ok (.getfield 204, 3) := by decide +kernel
theorem dX0_type_44 : decode cX0_type 44 = .ok (.dup_x1, 1) := by decide +kernel
theorem dX0_type_45 : decode cX0_type 45 = .ok (.iconst 1, 1) := by decide +kernel
theorem dX0_type_46 : decode cX0_type 46 = .ok (.iadd, 1) := by decide +kernel
theorem dX0_type_47 : decode cX0_type 47 = .ok (.putfield 204, 3) := by decide +kernel
theorem dX0_type_50 : decode cX0_type 50 = .ok (.lload_n 1, 1) := by decide +kernel
theorem dX0_type_51 : decode cX0_type 51 = .ok (.bipush 8, 2) := by decide +kernel
theorem dX0_type_53 : decode cX0_type 53 = .ok (.iload 4, 2) := by decide +kernel
theorem dX0_type_55 : decode cX0_type 55 = .ok (.imul, 1) := by decide +kernel
theorem dX0_type_56 : decode cX0_type 56 = .ok (.lshr, 1) := by decide +kernel
theorem dX0_type_57 : decode cX0_type 57 = .ok (.l2i, 1) := by decide +kernel
theorem dX0_type_58 : decode cX0_type 58 = .ok (.i2b, 1) := by decide +kernel
theorem dX0_type_59 : decode cX0_type 59 = .ok (.bastore, 1) := by decide +kernel
theorem dX0_type_60 : decode cX0_type 60 = .ok (.iinc 4 (-1), 3) := by decide +kernel
theorem dX0_type_63 : decode cX0_type 63 = .ok (.goto (-33), 3) := by decide +kernel
theorem dX0_type_66 : decode cX0_type 66 = .ok (.aload_n 0, 1) := by decide +kernel
theorem dX0_type_67 : decode cX0_type 67 = .ok (.getfield 204, 3) := by decide +kernel
theorem dX0_type_70 : decode cX0_type 70 = .ok (.ireturn, 1) := by decide +kernel
theorem dX0_read_0 : decode cX0_read 0 = .ok (.iload_n 1, 1) := by decide +kernel
theorem dX0_read_1 : decode cX0_read 1 = .ok (.invokestatic 519, 3) := by decide +kernel
theorem dX0_read_4 : decode cX0_read 4 = .ok (.ifCond .ne 5, 3) := by decide +kernel
theorem dX0_read_7 : decode cX0_read 7 = .ok (.iconst (-1), 1) := by decide +kernel
theorem dX0_read_8 : decode cX0_read 8 = .ok (.ireturn, 1) := by decide +kernel
theorem dX0_read_9 : decode cX0_read 9 = .ok (.aload_n 0, 1) := by decide +kernel
theorem dX0_read_10 : decode cX0_read 10 = .ok (.iconst 0, 1) := by decide +kernel
theorem dX0_read_11 : decode cX0_read 11 = .ok (.putfield 211, 3) := by decide +kernel
theorem dX0_read_14 : decode cX0_read 14 = .ok (.aload_n 0, 1) := by decide +kernel
theorem dX0_read_15 : decode cX0_read 15 = .ok (.iconst 0, 1) := by decide +kernel
theorem dX0_read_16 : decode cX0_read 16 = .ok (.putfield 247, 3) := by decide +kernel
theorem dX0_read_19 : decode cX0_read 19 = .ok (.aload_n 0, 1) := by decide +kernel
theorem dX0_read_20 : decode cX0_read 20 = .ok (.iconst 0, 1) := by decide +kernel
theorem dX0_read_21 : decode cX0_read 21 = .ok (.putfield 214, 3) := by decide +kernel
theorem dX0_read_24 : decode cX0_read 24 = .ok (.aload_n 0, 1) := by decide +kernel
theorem dX0_read_25 : decode cX0_read 25 = .ok (.iconst 0, 1) := by decide +kernel
theorem dX0_read_26 : decode cX0_read 26 = .ok (.putfield 231, 3) := by decide +kernel
theorem dX0_read_29 : decode cX0_read 29 = .ok (.aload_n 0, 1) := by decide +kernel
theorem dX0_read_30 : decode cX0_read 30 = .ok (.invokevirtual 257, 3) := by decide +kernel
theorem dX0_read_33 : decode cX0_read 33 = .ok (.aload_n 0, 1) := by decide +kernel
theorem dX0_read_34 : decode cX0_read 34 = .ok (.getfield 214, 3) := by decide +kernel
theorem dX0_read_37 : decode cX0_read 37 = .ok (.ifCond .ne 20, 3) := by decide +kernel
theorem dX0_read_40 : decode cX0_read 40 = .ok (.aload_n 0, 1) := by decide +kernel
theorem dX0_read_41 : decode cX0_read 41 = .ok (.invokevirtual 220, 3) := by decide +kernel
theorem dX0_read_44 : decode cX0_read 44 = .ok (.iconst (-1), 1) := by decide +kernel
theorem dX0_read_45 : decode cX0_read 45 = .ok (.if_icmp .eq 12, 3) := by decide +kernel
theorem dX0_read_48 : decode cX0_read 48 = .ok (.aload_n 0, 1) := by decide +kernel
theorem dX0_read_49 : decode cX0_read 49 = .ok (.iconst 1, 1) := by decide +kernel
theorem dX0_read_50 : decode cX0_read 50 = .ok (.aload_n 0, 1) := by decide +kernel
theorem dX0_read_51 : decode cX0_read 51 = .ok (.getfield 211, 3) := by decide +kernel
theorem dX0_read_54 : decode cX0_read 54 = .ok (.invokevirtual 227, 3) := by decide +kernel
theorem dX0_read_57 : decode cX0_read 57 = .ok (.aload_n 0, 1) := by decide +kernel
theorem dX0_read_58 : decode cX0_read 58 = .ok (.getfield 214, 3) := by decide +kernel
theorem dX0_read_61 : decode cX0_read 61 = .ok (.ifCond .ne 12, 3) := by decide +kernel
theorem dX0_read_64 : decode cX0_read 64 = .ok (.aload_n 0, 1) := by decide +kernel
theorem dX0_read_65 : decode cX0_read 65 = .ok (.iconst 0, 1) := by decide +kernel
theorem dX0_read_66 : decode cX0_read 66 = .ok (.putfield 211, 3) := by decide +kernel
theorem dX0_read_69 : decode cX0_read 69 = .ok (.aload_n 0, 1) := by decide +kernel
theorem dX0_read_70 : decode cX0_read 70 = .ok (.invokevirtual 309, 3) := by decide +kernel
theorem dX0_read_73 : decode cX0_read 73 = .ok (.aload_n 0, 1) := by decide +kernel
theorem dX0_read_74 : decode cX0_read 74 = .ok (.iconst 0, 1) := by decide +kernel
theorem dX0_read_75 : decode cX0_read 75 = .ok (.putfield 204, 3) := by decide +kernel
theorem dX0_read_78 : decode cX0_read 78 = .ok (.aload_n 0, 1) := by decide +kernel
theorem dX0_read_79 : decode cX0_read 79 = .ok (.aload_n 0, 1) := by decide +kernel
theorem dX0_read_80 : decode cX0_read 80 = .ok (.getfield 214, 3) := by decide +kernel
theorem dX0_read_83 : decode cX0_read 83 = .ok (.ifCond .ne 7, 3) := by decide +kernel
theorem dX0_read_86 : decode cX0_read 86 = .ok (.iconst (-1), 1) := by decide +kernel
theorem dX0_read_87 : decode cX0_read 87 = .ok (.goto 7, 3) := by decide +kernel
theorem dX0_read_90 : decode cX0_read 90 = .ok (.aload_n 0, 1) := by decide +kernel
theorem dX0_read_91 : decode cX0_read 91 = .ok (.getfield 217, 3) := by decide +kernel
theorem dX0_read_94 : decode cX0_read 94 = .ok (.putfield 321, 3) := by decide +kernel
theorem dX0_read_97 : decode cX0_read 97 = .ok (.aload_n 0, 1) := by decide +kernel
theorem dX0_read_98 : decode cX0_read 98 = .ok (.getfield 214, 3) := by decide +kernel
theorem dX0_read_101 : decode cX0_read 101 = .ok (.ifCond .ne 17, 3) := by decide +kernel
theorem dX0_read_104 : decode cX0_read 104 = .ok (.aload_n 0, 1) := by decide +kernel
theorem dX0_read_105 : decode cX0_read 105 = .ok (.aload_n 0, 1) := by decide +kernel
theorem dX0_read_106 : decode cX0_read 106 = .ok (.getfield 234, 3) := by decide +kernel
theorem dX0_read_109 : decode cX0_read 109 = .ok (.iconst 0, 1) := by decide +kernel
theorem dX0_read_110 : decode cX0_read 110 = .ok (.aaload, 1) := by decide +kernel
theorem dX0_read_111 : decode cX0_read 111 = .ok (.iload_n 1, 1) := by decide +kernel
theorem dX0_read_112 : decode cX0_read 112 = .ok (.invokevirtual 515, 3) := by decide +kernel
theorem dX0_read_115 : decode cX0_read 115 = .ok (.goto 10, 3) := by decide +kernel
theorem dX0_read_118 : decode cX0_read 118 = .ok (.bipush (-10), 2) := by decide +kernel
theorem dX0_read_120 : decode cX0_read 120 = .ok (.aload_n 0, 1) := by decide +kernel
theorem dX0_read_121 : decode cX0_read 121 = .ok (.getfield 214, 3) := by decide +kernel
theorem dX0_read_124 : decode cX0_read 124 = .ok (.isub, 1) := by decide +kernel
theorem dX0_read_125 : decode cX0_read 125 = .ok (.ireturn, 1) := by decide +kernel
theorem dX0_isSlot_0 : decode cX0_isSlot 0 = .ok (.iload_n 0, 1) := by decide +kernel
theorem dX0_isSlot_1 : decode cX0_isSlot 1 = .ok (.ifCond .lt 13, 3) := by decide +kernel
theorem dX0_isSlot_4 : decode cX0_isSlot 4 = .ok (.iload_n 0, 1) := by decide +kernel
theorem dX0_isSlot_5 : decode cX0_isSlot 5 = .ok (.bipush 12, 2) := by decide +kernel
theorem dX0_isSlot_7 : decode cX0_isSlot 7 = .ok (.if_icmp .ge 7, 3) := by decide +kernel
theorem dX0_isSlot_10 : decode cX0_isSlot 10 = .ok (.iconst 1, 1) := by decide +kernel
theorem dX0_isSlot_11 : decode cX0_isSlot 11 = .ok (.goto 4, 3) := by decide +kernel
theorem dX0_isSlot_14 : decode cX0_isSlot 14 = .ok (.iconst 0, 1) := by decide +kernel
theorem dX0_isSlot_15 : decode cX0_isSlot 15 = .ok (.ireturn, 1) := by decide +kernel
theorem dX0_lookE_0 : decode cX0_lookE 0 = .ok (.aload_n 0, 1) := by decide +kernel
theorem dX0_lookE_1 : decode cX0_lookE 1 = .ok (.bipush 45, 2) := by decide +kernel
theorem dX0_lookE_3 : decode cX0_lookE 3 = .ok (.invokevirtual 223, 3) := by decide +kernel
theorem dX0_lookE_6 : decode cX0_lookE 6 = .ok (.ifCond .eq 13, 3) := by decide +kernel
theorem dX0_lookE_9 : decode cX0_lookE 9 = .ok (.aload_n 0, 1) := by decide +kernel
theorem dX0_lookE_10 : decode cX0_lookE 10 = .ok (.dup, 1) := by decide +kernel
theorem dX0_lookE_11 : decode cX0_lookE 11 = .ok (.getfield 211, 3) := by decide +kernel
theorem dX0_lookE_14 : decode cX0_lookE 14 = .ok (.iconst 1, 1) := by decide +kernel
theorem dX0_lookE_15 : decode cX0_lookE 15 = .ok (.iadd, 1) := by decide +kernel
theorem dX0_lookE_16 : decode cX0_lookE 16 = .ok (.putfield 211, 3) := by decide +kernel
theorem dX0_lookE_19 : decode cX0_lookE 19 = .ok (.aload_n 0, 1) := by decide +kernel
theorem dX0_lookE_20 : decode cX0_lookE 20 = .ok (.invokevirtual 238, 3) := by decide +kernel
theorem dX0_lookE_23 : decode cX0_lookE 23 = .ok (.aload_n 0, 1) := by decide +kernel
theorem dX0_lookE_24 : decode cX0_lookE 24 = .ok (.bipush 43, 2) := by decide +kernel
theorem dX0_lookE_26 : decode cX0_lookE 26 = .ok (.invokevirtual 223, 3) := by decide +kernel
theorem dX0_lookE_29 : decode cX0_lookE 29 = .ok (.ifCond .ne 12, 3) := by decide +kernel
theorem dX0_lookE_32 : decode cX0_lookE 32 = .ok (.aload_n 0, 1) := by decide +kernel
theorem dX0_lookE_33 : decode cX0_lookE 33 = .ok (.bipush 45, 2) := by decide +kernel
theorem dX0_lookE_35 : decode cX0_lookE 35 = .ok (.invokevirtual 223, 3) := by decide +kernel
theorem dX0_lookE_38 : decode cX0_lookE 38 = .ok (.ifCond .eq 20, 3) := by decide +kernel
theorem dX0_lookE_41 : decode cX0_lookE 41 = .ok (.aload_n 0, 1) := by decide +kernel
theorem dX0_lookE_42 : decode cX0_lookE 42 = .ok (.dup, 1) := by decide +kernel
theorem dX0_lookE_43 : decode cX0_lookE 43 = .ok (.getfield 211, 3) := by decide +kernel
theorem dX0_lookE_46 : decode cX0_lookE 46 = .ok (.iconst 1, 1) := by decide +kernel
theorem dX0_lookE_47 : decode cX0_lookE 47 = .ok (.iadd, 1) := by decide +kernel
theorem dX0_lookE_48 : decode cX0_lookE 48 = .ok (.putfield 211, 3) := by decide +kernel
theorem dX0_lookE_51 : decode cX0_lookE 51 = .ok (.aload_n 0, 1) := by decide +kernel
theorem dX0_lookE_52 : decode cX0_lookE 52 = .ok (.invokevirtual 238, 3) := by decide +kernel
theorem dX0_lookE_55 : decode cX0_lookE 55 = .ok (.goto (-32), 3) := by decide +kernel
theorem dX0_lookE_58 : decode cX0_lookE 58 = .ok (.return_, 1) := by decide +kernel
theorem dX0_isNext_0 : decode cX0_isNext 0 = .ok (.aload_n 0, 1) := by decide +kernel
theorem dX0_isNext_1 : decode cX0_isNext 1 = .ok (.getfield 214, 3) := by decide +kernel
theorem dX0_isNext_4 : decode cX0_isNext 4 = .ok (.ifCond .ne 15, 3) := by decide +kernel
theorem dX0_isNext_7 : decode cX0_isNext 7 = .ok (.aload_n 0, 1) := by decide +kernel
theorem dX0_isNext_8 : decode cX0_isNext 8 = .ok (.invokevirtual 220, 3) := by decide +kernel
theorem dX0_isNext_11 : decode cX0_isNext 11 = .ok (.iload_n 1, 1) := by decide +kernel
theorem dX0_isNext_12 : decode cX0_isNext 12 = .ok (.if_icmp .ne 7, 3) := by decide +kernel
theorem dX0_isNext_15 : decode cX0_isNext 15 = .ok (.iconst 1, 1) := by decide +kernel
theorem dX0_isNext_16 : decode cX0_isNext 16 = .ok (.goto 4, 3) := by decide +kernel
theorem dX0_isNext_19 : decode cX0_isNext 19 = .ok (.iconst 0, 1) := by decide +kernel
theorem dX0_isNext_20 : decode cX0_isNext 20 = .ok (.ireturn, 1) := by decide +kernel
theorem dX0_next_0 : decode cX0_next 0 = .ok (.aload_n 0, 1) := by decide +kernel
theorem dX0_next_1 : decode cX0_next 1 = .ok (.getfield 211, 3) := by decide +kernel
theorem dX0_next_4 : decode cX0_next 4 = .ok (.aload_n 0, 1) := by decide +kernel
theorem dX0_next_5 : decode cX0_next 5 = .ok (.getfield 204, 3) := by decide +kernel
theorem dX0_next_8 : decode cX0_next 8 = .ok (.if_icmp .ge 30, 3) := by decide +kernel
theorem dX0_next_11 : decode cX0_next 11 = .ok (.aload_n 0, 1) := by decide +kernel
theorem dX0_next_12 : decode cX0_next 12 = .ok (.getfield 207, 3) := by decide +kernel
theorem dX0_next_15 : decode cX0_next 15 = .ok (.aload_n 0, 1) := by decide +kernel
theorem dX0_next_16 : decode cX0_next 16 = .ok (.getfield 211, 3) := by decide +kernel
theorem dX0_next_19 : decode cX0_next 19 = .ok (.baload, 1) := by decide +kernel
theorem dX0_next_20 : decode cX0_next 20 = .ok (.bipush 32, 2) := by decide +kernel
theorem dX0_next_22 : decode cX0_next 22 = .ok (.if_icmp .ne 16, 3) := by decide +kernel
theorem dX0_next_25 : decode cX0_next 25 = .ok (.aload_n 0, 1) := by decide +kernel
theorem dX0_next_26 : decode cX0_next 26 = .ok (.dup, 1) := by decide +kernel
theorem dX0_next_27 : decode cX0_next 27 = .ok (.getfield 211, 3) := by decide +kernel
theorem dX0_next_30 : decode cX0_next 30 = .ok (.iconst 1, 1) := by decide +kernel
theorem dX0_next_31 : decode cX0_next 31 = .ok (.iadd, 1) := by decide +kernel
theorem dX0_next_32 : decode cX0_next 32 = .ok (.putfield 211, 3) := by decide +kernel
theorem dX0_next_35 : decode cX0_next 35 = .ok (.goto (-35), 3) := by decide +kernel
theorem dX0_next_38 : decode cX0_next 38 = .ok (.aload_n 0, 1) := by decide +kernel
theorem dX0_next_39 : decode cX0_next 39 = .ok (.getfield 211, 3) := by decide +kernel
theorem dX0_next_42 : decode cX0_next 42 = .ok (.aload_n 0, 1) := by decide +kernel
theorem dX0_next_43 : decode cX0_next 43 = .ok (.getfield 204, 3) := by decide +kernel
theorem dX0_next_46 : decode cX0_next 46 = .ok (.if_icmp .ge 19, 3) := by decide +kernel
theorem dX0_next_49 : decode cX0_next 49 = .ok (.aload_n 0, 1) := by decide +kernel
theorem dX0_next_50 : decode cX0_next 50 = .ok (.getfield 207, 3) := by decide +kernel
theorem dX0_next_53 : decode cX0_next 53 = .ok (.aload_n 0, 1) := by decide +kernel
theorem dX0_next_54 : decode cX0_next 54 = .ok (.getfield 211, 3) := by decide +kernel
theorem dX0_next_57 : decode cX0_next 57 = .ok (.baload, 1) := by decide +kernel
theorem dX0_next_58 : decode cX0_next 58 = .ok (.sipush 255, 3) := by decide +kernel
theorem dX0_next_61 : decode cX0_next 61 = .ok (.iand, 1) := by decide +kernel
theorem dX0_next_62 : decode cX0_next 62 = .ok (.goto 4, 3) := by decide +kernel
theorem dX0_next_65 : decode cX0_next 65 = .ok (.iconst (-1), 1) := by decide +kernel
theorem dX0_next_66 : decode cX0_next 66 = .ok (.ireturn, 1) := by decide +kernel
theorem dX0_lookU_0 : decode cX0_lookU 0 = .ok (.aload_n 0, 1) := by decide +kernel
theorem dX0_lookU_1 : decode cX0_lookU 1 = .ok (.invokevirtual 241, 3) := by decide +kernel
theorem dX0_lookU_4 : decode cX0_lookU 4 = .ok (.aload_n 0, 1) := by decide +kernel
theorem dX0_lookU_5 : decode cX0_lookU 5 = .ok (.bipush 42, 2) := by decide +kernel
theorem dX0_lookU_7 : decode cX0_lookU 7 = .ok (.invokevirtual 223, 3) := by decide +kernel
theorem dX0_lookU_10 : decode cX0_lookU 10 = .ok (.ifCond .ne 12, 3) := by decide +kernel
theorem dX0_lookU_13 : decode cX0_lookU 13 = .ok (.aload_n 0, 1) := by decide +kernel
theorem dX0_lookU_14 : decode cX0_lookU 14 = .ok (.bipush 47, 2) := by decide +kernel
theorem dX0_lookU_16 : decode cX0_lookU 16 = .ok (.invokevirtual 223, 3) := by decide +kernel
theorem dX0_lookU_19 : decode cX0_lookU 19 = .ok (.ifCond .eq 20, 3) := by decide +kernel
theorem dX0_lookU_22 : decode cX0_lookU 22 = .ok (.aload_n 0, 1) := by decide +kernel
theorem dX0_lookU_23 : decode cX0_lookU 23 = .ok (.dup, 1) := by decide +kernel
theorem dX0_lookU_24 : decode cX0_lookU 24 = .ok (.getfield 211, 3) := by decide +kernel
theorem dX0_lookU_27 : decode cX0_lookU 27 = .ok (.iconst 1, 1) := by decide +kernel
theorem dX0_lookU_28 : decode cX0_lookU 28 = .ok (.iadd, 1) := by decide +kernel
theorem dX0_lookU_29 : decode cX0_lookU 29 = .ok (.putfield 211, 3) := by decide +kernel
theorem dX0_lookU_32 : decode cX0_lookU 32 = .ok (.aload_n 0, 1) := by decide +kernel
theorem dX0_lookU_33 : decode cX0_lookU 33 = .ok (.invokevirtual 241, 3) := by decide +kernel
theorem dX0_lookU_36 : decode cX0_lookU 36 = .ok (.goto (-32), 3) := by decide +kernel
theorem dX0_lookU_39 : decode cX0_lookU 39 = .ok (.return_, 1) := by decide +kernel
theorem dX0_lookW_0 : decode cX0_lookW 0 = .ok (.aload_n 0, 1) := by decide +kernel
theorem dX0_lookW_1 : decode cX0_lookW 1 = .ok (.invokevirtual 244, 3) := by decide +kernel
theorem dX0_lookW_4 : decode cX0_lookW 4 = .ok (.aload_n 0, 1) := by decide +kernel
theorem dX0_lookW_5 : decode cX0_lookW 5 = .ok (.bipush 33, 2) := by decide +kernel
theorem dX0_lookW_7 : decode cX0_lookW 7 = .ok (.invokevirtual 223, 3) := by decide +kernel
theorem dX0_lookW_10 : decode cX0_lookW 10 = .ok (.ifCond .eq 13, 3) := by decide +kernel
theorem dX0_lookW_13 : decode cX0_lookW 13 = .ok (.aload_n 0, 1) := by decide +kernel
theorem dX0_lookW_14 : decode cX0_lookW 14 = .ok (.dup, 1) := by decide +kernel
theorem dX0_lookW_15 : decode cX0_lookW 15 = .ok (.getfield 211, 3) := by decide +kernel
theorem dX0_lookW_18 : decode cX0_lookW 18 = .ok (.iconst 1, 1) := by decide +kernel
theorem dX0_lookW_19 : decode cX0_lookW 19 = .ok (.iadd, 1) := by decide +kernel
theorem dX0_lookW_20 : decode cX0_lookW 20 = .ok (.putfield 211, 3) := by decide +kernel
theorem dX0_lookW_23 : decode cX0_lookW 23 = .ok (.aload_n 0, 1) := by decide +kernel
theorem dX0_lookW_24 : decode cX0_lookW 24 = .ok (.bipush 94, 2) := by decide +kernel
theorem dX0_lookW_26 : decode cX0_lookW 26 = .ok (.invokevirtual 223, 3) := by decide +kernel
theorem dX0_lookW_29 : decode cX0_lookW 29 = .ok (.ifCond .eq 17, 3) := by decide +kernel
theorem dX0_lookW_32 : decode cX0_lookW 32 = .ok (.aload_n 0, 1) := by decide +kernel
theorem dX0_lookW_33 : decode cX0_lookW 33 = .ok (.dup, 1) := by decide +kernel
theorem dX0_lookW_34 : decode cX0_lookW 34 = .ok (.getfield 211, 3) := by decide +kernel
theorem dX0_lookW_37 : decode cX0_lookW 37 = .ok (.iconst 1, 1) := by decide +kernel
theorem dX0_lookW_38 : decode cX0_lookW 38 = .ok (.iadd, 1) := by decide +kernel
theorem dX0_lookW_39 : decode cX0_lookW 39 = .ok (.putfield 211, 3) := by decide +kernel
theorem dX0_lookW_42 : decode cX0_lookW 42 = .ok (.aload_n 0, 1) := by decide +kernel
theorem dX0_lookW_43 : decode cX0_lookW 43 = .ok (.invokevirtual 244, 3) := by decide +kernel
theorem dX0_lookW_46 : decode cX0_lookW 46 = .ok (.return_, 1) := by decide +kernel
theorem dX0_lookB_0 : decode cX0_lookB 0 = .ok (.aload_n 0, 1) := by decide +kernel
theorem dX0_lookB_1 : decode cX0_lookB 1 = .ok (.getfield 214, 3) := by decide +kernel
theorem dX0_lookB_4 : decode cX0_lookB 4 = .ok (.ifCond .ne 10, 3) := by decide +kernel
theorem dX0_lookB_7 : decode cX0_lookB 7 = .ok (.aload_n 0, 1) := by decide +kernel
theorem dX0_lookB_8 : decode cX0_lookB 8 = .ok (.invokevirtual 220, 3) := by decide +kernel
theorem dX0_lookB_11 : decode cX0_lookB 11 = .ok (.goto 4, 3) := by decide +kernel
theorem dX0_lookB_14 : decode cX0_lookB 14 = .ok (.iconst (-1), 1) := by decide +kernel
theorem dX0_lookB_15 : decode cX0_lookB 15 = .ok (.istore_n 1, 1) := by decide +kernel
theorem dX0_lookB_16 : decode cX0_lookB 16 = .ok (.iload_n 1, 1) := by decide +kernel
theorem dX0_lookB_17 : decode cX0_lookB 17 = .ok (.bipush 48, 2) := by decide +kernel
theorem dX0_lookB_19 : decode cX0_lookB 19 = .ok (.if_icmp .lt 90, 3) := by decide +kernel
theorem dX0_lookB_22 : decode cX0_lookB 22 = .ok (.iload_n 1, 1) := by decide +kernel
theorem dX0_lookB_23 : decode cX0_lookB 23 = .ok (.bipush 57, 2) := by decide +kernel
theorem dX0_lookB_25 : decode cX0_lookB 25 = .ok (.if_icmp .gt 84, 3) := by decide +kernel
theorem dX0_lookB_28 : decode cX0_lookB 28 = .ok (.aload_n 0, 1) := by decide +kernel
theorem dX0_lookB_29 : decode cX0_lookB 29 = .ok (.getfield 211, 3) := by decide +kernel
theorem dX0_lookB_32 : decode cX0_lookB 32 = .ok (.istore_n 2, 1) := by decide +kernel
theorem dX0_lookB_33 : decode cX0_lookB 33 = .ok (.aload_n 0, 1) := by decide +kernel
theorem dX0_lookB_34 : decode cX0_lookB 34 = .ok (.getfield 211, 3) := by decide +kernel
theorem dX0_lookB_37 : decode cX0_lookB 37 = .ok (.aload_n 0, 1) := by decide +kernel
theorem dX0_lookB_38 : decode cX0_lookB 38 = .ok (.getfield 204, 3) := by decide +kernel
theorem dX0_lookB_41 : decode cX0_lookB 41 = .ok (.if_icmp .ge 65, 3) := by decide +kernel
theorem dX0_lookB_44 : decode cX0_lookB 44 = .ok (.aload_n 0, 1) := by decide +kernel
theorem dX0_lookB_45 : decode cX0_lookB 45 = .ok (.getfield 207, 3) := by decide +kernel
theorem dX0_lookB_48 : decode cX0_lookB 48 = .ok (.aload_n 0, 1) := by decide +kernel
theorem dX0_lookB_49 : decode cX0_lookB 49 = .ok (.getfield 211, 3) := by decide +kernel
theorem dX0_lookB_52 : decode cX0_lookB 52 = .ok (.baload, 1) := by decide +kernel
theorem dX0_lookB_53 : decode cX0_lookB 53 = .ok (.bipush 48, 2) := by decide +kernel
theorem dX0_lookB_55 : decode cX0_lookB 55 = .ok (.if_icmp .lt 51, 3) := by decide +kernel
theorem dX0_lookB_58 : decode cX0_lookB 58 = .ok (.aload_n 0, 1) := by decide +kernel
theorem dX0_lookB_59 : decode cX0_lookB 59 = .ok (.getfield 207, 3) := by decide +kernel
theorem dX0_lookB_62 : decode cX0_lookB 62 = .ok (.aload_n 0, 1) := by decide +kernel
theorem dX0_lookB_63 : decode cX0_lookB 63 = .ok (.getfield 211, 3) := by decide +kernel
theorem dX0_lookB_66 : decode cX0_lookB 66 = .ok (.baload, 1) := by decide +kernel
theorem dX0_lookB_67 : decode cX0_lookB 67 = .ok (.bipush 57, 2) := by decide +kernel
theorem dX0_lookB_69 : decode cX0_lookB 69 = .ok (.if_icmp .gt 37, 3) := by decide +kernel
theorem dX0_lookB_72 : decode cX0_lookB 72 = .ok (.aload_n 0, 1) := by decide +kernel
theorem dX0_lookB_73 : decode cX0_lookB 73 = .ok (.getfield 211, 3) := by decide +kernel
theorem dX0_lookB_76 : decode cX0_lookB 76 = .ok (.iload_n 2, 1) := by decide +kernel
theorem dX0_lookB_77 : decode cX0_lookB 77 = .ok (.isub, 1) := by decide +kernel
theorem dX0_lookB_78 : decode cX0_lookB 78 = .ok (.bipush 10, 2) := by decide +kernel
theorem dX0_lookB_80 : decode cX0_lookB 80 = .ok (.if_icmp .ne 13, 3) := by decide +kernel
theorem dX0_lookB_83 : decode cX0_lookB 83 = .ok (.aload_n 0, 1) := by decide +kernel
theorem dX0_lookB_84 : decode cX0_lookB 84 = .ok (.iconst 1, 1) := by decide +kernel
theorem dX0_lookB_85 : decode cX0_lookB 85 = .ok (.aload_n 0, 1) := by decide +kernel
theorem dX0_lookB_86 : decode cX0_lookB 86 = .ok (.getfield 211, 3) := by decide +kernel
theorem dX0_lookB_89 : decode cX0_lookB 89 = .ok (.invokevirtual 227, 3) := by decide +kernel
theorem dX0_lookB_92 : decode cX0_lookB 92 = .ok (.return_, 1) := by decide +kernel
theorem dX0_lookB_93 : decode cX0_lookB 93 = .ok (.aload_n 0, 1) := by decide +kernel
theorem dX0_lookB_94 : decode cX0_lookB 94 = .ok (.dup, 1) := by decide +kernel
theorem dX0_lookB_95 : decode cX0_lookB 95 = .ok (.getfield 211, 3) := by decide +kernel
theorem dX0_lookB_98 : decode cX0_lookB 98 = .ok (.iconst 1, 1) := by decide +kernel
theorem dX0_lookB_99 : decode cX0_lookB 99 = .ok (.iadd, 1) := by decide +kernel
theorem dX0_lookB_100 : decode cX0_lookB 100 = .ok (.putfield 211, 3) := by decide +kernel
theorem dX0_lookB_103 : decode cX0_lookB 103 = .ok (.goto (-70), 3) := by decide +kernel
theorem dX0_lookB_106 : decode cX0_lookB 106 = .ok (.goto 123, 3) := by decide +kernel
theorem dX0_lookB_109 : decode cX0_lookB 109 = .ok (.iload_n 1, 1) := by decide +kernel
theorem dX0_lookB_110 : decode cX0_lookB 110 = .ok (.bipush 110, 2) := by decide +kernel
theorem dX0_lookB_112 : decode cX0_lookB 112 = .ok (.if_icmp .eq 9, 3) := by decide +kernel
theorem dX0_lookB_115 : decode cX0_lookB 115 = .ok (.iload_n 1, 1) := by decide +kernel
theorem dX0_lookB_116 : decode cX0_lookB 116 = .ok (.bipush 107, 2) := by decide +kernel
theorem dX0_lookB_118 : decode cX0_lookB 118 = .ok (.if_icmp .ne 16, 3) := by decide +kernel
theorem dX0_lookB_121 : decode cX0_lookB 121 = .ok (.aload_n 0, 1) := by decide +kernel
theorem dX0_lookB_122 : decode cX0_lookB 122 = .ok (.dup, 1) := by decide +kernel
theorem dX0_lookB_123 : decode cX0_lookB 123 = .ok (.getfield 211, 3) := by decide +kernel
theorem dX0_lookB_126 : decode cX0_lookB 126 = .ok (.iconst 1, 1) := by decide +kernel
theorem dX0_lookB_127 : decode cX0_lookB 127 = .ok (.iadd, 1) := by decide +kernel
theorem dX0_lookB_128 : decode cX0_lookB 128 = .ok (.putfield 211, 3) := by decide +kernel
theorem dX0_lookB_131 : decode cX0_lookB 131 = .ok (.goto 98, 3) := by decide +kernel
theorem dX0_lookB_134 : decode cX0_lookB 134 = .ok (.iload_n 1, 1) := by decide +kernel
theorem dX0_lookB_135 : decode cX0_lookB 135 = .ok (.bipush 67, 2) := by decide +kernel
theorem dX0_lookB_137 : decode cX0_lookB 137 = .ok (.if_icmp .ne 50, 3) := by decide +kernel
theorem dX0_lookB_140 : decode cX0_lookB 140 = .ok (.aload_n 0, 1) := by decide +kernel
theorem dX0_lookB_141 : decode cX0_lookB 141 = .ok (.dup, 1) := by decide +kernel
theorem dX0_lookB_142 : decode cX0_lookB 142 = .ok (.getfield 211, 3) := by decide +kernel
theorem dX0_lookB_145 : decode cX0_lookB 145 = .ok (.iconst 1, 1) := by decide +kernel
theorem dX0_lookB_146 : decode cX0_lookB 146 = .ok (.iadd, 1) := by decide +kernel
theorem dX0_lookB_147 : decode cX0_lookB 147 = .ok (.putfield 211, 3) := by decide +kernel
theorem dX0_lookB_150 : decode cX0_lookB 150 = .ok (.aload_n 0, 1) := by decide +kernel
theorem dX0_lookB_151 : decode cX0_lookB 151 = .ok (.invokevirtual 254, 3) := by decide +kernel
theorem dX0_lookB_154 : decode cX0_lookB 154 = .ok (.aload_n 0, 1) := by decide +kernel
theorem dX0_lookB_155 : decode cX0_lookB 155 = .ok (.invokevirtual 257, 3) := by decide +kernel
theorem dX0_lookB_158 : decode cX0_lookB 158 = .ok (.aload_n 0, 1) := by decide +kernel
theorem dX0_lookB_159 : decode cX0_lookB 159 = .ok (.bipush 44, 2) := by decide +kernel
theorem dX0_lookB_161 : decode cX0_lookB 161 = .ok (.invokevirtual 250, 3) := by decide +kernel
theorem dX0_lookB_164 : decode cX0_lookB 164 = .ok (.aload_n 0, 1) := by decide +kernel
theorem dX0_lookB_165 : decode cX0_lookB 165 = .ok (.invokevirtual 257, 3) := by decide +kernel
theorem dX0_lookB_168 : decode cX0_lookB 168 = .ok (.aload_n 0, 1) := by decide +kernel
theorem dX0_lookB_169 : decode cX0_lookB 169 = .ok (.bipush 41, 2) := by decide +kernel
theorem dX0_lookB_171 : decode cX0_lookB 171 = .ok (.invokevirtual 250, 3) := by decide +kernel
theorem dX0_lookB_174 : decode cX0_lookB 174 = .ok (.aload_n 0, 1) := by decide +kernel
theorem dX0_lookB_175 : decode cX0_lookB 175 = .ok (.dup, 1) := by decide +kernel
theorem dX0_lookB_176 : decode cX0_lookB 176 = .ok (.getfield 247, 3) := by decide +kernel
theorem dX0_lookB_179 : decode cX0_lookB 179 = .ok (.iconst 1, 1) := by decide +kernel
theorem dX0_lookB_180 : decode cX0_lookB 180 = .ok (.isub, 1) := by decide +kernel
theorem dX0_lookB_181 : decode cX0_lookB 181 = .ok (.putfield 247, 3) := by decide +kernel
theorem dX0_lookB_184 : decode cX0_lookB 184 = .ok (.goto 45, 3) := by decide +kernel
theorem dX0_lookB_187 : decode cX0_lookB 187 = .ok (.iload_n 1, 1) := by decide +kernel
theorem dX0_lookB_188 : decode cX0_lookB 188 = .ok (.bipush 40, 2) := by decide +kernel
theorem dX0_lookB_190 : decode cX0_lookB 190 = .ok (.if_icmp .ne 30, 3) := by decide +kernel
theorem dX0_lookB_193 : decode cX0_lookB 193 = .ok (.aload_n 0, 1) := by decide +kernel
theorem dX0_lookB_194 : decode cX0_lookB 194 = .ok (.invokevirtual 254, 3) := by decide +kernel
theorem dX0_lookB_197 : decode cX0_lookB 197 = .ok (.aload_n 0, 1) := by decide +kernel
theorem dX0_lookB_198 : decode cX0_lookB 198 = .ok (.invokevirtual 257, 3) := by decide +kernel
theorem dX0_lookB_201 : decode cX0_lookB 201 = .ok (.aload_n 0, 1) := by decide +kernel
theorem dX0_lookB_202 : decode cX0_lookB 202 = .ok (.bipush 41, 2) := by decide +kernel
theorem dX0_lookB_204 : decode cX0_lookB 204 = .ok (.invokevirtual 250, 3) := by decide +kernel
theorem dX0_lookB_207 : decode cX0_lookB 207 = .ok (.aload_n 0, 1) := by decide +kernel
theorem dX0_lookB_208 : decode cX0_lookB 208 = .ok (.dup, 1) := by decide +kernel
theorem dX0_lookB_209 : decode cX0_lookB 209 = .ok (.getfield 247, 3) := by decide +kernel
theorem dX0_lookB_212 : decode cX0_lookB 212 = .ok (.iconst 1, 1) := by decide +kernel
theorem dX0_lookB_213 : decode cX0_lookB 213 = .ok (.isub, 1) := by decide +kernel
theorem dX0_lookB_214 : decode cX0_lookB 214 = .ok (.putfield 247, 3) := by decide +kernel
theorem dX0_lookB_217 : decode cX0_lookB 217 = .ok (.goto 12, 3) := by decide +kernel
theorem dX0_lookB_220 : decode cX0_lookB 220 = .ok (.aload_n 0, 1) := by decide +kernel
theorem dX0_lookB_221 : decode cX0_lookB 221 = .ok (.iconst 1, 1) := by decide +kernel
theorem dX0_lookB_222 : decode cX0_lookB 222 = .ok (.aload_n 0, 1) := by decide +kernel
theorem dX0_lookB_223 : decode cX0_lookB 223 = .ok (.getfield 211, 3) := by decide +kernel
theorem dX0_lookB_226 : decode cX0_lookB 226 = .ok (.invokevirtual 227, 3) := by decide +kernel
theorem dX0_lookB_229 : decode cX0_lookB 229 = .ok (.return_, 1) := by decide +kernel
theorem dX0_flaw_0 : decode cX0_flaw 0 = .ok (.aload_n 0, 1) := by decide +kernel
theorem dX0_flaw_1 : decode cX0_flaw 1 = .ok (.getfield 214, 3) := by decide +kernel
theorem dX0_flaw_4 : decode cX0_flaw 4 = .ok (.ifCond .ne 13, 3) := by decide +kernel
theorem dX0_flaw_7 : decode cX0_flaw 7 = .ok (.aload_n 0, 1) := by decide +kernel
theorem dX0_flaw_8 : decode cX0_flaw 8 = .ok (.iload_n 1, 1) := by decide +kernel
theorem dX0_flaw_9 : decode cX0_flaw 9 = .ok (.putfield 214, 3) := by decide +kernel
theorem dX0_flaw_12 : decode cX0_flaw 12 = .ok (.aload_n 0, 1) := by decide +kernel
theorem dX0_flaw_13 : decode cX0_flaw 13 = .ok (.iload_n 2, 1) := by decide +kernel
theorem dX0_flaw_14 : decode cX0_flaw 14 = .ok (.putfield 217, 3) := by decide +kernel
theorem dX0_flaw_17 : decode cX0_flaw 17 = .ok (.return_, 1) := by decide +kernel
theorem dX0_open_0 : decode cX0_open 0 = .ok (.aload_n 0, 1) := by decide +kernel
theorem dX0_open_1 : decode cX0_open 1 = .ok (.bipush 40, 2) := by decide +kernel
theorem dX0_open_3 : decode cX0_open 3 = .ok (.invokevirtual 223, 3) := by decide +kernel
theorem dX0_open_6 : decode cX0_open 6 = .ok (.ifCond .eq 21, 3) := by decide +kernel
theorem dX0_open_9 : decode cX0_open 9 = .ok (.aload_n 0, 1) := by decide +kernel
theorem dX0_open_10 : decode cX0_open 10 = .ok (.getfield 247, 3) := by decide +kernel
theorem dX0_open_13 : decode cX0_open 13 = .ok (.bipush 20, 2) := by decide +kernel
theorem dX0_open_15 : decode cX0_open 15 = .ok (.if_icmp .ne 12, 3) := by decide +kernel
theorem dX0_open_18 : decode cX0_open 18 = .ok (.aload_n 0, 1) := by decide +kernel
theorem dX0_open_19 : decode cX0_open 19 = .ok (.iconst 1, 1) := by decide +kernel
theorem dX0_open_20 : decode cX0_open 20 = .ok (.aload_n 0, 1) := by decide +kernel
theorem dX0_open_21 : decode cX0_open 21 = .ok (.getfield 211, 3) := by decide +kernel
theorem dX0_open_24 : decode cX0_open 24 = .ok (.invokevirtual 227, 3) := by decide +kernel
theorem dX0_open_27 : decode cX0_open 27 = .ok (.aload_n 0, 1) := by decide +kernel
theorem dX0_open_28 : decode cX0_open 28 = .ok (.bipush 40, 2) := by decide +kernel
theorem dX0_open_30 : decode cX0_open 30 = .ok (.invokevirtual 250, 3) := by decide +kernel
theorem dX0_open_33 : decode cX0_open 33 = .ok (.aload_n 0, 1) := by decide +kernel
theorem dX0_open_34 : decode cX0_open 34 = .ok (.dup, 1) := by decide +kernel
theorem dX0_open_35 : decode cX0_open 35 = .ok (.getfield 247, 3) := by decide +kernel
theorem dX0_open_38 : decode cX0_open 38 = .ok (.iconst 1, 1) := by decide +kernel
theorem dX0_open_39 : decode cX0_open 39 = .ok (.iadd, 1) := by decide +kernel
theorem dX0_open_40 : decode cX0_open 40 = .ok (.putfield 247, 3) := by decide +kernel
theorem dX0_open_43 : decode cX0_open 43 = .ok (.return_, 1) := by decide +kernel
theorem dX0_want_0 : decode cX0_want 0 = .ok (.aload_n 0, 1) := by decide +kernel
theorem dX0_want_1 : decode cX0_want 1 = .ok (.iload_n 1, 1) := by decide +kernel
theorem dX0_want_2 : decode cX0_want 2 = .ok (.invokevirtual 223, 3) := by decide +kernel
theorem dX0_want_5 : decode cX0_want 5 = .ok (.ifCond .eq 16, 3) := by decide +kernel
theorem dX0_want_8 : decode cX0_want 8 = .ok (.aload_n 0, 1) := by decide +kernel
theorem dX0_want_9 : decode cX0_want 9 = .ok (.dup, 1) := by decide +kernel
theorem dX0_want_10 : decode cX0_want 10 = .ok (.getfield 211, 3) := by decide +kernel
theorem dX0_want_13 : decode cX0_want 13 = .ok (.iconst 1, 1) := by decide +kernel
theorem dX0_want_14 : decode cX0_want 14 = .ok (.iadd, 1) := by decide +kernel
theorem dX0_want_15 : decode cX0_want 15 = .ok (.putfield 211, 3) := by decide +kernel
theorem dX0_want_18 : decode cX0_want 18 = .ok (.goto 12, 3) := by decide +kernel
theorem dX0_want_21 : decode cX0_want 21 = .ok (.aload_n 0, 1) := by decide +kernel
theorem dX0_want_22 : decode cX0_want 22 = .ok (.iconst 1, 1) := by decide +kernel
theorem dX0_want_23 : decode cX0_want 23 = .ok (.aload_n 0, 1) := by decide +kernel
theorem dX0_want_24 : decode cX0_want 24 = .ok (.getfield 211, 3) := by decide +kernel
theorem dX0_want_27 : decode cX0_want 27 = .ok (.invokevirtual 227, 3) := by decide +kernel
theorem dX0_want_30 : decode cX0_want 30 = .ok (.return_, 1) := by decide +kernel
theorem dX0_readE_0 : decode cX0_readE 0 = .ok (.aload_n 0, 1) := by decide +kernel
theorem dX0_readE_1 : decode cX0_readE 1 = .ok (.invokevirtual 220, 3) := by decide +kernel
theorem dX0_readE_4 : decode cX0_readE 4 = .ok (.bipush 45, 2) := by decide +kernel
theorem dX0_readE_6 : decode cX0_readE 6 = .ok (.if_icmp .ne 7, 3) := by decide +kernel
theorem dX0_readE_9 : decode cX0_readE 9 = .ok (.iconst 1, 1) := by decide +kernel
theorem dX0_readE_10 : decode cX0_readE 10 = .ok (.goto 4, 3) := by decide +kernel
theorem dX0_readE_13 : decode cX0_readE 13 = .ok (.iconst 0, 1) := by decide +kernel
theorem dX0_readE_14 : decode cX0_readE 14 = .ok (.istore_n 1, 1) := by decide +kernel
theorem dX0_readE_15 : decode cX0_readE 15 = .ok (.aload_n 0, 1) := by decide +kernel
theorem dX0_readE_16 : decode cX0_readE 16 = .ok (.dup, 1) := by decide +kernel
theorem dX0_readE_17 : decode cX0_readE 17 = .ok (.getfield 211, 3) := by decide +kernel
theorem dX0_readE_20 : decode cX0_readE 20 = .ok (.iload_n 1, 1) := by decide +kernel
theorem dX0_readE_21 : decode cX0_readE 21 = .ok (.ifCond .eq 7, 3) := by decide +kernel
theorem dX0_readE_24 : decode cX0_readE 24 = .ok (.iconst 1, 1) := by decide +kernel
theorem dX0_readE_25 : decode cX0_readE 25 = .ok (.goto 4, 3) := by decide +kernel
theorem dX0_readE_28 : decode cX0_readE 28 = .ok (.iconst 0, 1) := by decide +kernel
theorem dX0_readE_29 : decode cX0_readE 29 = .ok (.iadd, 1) := by decide +kernel
theorem dX0_readE_30 : decode cX0_readE 30 = .ok (.putfield 211, 3) := by decide +kernel
theorem dX0_readE_33 : decode cX0_readE 33 = .ok (.aload_n 0, 1) := by decide +kernel
theorem dX0_readE_34 : decode cX0_readE 34 = .ok (.invokevirtual 260, 3) := by decide +kernel
theorem dX0_readE_37 : decode cX0_readE 37 = .ok (.iload_n 1, 1) := by decide +kernel
theorem dX0_readE_38 : decode cX0_readE 38 = .ok (.ifCond .eq 32, 3) := by decide +kernel
theorem dX0_readE_41 : decode cX0_readE 41 = .ok (.aload_n 0, 1) := by decide +kernel
theorem dX0_readE_42 : decode cX0_readE 42 = .ok (.getfield 214, 3) := by decide +kernel
theorem dX0_readE_45 : decode cX0_readE 45 = .ok (.ifCond .ne 25, 3) := by decide +kernel
theorem dX0_readE_48 : decode cX0_readE 48 = .ok (.aload_n 0, 1) := by decide +kernel
theorem dX0_readE_49 : decode cX0_readE 49 = .ok (.getfield 234, 3) := by decide +kernel
theorem dX0_readE_52 : decode cX0_readE 52 = .ok (.aload_n 0, 1) := by decide +kernel
theorem dX0_readE_53 : decode cX0_readE 53 = .ok (.getfield 231, 3) := by decide +kernel
theorem dX0_readE_56 : decode cX0_readE 56 = .ok (.iconst 1, 1) := by decide +kernel
theorem dX0_readE_57 : decode cX0_readE 57 = .ok (.isub, 1) := by decide +kernel
theorem dX0_readE_58 : decode cX0_readE 58 = .ok (.aaload, 1) := by decide +kernel
theorem dX0_readE_59 : decode cX0_readE 59 = .ok (.getfield 110, 3) := by decide +kernel
theorem dX0_readE_62 : decode cX0_readE 62 = .ok (.getfield 89, 3) := by decide +kernel
theorem dX0_readE_65 : decode cX0_readE 65 = .ok (.ldc 101, 2) := by decide +kernel
theorem dX0_readE_67 : decode cX0_readE 67 = .ok (.invokevirtual 78, 3) := by decide +kernel
theorem dX0_readE_70 : decode cX0_readE 70 = .ok (.aload_n 0, 1) := by decide +kernel
theorem dX0_readE_71 : decode cX0_readE 71 = .ok (.getfield 214, 3) := by decide +kernel
theorem dX0_readE_74 : decode cX0_readE 74 = .ok (.ifCond .ne 166, 3) := by decide +kernel
theorem dX0_readE_77 : decode cX0_readE 77 = .ok (.aload_n 0, 1) := by decide +kernel
theorem dX0_readE_78 : decode cX0_readE 78 = .ok (.invokevirtual 220, 3) := by decide +kernel
theorem dX0_readE_81 : decode cX0_readE 81 = .ok (.bipush 43, 2) := by decide +kernel
theorem dX0_readE_83 : decode cX0_readE 83 = .ok (.if_icmp .eq 12, 3) := by decide +kernel
theorem dX0_readE_86 : decode cX0_readE 86 = .ok (.aload_n 0, 1) := by decide +kernel
theorem dX0_readE_87 : decode cX0_readE 87 = .ok (.invokevirtual 220, 3) := by decide +kernel
theorem dX0_readE_90 : decode cX0_readE 90 = .ok (.bipush 45, 2) := by decide +kernel
theorem dX0_readE_92 : decode cX0_readE 92 = .ok (.if_icmp .ne 148, 3) := by decide +kernel
theorem dX0_readE_95 : decode cX0_readE 95 = .ok (.aload_n 0, 1) := by decide +kernel
theorem dX0_readE_96 : decode cX0_readE 96 = .ok (.getfield 211, 3) := by decide +kernel
theorem dX0_readE_99 : decode cX0_readE 99 = .ok (.istore_n 2, 1) := by decide +kernel
theorem dX0_readE_100 : decode cX0_readE 100 = .ok (.aload_n 0, 1) := by decide +kernel
theorem dX0_readE_101 : decode cX0_readE 101 = .ok (.getfield 207, 3) := by decide +kernel
theorem dX0_readE_104 : decode cX0_readE 104 = .ok (.aload_n 0, 1) := by decide +kernel
theorem dX0_readE_105 : decode cX0_readE 105 = .ok (.getfield 211, 3) := by decide +kernel
theorem dX0_readE_108 : decode cX0_readE 108 = .ok (.baload, 1) := by decide +kernel
theorem dX0_readE_109 : decode cX0_readE 109 = .ok (.bipush 45, 2) := by decide +kernel
theorem dX0_readE_111 : decode cX0_readE 111 = .ok (.if_icmp .ne 7, 3) := by decide +kernel
theorem dX0_readE_114 : decode cX0_readE 114 = .ok (.iconst 1, 1) := by decide +kernel
theorem dX0_readE_115 : decode cX0_readE 115 = .ok (.goto 4, 3) := by decide +kernel
theorem dX0_readE_118 : decode cX0_readE 118 = .ok (.iconst 0, 1) := by decide +kernel
theorem dX0_readE_119 : decode cX0_readE 119 = .ok (.istore_n 3, 1) := by decide +kernel
theorem dX0_readE_120 : decode cX0_readE 120 = .ok (.aload_n 0, 1) := by decide +kernel
theorem dX0_readE_121 : decode cX0_readE 121 = .ok (.dup, 1) := by decide +kernel
theorem dX0_readE_122 : decode cX0_readE 122 = .ok (.getfield 211, 3) := by decide +kernel
theorem dX0_readE_125 : decode cX0_readE 125 = .ok (.iconst 1, 1) := by decide +kernel
theorem dX0_readE_126 : decode cX0_readE 126 = .ok (.iadd, 1) := by decide +kernel
theorem dX0_readE_127 : decode cX0_readE 127 = .ok (.putfield 211, 3) := by decide +kernel
theorem dX0_readE_130 : decode cX0_readE 130 = .ok (.aload_n 0, 1) := by decide +kernel
theorem dX0_readE_131 : decode cX0_readE 131 = .ok (.invokevirtual 260, 3) := by decide +kernel
theorem dX0_readE_134 : decode cX0_readE 134 = .ok (.aload_n 0, 1) := by decide +kernel
theorem dX0_readE_135 : decode cX0_readE 135 = .ok (.getfield 214, 3) := by decide +kernel
theorem dX0_readE_138 : decode cX0_readE 138 = .ok (.ifCond .ne 99, 3) := by decide +kernel
theorem dX0_readE_141 : decode cX0_readE 141 = .ok (.aload_n 0, 1) := by decide +kernel
theorem dX0_readE_142 : decode cX0_readE 142 = .ok (.dup, 1) := by decide +kernel
theorem dX0_readE_143 : decode cX0_readE 143 = .ok (.getfield 231, 3) := by decide +kernel
theorem dX0_readE_146 : decode cX0_readE 146 = .ok (.iconst 1, 1) := by decide +kernel
theorem dX0_readE_147 : decode cX0_readE 147 = .ok (.isub, 1) := by decide +kernel
theorem dX0_readE_148 : decode cX0_readE 148 = .ok (.putfield 231, 3) := by decide +kernel
theorem dX0_readE_151 : decode cX0_readE 151 = .ok (.aload_n 0, 1) := by decide +kernel
theorem dX0_readE_152 : decode cX0_readE 152 = .ok (.getfield 234, 3) := by decide +kernel
theorem dX0_readE_155 : decode cX0_readE 155 = .ok (.aload_n 0, 1) := by decide +kernel
theorem dX0_readE_156 : decode cX0_readE 156 = .ok (.getfield 231, 3) := by decide +kernel
theorem dX0_readE_159 : decode cX0_readE 159 = .ok (.iconst 1, 1) := by decide +kernel
theorem dX0_readE_160 : decode cX0_readE 160 = .ok (.isub, 1) := by decide +kernel
theorem dX0_readE_161 : decode cX0_readE 161 = .ok (.aaload, 1) := by decide +kernel
theorem dX0_readE_162 : decode cX0_readE 162 = .ok (.astore 4, 2) := by decide +kernel
theorem dX0_readE_164 : decode cX0_readE 164 = .ok (.aload_n 0, 1) := by decide +kernel
theorem dX0_readE_165 : decode cX0_readE 165 = .ok (.getfield 234, 3) := by decide +kernel
theorem dX0_readE_168 : decode cX0_readE 168 = .ok (.aload_n 0, 1) := by decide +kernel
theorem dX0_readE_169 : decode cX0_readE 169 = .ok (.getfield 231, 3) := by decide +kernel
theorem dX0_readE_172 : decode cX0_readE 172 = .ok (.aaload, 1) := by decide +kernel
theorem dX0_readE_173 : decode cX0_readE 173 = .ok (.astore 5, 2) := by decide +kernel
theorem dX0_readE_175 : decode cX0_readE 175 = .ok (.aload 4, 2) := by decide +kernel
theorem dX0_readE_177 : decode cX0_readE 177 = .ok (.invokevirtual 177, 3) := by decide +kernel
theorem dX0_readE_180 : decode cX0_readE 180 = .ok (.ifCond .ne 11, 3) := by decide +kernel
theorem dX0_readE_183 : decode cX0_readE 183 = .ok (.aload 5, 2) := by decide +kernel
theorem dX0_readE_185 : decode cX0_readE 185 = .ok (.invokevirtual 177, 3) := by decide +kernel
theorem dX0_readE_188 : decode cX0_readE 188 = .ok (.ifCond .eq 12, 3) := by decide +kernel
theorem dX0_readE_191 : decode cX0_readE 191 = .ok (.aload_n 0, 1) := by decide +kernel
theorem dX0_readE_192 : decode cX0_readE 192 = .ok (.iconst 2, 1) := by decide +kernel
theorem dX0_readE_193 : decode cX0_readE 193 = .ok (.iload_n 2, 1) := by decide +kernel
theorem dX0_readE_194 : decode cX0_readE 194 = .ok (.invokevirtual 227, 3) := by decide +kernel
theorem dX0_readE_197 : decode cX0_readE 197 = .ok (.goto 40, 3) := by decide +kernel
theorem dX0_readE_200 : decode cX0_readE 200 = .ok (.aload_n 0, 1) := by decide +kernel
theorem dX0_readE_201 : decode cX0_readE 201 = .ok (.iload_n 3, 1) := by decide +kernel
theorem dX0_readE_202 : decode cX0_readE 202 = .ok (.ifCond .eq 7, 3) := by decide +kernel
theorem dX0_readE_205 : decode cX0_readE 205 = .ok (.iconst 1, 1) := by decide +kernel
theorem dX0_readE_206 : decode cX0_readE 206 = .ok (.goto 4, 3) := by decide +kernel
theorem dX0_readE_209 : decode cX0_readE 209 = .ok (.iconst 0, 1) := by decide +kernel
theorem dX0_readE_210 : decode cX0_readE 210 = .ok (.aload 4, 2) := by decide +kernel
theorem dX0_readE_212 : decode cX0_readE 212 = .ok (.getfield 110, 3) := by decide +kernel
theorem dX0_readE_215 : decode cX0_readE 215 = .ok (.aload 5, 2) := by decide +kernel
theorem dX0_readE_217 : decode cX0_readE 217 = .ok (.getfield 110, 3) := by decide +kernel
theorem dX0_readE_220 : decode cX0_readE 220 = .ok (.aload 4, 2) := by decide +kernel
theorem dX0_readE_222 : decode cX0_readE 222 = .ok (.getfield 110, 3) := by decide +kernel
theorem dX0_readE_225 : decode cX0_readE 225 = .ok (.invokevirtual 120, 3) := by decide +kernel
theorem dX0_readE_228 : decode cX0_readE 228 = .ok (.ifCond .ne 9, 3) := by decide +kernel
theorem dX0_readE_231 : decode cX0_readE 231 = .ok (.aload_n 0, 1) := by decide +kernel
theorem dX0_readE_232 : decode cX0_readE 232 = .ok (.iconst 4, 1) := by decide +kernel
theorem dX0_readE_233 : decode cX0_readE 233 = .ok (.iload_n 2, 1) := by decide +kernel
theorem dX0_readE_234 : decode cX0_readE 234 = .ok (.invokevirtual 227, 3) := by decide +kernel
theorem dX0_readE_237 : decode cX0_readE 237 = .ok (.goto (-167), 3) := by decide +kernel
theorem dX0_readE_240 : decode cX0_readE 240 = .ok (.return_, 1) := by decide +kernel
theorem dX0_readU_0 : decode cX0_readU 0 = .ok (.aload_n 0, 1) := by decide +kernel
theorem dX0_readU_1 : decode cX0_readU 1 = .ok (.invokevirtual 263, 3) := by decide +kernel
theorem dX0_readU_4 : decode cX0_readU 4 = .ok (.aload_n 0, 1) := by decide +kernel
theorem dX0_readU_5 : decode cX0_readU 5 = .ok (.getfield 214, 3) := by decide +kernel
theorem dX0_readU_8 : decode cX0_readU 8 = .ok (.ifCond .ne 145, 3) := by decide +kernel
theorem dX0_readU_11 : decode cX0_readU 11 = .ok (.aload_n 0, 1) := by decide +kernel
theorem dX0_readU_12 : decode cX0_readU 12 = .ok (.invokevirtual 220, 3) := by decide +kernel
theorem dX0_readU_15 : decode cX0_readU 15 = .ok (.bipush 42, 2) := by decide +kernel
theorem dX0_readU_17 : decode cX0_readU 17 = .ok (.if_icmp .eq 12, 3) := by decide +kernel
theorem dX0_readU_20 : decode cX0_readU 20 = .ok (.aload_n 0, 1) := by decide +kernel
theorem dX0_readU_21 : decode cX0_readU 21 = .ok (.invokevirtual 220, 3) := by decide +kernel
theorem dX0_readU_24 : decode cX0_readU 24 = .ok (.bipush 47, 2) := by decide +kernel
theorem dX0_readU_26 : decode cX0_readU 26 = .ok (.if_icmp .ne 127, 3) := by decide +kernel
theorem dX0_readU_29 : decode cX0_readU 29 = .ok (.aload_n 0, 1) := by decide +kernel
theorem dX0_readU_30 : decode cX0_readU 30 = .ok (.getfield 211, 3) := by decide +kernel
theorem dX0_readU_33 : decode cX0_readU 33 = .ok (.istore_n 1, 1) := by decide +kernel
theorem dX0_readU_34 : decode cX0_readU 34 = .ok (.aload_n 0, 1) := by decide +kernel
theorem dX0_readU_35 : decode cX0_readU 35 = .ok (.getfield 207, 3) := by decide +kernel
theorem dX0_readU_38 : decode cX0_readU 38 = .ok (.aload_n 0, 1) := by decide +kernel
theorem dX0_readU_39 : decode cX0_readU 39 = .ok (.getfield 211, 3) := by decide +kernel
theorem dX0_readU_42 : decode cX0_readU 42 = .ok (.baload, 1) := by decide +kernel
theorem dX0_readU_43 : decode cX0_readU 43 = .ok (.bipush 47, 2) := by decide +kernel
theorem dX0_readU_45 : decode cX0_readU 45 = .ok (.if_icmp .ne 7, 3) := by decide +kernel
theorem dX0_readU_48 : decode cX0_readU 48 = .ok (.iconst 1, 1) := by decide +kernel
theorem dX0_readU_49 : decode cX0_readU 49 = .ok (.goto 4, 3) := by decide +kernel
theorem dX0_readU_52 : decode cX0_readU 52 = .ok (.iconst 0, 1) := by decide +kernel
theorem dX0_readU_53 : decode cX0_readU 53 = .ok (.istore_n 2, 1) := by decide +kernel
theorem dX0_readU_54 : decode cX0_readU 54 = .ok (.aload_n 0, 1) := by decide +kernel
theorem dX0_readU_55 : decode cX0_readU 55 = .ok (.dup, 1) := by decide +kernel
theorem dX0_readU_56 : decode cX0_readU 56 = .ok (.getfield 211, 3) := by decide +kernel
theorem dX0_readU_59 : decode cX0_readU 59 = .ok (.iconst 1, 1) := by decide +kernel
theorem dX0_readU_60 : decode cX0_readU 60 = .ok (.iadd, 1) := by decide +kernel
theorem dX0_readU_61 : decode cX0_readU 61 = .ok (.putfield 211, 3) := by decide +kernel
theorem dX0_readU_64 : decode cX0_readU 64 = .ok (.aload_n 0, 1) := by decide +kernel
theorem dX0_readU_65 : decode cX0_readU 65 = .ok (.invokevirtual 263, 3) := by decide +kernel
theorem dX0_readU_68 : decode cX0_readU 68 = .ok (.aload_n 0, 1) := by decide +kernel
theorem dX0_readU_69 : decode cX0_readU 69 = .ok (.getfield 214, 3) := by decide +kernel
theorem dX0_readU_72 : decode cX0_readU 72 = .ok (.ifCond .ne 78, 3) := by decide +kernel
theorem dX0_readU_75 : decode cX0_readU 75 = .ok (.aload_n 0, 1) := by decide +kernel
theorem dX0_readU_76 : decode cX0_readU 76 = .ok (.dup, 1) := by decide +kernel
theorem dX0_readU_77 : decode cX0_readU 77 = .ok (.getfield 231, 3) := by decide +kernel
theorem dX0_readU_80 : decode cX0_readU 80 = .ok (.iconst 1, 1) := by decide +kernel
theorem dX0_readU_81 : decode cX0_readU 81 = .ok (.isub, 1) := by decide +kernel
theorem dX0_readU_82 : decode cX0_readU 82 = .ok (.putfield 231, 3) := by decide +kernel
theorem dX0_readU_85 : decode cX0_readU 85 = .ok (.aload_n 0, 1) := by decide +kernel
theorem dX0_readU_86 : decode cX0_readU 86 = .ok (.getfield 234, 3) := by decide +kernel
theorem dX0_readU_89 : decode cX0_readU 89 = .ok (.aload_n 0, 1) := by decide +kernel
theorem dX0_readU_90 : decode cX0_readU 90 = .ok (.getfield 231, 3) := by decide +kernel
theorem dX0_readU_93 : decode cX0_readU 93 = .ok (.iconst 1, 1) := by decide +kernel
theorem dX0_readU_94 : decode cX0_readU 94 = .ok (.isub, 1) := by decide +kernel
theorem dX0_readU_95 : decode cX0_readU 95 = .ok (.aaload, 1) := by decide +kernel
theorem dX0_readU_96 : decode cX0_readU 96 = .ok (.astore_n 3, 1) := by decide +kernel
theorem dX0_readU_97 : decode cX0_readU 97 = .ok (.aload_n 0, 1) := by decide +kernel
theorem dX0_readU_98 : decode cX0_readU 98 = .ok (.getfield 234, 3) := by decide +kernel
theorem dX0_readU_101 : decode cX0_readU 101 = .ok (.aload_n 0, 1) := by decide +kernel
theorem dX0_readU_102 : decode cX0_readU 102 = .ok (.getfield 231, 3) := by decide +kernel
theorem dX0_readU_105 : decode cX0_readU 105 = .ok (.aaload, 1) := by decide +kernel
theorem dX0_readU_106 : decode cX0_readU 106 = .ok (.astore 4, 2) := by decide +kernel
theorem dX0_readU_108 : decode cX0_readU 108 = .ok (.iload_n 2, 1) := by decide +kernel
theorem dX0_readU_109 : decode cX0_readU 109 = .ok (.ifCond .eq 23, 3) := by decide +kernel
theorem dX0_readU_112 : decode cX0_readU 112 = .ok (.aload 4, 2) := by decide +kernel
theorem dX0_readU_114 : decode cX0_readU 114 = .ok (.getfield 110, 3) := by decide +kernel
theorem dX0_readU_117 : decode cX0_readU 117 = .ok (.invokevirtual 128, 3) := by decide +kernel
theorem dX0_readU_120 : decode cX0_readU 120 = .ok (.ifCond .eq 12, 3) := by decide +kernel
theorem dX0_readU_123 : decode cX0_readU 123 = .ok (.aload_n 0, 1) := by decide +kernel
theorem dX0_readU_124 : decode cX0_readU 124 = .ok (.iconst 3, 1) := by decide +kernel
theorem dX0_readU_125 : decode cX0_readU 125 = .ok (.iload_n 1, 1) := by decide +kernel
theorem dX0_readU_126 : decode cX0_readU 126 = .ok (.invokevirtual 227, 3) := by decide +kernel
theorem dX0_readU_129 : decode cX0_readU 129 = .ok (.goto 21, 3) := by decide +kernel
theorem dX0_readU_132 : decode cX0_readU 132 = .ok (.aload_n 0, 1) := by decide +kernel
theorem dX0_readU_133 : decode cX0_readU 133 = .ok (.aload_n 3, 1) := by decide +kernel
theorem dX0_readU_134 : decode cX0_readU 134 = .ok (.aload 4, 2) := by decide +kernel
theorem dX0_readU_136 : decode cX0_readU 136 = .ok (.iload_n 2, 1) := by decide +kernel
theorem dX0_readU_137 : decode cX0_readU 137 = .ok (.aload_n 3, 1) := by decide +kernel
theorem dX0_readU_138 : decode cX0_readU 138 = .ok (.invokevirtual 169, 3) := by decide +kernel
theorem dX0_readU_141 : decode cX0_readU 141 = .ok (.ifCond .ne 9, 3) := by decide +kernel
theorem dX0_readU_144 : decode cX0_readU 144 = .ok (.aload_n 0, 1) := by decide +kernel
theorem dX0_readU_145 : decode cX0_readU 145 = .ok (.iconst 4, 1) := by decide +kernel
theorem dX0_readU_146 : decode cX0_readU 146 = .ok (.iload_n 1, 1) := by decide +kernel
theorem dX0_readU_147 : decode cX0_readU 147 = .ok (.invokevirtual 227, 3) := by decide +kernel
theorem dX0_readU_150 : decode cX0_readU 150 = .ok (.goto (-146), 3) := by decide +kernel
theorem dX0_readU_153 : decode cX0_readU 153 = .ok (.return_, 1) := by decide +kernel
theorem dX0_readW_0 : decode cX0_readW 0 = .ok (.aload_n 0, 1) := by decide +kernel
theorem dX0_readW_1 : decode cX0_readW 1 = .ok (.invokevirtual 266, 3) := by decide +kernel
theorem dX0_readW_4 : decode cX0_readW 4 = .ok (.aload_n 0, 1) := by decide +kernel
theorem dX0_readW_5 : decode cX0_readW 5 = .ok (.getfield 214, 3) := by decide +kernel
theorem dX0_readW_8 : decode cX0_readW 8 = .ok (.ifCond .ne 43, 3) := by decide +kernel
theorem dX0_readW_11 : decode cX0_readW 11 = .ok (.aload_n 0, 1) := by decide +kernel
theorem dX0_readW_12 : decode cX0_readW 12 = .ok (.invokevirtual 220, 3) := by decide +kernel
theorem dX0_readW_15 : decode cX0_readW 15 = .ok (.bipush 33, 2) := by decide +kernel
theorem dX0_readW_17 : decode cX0_readW 17 = .ok (.if_icmp .ne 34, 3) := by decide +kernel
theorem dX0_readW_20 : decode cX0_readW 20 = .ok (.aload_n 0, 1) := by decide +kernel
theorem dX0_readW_21 : decode cX0_readW 21 = .ok (.getfield 211, 3) := by decide +kernel
theorem dX0_readW_24 : decode cX0_readW 24 = .ok (.istore_n 1, 1) := by decide +kernel
theorem dX0_readW_25 : decode cX0_readW 25 = .ok (.aload_n 0, 1) := by decide +kernel
theorem dX0_readW_26 : decode cX0_readW 26 = .ok (.dup, 1) := by decide +kernel
theorem dX0_readW_27 : decode cX0_readW 27 = .ok (.getfield 211, 3) := by decide +kernel
theorem dX0_readW_30 : decode cX0_readW 30 = .ok (.iconst 1, 1) := by decide +kernel
theorem dX0_readW_31 : decode cX0_readW 31 = .ok (.iadd, 1) := by decide +kernel
theorem dX0_readW_32 : decode cX0_readW 32 = .ok (.putfield 211, 3) := by decide +kernel
theorem dX0_readW_35 : decode cX0_readW 35 = .ok (.aload_n 0, 1) := by decide +kernel
theorem dX0_readW_36 : decode cX0_readW 36 = .ok (.aload_n 0, 1) := by decide +kernel
theorem dX0_readW_37 : decode cX0_readW 37 = .ok (.getfield 234, 3) := by decide +kernel
theorem dX0_readW_40 : decode cX0_readW 40 = .ok (.aload_n 0, 1) := by decide +kernel
theorem dX0_readW_41 : decode cX0_readW 41 = .ok (.getfield 231, 3) := by decide +kernel
theorem dX0_readW_44 : decode cX0_readW 44 = .ok (.iconst 1, 1) := by decide +kernel
theorem dX0_readW_45 : decode cX0_readW 45 = .ok (.isub, 1) := by decide +kernel
theorem dX0_readW_46 : decode cX0_readW 46 = .ok (.aaload, 1) := by decide +kernel
theorem dX0_readW_47 : decode cX0_readW 47 = .ok (.iload_n 1, 1) := by decide +kernel
theorem dX0_readW_48 : decode cX0_readW 48 = .ok (.invokevirtual 269, 3) := by decide +kernel
theorem dX0_readW_51 : decode cX0_readW 51 = .ok (.aload_n 0, 1) := by decide +kernel
theorem dX0_readW_52 : decode cX0_readW 52 = .ok (.getfield 214, 3) := by decide +kernel
theorem dX0_readW_55 : decode cX0_readW 55 = .ok (.ifCond .ne 73, 3) := by decide +kernel
theorem dX0_readW_58 : decode cX0_readW 58 = .ok (.aload_n 0, 1) := by decide +kernel
theorem dX0_readW_59 : decode cX0_readW 59 = .ok (.invokevirtual 220, 3) := by decide +kernel
theorem dX0_readW_62 : decode cX0_readW 62 = .ok (.bipush 94, 2) := by decide +kernel
theorem dX0_readW_64 : decode cX0_readW 64 = .ok (.if_icmp .ne 64, 3) := by decide +kernel
theorem dX0_readW_67 : decode cX0_readW 67 = .ok (.aload_n 0, 1) := by decide +kernel
theorem dX0_readW_68 : decode cX0_readW 68 = .ok (.getfield 211, 3) := by decide +kernel
theorem dX0_readW_71 : decode cX0_readW 71 = .ok (.istore_n 1, 1) := by decide +kernel
theorem dX0_readW_72 : decode cX0_readW 72 = .ok (.aload_n 0, 1) := by decide +kernel
theorem dX0_readW_73 : decode cX0_readW 73 = .ok (.dup, 1) := by decide +kernel
theorem dX0_readW_74 : decode cX0_readW 74 = .ok (.getfield 211, 3) := by decide +kernel
theorem dX0_readW_77 : decode cX0_readW 77 = .ok (.iconst 1, 1) := by decide +kernel
theorem dX0_readW_78 : decode cX0_readW 78 = .ok (.iadd, 1) := by decide +kernel
theorem dX0_readW_79 : decode cX0_readW 79 = .ok (.putfield 211, 3) := by decide +kernel
theorem dX0_readW_82 : decode cX0_readW 82 = .ok (.aload_n 0, 1) := by decide +kernel
theorem dX0_readW_83 : decode cX0_readW 83 = .ok (.invokevirtual 266, 3) := by decide +kernel
theorem dX0_readW_86 : decode cX0_readW 86 = .ok (.aload_n 0, 1) := by decide +kernel
theorem dX0_readW_87 : decode cX0_readW 87 = .ok (.getfield 214, 3) := by decide +kernel
theorem dX0_readW_90 : decode cX0_readW 90 = .ok (.ifCond .ne 38, 3) := by decide +kernel
theorem dX0_readW_93 : decode cX0_readW 93 = .ok (.aload_n 0, 1) := by decide +kernel
theorem dX0_readW_94 : decode cX0_readW 94 = .ok (.dup, 1) := by decide +kernel
theorem dX0_readW_95 : decode cX0_readW 95 = .ok (.getfield 231, 3) := by decide +kernel
theorem dX0_readW_98 : decode cX0_readW 98 = .ok (.iconst 1, 1) := by decide +kernel
theorem dX0_readW_99 : decode cX0_readW 99 = .ok (.isub, 1) := by decide +kernel
theorem dX0_readW_100 : decode cX0_readW 100 = .ok (.putfield 231, 3) := by decide +kernel
theorem dX0_readW_103 : decode cX0_readW 103 = .ok (.aload_n 0, 1) := by decide +kernel
theorem dX0_readW_104 : decode cX0_readW 104 = .ok (.aload_n 0, 1) := by decide +kernel
theorem dX0_readW_105 : decode cX0_readW 105 = .ok (.getfield 234, 3) := by decide +kernel
theorem dX0_readW_108 : decode cX0_readW 108 = .ok (.aload_n 0, 1) := by decide +kernel
theorem dX0_readW_109 : decode cX0_readW 109 = .ok (.getfield 231, 3) := by decide +kernel
theorem dX0_readW_112 : decode cX0_readW 112 = .ok (.iconst 1, 1) := by decide +kernel
theorem dX0_readW_113 : decode cX0_readW 113 = .ok (.isub, 1) := by decide +kernel
theorem dX0_readW_114 : decode cX0_readW 114 = .ok (.aaload, 1) := by decide +kernel
theorem dX0_readW_115 : decode cX0_readW 115 = .ok (.aload_n 0, 1) := by decide +kernel
theorem dX0_readW_116 : decode cX0_readW 116 = .ok (.getfield 234, 3) := by decide +kernel
theorem dX0_readW_119 : decode cX0_readW 119 = .ok (.aload_n 0, 1) := by decide +kernel
theorem dX0_readW_120 : decode cX0_readW 120 = .ok (.getfield 231, 3) := by decide +kernel
theorem dX0_readW_123 : decode cX0_readW 123 = .ok (.aaload, 1) := by decide +kernel
theorem dX0_readW_124 : decode cX0_readW 124 = .ok (.iload_n 1, 1) := by decide +kernel
theorem dX0_readW_125 : decode cX0_readW 125 = .ok (.invokevirtual 273, 3) := by decide +kernel
theorem dX0_readW_128 : decode cX0_readW 128 = .ok (.return_, 1) := by decide +kernel
theorem dX0_readB_0 : decode cX0_readB 0 = .ok (.aload_n 0, 1) := by decide +kernel
theorem dX0_readB_1 : decode cX0_readB 1 = .ok (.invokevirtual 220, 3) := by decide +kernel
theorem dX0_readB_4 : decode cX0_readB 4 = .ok (.istore_n 1, 1) := by decide +kernel
theorem dX0_readB_5 : decode cX0_readB 5 = .ok (.iload_n 1, 1) := by decide +kernel
theorem dX0_readB_6 : decode cX0_readB 6 = .ok (.bipush 48, 2) := by decide +kernel
theorem dX0_readB_8 : decode cX0_readB 8 = .ok (.if_icmp .lt 100, 3) := by decide +kernel
theorem dX0_readB_11 : decode cX0_readB 11 = .ok (.iload_n 1, 1) := by decide +kernel
theorem dX0_readB_12 : decode cX0_readB 12 = .ok (.bipush 57, 2) := by decide +kernel
theorem dX0_readB_14 : decode cX0_readB 14 = .ok (.if_icmp .gt 94, 3) := by decide +kernel
theorem dX0_readB_17 : decode cX0_readB 17 = .ok (.lconst 0, 1) := by decide +kernel
theorem dX0_readB_18 : decode cX0_readB 18 = .ok (.lstore_n 2, 1) := by decide +kernel
theorem dX0_readB_19 : decode cX0_readB 19 = .ok (.aload_n 0, 1) := by decide +kernel
theorem dX0_readB_20 : decode cX0_readB 20 = .ok (.getfield 211, 3) := by decide +kernel
theorem dX0_readB_23 : decode cX0_readB 23 = .ok (.aload_n 0, 1) := by decide +kernel
theorem dX0_readB_24 : decode cX0_readB 24 = .ok (.getfield 204, 3) := by decide +kernel
theorem dX0_readB_27 : decode cX0_readB 27 = .ok (.if_icmp .ge 65, 3) := by decide +kernel
theorem dX0_readB_30 : decode cX0_readB 30 = .ok (.aload_n 0, 1) := by decide +kernel
theorem dX0_readB_31 : decode cX0_readB 31 = .ok (.getfield 207, 3) := by decide +kernel
theorem dX0_readB_34 : decode cX0_readB 34 = .ok (.aload_n 0, 1) := by decide +kernel
theorem dX0_readB_35 : decode cX0_readB 35 = .ok (.getfield 211, 3) := by decide +kernel
theorem dX0_readB_38 : decode cX0_readB 38 = .ok (.baload, 1) := by decide +kernel
theorem dX0_readB_39 : decode cX0_readB 39 = .ok (.bipush 48, 2) := by decide +kernel
theorem dX0_readB_41 : decode cX0_readB 41 = .ok (.if_icmp .lt 51, 3) := by decide +kernel
theorem dX0_readB_44 : decode cX0_readB 44 = .ok (.aload_n 0, 1) := by decide +kernel
theorem dX0_readB_45 : decode cX0_readB 45 = .ok (.getfield 207, 3) := by decide +kernel
theorem dX0_readB_48 : decode cX0_readB 48 = .ok (.aload_n 0, 1) := by decide +kernel
theorem dX0_readB_49 : decode cX0_readB 49 = .ok (.getfield 211, 3) := by decide +kernel
theorem dX0_readB_52 : decode cX0_readB 52 = .ok (.baload, 1) := by decide +kernel
theorem dX0_readB_53 : decode cX0_readB 53 = .ok (.bipush 57, 2) := by decide +kernel
theorem dX0_readB_55 : decode cX0_readB 55 = .ok (.if_icmp .gt 37, 3) := by decide +kernel
theorem dX0_readB_58 : decode cX0_readB 58 = .ok (.ldc2_w 293, 3) := by decide +kernel
theorem dX0_readB_61 : decode cX0_readB 61 = .ok (.lload_n 2, 1) := by decide +kernel
theorem dX0_readB_62 : decode cX0_readB 62 = .ok (.lmul, 1) := by decide +kernel
theorem dX0_readB_63 : decode cX0_readB 63 = .ok (.aload_n 0, 1) := by decide +kernel
theorem dX0_readB_64 : decode cX0_readB 64 = .ok (.getfield 207, 3) := by decide +kernel
theorem dX0_readB_67 : decode cX0_readB 67 = .ok (.aload_n 0, 1) := by decide +kernel
theorem dX0_readB_68 : decode cX0_readB 68 = .ok (.getfield 211, 3) := by decide +kernel
theorem dX0_readB_71 : decode cX0_readB 71 = .ok (.baload, 1) := by decide +kernel
theorem dX0_readB_72 : decode cX0_readB 72 = .ok (.i2l, 1) := by decide +kernel
theorem dX0_readB_73 : decode cX0_readB 73 = .ok (.ladd, 1) := by decide +kernel
theorem dX0_readB_74 : decode cX0_readB 74 = .ok (.ldc2_w 295, 3) := by decide +kernel
theorem dX0_readB_77 : decode cX0_readB 77 = .ok (.lsub, 1) := by decide +kernel
theorem dX0_readB_78 : decode cX0_readB 78 = .ok (.lstore_n 2, 1) := by decide +kernel
theorem dX0_readB_79 : decode cX0_readB 79 = .ok (.aload_n 0, 1) := by decide +kernel
theorem dX0_readB_80 : decode cX0_readB 80 = .ok (.dup, 1) := by decide +kernel
theorem dX0_readB_81 : decode cX0_readB 81 = .ok (.getfield 211, 3) := by decide +kernel
theorem dX0_readB_84 : decode cX0_readB 84 = .ok (.iconst 1, 1) := by decide +kernel
theorem dX0_readB_85 : decode cX0_readB 85 = .ok (.iadd, 1) := by decide +kernel
theorem dX0_readB_86 : decode cX0_readB 86 = .ok (.putfield 211, 3) := by decide +kernel
theorem dX0_readB_89 : decode cX0_readB 89 = .ok (.goto (-70), 3) := by decide +kernel
theorem dX0_readB_92 : decode cX0_readB 92 = .ok (.aload_n 0, 1) := by decide +kernel
theorem dX0_readB_93 : decode cX0_readB 93 = .ok (.invokevirtual 297, 3) := by decide +kernel
theorem dX0_readB_96 : decode cX0_readB 96 = .ok (.lload_n 2, 1) := by decide +kernel
theorem dX0_readB_97 : decode cX0_readB 97 = .ok (.ldc2_w 3, 3) := by decide +kernel
theorem dX0_readB_100 : decode cX0_readB 100 = .ok (.lrem, 1) := by decide +kernel
theorem dX0_readB_101 : decode cX0_readB 101 = .ok (.l2i, 1) := by decide +kernel
theorem dX0_readB_102 : decode cX0_readB 102 = .ok (.invokevirtual 129, 3) := by decide +kernel
theorem dX0_readB_105 : decode cX0_readB 105 = .ok (.goto 146, 3) := by decide +kernel
theorem dX0_readB_108 : decode cX0_readB 108 = .ok (.iload_n 1, 1) := by decide +kernel
theorem dX0_readB_109 : decode cX0_readB 109 = .ok (.bipush 110, 2) := by decide +kernel
theorem dX0_readB_111 : decode cX0_readB 111 = .ok (.if_icmp .eq 9, 3) := by decide +kernel
theorem dX0_readB_114 : decode cX0_readB 114 = .ok (.iload_n 1, 1) := by decide +kernel
theorem dX0_readB_115 : decode cX0_readB 115 = .ok (.bipush 107, 2) := by decide +kernel
theorem dX0_readB_117 : decode cX0_readB 117 = .ok (.if_icmp .ne 92, 3) := by decide +kernel
theorem dX0_readB_120 : decode cX0_readB 120 = .ok (.aload_n 0, 1) := by decide +kernel
theorem dX0_readB_121 : decode cX0_readB 121 = .ok (.dup, 1) := by decide +kernel
theorem dX0_readB_122 : decode cX0_readB 122 = .ok (.getfield 211, 3) := by decide +kernel
theorem dX0_readB_125 : decode cX0_readB 125 = .ok (.iconst 1, 1) := by decide +kernel
theorem dX0_readB_126 : decode cX0_readB 126 = .ok (.iadd, 1) := by decide +kernel
theorem dX0_readB_127 : decode cX0_readB 127 = .ok (.putfield 211, 3) := by decide +kernel
theorem dX0_readB_130 : decode cX0_readB 130 = .ok (.aload_n 0, 1) := by decide +kernel
theorem dX0_readB_131 : decode cX0_readB 131 = .ok (.invokevirtual 297, 3) := by decide +kernel
theorem dX0_readB_134 : decode cX0_readB 134 = .ok (.astore_n 2, 1) := by decide +kernel
theorem dX0_readB_135 : decode cX0_readB 135 = .ok (.aload_n 2, 1) := by decide +kernel
theorem dX0_readB_136 : decode cX0_readB 136 = .ok (.invokevirtual 301, 3) := by decide +kernel
theorem dX0_readB_139 : decode cX0_readB 139 = .ok (.aload_n 2, 1) := by decide +kernel
theorem dX0_readB_140 : decode cX0_readB 140 = .ok (.getfield 110, 3) := by decide +kernel
theorem dX0_readB_143 : decode cX0_readB 143 = .ok (.getfield 94, 3) := by decide +kernel
theorem dX0_readB_146 : decode cX0_readB 146 = .ok (.iconst 1, 1) := by decide +kernel
theorem dX0_readB_147 : decode cX0_readB 147 = .ok (.invokevirtual 42, 3) := by decide +kernel
theorem dX0_readB_150 : decode cX0_readB 150 = .ok (.aload_n 2, 1) := by decide +kernel
theorem dX0_readB_151 : decode cX0_readB 151 = .ok (.getfield 110, 3) := by decide +kernel
theorem dX0_readB_154 : decode cX0_readB 154 = .ok (.getfield 89, 3) := by decide +kernel
theorem dX0_readB_157 : decode cX0_readB 157 = .ok (.iload_n 1, 1) := by decide +kernel
theorem dX0_readB_158 : decode cX0_readB 158 = .ok (.bipush 110, 2) := by decide +kernel
theorem dX0_readB_160 : decode cX0_readB 160 = .ok (.if_icmp .ne 7, 3) := by decide +kernel
theorem dX0_readB_163 : decode cX0_readB 163 = .ok (.iconst 2, 1) := by decide +kernel
theorem dX0_readB_164 : decode cX0_readB 164 = .ok (.goto 4, 3) := by decide +kernel
theorem dX0_readB_167 : decode cX0_readB 167 = .ok (.iconst 1, 1) := by decide +kernel
theorem dX0_readB_168 : decode cX0_readB 168 = .ok (.iload_n 1, 1) := by decide +kernel
theorem dX0_readB_169 : decode cX0_readB 169 = .ok (.bipush 110, 2) := by decide +kernel
theorem dX0_readB_171 : decode cX0_readB 171 = .ok (.if_icmp .ne 7, 3) := by decide +kernel
theorem dX0_readB_174 : decode cX0_readB 174 = .ok (.iconst 1, 1) := by decide +kernel
theorem dX0_readB_175 : decode cX0_readB 175 = .ok (.goto 4, 3) := by decide +kernel
theorem dX0_readB_178 : decode cX0_readB 178 = .ok (.iconst 2, 1) := by decide +kernel
theorem dX0_readB_179 : decode cX0_readB 179 = .ok (.invokevirtual 304, 3) := by decide +kernel
theorem dX0_readB_182 : decode cX0_readB 182 = .ok (.aload_n 2, 1) := by decide +kernel
theorem dX0_readB_183 : decode cX0_readB 183 = .ok (.getfield 110, 3) := by decide +kernel
theorem dX0_readB_186 : decode cX0_readB 186 = .ok (.getfield 89, 3) := by decide +kernel
theorem dX0_readB_189 : decode cX0_readB 189 = .ok (.getfield 288, 3) := by decide +kernel
theorem dX0_readB_192 : decode cX0_readB 192 = .ok (.iload_n 1, 1) := by decide +kernel
theorem dX0_readB_193 : decode cX0_readB 193 = .ok (.bipush 110, 2) := by decide +kernel
theorem dX0_readB_195 : decode cX0_readB 195 = .ok (.if_icmp .ne 7, 3) := by decide +kernel
theorem dX0_readB_198 : decode cX0_readB 198 = .ok (.iconst 1, 1) := by decide +kernel
theorem dX0_readB_199 : decode cX0_readB 199 = .ok (.goto 5, 3) := by decide +kernel
theorem dX0_readB_202 : decode cX0_readB 202 = .ok (.bipush 25, 2) := by decide +kernel
theorem dX0_readB_204 : decode cX0_readB 204 = .ok (.iconst 1, 1) := by decide +kernel
theorem dX0_readB_205 : decode cX0_readB 205 = .ok (.iastore, 1) := by decide +kernel
theorem dX0_readB_206 : decode cX0_readB 206 = .ok (.goto 45, 3) := by decide +kernel
theorem dX0_readB_209 : decode cX0_readB 209 = .ok (.iload_n 1, 1) := by decide +kernel
theorem dX0_readB_210 : decode cX0_readB 210 = .ok (.bipush 67, 2) := by decide +kernel
theorem dX0_readB_212 : decode cX0_readB 212 = .ok (.if_icmp .ne 10, 3) := by decide +kernel
theorem dX0_readB_215 : decode cX0_readB 215 = .ok (.aload_n 0, 1) := by decide +kernel
theorem dX0_readB_216 : decode cX0_readB 216 = .ok (.invokevirtual 306, 3) := by decide +kernel
theorem dX0_readB_219 : decode cX0_readB 219 = .ok (.goto 32, 3) := by decide +kernel
theorem dX0_readB_222 : decode cX0_readB 222 = .ok (.aload_n 0, 1) := by decide +kernel
theorem dX0_readB_223 : decode cX0_readB 223 = .ok (.dup, 1) := by decide +kernel
theorem dX0_readB_224 : decode cX0_readB 224 = .ok (.getfield 211, 3) := by decide +kernel
theorem dX0_readB_227 : decode cX0_readB 227 = .ok (.iconst 1, 1) := by decide +kernel
theorem dX0_readB_228 : decode cX0_readB 228 = .ok (.iadd, 1) := by decide +kernel
theorem dX0_readB_229 : decode cX0_readB 229 = .ok (.putfield 211, 3) := by decide +kernel
theorem dX0_readB_232 : decode cX0_readB 232 = .ok (.aload_n 0, 1) := by decide +kernel
theorem dX0_readB_233 : decode cX0_readB 233 = .ok (.invokevirtual 309, 3) := by decide +kernel
theorem dX0_readB_236 : decode cX0_readB 236 = .ok (.aload_n 0, 1) := by decide +kernel
theorem dX0_readB_237 : decode cX0_readB 237 = .ok (.invokevirtual 220, 3) := by decide +kernel
theorem dX0_readB_240 : decode cX0_readB 240 = .ok (.istore_n 2, 1) := by decide +kernel
theorem dX0_readB_241 : decode cX0_readB 241 = .ok (.aload_n 0, 1) := by decide +kernel
theorem dX0_readB_242 : decode cX0_readB 242 = .ok (.dup, 1) := by decide +kernel
theorem dX0_readB_243 : decode cX0_readB 243 = .ok (.getfield 211, 3) := by decide +kernel
theorem dX0_readB_246 : decode cX0_readB 246 = .ok (.iconst 1, 1) := by decide +kernel
theorem dX0_readB_247 : decode cX0_readB 247 = .ok (.iadd, 1) := by decide +kernel
theorem dX0_readB_248 : decode cX0_readB 248 = .ok (.putfield 211, 3) := by decide +kernel
theorem dX0_readB_251 : decode cX0_readB 251 = .ok (.return_, 1) := by decide +kernel
theorem dX0_push_0 : decode cX0_push 0 = .ok (.aload_n 0, 1) := by decide +kernel
theorem dX0_push_1 : decode cX0_push 1 = .ok (.dup, 1) := by decide +kernel
theorem dX0_push_2 : decode cX0_push 2 = .ok (.getfield 231, 3) := by decide +kernel
theorem dX0_push_5 : decode cX0_push 5 = .ok (.iconst 1, 1) := by decide +kernel
theorem dX0_push_6 : decode cX0_push 6 = .ok (.iadd, 1) := by decide +kernel
theorem dX0_push_7 : decode cX0_push 7 = .ok (.putfield 231, 3) := by decide +kernel
theorem dX0_push_10 : decode cX0_push 10 = .ok (.aload_n 0, 1) := by decide +kernel
theorem dX0_push_11 : decode cX0_push 11 = .ok (.getfield 234, 3) := by decide +kernel
theorem dX0_push_14 : decode cX0_push 14 = .ok (.aload_n 0, 1) := by decide +kernel
theorem dX0_push_15 : decode cX0_push 15 = .ok (.getfield 231, 3) := by decide +kernel
theorem dX0_push_18 : decode cX0_push 18 = .ok (.iconst 1, 1) := by decide +kernel
theorem dX0_push_19 : decode cX0_push 19 = .ok (.isub, 1) := by decide +kernel
theorem dX0_push_20 : decode cX0_push 20 = .ok (.aaload, 1) := by decide +kernel
theorem dX0_push_21 : decode cX0_push 21 = .ok (.areturn, 1) := by decide +kernel
theorem dX0_readChoice_0 : decode cX0_readChoice 0 = .ok (.aload_n 0, 1) := by decide +kernel
theorem dX0_readChoice_1 : decode cX0_readChoice 1 = .ok (.getfield 211, 3) := by decide +kernel
theorem dX0_readChoice_4 : decode cX0_readChoice 4 = .ok (.istore_n 1, 1) := by decide +kernel
theorem dX0_readChoice_5 : decode cX0_readChoice 5 = .ok (.aload_n 0, 1) := by decide +kernel
theorem dX0_readChoice_6 : decode cX0_readChoice 6 = .ok (.dup, 1) := by decide +kernel
theorem dX0_readChoice_7 : decode cX0_readChoice 7 = .ok (.getfield 211, 3) := by decide +kernel
theorem dX0_readChoice_10 : decode cX0_readChoice 10 = .ok (.iconst 1, 1) := by decide +kernel
theorem dX0_readChoice_11 : decode cX0_readChoice 11 = .ok (.iadd, 1) := by decide +kernel
theorem dX0_readChoice_12 : decode cX0_readChoice 12 = .ok (.putfield 211, 3) := by decide +kernel
theorem dX0_readChoice_15 : decode cX0_readChoice 15 = .ok (.aload_n 0, 1) := by decide +kernel
theorem dX0_readChoice_16 : decode cX0_readChoice 16 = .ok (.invokevirtual 220, 3) := by decide +kernel
theorem dX0_readChoice_19 : decode cX0_readChoice 19 = .ok (.istore_n 2, 1) := by decide +kernel
theorem dX0_readChoice_20 : decode cX0_readChoice 20 = .ok (.aload_n 0, 1) := by decide +kernel
theorem dX0_readChoice_21 : decode cX0_readChoice 21 = .ok (.dup, 1) := by decide +kernel
theorem dX0_readChoice_22 : decode cX0_readChoice 22 = .ok (.getfield 211, 3) := by decide +kernel
theorem dX0_readChoice_25 : decode cX0_readChoice 25 = .ok (.iconst 1, 1) := by decide +kernel
theorem dX0_readChoice_26 : decode cX0_readChoice 26 = .ok (.iadd, 1) := by decide +kernel
theorem dX0_readChoice_27 : decode cX0_readChoice 27 = .ok (.putfield 211, 3) := by decide +kernel
theorem dX0_readChoice_30 : decode cX0_readChoice 30 = .ok (.aload_n 0, 1) := by decide +kernel
theorem dX0_readChoice_31 : decode cX0_readChoice 31 = .ok (.invokevirtual 309, 3) := by decide +kernel
theorem dX0_readChoice_34 : decode cX0_readChoice 34 = .ok (.aload_n 0, 1) := by decide +kernel
theorem dX0_readChoice_35 : decode cX0_readChoice 35 = .ok (.invokevirtual 220, 3) := by decide +kernel
theorem dX0_readChoice_38 : decode cX0_readChoice 38 = .ok (.istore_n 3, 1) := by decide +kernel
theorem dX0_readChoice_39 : decode cX0_readChoice 39 = .ok (.aload_n 0, 1) := by decide +kernel
theorem dX0_readChoice_40 : decode cX0_readChoice 40 = .ok (.dup, 1) := by decide +kernel
theorem dX0_readChoice_41 : decode cX0_readChoice 41 = .ok (.getfield 211, 3) := by decide +kernel
theorem dX0_readChoice_44 : decode cX0_readChoice 44 = .ok (.iconst 1, 1) := by decide +kernel
theorem dX0_readChoice_45 : decode cX0_readChoice 45 = .ok (.iadd, 1) := by decide +kernel
theorem dX0_readChoice_46 : decode cX0_readChoice 46 = .ok (.putfield 211, 3) := by decide +kernel
theorem dX0_readChoice_49 : decode cX0_readChoice 49 = .ok (.aload_n 0, 1) := by decide +kernel
theorem dX0_readChoice_50 : decode cX0_readChoice 50 = .ok (.getfield 214, 3) := by decide +kernel
theorem dX0_readChoice_53 : decode cX0_readChoice 53 = .ok (.ifCond .ne 23, 3) := by decide +kernel
theorem dX0_readChoice_56 : decode cX0_readChoice 56 = .ok (.aload_n 0, 1) := by decide +kernel
theorem dX0_readChoice_57 : decode cX0_readChoice 57 = .ok (.invokevirtual 309, 3) := by decide +kernel
theorem dX0_readChoice_60 : decode cX0_readChoice 60 = .ok (.aload_n 0, 1) := by decide +kernel
theorem dX0_readChoice_61 : decode cX0_readChoice 61 = .ok (.invokevirtual 220, 3) := by decide +kernel
theorem dX0_readChoice_64 : decode cX0_readChoice 64 = .ok (.istore 4, 2) := by decide +kernel
theorem dX0_readChoice_66 : decode cX0_readChoice 66 = .ok (.aload_n 0, 1) := by decide +kernel
theorem dX0_readChoice_67 : decode cX0_readChoice 67 = .ok (.dup, 1) := by decide +kernel
theorem dX0_readChoice_68 : decode cX0_readChoice 68 = .ok (.getfield 211, 3) := by decide +kernel
theorem dX0_readChoice_71 : decode cX0_readChoice 71 = .ok (.iconst 1, 1) := by decide +kernel
theorem dX0_readChoice_72 : decode cX0_readChoice 72 = .ok (.iadd, 1) := by decide +kernel
theorem dX0_readChoice_73 : decode cX0_readChoice 73 = .ok (.putfield 211, 3) := by decide +kernel
theorem dX0_readChoice_76 : decode cX0_readChoice 76 = .ok (.aload_n 0, 1) := by decide +kernel
theorem dX0_readChoice_77 : decode cX0_readChoice 77 = .ok (.getfield 214, 3) := by decide +kernel
theorem dX0_readChoice_80 : decode cX0_readChoice 80 = .ok (.ifCond .eq 4, 3) := by decide +kernel
theorem dX0_readChoice_83 : decode cX0_readChoice 83 = .ok (.return_, 1) := by decide +kernel
theorem dX0_readChoice_84 : decode cX0_readChoice 84 = .ok (.aload_n 0, 1) := by decide +kernel
theorem dX0_readChoice_85 : decode cX0_readChoice 85 = .ok (.dup, 1) := by decide +kernel
theorem dX0_readChoice_86 : decode cX0_readChoice 86 = .ok (.getfield 231, 3) := by decide +kernel
theorem dX0_readChoice_89 : decode cX0_readChoice 89 = .ok (.iconst 1, 1) := by decide +kernel
theorem dX0_readChoice_90 : decode cX0_readChoice 90 = .ok (.isub, 1) := by decide +kernel
theorem dX0_readChoice_91 : decode cX0_readChoice 91 = .ok (.putfield 231, 3) := by decide +kernel
theorem dX0_readChoice_94 : decode cX0_readChoice 94 = .ok (.aload_n 0, 1) := by decide +kernel
theorem dX0_readChoice_95 : decode cX0_readChoice 95 = .ok (.getfield 234, 3) := by decide +kernel
theorem dX0_readChoice_98 : decode cX0_readChoice 98 = .ok (.aload_n 0, 1) := by decide +kernel
theorem dX0_readChoice_99 : decode cX0_readChoice 99 = .ok (.getfield 231, 3) := by decide +kernel
theorem dX0_readChoice_102 : decode cX0_readChoice 102 = .ok (.iconst 1, 1) := by decide +kernel
theorem dX0_readChoice_103 : decode cX0_readChoice 103 = .ok (.isub, 1) := by decide +kernel
theorem dX0_readChoice_104 : decode cX0_readChoice 104 = .ok (.aaload, 1) := by decide +kernel
theorem dX0_readChoice_105 : decode cX0_readChoice 105 = .ok (.astore 4, 2) := by decide +kernel
theorem dX0_readChoice_107 : decode cX0_readChoice 107 = .ok (.aload_n 0, 1) := by decide +kernel
theorem dX0_readChoice_108 : decode cX0_readChoice 108 = .ok (.aload 4, 2) := by decide +kernel
theorem dX0_readChoice_110 : decode cX0_readChoice 110 = .ok (.invokevirtual 277, 3) := by decide +kernel
theorem dX0_readChoice_113 : decode cX0_readChoice 113 = .ok (.istore 5, 2) := by decide +kernel
theorem dX0_readChoice_115 : decode cX0_readChoice 115 = .ok (.aload_n 0, 1) := by decide +kernel
theorem dX0_readChoice_116 : decode cX0_readChoice 116 = .ok (.getfield 189, 3) := by decide +kernel
theorem dX0_readChoice_119 : decode cX0_readChoice 119 = .ok (.istore 6, 2) := by decide +kernel
theorem dX0_readChoice_121 : decode cX0_readChoice 121 = .ok (.aload_n 0, 1) := by decide +kernel
theorem dX0_readChoice_122 : decode cX0_readChoice 122 = .ok (.getfield 192, 3) := by decide +kernel
theorem dX0_readChoice_125 : decode cX0_readChoice 125 = .ok (.istore 7, 2) := by decide +kernel
theorem dX0_readChoice_127 : decode cX0_readChoice 127 = .ok (.aload_n 0, 1) := by decide +kernel
theorem dX0_readChoice_128 : decode cX0_readChoice 128 = .ok (.getfield 195, 3) := by decide +kernel
theorem dX0_readChoice_131 : decode cX0_readChoice 131 = .ok (.istore 8, 2) := by decide +kernel
theorem dX0_readChoice_133 : decode cX0_readChoice 133 = .ok (.iload 5, 2) := by decide +kernel
theorem dX0_readChoice_135 : decode cX0_readChoice 135 = .ok (.ifCond .eq 50, 3) := by decide +kernel
theorem dX0_readChoice_138 : decode cX0_readChoice 138 = .ok (.aload_n 0, 1) := by decide +kernel
theorem dX0_readChoice_139 : decode cX0_readChoice 139 = .ok (.aload_n 0, 1) := by decide +kernel
theorem dX0_readChoice_140 : decode cX0_readChoice 140 = .ok (.getfield 234, 3) := by decide +kernel
theorem dX0_readChoice_143 : decode cX0_readChoice 143 = .ok (.aload_n 0, 1) := by decide +kernel
theorem dX0_readChoice_144 : decode cX0_readChoice 144 = .ok (.getfield 231, 3) := by decide +kernel
theorem dX0_readChoice_147 : decode cX0_readChoice 147 = .ok (.aaload, 1) := by decide +kernel
theorem dX0_readChoice_148 : decode cX0_readChoice 148 = .ok (.invokevirtual 277, 3) := by decide +kernel
theorem dX0_readChoice_151 : decode cX0_readChoice 151 = .ok (.ifCond .eq 34, 3) := by decide +kernel
theorem dX0_readChoice_154 : decode cX0_readChoice 154 = .ok (.iload 6, 2) := by decide +kernel
theorem dX0_readChoice_156 : decode cX0_readChoice 156 = .ok (.aload_n 0, 1) := by decide +kernel
theorem dX0_readChoice_157 : decode cX0_readChoice 157 = .ok (.getfield 189, 3) := by decide +kernel
theorem dX0_readChoice_160 : decode cX0_readChoice 160 = .ok (.isub, 1) := by decide +kernel
theorem dX0_readChoice_161 : decode cX0_readChoice 161 = .ok (.iload 7, 2) := by decide +kernel
theorem dX0_readChoice_163 : decode cX0_readChoice 163 = .ok (.aload_n 0, 1) := by decide +kernel
theorem dX0_readChoice_164 : decode cX0_readChoice 164 = .ok (.getfield 192, 3) := by decide +kernel
theorem dX0_readChoice_167 : decode cX0_readChoice 167 = .ok (.isub, 1) := by decide +kernel
theorem dX0_readChoice_168 : decode cX0_readChoice 168 = .ok (.iload 8, 2) := by decide +kernel
theorem dX0_readChoice_170 : decode cX0_readChoice 170 = .ok (.aload_n 0, 1) := by decide +kernel
theorem dX0_readChoice_171 : decode cX0_readChoice 171 = .ok (.getfield 195, 3) := by decide +kernel
theorem dX0_readChoice_174 : decode cX0_readChoice 174 = .ok (.isub, 1) := by decide +kernel
theorem dX0_readChoice_175 : decode cX0_readChoice 175 = .ok (.invokestatic 198, 3) := by decide +kernel
theorem dX0_readChoice_178 : decode cX0_readChoice 178 = .ok (.ifCond .eq 7, 3) := by decide +kernel
theorem dX0_readChoice_181 : decode cX0_readChoice 181 = .ok (.iconst 1, 1) := by decide +kernel
theorem dX0_readChoice_182 : decode cX0_readChoice 182 = .ok (.goto 4, 3) := by decide +kernel
theorem dX0_readChoice_185 : decode cX0_readChoice 185 = .ok (.iconst 0, 1) := by decide +kernel
theorem dX0_readChoice_186 : decode cX0_readChoice 186 = .ok (.istore 5, 2) := by decide +kernel
theorem dX0_readChoice_188 : decode cX0_readChoice 188 = .ok (.iload 5, 2) := by decide +kernel
theorem dX0_readChoice_190 : decode cX0_readChoice 190 = .ok (.ifCond .ne 10, 3) := by decide +kernel
theorem dX0_readChoice_193 : decode cX0_readChoice 193 = .ok (.aload_n 0, 1) := by decide +kernel
theorem dX0_readChoice_194 : decode cX0_readChoice 194 = .ok (.iconst 2, 1) := by decide +kernel
theorem dX0_readChoice_195 : decode cX0_readChoice 195 = .ok (.iload_n 1, 1) := by decide +kernel
theorem dX0_readChoice_196 : decode cX0_readChoice 196 = .ok (.invokevirtual 227, 3) := by decide +kernel
theorem dX0_readChoice_199 : decode cX0_readChoice 199 = .ok (.return_, 1) := by decide +kernel
theorem dX0_readChoice_200 : decode cX0_readChoice 200 = .ok (.aload 4, 2) := by decide +kernel
theorem dX0_readChoice_202 : decode cX0_readChoice 202 = .ok (.iconst 1, 1) := by decide +kernel
theorem dX0_readChoice_203 : decode cX0_readChoice 203 = .ok (.invokevirtual 129, 3) := by decide +kernel
theorem dX0_readChoice_206 : decode cX0_readChoice 206 = .ok (.aload_n 0, 1) := by decide +kernel
theorem dX0_readChoice_207 : decode cX0_readChoice 207 = .ok (.aload 4, 2) := by decide +kernel
theorem dX0_readChoice_209 : decode cX0_readChoice 209 = .ok (.iload 6, 2) := by decide +kernel
theorem dX0_readChoice_211 : decode cX0_readChoice 211 = .ok (.iload 7, 2) := by decide +kernel
theorem dX0_readChoice_213 : decode cX0_readChoice 213 = .ok (.iload 8, 2) := by decide +kernel
theorem dX0_readChoice_215 : decode cX0_readChoice 215 = .ok (.iconst 1, 1) := by decide +kernel
theorem dX0_readChoice_216 : decode cX0_readChoice 216 = .ok (.invokevirtual 280, 3) := by decide +kernel
theorem dX0_readChoice_219 : decode cX0_readChoice 219 = .ok (.ifCond .eq 60, 3) := by decide +kernel
theorem dX0_readChoice_222 : decode cX0_readChoice 222 = .ok (.aload_n 0, 1) := by decide +kernel
theorem dX0_readChoice_223 : decode cX0_readChoice 223 = .ok (.aload 4, 2) := by decide +kernel
theorem dX0_readChoice_225 : decode cX0_readChoice 225 = .ok (.aload_n 0, 1) := by decide +kernel
theorem dX0_readChoice_226 : decode cX0_readChoice 226 = .ok (.getfield 189, 3) := by decide +kernel
theorem dX0_readChoice_229 : decode cX0_readChoice 229 = .ok (.aload_n 0, 1) := by decide +kernel
theorem dX0_readChoice_230 : decode cX0_readChoice 230 = .ok (.getfield 192, 3) := by decide +kernel
theorem dX0_readChoice_233 : decode cX0_readChoice 233 = .ok (.aload_n 0, 1) := by decide +kernel
theorem dX0_readChoice_234 : decode cX0_readChoice 234 = .ok (.getfield 195, 3) := by decide +kernel
theorem dX0_readChoice_237 : decode cX0_readChoice 237 = .ok (.iconst (-1), 1) := by decide +kernel
theorem dX0_readChoice_238 : decode cX0_readChoice 238 = .ok (.invokevirtual 280, 3) := by decide +kernel
theorem dX0_readChoice_241 : decode cX0_readChoice 241 = .ok (.ifCond .eq 38, 3) := by decide +kernel
theorem dX0_readChoice_244 : decode cX0_readChoice 244 = .ok (.aload_n 0, 1) := by decide +kernel
theorem dX0_readChoice_245 : decode cX0_readChoice 245 = .ok (.aload 4, 2) := by decide +kernel
theorem dX0_readChoice_247 : decode cX0_readChoice 247 = .ok (.iload 6, 2) := by decide +kernel
theorem dX0_readChoice_249 : decode cX0_readChoice 249 = .ok (.aload_n 0, 1) := by decide +kernel
theorem dX0_readChoice_250 : decode cX0_readChoice 250 = .ok (.getfield 189, 3) := by decide +kernel
theorem dX0_readChoice_253 : decode cX0_readChoice 253 = .ok (.isub, 1) := by decide +kernel
theorem dX0_readChoice_254 : decode cX0_readChoice 254 = .ok (.iload 7, 2) := by decide +kernel
theorem dX0_readChoice_256 : decode cX0_readChoice 256 = .ok (.aload_n 0, 1) := by decide +kernel
theorem dX0_readChoice_257 : decode cX0_readChoice 257 = .ok (.getfield 192, 3) := by decide +kernel
theorem dX0_readChoice_260 : decode cX0_readChoice 260 = .ok (.isub, 1) := by decide +kernel
theorem dX0_readChoice_261 : decode cX0_readChoice 261 = .ok (.iload 8, 2) := by decide +kernel
theorem dX0_readChoice_263 : decode cX0_readChoice 263 = .ok (.aload_n 0, 1) := by decide +kernel
theorem dX0_readChoice_264 : decode cX0_readChoice 264 = .ok (.getfield 195, 3) := by decide +kernel
theorem dX0_readChoice_267 : decode cX0_readChoice 267 = .ok (.isub, 1) := by decide +kernel
theorem dX0_readChoice_268 : decode cX0_readChoice 268 = .ok (.iconst (-1), 1) := by decide +kernel
theorem dX0_readChoice_269 : decode cX0_readChoice 269 = .ok (.invokevirtual 280, 3) := by decide +kernel
theorem dX0_readChoice_272 : decode cX0_readChoice 272 = .ok (.ifCond .eq 7, 3) := by decide +kernel
theorem dX0_readChoice_275 : decode cX0_readChoice 275 = .ok (.iconst 1, 1) := by decide +kernel
theorem dX0_readChoice_276 : decode cX0_readChoice 276 = .ok (.goto 4, 3) := by decide +kernel
theorem dX0_readChoice_279 : decode cX0_readChoice 279 = .ok (.iconst 0, 1) := by decide +kernel
theorem dX0_readChoice_280 : decode cX0_readChoice 280 = .ok (.istore 9, 2) := by decide +kernel
theorem dX0_readChoice_282 : decode cX0_readChoice 282 = .ok (.iload 9, 2) := by decide +kernel
theorem dX0_readChoice_284 : decode cX0_readChoice 284 = .ok (.ifCond .ne 9, 3) := by decide +kernel
theorem dX0_readChoice_287 : decode cX0_readChoice 287 = .ok (.aload_n 0, 1) := by decide +kernel
theorem dX0_readChoice_288 : decode cX0_readChoice 288 = .ok (.iconst 3, 1) := by decide +kernel
theorem dX0_readChoice_289 : decode cX0_readChoice 289 = .ok (.iload_n 1, 1) := by decide +kernel
theorem dX0_readChoice_290 : decode cX0_readChoice 290 = .ok (.invokevirtual 227, 3) := by decide +kernel
theorem dX0_readChoice_293 : decode cX0_readChoice 293 = .ok (.return_, 1) := by decide +kernel
theorem dX0_isLine_0 : decode cX0_isLine 0 = .ok (.aload_n 1, 1) := by decide +kernel
theorem dX0_isLine_1 : decode cX0_isLine 1 = .ok (.getfield 110, 3) := by decide +kernel
theorem dX0_isLine_4 : decode cX0_isLine 4 = .ok (.getfield 89, 3) := by decide +kernel
theorem dX0_isLine_7 : decode cX0_isLine 7 = .ok (.astore_n 2, 1) := by decide +kernel
theorem dX0_isLine_8 : decode cX0_isLine 8 = .ok (.aload_n 1, 1) := by decide +kernel
theorem dX0_isLine_9 : decode cX0_isLine 9 = .ok (.invokevirtual 177, 3) := by decide +kernel
theorem dX0_isLine_12 : decode cX0_isLine 12 = .ok (.ifCond .ne 38, 3) := by decide +kernel
theorem dX0_isLine_15 : decode cX0_isLine 15 = .ok (.aload_n 1, 1) := by decide +kernel
theorem dX0_isLine_16 : decode cX0_isLine 16 = .ok (.getfield 110, 3) := by decide +kernel
theorem dX0_isLine_19 : decode cX0_isLine 19 = .ok (.invokevirtual 180, 3) := by decide +kernel
theorem dX0_isLine_22 : decode cX0_isLine 22 = .ok (.ifCond .eq 28, 3) := by decide +kernel
theorem dX0_isLine_25 : decode cX0_isLine 25 = .ok (.aload_n 2, 1) := by decide +kernel
theorem dX0_isLine_26 : decode cX0_isLine 26 = .ok (.getfield 22, 3) := by decide +kernel
theorem dX0_isLine_29 : decode cX0_isLine 29 = .ok (.iconst 2, 1) := by decide +kernel
theorem dX0_isLine_30 : decode cX0_isLine 30 = .ok (.if_icmp .gt 20, 3) := by decide +kernel
theorem dX0_isLine_33 : decode cX0_isLine 33 = .ok (.aload_n 2, 1) := by decide +kernel
theorem dX0_isLine_34 : decode cX0_isLine 34 = .ok (.getfield 28, 3) := by decide +kernel
theorem dX0_isLine_37 : decode cX0_isLine 37 = .ok (.iconst 2, 1) := by decide +kernel
theorem dX0_isLine_38 : decode cX0_isLine 38 = .ok (.if_icmp .gt 12, 3) := by decide +kernel
theorem dX0_isLine_41 : decode cX0_isLine 41 = .ok (.aload_n 2, 1) := by decide +kernel
theorem dX0_isLine_42 : decode cX0_isLine 42 = .ok (.iconst 1, 1) := by decide +kernel
theorem dX0_isLine_43 : decode cX0_isLine 43 = .ok (.iconst 1, 1) := by decide +kernel
theorem dX0_isLine_44 : decode cX0_isLine 44 = .ok (.invokevirtual 183, 3) := by decide +kernel
theorem dX0_isLine_47 : decode cX0_isLine 47 = .ok (.ifCond .eq 5, 3) := by decide +kernel
theorem dX0_isLine_50 : decode cX0_isLine 50 = .ok (.iconst 0, 1) := by decide +kernel
theorem dX0_isLine_51 : decode cX0_isLine 51 = .ok (.ireturn, 1) := by decide +kernel
theorem dX0_isLine_52 : decode cX0_isLine 52 = .ok (.aload_n 0, 1) := by decide +kernel
theorem dX0_isLine_53 : decode cX0_isLine 53 = .ok (.aload_n 2, 1) := by decide +kernel
theorem dX0_isLine_54 : decode cX0_isLine 54 = .ok (.iconst 1, 1) := by decide +kernel
theorem dX0_isLine_55 : decode cX0_isLine 55 = .ok (.iconst 0, 1) := by decide +kernel
theorem dX0_isLine_56 : decode cX0_isLine 56 = .ok (.invokevirtual 183, 3) := by decide +kernel
theorem dX0_isLine_59 : decode cX0_isLine 59 = .ok (.invokestatic 186, 3) := by decide +kernel
theorem dX0_isLine_62 : decode cX0_isLine 62 = .ok (.putfield 189, 3) := by decide +kernel
theorem dX0_isLine_65 : decode cX0_isLine 65 = .ok (.aload_n 0, 1) := by decide +kernel
theorem dX0_isLine_66 : decode cX0_isLine 66 = .ok (.aload_n 2, 1) := by decide +kernel
theorem dX0_isLine_67 : decode cX0_isLine 67 = .ok (.iconst 0, 1) := by decide +kernel
theorem dX0_isLine_68 : decode cX0_isLine 68 = .ok (.iconst 1, 1) := by decide +kernel
theorem dX0_isLine_69 : decode cX0_isLine 69 = .ok (.invokevirtual 183, 3) := by decide +kernel
theorem dX0_isLine_72 : decode cX0_isLine 72 = .ok (.invokestatic 186, 3) := by decide +kernel
theorem dX0_isLine_75 : decode cX0_isLine 75 = .ok (.putfield 192, 3) := by decide +kernel
theorem dX0_isLine_78 : decode cX0_isLine 78 = .ok (.aload_n 0, 1) := by decide +kernel
theorem dX0_isLine_79 : decode cX0_isLine 79 = .ok (.aload_n 2, 1) := by decide +kernel
theorem dX0_isLine_80 : decode cX0_isLine 80 = .ok (.iconst 0, 1) := by decide +kernel
theorem dX0_isLine_81 : decode cX0_isLine 81 = .ok (.iconst 0, 1) := by decide +kernel
theorem dX0_isLine_82 : decode cX0_isLine 82 = .ok (.invokevirtual 183, 3) := by decide +kernel
theorem dX0_isLine_85 : decode cX0_isLine 85 = .ok (.invokestatic 186, 3) := by decide +kernel
theorem dX0_isLine_88 : decode cX0_isLine 88 = .ok (.putfield 195, 3) := by decide +kernel
theorem dX0_isLine_91 : decode cX0_isLine 91 = .ok (.aload_n 0, 1) := by decide +kernel
theorem dX0_isLine_92 : decode cX0_isLine 92 = .ok (.getfield 189, 3) := by decide +kernel
theorem dX0_isLine_95 : decode cX0_isLine 95 = .ok (.aload_n 0, 1) := by decide +kernel
theorem dX0_isLine_96 : decode cX0_isLine 96 = .ok (.getfield 192, 3) := by decide +kernel
theorem dX0_isLine_99 : decode cX0_isLine 99 = .ok (.aload_n 0, 1) := by decide +kernel
theorem dX0_isLine_100 : decode cX0_isLine 100 = .ok (.getfield 195, 3) := by decide +kernel
theorem dX0_isLine_103 : decode cX0_isLine 103 = .ok (.invokestatic 198, 3) := by decide +kernel
theorem dX0_isLine_106 : decode cX0_isLine 106 = .ok (.ireturn, 1) := by decide +kernel
theorem dX0_isLine_2_0 : decode cX0_isLine_2 0 = .ok (.iload_n 0, 1) := by decide +kernel
theorem dX0_isLine_2_1 : decode cX0_isLine_2 1 = .ok (.bipush (-3), 2) := by decide +kernel
theorem dX0_isLine_2_3 : decode cX0_isLine_2 3 = .ok (.iconst 3, 1) := by decide +kernel
theorem dX0_isLine_2_4 : decode cX0_isLine_2 4 = .ok (.invokestatic 173, 3) := by decide +kernel
theorem dX0_isLine_2_7 : decode cX0_isLine_2 7 = .ok (.ifCond .eq 28, 3) := by decide +kernel
theorem dX0_isLine_2_10 : decode cX0_isLine_2 10 = .ok (.iload_n 1, 1) := by decide +kernel
theorem dX0_isLine_2_11 : decode cX0_isLine_2 11 = .ok (.bipush (-3), 2) := by decide +kernel
theorem dX0_isLine_2_13 : decode cX0_isLine_2 13 = .ok (.iconst 3, 1) := by decide +kernel
theorem dX0_isLine_2_14 : decode cX0_isLine_2 14 = .ok (.invokestatic 173, 3) := by decide +kernel
theorem dX0_isLine_2_17 : decode cX0_isLine_2 17 = .ok (.ifCond .eq 18, 3) := by decide +kernel
theorem dX0_isLine_2_20 : decode cX0_isLine_2 20 = .ok (.iload_n 2, 1) := by decide +kernel
theorem dX0_isLine_2_21 : decode cX0_isLine_2 21 = .ok (.bipush (-50), 2) := by decide +kernel
theorem dX0_isLine_2_23 : decode cX0_isLine_2 23 = .ok (.bipush 50, 2) := by decide +kernel
theorem dX0_isLine_2_25 : decode cX0_isLine_2 25 = .ok (.invokestatic 173, 3) := by decide +kernel
theorem dX0_isLine_2_28 : decode cX0_isLine_2 28 = .ok (.ifCond .eq 7, 3) := by decide +kernel
theorem dX0_isLine_2_31 : decode cX0_isLine_2 31 = .ok (.iconst 1, 1) := by decide +kernel
theorem dX0_isLine_2_32 : decode cX0_isLine_2 32 = .ok (.goto 4, 3) := by decide +kernel
theorem dX0_isLine_2_35 : decode cX0_isLine_2 35 = .ok (.iconst 0, 1) := by decide +kernel
theorem dX0_isLine_2_36 : decode cX0_isLine_2 36 = .ok (.ireturn, 1) := by decide +kernel
theorem dX0_within_0 : decode cX0_within 0 = .ok (.iload_n 0, 1) := by decide +kernel
theorem dX0_within_1 : decode cX0_within 1 = .ok (.iload_n 1, 1) := by decide +kernel
theorem dX0_within_2 : decode cX0_within 2 = .ok (.if_icmp .lt 12, 3) := by decide +kernel
theorem dX0_within_5 : decode cX0_within 5 = .ok (.iload_n 0, 1) := by decide +kernel
theorem dX0_within_6 : decode cX0_within 6 = .ok (.iload_n 2, 1) := by decide +kernel
theorem dX0_within_7 : decode cX0_within 7 = .ok (.if_icmp .gt 7, 3) := by decide +kernel
theorem dX0_within_10 : decode cX0_within 10 = .ok (.iconst 1, 1) := by decide +kernel
theorem dX0_within_11 : decode cX0_within 11 = .ok (.goto 4, 3) := by decide +kernel
theorem dX0_within_14 : decode cX0_within 14 = .ok (.iconst 0, 1) := by decide +kernel
theorem dX0_within_15 : decode cX0_within 15 = .ok (.ireturn, 1) := by decide +kernel
theorem dX0_addFactorial_0 : decode cX0_addFactorial 0 = .ok (.iload_n 2, 1) := by decide +kernel
theorem dX0_addFactorial_1 : decode cX0_addFactorial 1 = .ok (.ifCond .ne 7, 3) := by decide +kernel
theorem dX0_addFactorial_4 : decode cX0_addFactorial 4 = .ok (.iload_n 3, 1) := by decide +kernel
theorem dX0_addFactorial_5 : decode cX0_addFactorial 5 = .ok (.ifCond .eq 15, 3) := by decide +kernel
theorem dX0_addFactorial_8 : decode cX0_addFactorial 8 = .ok (.aload_n 1, 1) := by decide +kernel
theorem dX0_addFactorial_9 : decode cX0_addFactorial 9 = .ok (.iload_n 2, 1) := by decide +kernel
theorem dX0_addFactorial_10 : decode cX0_addFactorial 10 = .ok (.iload_n 3, 1) := by decide +kernel
theorem dX0_addFactorial_11 : decode cX0_addFactorial 11 = .ok (.iload 4, 2) := by decide +kernel
theorem dX0_addFactorial_13 : decode cX0_addFactorial 13 = .ok (.iload 5, 2) := by decide +kernel
theorem dX0_addFactorial_15 : decode cX0_addFactorial 15 = .ok (.invokevirtual 152, 3) := by decide +kernel
theorem dX0_addFactorial_18 : decode cX0_addFactorial 18 = .ok (.iconst 1, 1) := by decide +kernel
theorem dX0_addFactorial_19 : decode cX0_addFactorial 19 = .ok (.ireturn, 1) := by decide +kernel
theorem dX0_addFactorial_20 : decode cX0_addFactorial 20 = .ok (.iload 4, 2) := by decide +kernel
theorem dX0_addFactorial_22 : decode cX0_addFactorial 22 = .ok (.ifCond .ge 5, 3) := by decide +kernel
theorem dX0_addFactorial_25 : decode cX0_addFactorial 25 = .ok (.iconst 0, 1) := by decide +kernel
theorem dX0_addFactorial_26 : decode cX0_addFactorial 26 = .ok (.ireturn, 1) := by decide +kernel
theorem dX0_addFactorial_27 : decode cX0_addFactorial 27 = .ok (.iload 4, 2) := by decide +kernel
theorem dX0_addFactorial_29 : decode cX0_addFactorial 29 = .ok (.invokestatic 201, 3) := by decide +kernel
theorem dX0_addFactorial_32 : decode cX0_addFactorial 32 = .ok (.istore 6, 2) := by decide +kernel
theorem dX0_addFactorial_34 : decode cX0_addFactorial 34 = .ok (.aload_n 1, 1) := by decide +kernel
theorem dX0_addFactorial_35 : decode cX0_addFactorial 35 = .ok (.getfield 110, 3) := by decide +kernel
theorem dX0_addFactorial_38 : decode cX0_addFactorial 38 = .ok (.getfield 89, 3) := by decide +kernel
theorem dX0_addFactorial_41 : decode cX0_addFactorial 41 = .ok (.iload 5, 2) := by decide +kernel
theorem dX0_addFactorial_43 : decode cX0_addFactorial 43 = .ok (.ifCond .le 8, 3) := by decide +kernel
theorem dX0_addFactorial_46 : decode cX0_addFactorial 46 = .ok (.iload 6, 2) := by decide +kernel
theorem dX0_addFactorial_48 : decode cX0_addFactorial 48 = .ok (.goto 8, 3) := by decide +kernel
theorem dX0_addFactorial_51 : decode cX0_addFactorial 51 = .ok (.iload 6, 2) := by decide +kernel
theorem dX0_addFactorial_53 : decode cX0_addFactorial 53 = .ok (.invokestatic 74, 3) := by decide +kernel
theorem dX0_addFactorial_56 : decode cX0_addFactorial 56 = .ok (.invokevirtual 78, 3) := by decide +kernel
theorem dX0_addFactorial_59 : decode cX0_addFactorial 59 = .ok (.iconst 1, 1) := by decide +kernel
theorem dX0_addFactorial_60 : decode cX0_addFactorial 60 = .ok (.ireturn, 1) := by decide +kernel
theorem dX0_factorial_0 : decode cX0_factorial 0 = .ok (.iconst 1, 1) := by decide +kernel
theorem dX0_factorial_1 : decode cX0_factorial 1 = .ok (.istore_n 1, 1) := by decide +kernel
theorem dX0_factorial_2 : decode cX0_factorial 2 = .ok (.iconst 2, 1) := by decide +kernel
theorem dX0_factorial_3 : decode cX0_factorial 3 = .ok (.istore_n 2, 1) := by decide +kernel
theorem dX0_factorial_4 : decode cX0_factorial 4 = .ok (.iload_n 2, 1) := by decide +kernel
theorem dX0_factorial_5 : decode cX0_factorial 5 = .ok (.iload_n 0, 1) := by decide +kernel
theorem dX0_factorial_6 : decode cX0_factorial 6 = .ok (.if_icmp .gt 15, 3) := by decide +kernel
theorem dX0_factorial_9 : decode cX0_factorial 9 = .ok (.iload_n 1, 1) := by decide +kernel
theorem dX0_factorial_10 : decode cX0_factorial 10 = .ok (.iload_n 2, 1) := by decide +kernel
theorem dX0_factorial_11 : decode cX0_factorial 11 = .ok (.invokestatic 6, 3) := by decide +kernel
theorem dX0_factorial_14 : decode cX0_factorial 14 = .ok (.istore_n 1, 1) := by decide +kernel
theorem dX0_factorial_15 : decode cX0_factorial 15 = .ok (.iinc 2 1, 3) := by decide +kernel
theorem dX0_factorial_18 : decode cX0_factorial 18 = .ok (.goto (-14), 3) := by decide +kernel
theorem dX0_factorial_21 : decode cX0_factorial 21 = .ok (.iload_n 1, 1) := by decide +kernel
theorem dX0_factorial_22 : decode cX0_factorial 22 = .ok (.ireturn, 1) := by decide +kernel
theorem dX0_readFactorial_0 : decode cX0_readFactorial 0 = .ok (.aload_n 0, 1) := by decide +kernel
theorem dX0_readFactorial_1 : decode cX0_readFactorial 1 = .ok (.aload_n 1, 1) := by decide +kernel
theorem dX0_readFactorial_2 : decode cX0_readFactorial 2 = .ok (.invokevirtual 277, 3) := by decide +kernel
theorem dX0_readFactorial_5 : decode cX0_readFactorial 5 = .ok (.ifCond .ne 10, 3) := by decide +kernel
theorem dX0_readFactorial_8 : decode cX0_readFactorial 8 = .ok (.aload_n 0, 1) := by decide +kernel
theorem dX0_readFactorial_9 : decode cX0_readFactorial 9 = .ok (.iconst 2, 1) := by decide +kernel
theorem dX0_readFactorial_10 : decode cX0_readFactorial 10 = .ok (.iload_n 2, 1) := by decide +kernel
theorem dX0_readFactorial_11 : decode cX0_readFactorial 11 = .ok (.invokevirtual 227, 3) := by decide +kernel
theorem dX0_readFactorial_14 : decode cX0_readFactorial 14 = .ok (.return_, 1) := by decide +kernel
theorem dX0_readFactorial_15 : decode cX0_readFactorial 15 = .ok (.aload_n 1, 1) := by decide +kernel
theorem dX0_readFactorial_16 : decode cX0_readFactorial 16 = .ok (.iconst 1, 1) := by decide +kernel
theorem dX0_readFactorial_17 : decode cX0_readFactorial 17 = .ok (.invokevirtual 129, 3) := by decide +kernel
theorem dX0_readFactorial_20 : decode cX0_readFactorial 20 = .ok (.aload_n 0, 1) := by decide +kernel
theorem dX0_readFactorial_21 : decode cX0_readFactorial 21 = .ok (.aload_n 1, 1) := by decide +kernel
theorem dX0_readFactorial_22 : decode cX0_readFactorial 22 = .ok (.aload_n 0, 1) := by decide +kernel
theorem dX0_readFactorial_23 : decode cX0_readFactorial 23 = .ok (.getfield 189, 3) := by decide +kernel
theorem dX0_readFactorial_26 : decode cX0_readFactorial 26 = .ok (.aload_n 0, 1) := by decide +kernel
theorem dX0_readFactorial_27 : decode cX0_readFactorial 27 = .ok (.getfield 192, 3) := by decide +kernel
theorem dX0_readFactorial_30 : decode cX0_readFactorial 30 = .ok (.aload_n 0, 1) := by decide +kernel
theorem dX0_readFactorial_31 : decode cX0_readFactorial 31 = .ok (.getfield 195, 3) := by decide +kernel
theorem dX0_readFactorial_34 : decode cX0_readFactorial 34 = .ok (.iconst 1, 1) := by decide +kernel
theorem dX0_readFactorial_35 : decode cX0_readFactorial 35 = .ok (.invokevirtual 280, 3) := by decide +kernel
theorem dX0_readFactorial_38 : decode cX0_readFactorial 38 = .ok (.ifCond .ne 9, 3) := by decide +kernel
theorem dX0_readFactorial_41 : decode cX0_readFactorial 41 = .ok (.aload_n 0, 1) := by decide +kernel
theorem dX0_readFactorial_42 : decode cX0_readFactorial 42 = .ok (.iconst 3, 1) := by decide +kernel
theorem dX0_readFactorial_43 : decode cX0_readFactorial 43 = .ok (.iload_n 2, 1) := by decide +kernel
theorem dX0_readFactorial_44 : decode cX0_readFactorial 44 = .ok (.invokevirtual 227, 3) := by decide +kernel
theorem dX0_readFactorial_47 : decode cX0_readFactorial 47 = .ok (.return_, 1) := by decide +kernel
theorem dX0_readPower_0 : decode cX0_readPower 0 = .ok (.aload_n 0, 1) := by decide +kernel
theorem dX0_readPower_1 : decode cX0_readPower 1 = .ok (.aload_n 2, 1) := by decide +kernel
theorem dX0_readPower_2 : decode cX0_readPower 2 = .ok (.invokevirtual 277, 3) := by decide +kernel
theorem dX0_readPower_5 : decode cX0_readPower 5 = .ok (.ifCond .ne 10, 3) := by decide +kernel
theorem dX0_readPower_8 : decode cX0_readPower 8 = .ok (.aload_n 0, 1) := by decide +kernel
theorem dX0_readPower_9 : decode cX0_readPower 9 = .ok (.iconst 2, 1) := by decide +kernel
theorem dX0_readPower_10 : decode cX0_readPower 10 = .ok (.iload_n 3, 1) := by decide +kernel
theorem dX0_readPower_11 : decode cX0_readPower 11 = .ok (.invokevirtual 227, 3) := by decide +kernel
theorem dX0_readPower_14 : decode cX0_readPower 14 = .ok (.return_, 1) := by decide +kernel
theorem dX0_readPower_15 : decode cX0_readPower 15 = .ok (.aload_n 0, 1) := by decide +kernel
theorem dX0_readPower_16 : decode cX0_readPower 16 = .ok (.getfield 189, 3) := by decide +kernel
theorem dX0_readPower_19 : decode cX0_readPower 19 = .ok (.istore 4, 2) := by decide +kernel
theorem dX0_readPower_21 : decode cX0_readPower 21 = .ok (.aload_n 0, 1) := by decide +kernel
theorem dX0_readPower_22 : decode cX0_readPower 22 = .ok (.getfield 192, 3) := by decide +kernel
theorem dX0_readPower_25 : decode cX0_readPower 25 = .ok (.istore 5, 2) := by decide +kernel
theorem dX0_readPower_27 : decode cX0_readPower 27 = .ok (.aload_n 0, 1) := by decide +kernel
theorem dX0_readPower_28 : decode cX0_readPower 28 = .ok (.getfield 195, 3) := by decide +kernel
theorem dX0_readPower_31 : decode cX0_readPower 31 = .ok (.istore 6, 2) := by decide +kernel
theorem dX0_readPower_33 : decode cX0_readPower 33 = .ok (.aload_n 1, 1) := by decide +kernel
theorem dX0_readPower_34 : decode cX0_readPower 34 = .ok (.invokevirtual 177, 3) := by decide +kernel
theorem dX0_readPower_37 : decode cX0_readPower 37 = .ok (.ifCond .ne 17, 3) := by decide +kernel
theorem dX0_readPower_40 : decode cX0_readPower 40 = .ok (.aload_n 1, 1) := by decide +kernel
theorem dX0_readPower_41 : decode cX0_readPower 41 = .ok (.getfield 110, 3) := by decide +kernel
theorem dX0_readPower_44 : decode cX0_readPower 44 = .ok (.invokevirtual 128, 3) := by decide +kernel
theorem dX0_readPower_47 : decode cX0_readPower 47 = .ok (.ifCond .eq 7, 3) := by decide +kernel
theorem dX0_readPower_50 : decode cX0_readPower 50 = .ok (.iconst 1, 1) := by decide +kernel
theorem dX0_readPower_51 : decode cX0_readPower 51 = .ok (.goto 4, 3) := by decide +kernel
theorem dX0_readPower_54 : decode cX0_readPower 54 = .ok (.iconst 0, 1) := by decide +kernel
theorem dX0_readPower_55 : decode cX0_readPower 55 = .ok (.istore 7, 2) := by decide +kernel
theorem dX0_readPower_57 : decode cX0_readPower 57 = .ok (.iload 4, 2) := by decide +kernel
theorem dX0_readPower_59 : decode cX0_readPower 59 = .ok (.ifCond .ne 45, 3) := by decide +kernel
theorem dX0_readPower_62 : decode cX0_readPower 62 = .ok (.iload 5, 2) := by decide +kernel
theorem dX0_readPower_64 : decode cX0_readPower 64 = .ok (.ifCond .ne 40, 3) := by decide +kernel
theorem dX0_readPower_67 : decode cX0_readPower 67 = .ok (.iload 7, 2) := by decide +kernel
theorem dX0_readPower_69 : decode cX0_readPower 69 = .ok (.ifCond .eq 17, 3) := by decide +kernel
theorem dX0_readPower_72 : decode cX0_readPower 72 = .ok (.iload 6, 2) := by decide +kernel
theorem dX0_readPower_74 : decode cX0_readPower 74 = .ok (.ifCond .ge 12, 3) := by decide +kernel
theorem dX0_readPower_77 : decode cX0_readPower 77 = .ok (.aload_n 0, 1) := by decide +kernel
theorem dX0_readPower_78 : decode cX0_readPower 78 = .ok (.iconst 3, 1) := by decide +kernel
theorem dX0_readPower_79 : decode cX0_readPower 79 = .ok (.iload_n 3, 1) := by decide +kernel
theorem dX0_readPower_80 : decode cX0_readPower 80 = .ok (.invokevirtual 227, 3) := by decide +kernel
theorem dX0_readPower_83 : decode cX0_readPower 83 = .ok (.goto 20, 3) := by decide +kernel
theorem dX0_readPower_86 : decode cX0_readPower 86 = .ok (.aload_n 0, 1) := by decide +kernel
theorem dX0_readPower_87 : decode cX0_readPower 87 = .ok (.aload_n 1, 1) := by decide +kernel
theorem dX0_readPower_88 : decode cX0_readPower 88 = .ok (.iload 6, 2) := by decide +kernel
theorem dX0_readPower_90 : decode cX0_readPower 90 = .ok (.aload_n 1, 1) := by decide +kernel
theorem dX0_readPower_91 : decode cX0_readPower 91 = .ok (.invokevirtual 284, 3) := by decide +kernel
theorem dX0_readPower_94 : decode cX0_readPower 94 = .ok (.ifCond .ne 9, 3) := by decide +kernel
theorem dX0_readPower_97 : decode cX0_readPower 97 = .ok (.aload_n 0, 1) := by decide +kernel
theorem dX0_readPower_98 : decode cX0_readPower 98 = .ok (.iconst 4, 1) := by decide +kernel
theorem dX0_readPower_99 : decode cX0_readPower 99 = .ok (.iload_n 3, 1) := by decide +kernel
theorem dX0_readPower_100 : decode cX0_readPower 100 = .ok (.invokevirtual 227, 3) := by decide +kernel
theorem dX0_readPower_103 : decode cX0_readPower 103 = .ok (.return_, 1) := by decide +kernel
theorem dX0_readPower_104 : decode cX0_readPower 104 = .ok (.aload_n 1, 1) := by decide +kernel
theorem dX0_readPower_105 : decode cX0_readPower 105 = .ok (.invokevirtual 177, 3) := by decide +kernel
theorem dX0_readPower_108 : decode cX0_readPower 108 = .ok (.ifCond .ne 45, 3) := by decide +kernel
theorem dX0_readPower_111 : decode cX0_readPower 111 = .ok (.aload_n 1, 1) := by decide +kernel
theorem dX0_readPower_112 : decode cX0_readPower 112 = .ok (.getfield 110, 3) := by decide +kernel
theorem dX0_readPower_115 : decode cX0_readPower 115 = .ok (.invokevirtual 180, 3) := by decide +kernel
theorem dX0_readPower_118 : decode cX0_readPower 118 = .ok (.ifCond .eq 35, 3) := by decide +kernel
theorem dX0_readPower_121 : decode cX0_readPower 121 = .ok (.aload_n 1, 1) := by decide +kernel
theorem dX0_readPower_122 : decode cX0_readPower 122 = .ok (.getfield 110, 3) := by decide +kernel
theorem dX0_readPower_125 : decode cX0_readPower 125 = .ok (.getfield 89, 3) := by decide +kernel
theorem dX0_readPower_128 : decode cX0_readPower 128 = .ok (.getfield 22, 3) := by decide +kernel
theorem dX0_readPower_131 : decode cX0_readPower 131 = .ok (.iconst 1, 1) := by decide +kernel
theorem dX0_readPower_132 : decode cX0_readPower 132 = .ok (.if_icmp .gt 21, 3) := by decide +kernel
theorem dX0_readPower_135 : decode cX0_readPower 135 = .ok (.aload_n 1, 1) := by decide +kernel
theorem dX0_readPower_136 : decode cX0_readPower 136 = .ok (.getfield 110, 3) := by decide +kernel
theorem dX0_readPower_139 : decode cX0_readPower 139 = .ok (.getfield 89, 3) := by decide +kernel
theorem dX0_readPower_142 : decode cX0_readPower 142 = .ok (.getfield 28, 3) := by decide +kernel
theorem dX0_readPower_145 : decode cX0_readPower 145 = .ok (.iconst 1, 1) := by decide +kernel
theorem dX0_readPower_146 : decode cX0_readPower 146 = .ok (.if_icmp .gt 7, 3) := by decide +kernel
theorem dX0_readPower_149 : decode cX0_readPower 149 = .ok (.iconst 1, 1) := by decide +kernel
theorem dX0_readPower_150 : decode cX0_readPower 150 = .ok (.goto 4, 3) := by decide +kernel
theorem dX0_readPower_153 : decode cX0_readPower 153 = .ok (.iconst 0, 1) := by decide +kernel
theorem dX0_readPower_154 : decode cX0_readPower 154 = .ok (.istore 8, 2) := by decide +kernel
theorem dX0_readPower_156 : decode cX0_readPower 156 = .ok (.iload 8, 2) := by decide +kernel
theorem dX0_readPower_158 : decode cX0_readPower 158 = .ok (.ifCond .ne 12, 3) := by decide +kernel
theorem dX0_readPower_161 : decode cX0_readPower 161 = .ok (.aload_n 0, 1) := by decide +kernel
theorem dX0_readPower_162 : decode cX0_readPower 162 = .ok (.iconst 2, 1) := by decide +kernel
theorem dX0_readPower_163 : decode cX0_readPower 163 = .ok (.iload_n 3, 1) := by decide +kernel
theorem dX0_readPower_164 : decode cX0_readPower 164 = .ok (.invokevirtual 227, 3) := by decide +kernel
theorem dX0_readPower_167 : decode cX0_readPower 167 = .ok (.goto 64, 3) := by decide +kernel
theorem dX0_readPower_170 : decode cX0_readPower 170 = .ok (.iload 7, 2) := by decide +kernel
theorem dX0_readPower_172 : decode cX0_readPower 172 = .ok (.ifCond .eq 12, 3) := by decide +kernel
theorem dX0_readPower_175 : decode cX0_readPower 175 = .ok (.aload_n 0, 1) := by decide +kernel
theorem dX0_readPower_176 : decode cX0_readPower 176 = .ok (.iconst 3, 1) := by decide +kernel
theorem dX0_readPower_177 : decode cX0_readPower 177 = .ok (.iload_n 3, 1) := by decide +kernel
theorem dX0_readPower_178 : decode cX0_readPower 178 = .ok (.invokevirtual 227, 3) := by decide +kernel
theorem dX0_readPower_181 : decode cX0_readPower 181 = .ok (.goto 50, 3) := by decide +kernel
theorem dX0_readPower_184 : decode cX0_readPower 184 = .ok (.aload_n 1, 1) := by decide +kernel
theorem dX0_readPower_185 : decode cX0_readPower 185 = .ok (.getfield 110, 3) := by decide +kernel
theorem dX0_readPower_188 : decode cX0_readPower 188 = .ok (.getfield 89, 3) := by decide +kernel
theorem dX0_readPower_191 : decode cX0_readPower 191 = .ok (.getfield 288, 3) := by decide +kernel
theorem dX0_readPower_194 : decode cX0_readPower 194 = .ok (.iconst 0, 1) := by decide +kernel
theorem dX0_readPower_195 : decode cX0_readPower 195 = .ok (.iaload, 1) := by decide +kernel
theorem dX0_readPower_196 : decode cX0_readPower 196 = .ok (.istore 9, 2) := by decide +kernel
theorem dX0_readPower_198 : decode cX0_readPower 198 = .ok (.aload_n 1, 1) := by decide +kernel
theorem dX0_readPower_199 : decode cX0_readPower 199 = .ok (.iload 9, 2) := by decide +kernel
theorem dX0_readPower_201 : decode cX0_readPower 201 = .ok (.iload 6, 2) := by decide +kernel
theorem dX0_readPower_203 : decode cX0_readPower 203 = .ok (.invokestatic 290, 3) := by decide +kernel
theorem dX0_readPower_206 : decode cX0_readPower 206 = .ok (.invokevirtual 129, 3) := by decide +kernel
theorem dX0_readPower_209 : decode cX0_readPower 209 = .ok (.aload_n 1, 1) := by decide +kernel
theorem dX0_readPower_210 : decode cX0_readPower 210 = .ok (.iload 9, 2) := by decide +kernel
theorem dX0_readPower_212 : decode cX0_readPower 212 = .ok (.iload 4, 2) := by decide +kernel
theorem dX0_readPower_214 : decode cX0_readPower 214 = .ok (.invokestatic 290, 3) := by decide +kernel
theorem dX0_readPower_217 : decode cX0_readPower 217 = .ok (.putfield 130, 3) := by decide +kernel
theorem dX0_readPower_220 : decode cX0_readPower 220 = .ok (.aload_n 1, 1) := by decide +kernel
theorem dX0_readPower_221 : decode cX0_readPower 221 = .ok (.iload 9, 2) := by decide +kernel
theorem dX0_readPower_223 : decode cX0_readPower 223 = .ok (.iload 5, 2) := by decide +kernel
theorem dX0_readPower_225 : decode cX0_readPower 225 = .ok (.invokestatic 290, 3) := by decide +kernel
theorem dX0_readPower_228 : decode cX0_readPower 228 = .ok (.putfield 133, 3) := by decide +kernel
theorem dX0_readPower_231 : decode cX0_readPower 231 = .ok (.return_, 1) := by decide +kernel
theorem dX0_raise_0 : decode cX0_raise 0 = .ok (.aload_n 0, 1) := by decide +kernel
theorem dX0_raise_1 : decode cX0_raise 1 = .ok (.getfield 160, 3) := by decide +kernel
theorem dX0_raise_4 : decode cX0_raise 4 = .ok (.aload_n 1, 1) := by decide +kernel
theorem dX0_raise_5 : decode cX0_raise 5 = .ok (.invokevirtual 158, 3) := by decide +kernel
theorem dX0_raise_8 : decode cX0_raise 8 = .ok (.aload_n 0, 1) := by decide +kernel
theorem dX0_raise_9 : decode cX0_raise 9 = .ok (.getfield 163, 3) := by decide +kernel
theorem dX0_raise_12 : decode cX0_raise 12 = .ok (.iconst 1, 1) := by decide +kernel
theorem dX0_raise_13 : decode cX0_raise 13 = .ok (.invokevirtual 129, 3) := by decide +kernel
theorem dX0_raise_16 : decode cX0_raise 16 = .ok (.iload_n 2, 1) := by decide +kernel
theorem dX0_raise_17 : decode cX0_raise 17 = .ok (.invokestatic 166, 3) := by decide +kernel
theorem dX0_raise_20 : decode cX0_raise 20 = .ok (.istore 4, 2) := by decide +kernel
theorem dX0_raise_22 : decode cX0_raise 22 = .ok (.iconst 0, 1) := by decide +kernel
theorem dX0_raise_23 : decode cX0_raise 23 = .ok (.istore 5, 2) := by decide +kernel
theorem dX0_raise_25 : decode cX0_raise 25 = .ok (.iload 5, 2) := by decide +kernel
theorem dX0_raise_27 : decode cX0_raise 27 = .ok (.iload 4, 2) := by decide +kernel
theorem dX0_raise_29 : decode cX0_raise 29 = .ok (.if_icmp .ge 39, 3) := by decide +kernel
theorem dX0_raise_32 : decode cX0_raise 32 = .ok (.aload_n 0, 1) := by decide +kernel
theorem dX0_raise_33 : decode cX0_raise 33 = .ok (.aload_n 0, 1) := by decide +kernel
theorem dX0_raise_34 : decode cX0_raise 34 = .ok (.getfield 163, 3) := by decide +kernel
theorem dX0_raise_37 : decode cX0_raise 37 = .ok (.aload_n 0, 1) := by decide +kernel
theorem dX0_raise_38 : decode cX0_raise 38 = .ok (.getfield 160, 3) := by decide +kernel
theorem dX0_raise_41 : decode cX0_raise 41 = .ok (.iload_n 2, 1) := by decide +kernel
theorem dX0_raise_42 : decode cX0_raise 42 = .ok (.ifCond .ge 7, 3) := by decide +kernel
theorem dX0_raise_45 : decode cX0_raise 45 = .ok (.iconst 1, 1) := by decide +kernel
theorem dX0_raise_46 : decode cX0_raise 46 = .ok (.goto 4, 3) := by decide +kernel
theorem dX0_raise_49 : decode cX0_raise 49 = .ok (.iconst 0, 1) := by decide +kernel
theorem dX0_raise_50 : decode cX0_raise 50 = .ok (.aload_n 0, 1) := by decide +kernel
theorem dX0_raise_51 : decode cX0_raise 51 = .ok (.getfield 163, 3) := by decide +kernel
theorem dX0_raise_54 : decode cX0_raise 54 = .ok (.invokevirtual 169, 3) := by decide +kernel
theorem dX0_raise_57 : decode cX0_raise 57 = .ok (.ifCond .ne 5, 3) := by decide +kernel
theorem dX0_raise_60 : decode cX0_raise 60 = .ok (.iconst 0, 1) := by decide +kernel
theorem dX0_raise_61 : decode cX0_raise 61 = .ok (.ireturn, 1) := by decide +kernel
theorem dX0_raise_62 : decode cX0_raise 62 = .ok (.iinc 5 1, 3) := by decide +kernel
theorem dX0_raise_65 : decode cX0_raise 65 = .ok (.goto (-40), 3) := by decide +kernel
theorem dX0_raise_68 : decode cX0_raise 68 = .ok (.aload_n 3, 1) := by decide +kernel
theorem dX0_raise_69 : decode cX0_raise 69 = .ok (.aload_n 0, 1) := by decide +kernel
theorem dX0_raise_70 : decode cX0_raise 70 = .ok (.getfield 163, 3) := by decide +kernel
theorem dX0_raise_73 : decode cX0_raise 73 = .ok (.invokevirtual 158, 3) := by decide +kernel
theorem dX0_raise_76 : decode cX0_raise 76 = .ok (.iconst 1, 1) := by decide +kernel
theorem dX0_raise_77 : decode cX0_raise 77 = .ok (.ireturn, 1) := by decide +kernel
theorem dX0_multiply_0 : decode cX0_multiply 0 = .ok (.aload_n 0, 1) := by decide +kernel
theorem dX0_multiply_1 : decode cX0_multiply 1 = .ok (.iload_n 3, 1) := by decide +kernel
theorem dX0_multiply_2 : decode cX0_multiply 2 = .ok (.ifCond .eq 7, 3) := by decide +kernel
theorem dX0_multiply_5 : decode cX0_multiply 5 = .ok (.iconst 3, 1) := by decide +kernel
theorem dX0_multiply_6 : decode cX0_multiply 6 = .ok (.goto 4, 3) := by decide +kernel
theorem dX0_multiply_9 : decode cX0_multiply 9 = .ok (.iconst 2, 1) := by decide +kernel
theorem dX0_multiply_10 : decode cX0_multiply 10 = .ok (.aload_n 1, 1) := by decide +kernel
theorem dX0_multiply_11 : decode cX0_multiply 11 = .ok (.getfield 110, 3) := by decide +kernel
theorem dX0_multiply_14 : decode cX0_multiply 14 = .ok (.aload_n 2, 1) := by decide +kernel
theorem dX0_multiply_15 : decode cX0_multiply 15 = .ok (.getfield 110, 3) := by decide +kernel
theorem dX0_multiply_18 : decode cX0_multiply 18 = .ok (.aload_n 0, 1) := by decide +kernel
theorem dX0_multiply_19 : decode cX0_multiply 19 = .ok (.getfield 116, 3) := by decide +kernel
theorem dX0_multiply_22 : decode cX0_multiply 22 = .ok (.getfield 110, 3) := by decide +kernel
theorem dX0_multiply_25 : decode cX0_multiply 25 = .ok (.invokevirtual 120, 3) := by decide +kernel
theorem dX0_multiply_28 : decode cX0_multiply 28 = .ok (.ifCond .ne 5, 3) := by decide +kernel
theorem dX0_multiply_31 : decode cX0_multiply 31 = .ok (.iconst 0, 1) := by decide +kernel
theorem dX0_multiply_32 : decode cX0_multiply 32 = .ok (.ireturn, 1) := by decide +kernel
theorem dX0_multiply_33 : decode cX0_multiply 33 = .ok (.aload_n 0, 1) := by decide +kernel
theorem dX0_multiply_34 : decode cX0_multiply 34 = .ok (.getfield 116, 3) := by decide +kernel
theorem dX0_multiply_37 : decode cX0_multiply 37 = .ok (.aload_n 1, 1) := by decide +kernel
theorem dX0_multiply_38 : decode cX0_multiply 38 = .ok (.invokevirtual 124, 3) := by decide +kernel
theorem dX0_multiply_41 : decode cX0_multiply 41 = .ok (.aload_n 0, 1) := by decide +kernel
theorem dX0_multiply_42 : decode cX0_multiply 42 = .ok (.getfield 116, 3) := by decide +kernel
theorem dX0_multiply_45 : decode cX0_multiply 45 = .ok (.getfield 110, 3) := by decide +kernel
theorem dX0_multiply_48 : decode cX0_multiply 48 = .ok (.invokevirtual 128, 3) := by decide +kernel
theorem dX0_multiply_51 : decode cX0_multiply 51 = .ok (.ifCond .eq 11, 3) := by decide +kernel
theorem dX0_multiply_54 : decode cX0_multiply 54 = .ok (.aload 4, 2) := by decide +kernel
theorem dX0_multiply_56 : decode cX0_multiply 56 = .ok (.iconst 0, 1) := by decide +kernel
theorem dX0_multiply_57 : decode cX0_multiply 57 = .ok (.invokevirtual 129, 3) := by decide +kernel
theorem dX0_multiply_60 : decode cX0_multiply 60 = .ok (.iconst 1, 1) := by decide +kernel
theorem dX0_multiply_61 : decode cX0_multiply 61 = .ok (.ireturn, 1) := by decide +kernel
theorem dX0_multiply_62 : decode cX0_multiply 62 = .ok (.aload_n 0, 1) := by decide +kernel
theorem dX0_multiply_63 : decode cX0_multiply 63 = .ok (.getfield 116, 3) := by decide +kernel
theorem dX0_multiply_66 : decode cX0_multiply 66 = .ok (.aload_n 0, 1) := by decide +kernel
theorem dX0_multiply_67 : decode cX0_multiply 67 = .ok (.getfield 116, 3) := by decide +kernel
theorem dX0_multiply_70 : decode cX0_multiply 70 = .ok (.getfield 130, 3) := by decide +kernel
theorem dX0_multiply_73 : decode cX0_multiply 73 = .ok (.iload_n 3, 1) := by decide +kernel
theorem dX0_multiply_74 : decode cX0_multiply 74 = .ok (.ifCond .eq 13, 3) := by decide +kernel
theorem dX0_multiply_77 : decode cX0_multiply 77 = .ok (.aload_n 2, 1) := by decide +kernel
theorem dX0_multiply_78 : decode cX0_multiply 78 = .ok (.getfield 130, 3) := by decide +kernel
theorem dX0_multiply_81 : decode cX0_multiply 81 = .ok (.invokestatic 74, 3) := by decide +kernel
theorem dX0_multiply_84 : decode cX0_multiply 84 = .ok (.goto 7, 3) := by decide +kernel
theorem dX0_multiply_87 : decode cX0_multiply 87 = .ok (.aload_n 2, 1) := by decide +kernel
theorem dX0_multiply_88 : decode cX0_multiply 88 = .ok (.getfield 130, 3) := by decide +kernel
theorem dX0_multiply_91 : decode cX0_multiply 91 = .ok (.invokestatic 6, 3) := by decide +kernel
theorem dX0_multiply_94 : decode cX0_multiply 94 = .ok (.putfield 130, 3) := by decide +kernel
theorem dX0_multiply_97 : decode cX0_multiply 97 = .ok (.aload_n 0, 1) := by decide +kernel
theorem dX0_multiply_98 : decode cX0_multiply 98 = .ok (.getfield 116, 3) := by decide +kernel
theorem dX0_multiply_101 : decode cX0_multiply 101 = .ok (.aload_n 0, 1) := by decide +kernel
theorem dX0_multiply_102 : decode cX0_multiply 102 = .ok (.getfield 116, 3) := by decide +kernel
theorem dX0_multiply_105 : decode cX0_multiply 105 = .ok (.getfield 133, 3) := by decide +kernel
theorem dX0_multiply_108 : decode cX0_multiply 108 = .ok (.iload_n 3, 1) := by decide +kernel
theorem dX0_multiply_109 : decode cX0_multiply 109 = .ok (.ifCond .eq 13, 3) := by decide +kernel
theorem dX0_multiply_112 : decode cX0_multiply 112 = .ok (.aload_n 2, 1) := by decide +kernel
theorem dX0_multiply_113 : decode cX0_multiply 113 = .ok (.getfield 133, 3) := by decide +kernel
theorem dX0_multiply_116 : decode cX0_multiply 116 = .ok (.invokestatic 74, 3) := by decide +kernel
theorem dX0_multiply_119 : decode cX0_multiply 119 = .ok (.goto 7, 3) := by decide +kernel
theorem dX0_multiply_122 : decode cX0_multiply 122 = .ok (.aload_n 2, 1) := by decide +kernel
theorem dX0_multiply_123 : decode cX0_multiply 123 = .ok (.getfield 133, 3) := by decide +kernel
theorem dX0_multiply_126 : decode cX0_multiply 126 = .ok (.invokestatic 6, 3) := by decide +kernel
theorem dX0_multiply_129 : decode cX0_multiply 129 = .ok (.putfield 133, 3) := by decide +kernel
theorem dX0_multiply_132 : decode cX0_multiply 132 = .ok (.iconst 0, 1) := by decide +kernel
theorem dX0_multiply_133 : decode cX0_multiply 133 = .ok (.istore 5, 2) := by decide +kernel
theorem dX0_multiply_135 : decode cX0_multiply 135 = .ok (.iload 5, 2) := by decide +kernel
theorem dX0_multiply_137 : decode cX0_multiply 137 = .ok (.aload_n 2, 1) := by decide +kernel
theorem dX0_multiply_138 : decode cX0_multiply 138 = .ok (.getfield 136, 3) := by decide +kernel
theorem dX0_multiply_141 : decode cX0_multiply 141 = .ok (.if_icmp .ge 59, 3) := by decide +kernel
theorem dX0_multiply_144 : decode cX0_multiply 144 = .ok (.aload_n 0, 1) := by decide +kernel
theorem dX0_multiply_145 : decode cX0_multiply 145 = .ok (.getfield 116, 3) := by decide +kernel
theorem dX0_multiply_148 : decode cX0_multiply 148 = .ok (.aload_n 2, 1) := by decide +kernel
theorem dX0_multiply_149 : decode cX0_multiply 149 = .ok (.getfield 139, 3) := by decide +kernel
theorem dX0_multiply_152 : decode cX0_multiply 152 = .ok (.iload 5, 2) := by decide +kernel
theorem dX0_multiply_154 : decode cX0_multiply 154 = .ok (.iaload, 1) := by decide +kernel
theorem dX0_multiply_155 : decode cX0_multiply 155 = .ok (.aload_n 2, 1) := by decide +kernel
theorem dX0_multiply_156 : decode cX0_multiply 156 = .ok (.getfield 143, 3) := by decide +kernel
theorem dX0_multiply_159 : decode cX0_multiply 159 = .ok (.iload 5, 2) := by decide +kernel
theorem dX0_multiply_161 : decode cX0_multiply 161 = .ok (.iaload, 1) := by decide +kernel
theorem dX0_multiply_162 : decode cX0_multiply 162 = .ok (.aload_n 2, 1) := by decide +kernel
theorem dX0_multiply_163 : decode cX0_multiply 163 = .ok (.getfield 146, 3) := by decide +kernel
theorem dX0_multiply_166 : decode cX0_multiply 166 = .ok (.iload 5, 2) := by decide +kernel
theorem dX0_multiply_168 : decode cX0_multiply 168 = .ok (.iaload, 1) := by decide +kernel
theorem dX0_multiply_169 : decode cX0_multiply 169 = .ok (.iload_n 3, 1) := by decide +kernel
theorem dX0_multiply_170 : decode cX0_multiply 170 = .ok (.ifCond .eq 14, 3) := by decide +kernel
theorem dX0_multiply_173 : decode cX0_multiply 173 = .ok (.aload_n 2, 1) := by decide +kernel
theorem dX0_multiply_174 : decode cX0_multiply 174 = .ok (.getfield 149, 3) := by decide +kernel
theorem dX0_multiply_177 : decode cX0_multiply 177 = .ok (.iload 5, 2) := by decide +kernel
theorem dX0_multiply_179 : decode cX0_multiply 179 = .ok (.iaload, 1) := by decide +kernel
theorem dX0_multiply_180 : decode cX0_multiply 180 = .ok (.ineg, 1) := by decide +kernel
theorem dX0_multiply_181 : decode cX0_multiply 181 = .ok (.goto 10, 3) := by decide +kernel
theorem dX0_multiply_184 : decode cX0_multiply 184 = .ok (.aload_n 2, 1) := by decide +kernel
theorem dX0_multiply_185 : decode cX0_multiply 185 = .ok (.getfield 149, 3) := by decide +kernel
theorem dX0_multiply_188 : decode cX0_multiply 188 = .ok (.iload 5, 2) := by decide +kernel
theorem dX0_multiply_190 : decode cX0_multiply 190 = .ok (.iaload, 1) := by decide +kernel
theorem dX0_multiply_191 : decode cX0_multiply 191 = .ok (.invokevirtual 152, 3) := by decide +kernel
theorem dX0_multiply_194 : decode cX0_multiply 194 = .ok (.iinc 5 1, 3) := by decide +kernel
theorem dX0_multiply_197 : decode cX0_multiply 197 = .ok (.goto (-62), 3) := by decide +kernel
theorem dX0_multiply_200 : decode cX0_multiply 200 = .ok (.aload_n 0, 1) := by decide +kernel
theorem dX0_multiply_201 : decode cX0_multiply 201 = .ok (.getfield 116, 3) := by decide +kernel
theorem dX0_multiply_204 : decode cX0_multiply 204 = .ok (.invokevirtual 155, 3) := by decide +kernel
theorem dX0_multiply_207 : decode cX0_multiply 207 = .ok (.bipush 12, 2) := by decide +kernel
theorem dX0_multiply_209 : decode cX0_multiply 209 = .ok (.if_icmp .le 5, 3) := by decide +kernel
theorem dX0_multiply_212 : decode cX0_multiply 212 = .ok (.iconst 0, 1) := by decide +kernel
theorem dX0_multiply_213 : decode cX0_multiply 213 = .ok (.ireturn, 1) := by decide +kernel
theorem dX0_multiply_214 : decode cX0_multiply 214 = .ok (.aload 4, 2) := by decide +kernel
theorem dX0_multiply_216 : decode cX0_multiply 216 = .ok (.aload_n 0, 1) := by decide +kernel
theorem dX0_multiply_217 : decode cX0_multiply 217 = .ok (.getfield 116, 3) := by decide +kernel
theorem dX0_multiply_220 : decode cX0_multiply 220 = .ok (.invokevirtual 158, 3) := by decide +kernel
theorem dX0_multiply_223 : decode cX0_multiply 223 = .ok (.iconst 1, 1) := by decide +kernel
theorem dX0_multiply_224 : decode cX0_multiply 224 = .ok (.ireturn, 1) := by decide +kernel
theorem dX0_reckon_0 : decode cX0_reckon 0 = .ok (.iload_n 1, 1) := by decide +kernel
theorem dX0_reckon_1 : decode cX0_reckon 1 = .ok (.iconst 2, 1) := by decide +kernel
theorem dX0_reckon_2 : decode cX0_reckon 2 = .ok (.if_icmp .ge 72, 3) := by decide +kernel
theorem dX0_reckon_5 : decode cX0_reckon 5 = .ok (.aload_n 0, 1) := by decide +kernel
theorem dX0_reckon_6 : decode cX0_reckon 6 = .ok (.getfield 31, 3) := by decide +kernel
theorem dX0_reckon_9 : decode cX0_reckon 9 = .ok (.aload_n 2, 1) := by decide +kernel
theorem dX0_reckon_10 : decode cX0_reckon 10 = .ok (.getfield 89, 3) := by decide +kernel
theorem dX0_reckon_13 : decode cX0_reckon 13 = .ok (.aload_n 3, 1) := by decide +kernel
theorem dX0_reckon_14 : decode cX0_reckon 14 = .ok (.getfield 94, 3) := by decide +kernel
theorem dX0_reckon_17 : decode cX0_reckon 17 = .ok (.invokevirtual 97, 3) := by decide +kernel
theorem dX0_reckon_20 : decode cX0_reckon 20 = .ok (.aload_n 0, 1) := by decide +kernel
theorem dX0_reckon_21 : decode cX0_reckon 21 = .ok (.getfield 59, 3) := by decide +kernel
theorem dX0_reckon_24 : decode cX0_reckon 24 = .ok (.aload_n 3, 1) := by decide +kernel
theorem dX0_reckon_25 : decode cX0_reckon 25 = .ok (.getfield 89, 3) := by decide +kernel
theorem dX0_reckon_28 : decode cX0_reckon 28 = .ok (.aload_n 2, 1) := by decide +kernel
theorem dX0_reckon_29 : decode cX0_reckon 29 = .ok (.getfield 94, 3) := by decide +kernel
theorem dX0_reckon_32 : decode cX0_reckon 32 = .ok (.invokevirtual 97, 3) := by decide +kernel
theorem dX0_reckon_35 : decode cX0_reckon 35 = .ok (.aload_n 0, 1) := by decide +kernel
theorem dX0_reckon_36 : decode cX0_reckon 36 = .ok (.getfield 31, 3) := by decide +kernel
theorem dX0_reckon_39 : decode cX0_reckon 39 = .ok (.aload_n 0, 1) := by decide +kernel
theorem dX0_reckon_40 : decode cX0_reckon 40 = .ok (.getfield 59, 3) := by decide +kernel
theorem dX0_reckon_43 : decode cX0_reckon 43 = .ok (.iload_n 1, 1) := by decide +kernel
theorem dX0_reckon_44 : decode cX0_reckon 44 = .ok (.ifCond .ne 7, 3) := by decide +kernel
theorem dX0_reckon_47 : decode cX0_reckon 47 = .ok (.iconst 1, 1) := by decide +kernel
theorem dX0_reckon_48 : decode cX0_reckon 48 = .ok (.goto 5, 3) := by decide +kernel
theorem dX0_reckon_51 : decode cX0_reckon 51 = .ok (.ldc 101, 2) := by decide +kernel
theorem dX0_reckon_53 : decode cX0_reckon 53 = .ok (.invokevirtual 102, 3) := by decide +kernel
theorem dX0_reckon_56 : decode cX0_reckon 56 = .ok (.aload_n 0, 1) := by decide +kernel
theorem dX0_reckon_57 : decode cX0_reckon 57 = .ok (.getfield 39, 3) := by decide +kernel
theorem dX0_reckon_60 : decode cX0_reckon 60 = .ok (.aload_n 2, 1) := by decide +kernel
theorem dX0_reckon_61 : decode cX0_reckon 61 = .ok (.getfield 94, 3) := by decide +kernel
theorem dX0_reckon_64 : decode cX0_reckon 64 = .ok (.aload_n 3, 1) := by decide +kernel
theorem dX0_reckon_65 : decode cX0_reckon 65 = .ok (.getfield 94, 3) := by decide +kernel
theorem dX0_reckon_68 : decode cX0_reckon 68 = .ok (.invokevirtual 97, 3) := by decide +kernel
theorem dX0_reckon_71 : decode cX0_reckon 71 = .ok (.goto 57, 3) := by decide +kernel
theorem dX0_reckon_74 : decode cX0_reckon 74 = .ok (.aload_n 0, 1) := by decide +kernel
theorem dX0_reckon_75 : decode cX0_reckon 75 = .ok (.getfield 31, 3) := by decide +kernel
theorem dX0_reckon_78 : decode cX0_reckon 78 = .ok (.aload_n 2, 1) := by decide +kernel
theorem dX0_reckon_79 : decode cX0_reckon 79 = .ok (.getfield 89, 3) := by decide +kernel
theorem dX0_reckon_82 : decode cX0_reckon 82 = .ok (.iload_n 1, 1) := by decide +kernel
theorem dX0_reckon_83 : decode cX0_reckon 83 = .ok (.iconst 2, 1) := by decide +kernel
theorem dX0_reckon_84 : decode cX0_reckon 84 = .ok (.if_icmp .ne 10, 3) := by decide +kernel
theorem dX0_reckon_87 : decode cX0_reckon 87 = .ok (.aload_n 3, 1) := by decide +kernel
theorem dX0_reckon_88 : decode cX0_reckon 88 = .ok (.getfield 89, 3) := by decide +kernel
theorem dX0_reckon_91 : decode cX0_reckon 91 = .ok (.goto 7, 3) := by decide +kernel
theorem dX0_reckon_94 : decode cX0_reckon 94 = .ok (.aload_n 3, 1) := by decide +kernel
theorem dX0_reckon_95 : decode cX0_reckon 95 = .ok (.getfield 94, 3) := by decide +kernel
theorem dX0_reckon_98 : decode cX0_reckon 98 = .ok (.invokevirtual 97, 3) := by decide +kernel
theorem dX0_reckon_101 : decode cX0_reckon 101 = .ok (.aload_n 0, 1) := by decide +kernel
theorem dX0_reckon_102 : decode cX0_reckon 102 = .ok (.getfield 39, 3) := by decide +kernel
theorem dX0_reckon_105 : decode cX0_reckon 105 = .ok (.aload_n 2, 1) := by decide +kernel
theorem dX0_reckon_106 : decode cX0_reckon 106 = .ok (.getfield 94, 3) := by decide +kernel
theorem dX0_reckon_109 : decode cX0_reckon 109 = .ok (.iload_n 1, 1) := by decide +kernel
theorem dX0_reckon_110 : decode cX0_reckon 110 = .ok (.iconst 2, 1) := by decide +kernel
theorem dX0_reckon_111 : decode cX0_reckon 111 = .ok (.if_icmp .ne 10, 3) := by decide +kernel
theorem dX0_reckon_114 : decode cX0_reckon 114 = .ok (.aload_n 3, 1) := by decide +kernel
theorem dX0_reckon_115 : decode cX0_reckon 115 = .ok (.getfield 94, 3) := by decide +kernel
theorem dX0_reckon_118 : decode cX0_reckon 118 = .ok (.goto 7, 3) := by decide +kernel
theorem dX0_reckon_121 : decode cX0_reckon 121 = .ok (.aload_n 3, 1) := by decide +kernel
theorem dX0_reckon_122 : decode cX0_reckon 122 = .ok (.getfield 89, 3) := by decide +kernel
theorem dX0_reckon_125 : decode cX0_reckon 125 = .ok (.invokevirtual 97, 3) := by decide +kernel
theorem dX0_reckon_128 : decode cX0_reckon 128 = .ok (.aload_n 0, 1) := by decide +kernel
theorem dX0_reckon_129 : decode cX0_reckon 129 = .ok (.aload 4, 2) := by decide +kernel
theorem dX0_reckon_131 : decode cX0_reckon 131 = .ok (.invokevirtual 106, 3) := by decide +kernel
theorem dX0_reckon_134 : decode cX0_reckon 134 = .ok (.ireturn, 1) := by decide +kernel
theorem dX0_give_0 : decode cX0_give 0 = .ok (.aload_n 0, 1) := by decide +kernel
theorem dX0_give_1 : decode cX0_give 1 = .ok (.invokevirtual 81, 3) := by decide +kernel
theorem dX0_give_4 : decode cX0_give 4 = .ok (.aload_n 0, 1) := by decide +kernel
theorem dX0_give_5 : decode cX0_give 5 = .ok (.getfield 31, 3) := by decide +kernel
theorem dX0_give_8 : decode cX0_give 8 = .ok (.invokestatic 85, 3) := by decide +kernel
theorem dX0_give_11 : decode cX0_give 11 = .ok (.ifCond .eq 13, 3) := by decide +kernel
theorem dX0_give_14 : decode cX0_give 14 = .ok (.aload_n 0, 1) := by decide +kernel
theorem dX0_give_15 : decode cX0_give 15 = .ok (.getfield 39, 3) := by decide +kernel
theorem dX0_give_18 : decode cX0_give 18 = .ok (.invokestatic 85, 3) := by decide +kernel
theorem dX0_give_21 : decode cX0_give 21 = .ok (.ifCond .ne 5, 3) := by decide +kernel
theorem dX0_give_24 : decode cX0_give 24 = .ok (.iconst 0, 1) := by decide +kernel
theorem dX0_give_25 : decode cX0_give 25 = .ok (.ireturn, 1) := by decide +kernel
theorem dX0_give_26 : decode cX0_give 26 = .ok (.aload_n 1, 1) := by decide +kernel
theorem dX0_give_27 : decode cX0_give 27 = .ok (.getfield 89, 3) := by decide +kernel
theorem dX0_give_30 : decode cX0_give 30 = .ok (.aload_n 0, 1) := by decide +kernel
theorem dX0_give_31 : decode cX0_give 31 = .ok (.getfield 31, 3) := by decide +kernel
theorem dX0_give_34 : decode cX0_give 34 = .ok (.invokevirtual 66, 3) := by decide +kernel
theorem dX0_give_37 : decode cX0_give 37 = .ok (.aload_n 1, 1) := by decide +kernel
theorem dX0_give_38 : decode cX0_give 38 = .ok (.getfield 94, 3) := by decide +kernel
theorem dX0_give_41 : decode cX0_give 41 = .ok (.aload_n 0, 1) := by decide +kernel
theorem dX0_give_42 : decode cX0_give 42 = .ok (.getfield 39, 3) := by decide +kernel
theorem dX0_give_45 : decode cX0_give 45 = .ok (.invokevirtual 66, 3) := by decide +kernel
theorem dX0_give_48 : decode cX0_give 48 = .ok (.iconst 1, 1) := by decide +kernel
theorem dX0_give_49 : decode cX0_give 49 = .ok (.ireturn, 1) := by decide +kernel
theorem dX0_reduce_0 : decode cX0_reduce 0 = .ok (.aload_n 0, 1) := by decide +kernel
theorem dX0_reduce_1 : decode cX0_reduce 1 = .ok (.getfield 31, 3) := by decide +kernel
theorem dX0_reduce_4 : decode cX0_reduce 4 = .ok (.invokevirtual 35, 3) := by decide +kernel
theorem dX0_reduce_7 : decode cX0_reduce 7 = .ok (.ifCond .eq 12, 3) := by decide +kernel
theorem dX0_reduce_10 : decode cX0_reduce 10 = .ok (.aload_n 0, 1) := by decide +kernel
theorem dX0_reduce_11 : decode cX0_reduce 11 = .ok (.getfield 39, 3) := by decide +kernel
theorem dX0_reduce_14 : decode cX0_reduce 14 = .ok (.iconst 1, 1) := by decide +kernel
theorem dX0_reduce_15 : decode cX0_reduce 15 = .ok (.invokevirtual 42, 3) := by decide +kernel
theorem dX0_reduce_18 : decode cX0_reduce 18 = .ok (.return_, 1) := by decide +kernel
theorem dX0_reduce_19 : decode cX0_reduce 19 = .ok (.aload_n 0, 1) := by decide +kernel
theorem dX0_reduce_20 : decode cX0_reduce 20 = .ok (.getfield 46, 3) := by decide +kernel
theorem dX0_reduce_23 : decode cX0_reduce 23 = .ok (.aload_n 0, 1) := by decide +kernel
theorem dX0_reduce_24 : decode cX0_reduce 24 = .ok (.getfield 31, 3) := by decide +kernel
theorem dX0_reduce_27 : decode cX0_reduce 27 = .ok (.aload_n 0, 1) := by decide +kernel
theorem dX0_reduce_28 : decode cX0_reduce 28 = .ok (.getfield 39, 3) := by decide +kernel
theorem dX0_reduce_31 : decode cX0_reduce 31 = .ok (.aload_n 0, 1) := by decide +kernel
theorem dX0_reduce_32 : decode cX0_reduce 32 = .ok (.getfield 50, 3) := by decide +kernel
theorem dX0_reduce_35 : decode cX0_reduce 35 = .ok (.invokevirtual 53, 3) := by decide +kernel
theorem dX0_reduce_38 : decode cX0_reduce 38 = .ok (.aload_n 0, 1) := by decide +kernel
theorem dX0_reduce_39 : decode cX0_reduce 39 = .ok (.getfield 50, 3) := by decide +kernel
theorem dX0_reduce_42 : decode cX0_reduce 42 = .ok (.getfield 22, 3) := by decide +kernel
theorem dX0_reduce_45 : decode cX0_reduce 45 = .ok (.iconst 1, 1) := by decide +kernel
theorem dX0_reduce_46 : decode cX0_reduce 46 = .ok (.if_icmp .gt 14, 3) := by decide +kernel
theorem dX0_reduce_49 : decode cX0_reduce 49 = .ok (.aload_n 0, 1) := by decide +kernel
theorem dX0_reduce_50 : decode cX0_reduce 50 = .ok (.getfield 50, 3) := by decide +kernel
theorem dX0_reduce_53 : decode cX0_reduce 53 = .ok (.getfield 28, 3) := by decide +kernel
theorem dX0_reduce_56 : decode cX0_reduce 56 = .ok (.iconst 1, 1) := by decide +kernel
theorem dX0_reduce_57 : decode cX0_reduce 57 = .ok (.if_icmp .le 65, 3) := by decide +kernel
theorem dX0_reduce_60 : decode cX0_reduce 60 = .ok (.aload_n 0, 1) := by decide +kernel
theorem dX0_reduce_61 : decode cX0_reduce 61 = .ok (.getfield 46, 3) := by decide +kernel
theorem dX0_reduce_64 : decode cX0_reduce 64 = .ok (.aload_n 0, 1) := by decide +kernel
theorem dX0_reduce_65 : decode cX0_reduce 65 = .ok (.getfield 50, 3) := by decide +kernel
theorem dX0_reduce_68 : decode cX0_reduce 68 = .ok (.aload_n 0, 1) := by decide +kernel
theorem dX0_reduce_69 : decode cX0_reduce 69 = .ok (.getfield 31, 3) := by decide +kernel
theorem dX0_reduce_72 : decode cX0_reduce 72 = .ok (.aload_n 0, 1) := by decide +kernel
theorem dX0_reduce_73 : decode cX0_reduce 73 = .ok (.getfield 59, 3) := by decide +kernel
theorem dX0_reduce_76 : decode cX0_reduce 76 = .ok (.invokevirtual 62, 3) := by decide +kernel
theorem dX0_reduce_79 : decode cX0_reduce 79 = .ok (.istore_n 1, 1) := by decide +kernel
theorem dX0_reduce_80 : decode cX0_reduce 80 = .ok (.aload_n 0, 1) := by decide +kernel
theorem dX0_reduce_81 : decode cX0_reduce 81 = .ok (.getfield 31, 3) := by decide +kernel
theorem dX0_reduce_84 : decode cX0_reduce 84 = .ok (.aload_n 0, 1) := by decide +kernel
theorem dX0_reduce_85 : decode cX0_reduce 85 = .ok (.getfield 59, 3) := by decide +kernel
theorem dX0_reduce_88 : decode cX0_reduce 88 = .ok (.invokevirtual 66, 3) := by decide +kernel
theorem dX0_reduce_91 : decode cX0_reduce 91 = .ok (.aload_n 0, 1) := by decide +kernel
theorem dX0_reduce_92 : decode cX0_reduce 92 = .ok (.getfield 46, 3) := by decide +kernel
theorem dX0_reduce_95 : decode cX0_reduce 95 = .ok (.aload_n 0, 1) := by decide +kernel
theorem dX0_reduce_96 : decode cX0_reduce 96 = .ok (.getfield 50, 3) := by decide +kernel
theorem dX0_reduce_99 : decode cX0_reduce 99 = .ok (.aload_n 0, 1) := by decide +kernel
theorem dX0_reduce_100 : decode cX0_reduce 100 = .ok (.getfield 39, 3) := by decide +kernel
theorem dX0_reduce_103 : decode cX0_reduce 103 = .ok (.aload_n 0, 1) := by decide +kernel
theorem dX0_reduce_104 : decode cX0_reduce 104 = .ok (.getfield 59, 3) := by decide +kernel
theorem dX0_reduce_107 : decode cX0_reduce 107 = .ok (.invokevirtual 62, 3) := by decide +kernel
theorem dX0_reduce_110 : decode cX0_reduce 110 = .ok (.istore_n 2, 1) := by decide +kernel
theorem dX0_reduce_111 : decode cX0_reduce 111 = .ok (.aload_n 0, 1) := by decide +kernel
theorem dX0_reduce_112 : decode cX0_reduce 112 = .ok (.getfield 39, 3) := by decide +kernel
theorem dX0_reduce_115 : decode cX0_reduce 115 = .ok (.aload_n 0, 1) := by decide +kernel
theorem dX0_reduce_116 : decode cX0_reduce 116 = .ok (.getfield 59, 3) := by decide +kernel
theorem dX0_reduce_119 : decode cX0_reduce 119 = .ok (.invokevirtual 66, 3) := by decide +kernel
theorem dX0_reduce_122 : decode cX0_reduce 122 = .ok (.aload_n 0, 1) := by decide +kernel
theorem dX0_reduce_123 : decode cX0_reduce 123 = .ok (.getfield 39, 3) := by decide +kernel
theorem dX0_reduce_126 : decode cX0_reduce 126 = .ok (.invokevirtual 70, 3) := by decide +kernel
theorem dX0_reduce_129 : decode cX0_reduce 129 = .ok (.istore_n 1, 1) := by decide +kernel
theorem dX0_reduce_130 : decode cX0_reduce 130 = .ok (.iload_n 1, 1) := by decide +kernel
theorem dX0_reduce_131 : decode cX0_reduce 131 = .ok (.iconst 1, 1) := by decide +kernel
theorem dX0_reduce_132 : decode cX0_reduce 132 = .ok (.if_icmp .eq 25, 3) := by decide +kernel
theorem dX0_reduce_135 : decode cX0_reduce 135 = .ok (.aload_n 0, 1) := by decide +kernel
theorem dX0_reduce_136 : decode cX0_reduce 136 = .ok (.getfield 31, 3) := by decide +kernel
theorem dX0_reduce_139 : decode cX0_reduce 139 = .ok (.iload_n 1, 1) := by decide +kernel
theorem dX0_reduce_140 : decode cX0_reduce 140 = .ok (.invokestatic 74, 3) := by decide +kernel
theorem dX0_reduce_143 : decode cX0_reduce 143 = .ok (.invokevirtual 78, 3) := by decide +kernel
theorem dX0_reduce_146 : decode cX0_reduce 146 = .ok (.aload_n 0, 1) := by decide +kernel
theorem dX0_reduce_147 : decode cX0_reduce 147 = .ok (.getfield 39, 3) := by decide +kernel
theorem dX0_reduce_150 : decode cX0_reduce 150 = .ok (.iload_n 1, 1) := by decide +kernel
theorem dX0_reduce_151 : decode cX0_reduce 151 = .ok (.invokestatic 74, 3) := by decide +kernel
theorem dX0_reduce_154 : decode cX0_reduce 154 = .ok (.invokevirtual 78, 3) := by decide +kernel
theorem dX0_reduce_157 : decode cX0_reduce 157 = .ok (.return_, 1) := by decide +kernel
theorem dX0_fits_0 : decode cX0_fits 0 = .ok (.aload_n 0, 1) := by decide +kernel
theorem dX0_fits_1 : decode cX0_fits 1 = .ok (.getfield 22, 3) := by decide +kernel
theorem dX0_fits_4 : decode cX0_fits 4 = .ok (.bipush 25, 2) := by decide +kernel
theorem dX0_fits_6 : decode cX0_fits 6 = .ok (.if_icmp .gt 16, 3) := by decide +kernel
theorem dX0_fits_9 : decode cX0_fits 9 = .ok (.aload_n 0, 1) := by decide +kernel
theorem dX0_fits_10 : decode cX0_fits 10 = .ok (.getfield 28, 3) := by decide +kernel
theorem dX0_fits_13 : decode cX0_fits 13 = .ok (.bipush 13, 2) := by decide +kernel
theorem dX0_fits_15 : decode cX0_fits 15 = .ok (.if_icmp .gt 7, 3) := by decide +kernel
theorem dX0_fits_18 : decode cX0_fits 18 = .ok (.iconst 1, 1) := by decide +kernel
theorem dX0_fits_19 : decode cX0_fits 19 = .ok (.goto 4, 3) := by decide +kernel
theorem dX0_fits_22 : decode cX0_fits 22 = .ok (.iconst 0, 1) := by decide +kernel
theorem dX0_fits_23 : decode cX0_fits 23 = .ok (.ireturn, 1) := by decide +kernel
theorem dX0_signedPower_0 : decode cX0_signedPower 0 = .ok (.iload_n 1, 1) := by decide +kernel
theorem dX0_signedPower_1 : decode cX0_signedPower 1 = .ok (.ifCond .ge 16, 3) := by decide +kernel
theorem dX0_signedPower_4 : decode cX0_signedPower 4 = .ok (.iload_n 0, 1) := by decide +kernel
theorem dX0_signedPower_5 : decode cX0_signedPower 5 = .ok (.iload_n 1, 1) := by decide +kernel
theorem dX0_signedPower_6 : decode cX0_signedPower 6 = .ok (.ineg, 1) := by decide +kernel
theorem dX0_signedPower_7 : decode cX0_signedPower 7 = .ok (.i2l, 1) := by decide +kernel
theorem dX0_signedPower_8 : decode cX0_signedPower 8 = .ok (.invokestatic 12, 3) := by decide +kernel
theorem dX0_signedPower_11 : decode cX0_signedPower 11 = .ok (.invokestatic 74, 3) := by decide +kernel
theorem dX0_signedPower_14 : decode cX0_signedPower 14 = .ok (.goto 9, 3) := by decide +kernel
theorem dX0_signedPower_17 : decode cX0_signedPower 17 = .ok (.iload_n 0, 1) := by decide +kernel
theorem dX0_signedPower_18 : decode cX0_signedPower 18 = .ok (.iload_n 1, 1) := by decide +kernel
theorem dX0_signedPower_19 : decode cX0_signedPower 19 = .ok (.i2l, 1) := by decide +kernel
theorem dX0_signedPower_20 : decode cX0_signedPower 20 = .ok (.invokestatic 12, 3) := by decide +kernel
theorem dX0_signedPower_23 : decode cX0_signedPower 23 = .ok (.ireturn, 1) := by decide +kernel
theorem dX0_keep_0 : decode cX0_keep 0 = .ok (.aload_n 0, 1) := by decide +kernel
theorem dX0_keep_1 : decode cX0_keep 1 = .ok (.getfield 326, 3) := by decide +kernel
theorem dX0_keep_4 : decode cX0_keep 4 = .ok (.iload_n 2, 1) := by decide +kernel
theorem dX0_keep_5 : decode cX0_keep 5 = .ok (.aaload, 1) := by decide +kernel
theorem dX0_keep_6 : decode cX0_keep 6 = .ok (.getfield 512, 3) := by decide +kernel
theorem dX0_keep_9 : decode cX0_keep 9 = .ok (.aload_n 1, 1) := by decide +kernel
theorem dX0_keep_10 : decode cX0_keep 10 = .ok (.invokevirtual 158, 3) := by decide +kernel
theorem dX0_keep_13 : decode cX0_keep 13 = .ok (.aload_n 0, 1) := by decide +kernel
theorem dX0_keep_14 : decode cX0_keep 14 = .ok (.getfield 326, 3) := by decide +kernel
theorem dX0_keep_17 : decode cX0_keep 17 = .ok (.iload_n 2, 1) := by decide +kernel
theorem dX0_keep_18 : decode cX0_keep 18 = .ok (.aaload, 1) := by decide +kernel
theorem dX0_keep_19 : decode cX0_keep 19 = .ok (.aload_n 1, 1) := by decide +kernel
theorem dX0_keep_20 : decode cX0_keep 20 = .ok (.invokevirtual 177, 3) := by decide +kernel
theorem dX0_keep_23 : decode cX0_keep 23 = .ok (.ifCond .eq 7, 3) := by decide +kernel
theorem dX0_keep_26 : decode cX0_keep 26 = .ok (.iconst 2, 1) := by decide +kernel
theorem dX0_keep_27 : decode cX0_keep 27 = .ok (.goto 4, 3) := by decide +kernel
theorem dX0_keep_30 : decode cX0_keep 30 = .ok (.iconst 1, 1) := by decide +kernel
theorem dX0_keep_31 : decode cX0_keep 31 = .ok (.putfield 509, 3) := by decide +kernel
theorem dX0_keep_34 : decode cX0_keep 34 = .ok (.aload_n 0, 1) := by decide +kernel
theorem dX0_keep_35 : decode cX0_keep 35 = .ok (.getfield 326, 3) := by decide +kernel
theorem dX0_keep_38 : decode cX0_keep 38 = .ok (.iload_n 2, 1) := by decide +kernel
theorem dX0_keep_39 : decode cX0_keep 39 = .ok (.aaload, 1) := by decide +kernel
theorem dX0_keep_40 : decode cX0_keep 40 = .ok (.getfield 509, 3) := by decide +kernel
theorem dX0_keep_43 : decode cX0_keep 43 = .ok (.ireturn, 1) := by decide +kernel
theorem dX0_place_0 : decode cX0_place 0 = .ok (.aload_n 0, 1) := by decide +kernel
theorem dX0_place_1 : decode cX0_place 1 = .ok (.getfield 321, 3) := by decide +kernel
theorem dX0_place_4 : decode cX0_place 4 = .ok (.ireturn, 1) := by decide +kernel
theorem dX0_write_0 : decode cX0_write 0 = .ok (.iload_n 1, 1) := by decide +kernel
theorem dX0_write_1 : decode cX0_write 1 = .ok (.invokestatic 519, 3) := by decide +kernel
theorem dX0_write_4 : decode cX0_write 4 = .ok (.ifCond .ne 5, 3) := by decide +kernel
theorem dX0_write_7 : decode cX0_write 7 = .ok (.iconst (-1), 1) := by decide +kernel
theorem dX0_write_8 : decode cX0_write 8 = .ok (.ireturn, 1) := by decide +kernel
theorem dX0_write_9 : decode cX0_write 9 = .ok (.aload_n 0, 1) := by decide +kernel
theorem dX0_write_10 : decode cX0_write 10 = .ok (.iload_n 1, 1) := by decide +kernel
theorem dX0_write_11 : decode cX0_write 11 = .ok (.invokevirtual 546, 3) := by decide +kernel
theorem dX0_write_14 : decode cX0_write 14 = .ok (.ifCond .ne 6, 3) := by decide +kernel
theorem dX0_write_17 : decode cX0_write 17 = .ok (.bipush (-3), 2) := by decide +kernel
theorem dX0_write_19 : decode cX0_write 19 = .ok (.ireturn, 1) := by decide +kernel
theorem dX0_write_20 : decode cX0_write 20 = .ok (.aload_n 0, 1) := by decide +kernel
theorem dX0_write_21 : decode cX0_write 21 = .ok (.getfield 326, 3) := by decide +kernel
theorem dX0_write_24 : decode cX0_write 24 = .ok (.iload_n 1, 1) := by decide +kernel
theorem dX0_write_25 : decode cX0_write 25 = .ok (.aaload, 1) := by decide +kernel
theorem dX0_write_26 : decode cX0_write 26 = .ok (.getfield 512, 3) := by decide +kernel
theorem dX0_write_29 : decode cX0_write 29 = .ok (.astore_n 2, 1) := by decide +kernel
theorem dX0_write_30 : decode cX0_write 30 = .ok (.aload_n 0, 1) := by decide +kernel
theorem dX0_write_31 : decode cX0_write 31 = .ok (.iconst 0, 1) := by decide +kernel
theorem dX0_write_32 : decode cX0_write 32 = .ok (.putfield 523, 3) := by decide +kernel
theorem dX0_write_35 : decode cX0_write 35 = .ok (.aload_n 2, 1) := by decide +kernel
theorem dX0_write_36 : decode cX0_write 36 = .ok (.invokevirtual 177, 3) := by decide +kernel
theorem dX0_write_39 : decode cX0_write 39 = .ok (.ifCond .eq 9, 3) := by decide +kernel
theorem dX0_write_42 : decode cX0_write 42 = .ok (.aload_n 0, 1) := by decide +kernel
theorem dX0_write_43 : decode cX0_write 43 = .ok (.bipush 40, 2) := by decide +kernel
theorem dX0_write_45 : decode cX0_write 45 = .ok (.invokevirtual 526, 3) := by decide +kernel
theorem dX0_write_48 : decode cX0_write 48 = .ok (.aload_n 0, 1) := by decide +kernel
theorem dX0_write_49 : decode cX0_write 49 = .ok (.aload_n 2, 1) := by decide +kernel
theorem dX0_write_50 : decode cX0_write 50 = .ok (.getfield 110, 3) := by decide +kernel
theorem dX0_write_53 : decode cX0_write 53 = .ok (.invokevirtual 549, 3) := by decide +kernel
theorem dX0_write_56 : decode cX0_write 56 = .ok (.aload_n 2, 1) := by decide +kernel
theorem dX0_write_57 : decode cX0_write 57 = .ok (.invokevirtual 177, 3) := by decide +kernel
theorem dX0_write_60 : decode cX0_write 60 = .ok (.ifCond .eq 9, 3) := by decide +kernel
theorem dX0_write_63 : decode cX0_write 63 = .ok (.aload_n 0, 1) := by decide +kernel
theorem dX0_write_64 : decode cX0_write 64 = .ok (.bipush 41, 2) := by decide +kernel
theorem dX0_write_66 : decode cX0_write 66 = .ok (.invokevirtual 526, 3) := by decide +kernel
theorem dX0_write_69 : decode cX0_write 69 = .ok (.aload_n 0, 1) := by decide +kernel
theorem dX0_write_70 : decode cX0_write 70 = .ok (.aload_n 2, 1) := by decide +kernel
theorem dX0_write_71 : decode cX0_write 71 = .ok (.getfield 130, 3) := by decide +kernel
theorem dX0_write_74 : decode cX0_write 74 = .ok (.bipush 110, 2) := by decide +kernel
theorem dX0_write_76 : decode cX0_write 76 = .ok (.invokevirtual 553, 3) := by decide +kernel
theorem dX0_write_79 : decode cX0_write 79 = .ok (.aload_n 0, 1) := by decide +kernel
theorem dX0_write_80 : decode cX0_write 80 = .ok (.aload_n 2, 1) := by decide +kernel
theorem dX0_write_81 : decode cX0_write 81 = .ok (.getfield 133, 3) := by decide +kernel
theorem dX0_write_84 : decode cX0_write 84 = .ok (.bipush 107, 2) := by decide +kernel
theorem dX0_write_86 : decode cX0_write 86 = .ok (.invokevirtual 553, 3) := by decide +kernel
theorem dX0_write_89 : decode cX0_write 89 = .ok (.iconst 0, 1) := by decide +kernel
theorem dX0_write_90 : decode cX0_write 90 = .ok (.istore_n 3, 1) := by decide +kernel
theorem dX0_write_91 : decode cX0_write 91 = .ok (.iload_n 3, 1) := by decide +kernel
theorem dX0_write_92 : decode cX0_write 92 = .ok (.aload_n 2, 1) := by decide +kernel
theorem dX0_write_93 : decode cX0_write 93 = .ok (.getfield 136, 3) := by decide +kernel
theorem dX0_write_96 : decode cX0_write 96 = .ok (.if_icmp .ge 15, 3) := by decide +kernel
theorem dX0_write_99 : decode cX0_write 99 = .ok (.aload_n 0, 1) := by decide +kernel
theorem dX0_write_100 : decode cX0_write 100 = .ok (.aload_n 2, 1) := by decide +kernel
theorem dX0_write_101 : decode cX0_write 101 = .ok (.iload_n 3, 1) := by decide +kernel
theorem dX0_write_102 : decode cX0_write 102 = .ok (.invokevirtual 557, 3) := by decide +kernel
theorem dX0_write_105 : decode cX0_write 105 = .ok (.iinc 3 1, 3) := by decide +kernel
theorem dX0_write_108 : decode cX0_write 108 = .ok (.goto (-17), 3) := by decide +kernel
theorem dX0_write_111 : decode cX0_write 111 = .ok (.aload_n 0, 1) := by decide +kernel
theorem dX0_write_112 : decode cX0_write 112 = .ok (.getfield 523, 3) := by decide +kernel
theorem dX0_write_115 : decode cX0_write 115 = .ok (.sipush 4000, 3) := by decide +kernel
theorem dX0_write_118 : decode cX0_write 118 = .ok (.if_icmp .le 6, 3) := by decide +kernel
theorem dX0_write_121 : decode cX0_write 121 = .ok (.bipush (-2), 2) := by decide +kernel
theorem dX0_write_123 : decode cX0_write 123 = .ok (.ireturn, 1) := by decide +kernel
theorem dX0_write_124 : decode cX0_write 124 = .ok (.aload_n 0, 1) := by decide +kernel
theorem dX0_write_125 : decode cX0_write 125 = .ok (.getfield 333, 3) := by decide +kernel
theorem dX0_write_128 : decode cX0_write 128 = .ok (.iconst 0, 1) := by decide +kernel
theorem dX0_write_129 : decode cX0_write 129 = .ok (.aload_n 0, 1) := by decide +kernel
theorem dX0_write_130 : decode cX0_write 130 = .ok (.getfield 336, 3) := by decide +kernel
theorem dX0_write_133 : decode cX0_write 133 = .ok (.iconst 0, 1) := by decide +kernel
theorem dX0_write_134 : decode cX0_write 134 = .ok (.aload_n 0, 1) := by decide +kernel
theorem dX0_write_135 : decode cX0_write 135 = .ok (.getfield 523, 3) := by decide +kernel
theorem dX0_write_138 : decode cX0_write 138 = .ok (.invokestatic 560, 3) := by decide +kernel
theorem dX0_write_141 : decode cX0_write 141 = .ok (.aload_n 0, 1) := by decide +kernel
theorem dX0_write_142 : decode cX0_write 142 = .ok (.aload_n 0, 1) := by decide +kernel
theorem dX0_write_143 : decode cX0_write 143 = .ok (.getfield 523, 3) := by decide +kernel
theorem dX0_write_146 : decode cX0_write 146 = .ok (.putfield 566, 3) := by decide +kernel
theorem dX0_write_149 : decode cX0_write 149 = .ok (.aload_n 0, 1) := by decide +kernel
theorem dX0_write_150 : decode cX0_write 150 = .ok (.getfield 566, 3) := by decide +kernel
theorem dX0_write_153 : decode cX0_write 153 = .ok (.ireturn, 1) := by decide +kernel
theorem dX0_hasItem_0 : decode cX0_hasItem 0 = .ok (.aload_n 0, 1) := by decide +kernel
theorem dX0_hasItem_1 : decode cX0_hasItem 1 = .ok (.getfield 326, 3) := by decide +kernel
theorem dX0_hasItem_4 : decode cX0_hasItem 4 = .ok (.iload_n 1, 1) := by decide +kernel
theorem dX0_hasItem_5 : decode cX0_hasItem 5 = .ok (.aaload, 1) := by decide +kernel
theorem dX0_hasItem_6 : decode cX0_hasItem 6 = .ok (.getfield 509, 3) := by decide +kernel
theorem dX0_hasItem_9 : decode cX0_hasItem 9 = .ok (.iconst 1, 1) := by decide +kernel
theorem dX0_hasItem_10 : decode cX0_hasItem 10 = .ok (.if_icmp .eq 16, 3) := by decide +kernel
theorem dX0_hasItem_13 : decode cX0_hasItem 13 = .ok (.aload_n 0, 1) := by decide +kernel
theorem dX0_hasItem_14 : decode cX0_hasItem 14 = .ok (.getfield 326, 3) := by decide +kernel
theorem dX0_hasItem_17 : decode cX0_hasItem 17 = .ok (.iload_n 1, 1) := by decide +kernel
theorem dX0_hasItem_18 : decode cX0_hasItem 18 = .ok (.aaload, 1) := by decide +kernel
theorem dX0_hasItem_19 : decode cX0_hasItem 19 = .ok (.getfield 509, 3) := by decide +kernel
theorem dX0_hasItem_22 : decode cX0_hasItem 22 = .ok (.iconst 2, 1) := by decide +kernel
theorem dX0_hasItem_23 : decode cX0_hasItem 23 = .ok (.if_icmp .ne 7, 3) := by decide +kernel
theorem dX0_hasItem_26 : decode cX0_hasItem 26 = .ok (.iconst 1, 1) := by decide +kernel
theorem dX0_hasItem_27 : decode cX0_hasItem 27 = .ok (.goto 4, 3) := by decide +kernel
theorem dX0_hasItem_30 : decode cX0_hasItem 30 = .ok (.iconst 0, 1) := by decide +kernel
theorem dX0_hasItem_31 : decode cX0_hasItem 31 = .ok (.ireturn, 1) := by decide +kernel
theorem dX0_say_0 : decode cX0_say 0 = .ok (.aload_n 0, 1) := by decide +kernel
theorem dX0_say_1 : decode cX0_say 1 = .ok (.getfield 523, 3) := by decide +kernel
theorem dX0_say_4 : decode cX0_say 4 = .ok (.sipush 4000, 3) := by decide +kernel
theorem dX0_say_7 : decode cX0_say 7 = .ok (.if_icmp .ge 14, 3) := by decide +kernel
theorem dX0_say_10 : decode cX0_say 10 = .ok (.aload_n 0, 1) := by decide +kernel
theorem dX0_say_11 : decode cX0_say 11 = .ok (.getfield 333, 3) := by decide +kernel
theorem dX0_say_14 : decode cX0_say 14 = .ok (.aload_n 0, 1) := by decide +kernel
theorem dX0_say_15 : decode cX0_say 15 = .ok (.getfield 523, 3) := by decide +kernel
theorem dX0_say_18 : decode cX0_say 18 = .ok (.iload_n 1, 1) := by decide +kernel
theorem dX0_say_19 : decode cX0_say 19 = .ok (.i2b, 1) := by decide +kernel
theorem dX0_say_20 : decode cX0_say 20 = .ok (.bastore, 1) := by decide +kernel
theorem dX0_say_21 : decode cX0_say 21 = .ok (.aload_n 0, 1) := by decide +kernel
theorem dX0_say_22 : decode cX0_say 22 = .ok (.dup, 1) := by decide +kernel
theorem dX0_say_23 : decode cX0_say 23 = .ok (.getfield 523, 3) := by decide +kernel
theorem dX0_say_26 : decode cX0_say 26 = .ok (.iconst 1, 1) := by decide +kernel
theorem dX0_say_27 : decode cX0_say 27 = .ok (.iadd, 1) := by decide +kernel
theorem dX0_say_28 : decode cX0_say 28 = .ok (.putfield 523, 3) := by decide +kernel
theorem dX0_say_31 : decode cX0_say 31 = .ok (.return_, 1) := by decide +kernel
theorem dX0_sayRatio_0 : decode cX0_sayRatio 0 = .ok (.aload_n 1, 1) := by decide +kernel
theorem dX0_sayRatio_1 : decode cX0_sayRatio 1 = .ok (.invokevirtual 180, 3) := by decide +kernel
theorem dX0_sayRatio_4 : decode cX0_sayRatio 4 = .ok (.ifCond .eq 12, 3) := by decide +kernel
theorem dX0_sayRatio_7 : decode cX0_sayRatio 7 = .ok (.aload_n 0, 1) := by decide +kernel
theorem dX0_sayRatio_8 : decode cX0_sayRatio 8 = .ok (.aload_n 1, 1) := by decide +kernel
theorem dX0_sayRatio_9 : decode cX0_sayRatio 9 = .ok (.getfield 89, 3) := by decide +kernel
theorem dX0_sayRatio_12 : decode cX0_sayRatio 12 = .ok (.invokevirtual 540, 3) := by decide +kernel
theorem dX0_sayRatio_15 : decode cX0_sayRatio 15 = .ok (.return_, 1) := by decide +kernel
theorem dX0_sayRatio_16 : decode cX0_sayRatio 16 = .ok (.aload_n 0, 1) := by decide +kernel
theorem dX0_sayRatio_17 : decode cX0_sayRatio 17 = .ok (.bipush 40, 2) := by decide +kernel
theorem dX0_sayRatio_19 : decode cX0_sayRatio 19 = .ok (.invokevirtual 526, 3) := by decide +kernel
theorem dX0_sayRatio_22 : decode cX0_sayRatio 22 = .ok (.aload_n 0, 1) := by decide +kernel
theorem dX0_sayRatio_23 : decode cX0_sayRatio 23 = .ok (.aload_n 1, 1) := by decide +kernel
theorem dX0_sayRatio_24 : decode cX0_sayRatio 24 = .ok (.getfield 89, 3) := by decide +kernel
theorem dX0_sayRatio_27 : decode cX0_sayRatio 27 = .ok (.invokevirtual 540, 3) := by decide +kernel
theorem dX0_sayRatio_30 : decode cX0_sayRatio 30 = .ok (.aload_n 0, 1) := by decide +kernel
theorem dX0_sayRatio_31 : decode cX0_sayRatio 31 = .ok (.bipush 41, 2) := by decide +kernel
theorem dX0_sayRatio_33 : decode cX0_sayRatio 33 = .ok (.invokevirtual 526, 3) := by decide +kernel
theorem dX0_sayRatio_36 : decode cX0_sayRatio 36 = .ok (.aload_n 0, 1) := by decide +kernel
theorem dX0_sayRatio_37 : decode cX0_sayRatio 37 = .ok (.bipush 47, 2) := by decide +kernel
theorem dX0_sayRatio_39 : decode cX0_sayRatio 39 = .ok (.invokevirtual 526, 3) := by decide +kernel
theorem dX0_sayRatio_42 : decode cX0_sayRatio 42 = .ok (.aload_n 0, 1) := by decide +kernel
theorem dX0_sayRatio_43 : decode cX0_sayRatio 43 = .ok (.bipush 40, 2) := by decide +kernel
theorem dX0_sayRatio_45 : decode cX0_sayRatio 45 = .ok (.invokevirtual 526, 3) := by decide +kernel
theorem dX0_sayRatio_48 : decode cX0_sayRatio 48 = .ok (.aload_n 0, 1) := by decide +kernel
theorem dX0_sayRatio_49 : decode cX0_sayRatio 49 = .ok (.aload_n 1, 1) := by decide +kernel
theorem dX0_sayRatio_50 : decode cX0_sayRatio 50 = .ok (.getfield 94, 3) := by decide +kernel
theorem dX0_sayRatio_53 : decode cX0_sayRatio 53 = .ok (.invokevirtual 540, 3) := by decide +kernel
theorem dX0_sayRatio_56 : decode cX0_sayRatio 56 = .ok (.aload_n 0, 1) := by decide +kernel
theorem dX0_sayRatio_57 : decode cX0_sayRatio 57 = .ok (.bipush 41, 2) := by decide +kernel
theorem dX0_sayRatio_59 : decode cX0_sayRatio 59 = .ok (.invokevirtual 526, 3) := by decide +kernel
theorem dX0_sayRatio_62 : decode cX0_sayRatio 62 = .ok (.return_, 1) := by decide +kernel
theorem dX0_sayDuo_0 : decode cX0_sayDuo 0 = .ok (.iconst 1, 1) := by decide +kernel
theorem dX0_sayDuo_1 : decode cX0_sayDuo 1 = .ok (.istore_n 2, 1) := by decide +kernel
theorem dX0_sayDuo_2 : decode cX0_sayDuo 2 = .ok (.aload_n 1, 1) := by decide +kernel
theorem dX0_sayDuo_3 : decode cX0_sayDuo 3 = .ok (.getfield 28, 3) := by decide +kernel
theorem dX0_sayDuo_6 : decode cX0_sayDuo 6 = .ok (.iconst 1, 1) := by decide +kernel
theorem dX0_sayDuo_7 : decode cX0_sayDuo 7 = .ok (.isub, 1) := by decide +kernel
theorem dX0_sayDuo_8 : decode cX0_sayDuo 8 = .ok (.istore_n 3, 1) := by decide +kernel
theorem dX0_sayDuo_9 : decode cX0_sayDuo 9 = .ok (.iload_n 3, 1) := by decide +kernel
theorem dX0_sayDuo_10 : decode cX0_sayDuo 10 = .ok (.ifCond .lt 55, 3) := by decide +kernel
theorem dX0_sayDuo_13 : decode cX0_sayDuo 13 = .ok (.aload_n 1, 1) := by decide +kernel
theorem dX0_sayDuo_14 : decode cX0_sayDuo 14 = .ok (.getfield 22, 3) := by decide +kernel
theorem dX0_sayDuo_17 : decode cX0_sayDuo 17 = .ok (.iconst 1, 1) := by decide +kernel
theorem dX0_sayDuo_18 : decode cX0_sayDuo 18 = .ok (.isub, 1) := by decide +kernel
theorem dX0_sayDuo_19 : decode cX0_sayDuo 19 = .ok (.istore 4, 2) := by decide +kernel
theorem dX0_sayDuo_21 : decode cX0_sayDuo 21 = .ok (.iload 4, 2) := by decide +kernel
theorem dX0_sayDuo_23 : decode cX0_sayDuo 23 = .ok (.ifCond .lt 36, 3) := by decide +kernel
theorem dX0_sayDuo_26 : decode cX0_sayDuo 26 = .ok (.aload_n 1, 1) := by decide +kernel
theorem dX0_sayDuo_27 : decode cX0_sayDuo 27 = .ok (.iload 4, 2) := by decide +kernel
theorem dX0_sayDuo_29 : decode cX0_sayDuo 29 = .ok (.iload_n 3, 1) := by decide +kernel
theorem dX0_sayDuo_30 : decode cX0_sayDuo 30 = .ok (.invokevirtual 183, 3) := by decide +kernel
theorem dX0_sayDuo_33 : decode cX0_sayDuo 33 = .ok (.ifCond .eq 20, 3) := by decide +kernel
theorem dX0_sayDuo_36 : decode cX0_sayDuo 36 = .ok (.aload_n 0, 1) := by decide +kernel
theorem dX0_sayDuo_37 : decode cX0_sayDuo 37 = .ok (.aload_n 1, 1) := by decide +kernel
theorem dX0_sayDuo_38 : decode cX0_sayDuo 38 = .ok (.iload 4, 2) := by decide +kernel
theorem dX0_sayDuo_40 : decode cX0_sayDuo 40 = .ok (.iload_n 3, 1) := by decide +kernel
theorem dX0_sayDuo_41 : decode cX0_sayDuo 41 = .ok (.invokevirtual 183, 3) := by decide +kernel
theorem dX0_sayDuo_44 : decode cX0_sayDuo 44 = .ok (.iload 4, 2) := by decide +kernel
theorem dX0_sayDuo_46 : decode cX0_sayDuo 46 = .ok (.iload_n 3, 1) := by decide +kernel
theorem dX0_sayDuo_47 : decode cX0_sayDuo 47 = .ok (.iload_n 2, 1) := by decide +kernel
theorem dX0_sayDuo_48 : decode cX0_sayDuo 48 = .ok (.invokevirtual 536, 3) := by decide +kernel
theorem dX0_sayDuo_51 : decode cX0_sayDuo 51 = .ok (.iconst 0, 1) := by decide +kernel
theorem dX0_sayDuo_52 : decode cX0_sayDuo 52 = .ok (.istore_n 2, 1) := by decide +kernel
theorem dX0_sayDuo_53 : decode cX0_sayDuo 53 = .ok (.iinc 4 (-1), 3) := by decide +kernel
theorem dX0_sayDuo_56 : decode cX0_sayDuo 56 = .ok (.goto (-35), 3) := by decide +kernel
theorem dX0_sayDuo_59 : decode cX0_sayDuo 59 = .ok (.iinc 3 (-1), 3) := by decide +kernel
theorem dX0_sayDuo_62 : decode cX0_sayDuo 62 = .ok (.goto (-53), 3) := by decide +kernel
theorem dX0_sayDuo_65 : decode cX0_sayDuo 65 = .ok (.iload_n 2, 1) := by decide +kernel
theorem dX0_sayDuo_66 : decode cX0_sayDuo 66 = .ok (.ifCond .eq 9, 3) := by decide +kernel
theorem dX0_sayDuo_69 : decode cX0_sayDuo 69 = .ok (.aload_n 0, 1) := by decide +kernel
theorem dX0_sayDuo_70 : decode cX0_sayDuo 70 = .ok (.bipush 48, 2) := by decide +kernel
theorem dX0_sayDuo_72 : decode cX0_sayDuo 72 = .ok (.invokevirtual 526, 3) := by decide +kernel
theorem dX0_sayDuo_75 : decode cX0_sayDuo 75 = .ok (.return_, 1) := by decide +kernel
theorem dX0_sayPart_0 : decode cX0_sayPart 0 = .ok (.iload_n 1, 1) := by decide +kernel
theorem dX0_sayPart_1 : decode cX0_sayPart 1 = .ok (.invokestatic 186, 3) := by decide +kernel
theorem dX0_sayPart_4 : decode cX0_sayPart 4 = .ok (.istore 5, 2) := by decide +kernel
theorem dX0_sayPart_6 : decode cX0_sayPart 6 = .ok (.iload 5, 2) := by decide +kernel
theorem dX0_sayPart_8 : decode cX0_sayPart 8 = .ok (.ifCond .ge 12, 3) := by decide +kernel
theorem dX0_sayPart_11 : decode cX0_sayPart 11 = .ok (.aload_n 0, 1) := by decide +kernel
theorem dX0_sayPart_12 : decode cX0_sayPart 12 = .ok (.bipush 45, 2) := by decide +kernel
theorem dX0_sayPart_14 : decode cX0_sayPart 14 = .ok (.invokevirtual 526, 3) := by decide +kernel
theorem dX0_sayPart_17 : decode cX0_sayPart 17 = .ok (.goto 14, 3) := by decide +kernel
theorem dX0_sayPart_20 : decode cX0_sayPart 20 = .ok (.iload 4, 2) := by decide +kernel
theorem dX0_sayPart_22 : decode cX0_sayPart 22 = .ok (.ifCond .ne 9, 3) := by decide +kernel
theorem dX0_sayPart_25 : decode cX0_sayPart 25 = .ok (.aload_n 0, 1) := by decide +kernel
theorem dX0_sayPart_26 : decode cX0_sayPart 26 = .ok (.bipush 43, 2) := by decide +kernel
theorem dX0_sayPart_28 : decode cX0_sayPart 28 = .ok (.invokevirtual 526, 3) := by decide +kernel
theorem dX0_sayPart_31 : decode cX0_sayPart 31 = .ok (.iload 5, 2) := by decide +kernel
theorem dX0_sayPart_33 : decode cX0_sayPart 33 = .ok (.invokestatic 166, 3) := by decide +kernel
theorem dX0_sayPart_36 : decode cX0_sayPart 36 = .ok (.istore 5, 2) := by decide +kernel
theorem dX0_sayPart_38 : decode cX0_sayPart 38 = .ok (.iload 5, 2) := by decide +kernel
theorem dX0_sayPart_40 : decode cX0_sayPart 40 = .ok (.iconst 1, 1) := by decide +kernel
theorem dX0_sayPart_41 : decode cX0_sayPart 41 = .ok (.if_icmp .ne 11, 3) := by decide +kernel
theorem dX0_sayPart_44 : decode cX0_sayPart 44 = .ok (.iload_n 2, 1) := by decide +kernel
theorem dX0_sayPart_45 : decode cX0_sayPart 45 = .ok (.ifCond .ne 11, 3) := by decide +kernel
theorem dX0_sayPart_48 : decode cX0_sayPart 48 = .ok (.iload_n 3, 1) := by decide +kernel
theorem dX0_sayPart_49 : decode cX0_sayPart 49 = .ok (.ifCond .ne 7, 3) := by decide +kernel
theorem dX0_sayPart_52 : decode cX0_sayPart 52 = .ok (.iconst 1, 1) := by decide +kernel
theorem dX0_sayPart_53 : decode cX0_sayPart 53 = .ok (.goto 4, 3) := by decide +kernel
theorem dX0_sayPart_56 : decode cX0_sayPart 56 = .ok (.iconst 0, 1) := by decide +kernel
theorem dX0_sayPart_57 : decode cX0_sayPart 57 = .ok (.istore 6, 2) := by decide +kernel
theorem dX0_sayPart_59 : decode cX0_sayPart 59 = .ok (.iload 6, 2) := by decide +kernel
theorem dX0_sayPart_61 : decode cX0_sayPart 61 = .ok (.ifCond .eq 9, 3) := by decide +kernel
theorem dX0_sayPart_64 : decode cX0_sayPart 64 = .ok (.aload_n 0, 1) := by decide +kernel
theorem dX0_sayPart_65 : decode cX0_sayPart 65 = .ok (.iload 5, 2) := by decide +kernel
theorem dX0_sayPart_67 : decode cX0_sayPart 67 = .ok (.invokevirtual 529, 3) := by decide +kernel
theorem dX0_sayPart_70 : decode cX0_sayPart 70 = .ok (.iload_n 2, 1) := by decide +kernel
theorem dX0_sayPart_71 : decode cX0_sayPart 71 = .ok (.ifCond .le 21, 3) := by decide +kernel
theorem dX0_sayPart_74 : decode cX0_sayPart 74 = .ok (.iload 6, 2) := by decide +kernel
theorem dX0_sayPart_76 : decode cX0_sayPart 76 = .ok (.ifCond .eq 9, 3) := by decide +kernel
theorem dX0_sayPart_79 : decode cX0_sayPart 79 = .ok (.aload_n 0, 1) := by decide +kernel
theorem dX0_sayPart_80 : decode cX0_sayPart 80 = .ok (.bipush 42, 2) := by decide +kernel
theorem dX0_sayPart_82 : decode cX0_sayPart 82 = .ok (.invokevirtual 526, 3) := by decide +kernel
theorem dX0_sayPart_85 : decode cX0_sayPart 85 = .ok (.aload_n 0, 1) := by decide +kernel
theorem dX0_sayPart_86 : decode cX0_sayPart 86 = .ok (.bipush 110, 2) := by decide +kernel
theorem dX0_sayPart_88 : decode cX0_sayPart 88 = .ok (.iload_n 2, 1) := by decide +kernel
theorem dX0_sayPart_89 : decode cX0_sayPart 89 = .ok (.invokevirtual 532, 3) := by decide +kernel
theorem dX0_sayPart_92 : decode cX0_sayPart 92 = .ok (.iload_n 3, 1) := by decide +kernel
theorem dX0_sayPart_93 : decode cX0_sayPart 93 = .ok (.ifCond .le 25, 3) := by decide +kernel
theorem dX0_sayPart_96 : decode cX0_sayPart 96 = .ok (.iload 6, 2) := by decide +kernel
theorem dX0_sayPart_98 : decode cX0_sayPart 98 = .ok (.ifCond .ne 7, 3) := by decide +kernel
theorem dX0_sayPart_101 : decode cX0_sayPart 101 = .ok (.iload_n 2, 1) := by decide +kernel
theorem dX0_sayPart_102 : decode cX0_sayPart 102 = .ok (.ifCond .le 9, 3) := by decide +kernel
theorem dX0_sayPart_105 : decode cX0_sayPart 105 = .ok (.aload_n 0, 1) := by decide +kernel
theorem dX0_sayPart_106 : decode cX0_sayPart 106 = .ok (.bipush 42, 2) := by decide +kernel
theorem dX0_sayPart_108 : decode cX0_sayPart 108 = .ok (.invokevirtual 526, 3) := by decide +kernel
theorem dX0_sayPart_111 : decode cX0_sayPart 111 = .ok (.aload_n 0, 1) := by decide +kernel
theorem dX0_sayPart_112 : decode cX0_sayPart 112 = .ok (.bipush 107, 2) := by decide +kernel
theorem dX0_sayPart_114 : decode cX0_sayPart 114 = .ok (.iload_n 3, 1) := by decide +kernel
theorem dX0_sayPart_115 : decode cX0_sayPart 115 = .ok (.invokevirtual 532, 3) := by decide +kernel
theorem dX0_sayPart_118 : decode cX0_sayPart 118 = .ok (.return_, 1) := by decide +kernel
theorem dX0_sayNumber_0 : decode cX0_sayNumber 0 = .ok (.iconst 1, 1) := by decide +kernel
theorem dX0_sayNumber_1 : decode cX0_sayNumber 1 = .ok (.istore_n 2, 1) := by decide +kernel
theorem dX0_sayNumber_2 : decode cX0_sayNumber 2 = .ok (.iload_n 1, 1) := by decide +kernel
theorem dX0_sayNumber_3 : decode cX0_sayNumber 3 = .ok (.iload_n 2, 1) := by decide +kernel
theorem dX0_sayNumber_4 : decode cX0_sayNumber 4 = .ok (.idiv, 1) := by decide +kernel
theorem dX0_sayNumber_5 : decode cX0_sayNumber 5 = .ok (.bipush 10, 2) := by decide +kernel
theorem dX0_sayNumber_7 : decode cX0_sayNumber 7 = .ok (.if_icmp .lt 11, 3) := by decide +kernel
theorem dX0_sayNumber_10 : decode cX0_sayNumber 10 = .ok (.iload_n 2, 1) := by decide +kernel
theorem dX0_sayNumber_11 : decode cX0_sayNumber 11 = .ok (.bipush 10, 2) := by decide +kernel
theorem dX0_sayNumber_13 : decode cX0_sayNumber 13 = .ok (.imul, 1) := by decide +kernel
theorem dX0_sayNumber_14 : decode cX0_sayNumber 14 = .ok (.istore_n 2, 1) := by decide +kernel
theorem dX0_sayNumber_15 : decode cX0_sayNumber 15 = .ok (.goto (-13), 3) := by decide +kernel
theorem dX0_sayNumber_18 : decode cX0_sayNumber 18 = .ok (.iload_n 2, 1) := by decide +kernel
theorem dX0_sayNumber_19 : decode cX0_sayNumber 19 = .ok (.ifCond .le 24, 3) := by decide +kernel
theorem dX0_sayNumber_22 : decode cX0_sayNumber 22 = .ok (.aload_n 0, 1) := by decide +kernel
theorem dX0_sayNumber_23 : decode cX0_sayNumber 23 = .ok (.bipush 48, 2) := by decide +kernel
theorem dX0_sayNumber_25 : decode cX0_sayNumber 25 = .ok (.iload_n 1, 1) := by decide +kernel
theorem dX0_sayNumber_26 : decode cX0_sayNumber 26 = .ok (.iload_n 2, 1) := by decide +kernel
theorem dX0_sayNumber_27 : decode cX0_sayNumber 27 = .ok (.idiv, 1) := by decide +kernel
theorem dX0_sayNumber_28 : decode cX0_sayNumber 28 = .ok (.bipush 10, 2) := by decide +kernel
theorem dX0_sayNumber_30 : decode cX0_sayNumber 30 = .ok (.irem, 1) := by decide +kernel
theorem dX0_sayNumber_31 : decode cX0_sayNumber 31 = .ok (.iadd, 1) := by decide +kernel
theorem dX0_sayNumber_32 : decode cX0_sayNumber 32 = .ok (.invokevirtual 526, 3) := by decide +kernel
theorem dX0_sayNumber_35 : decode cX0_sayNumber 35 = .ok (.iload_n 2, 1) := by decide +kernel
theorem dX0_sayNumber_36 : decode cX0_sayNumber 36 = .ok (.bipush 10, 2) := by decide +kernel
theorem dX0_sayNumber_38 : decode cX0_sayNumber 38 = .ok (.idiv, 1) := by decide +kernel
theorem dX0_sayNumber_39 : decode cX0_sayNumber 39 = .ok (.istore_n 2, 1) := by decide +kernel
theorem dX0_sayNumber_40 : decode cX0_sayNumber 40 = .ok (.goto (-22), 3) := by decide +kernel
theorem dX0_sayNumber_43 : decode cX0_sayNumber 43 = .ok (.return_, 1) := by decide +kernel
theorem dX0_sayPower_0 : decode cX0_sayPower 0 = .ok (.aload_n 0, 1) := by decide +kernel
theorem dX0_sayPower_1 : decode cX0_sayPower 1 = .ok (.iload_n 1, 1) := by decide +kernel
theorem dX0_sayPower_2 : decode cX0_sayPower 2 = .ok (.invokevirtual 526, 3) := by decide +kernel
theorem dX0_sayPower_5 : decode cX0_sayPower 5 = .ok (.iload_n 2, 1) := by decide +kernel
theorem dX0_sayPower_6 : decode cX0_sayPower 6 = .ok (.iconst 1, 1) := by decide +kernel
theorem dX0_sayPower_7 : decode cX0_sayPower 7 = .ok (.if_icmp .le 14, 3) := by decide +kernel
theorem dX0_sayPower_10 : decode cX0_sayPower 10 = .ok (.aload_n 0, 1) := by decide +kernel
theorem dX0_sayPower_11 : decode cX0_sayPower 11 = .ok (.bipush 94, 2) := by decide +kernel
theorem dX0_sayPower_13 : decode cX0_sayPower 13 = .ok (.invokevirtual 526, 3) := by decide +kernel
theorem dX0_sayPower_16 : decode cX0_sayPower 16 = .ok (.aload_n 0, 1) := by decide +kernel
theorem dX0_sayPower_17 : decode cX0_sayPower 17 = .ok (.iload_n 2, 1) := by decide +kernel
theorem dX0_sayPower_18 : decode cX0_sayPower 18 = .ok (.invokevirtual 529, 3) := by decide +kernel
theorem dX0_sayPower_21 : decode cX0_sayPower 21 = .ok (.return_, 1) := by decide +kernel
theorem dX0_sayBase_0 : decode cX0_sayBase 0 = .ok (.iload_n 1, 1) := by decide +kernel
theorem dX0_sayBase_1 : decode cX0_sayBase 1 = .ok (.iconst 1, 1) := by decide +kernel
theorem dX0_sayBase_2 : decode cX0_sayBase 2 = .ok (.if_icmp .eq 25, 3) := by decide +kernel
theorem dX0_sayBase_5 : decode cX0_sayBase 5 = .ok (.aload_n 0, 1) := by decide +kernel
theorem dX0_sayBase_6 : decode cX0_sayBase 6 = .ok (.bipush 42, 2) := by decide +kernel
theorem dX0_sayBase_8 : decode cX0_sayBase 8 = .ok (.invokevirtual 526, 3) := by decide +kernel
theorem dX0_sayBase_11 : decode cX0_sayBase 11 = .ok (.aload_n 0, 1) := by decide +kernel
theorem dX0_sayBase_12 : decode cX0_sayBase 12 = .ok (.iload_n 1, 1) := by decide +kernel
theorem dX0_sayBase_13 : decode cX0_sayBase 13 = .ok (.invokevirtual 529, 3) := by decide +kernel
theorem dX0_sayBase_16 : decode cX0_sayBase 16 = .ok (.aload_n 0, 1) := by decide +kernel
theorem dX0_sayBase_17 : decode cX0_sayBase 17 = .ok (.bipush 94, 2) := by decide +kernel
theorem dX0_sayBase_19 : decode cX0_sayBase 19 = .ok (.invokevirtual 526, 3) := by decide +kernel
theorem dX0_sayBase_22 : decode cX0_sayBase 22 = .ok (.aload_n 0, 1) := by decide +kernel
theorem dX0_sayBase_23 : decode cX0_sayBase 23 = .ok (.iload_n 2, 1) := by decide +kernel
theorem dX0_sayBase_24 : decode cX0_sayBase 24 = .ok (.invokevirtual 526, 3) := by decide +kernel
theorem dX0_sayBase_27 : decode cX0_sayBase 27 = .ok (.return_, 1) := by decide +kernel
theorem dX0_sayFactorial_0 : decode cX0_sayFactorial 0 = .ok (.aload_n 0, 1) := by decide +kernel
theorem dX0_sayFactorial_1 : decode cX0_sayFactorial 1 = .ok (.aload_n 1, 1) := by decide +kernel
theorem dX0_sayFactorial_2 : decode cX0_sayFactorial 2 = .ok (.getfield 149, 3) := by decide +kernel
theorem dX0_sayFactorial_5 : decode cX0_sayFactorial 5 = .ok (.iload_n 2, 1) := by decide +kernel
theorem dX0_sayFactorial_6 : decode cX0_sayFactorial 6 = .ok (.iaload, 1) := by decide +kernel
theorem dX0_sayFactorial_7 : decode cX0_sayFactorial 7 = .ok (.ifCond .le 8, 3) := by decide +kernel
theorem dX0_sayFactorial_10 : decode cX0_sayFactorial 10 = .ok (.bipush 42, 2) := by decide +kernel
theorem dX0_sayFactorial_12 : decode cX0_sayFactorial 12 = .ok (.goto 5, 3) := by decide +kernel
theorem dX0_sayFactorial_15 : decode cX0_sayFactorial 15 = .ok (.bipush 47, 2) := by decide +kernel
theorem dX0_sayFactorial_17 : decode cX0_sayFactorial 17 = .ok (.invokevirtual 526, 3) := by decide +kernel
theorem dX0_sayFactorial_20 : decode cX0_sayFactorial 20 = .ok (.aload_n 0, 1) := by decide +kernel
theorem dX0_sayFactorial_21 : decode cX0_sayFactorial 21 = .ok (.bipush 40, 2) := by decide +kernel
theorem dX0_sayFactorial_23 : decode cX0_sayFactorial 23 = .ok (.invokevirtual 526, 3) := by decide +kernel
theorem dX0_sayFactorial_26 : decode cX0_sayFactorial 26 = .ok (.iconst 1, 1) := by decide +kernel
theorem dX0_sayFactorial_27 : decode cX0_sayFactorial 27 = .ok (.istore_n 3, 1) := by decide +kernel
theorem dX0_sayFactorial_28 : decode cX0_sayFactorial 28 = .ok (.aload_n 1, 1) := by decide +kernel
theorem dX0_sayFactorial_29 : decode cX0_sayFactorial 29 = .ok (.getfield 143, 3) := by decide +kernel
theorem dX0_sayFactorial_32 : decode cX0_sayFactorial 32 = .ok (.iload_n 2, 1) := by decide +kernel
theorem dX0_sayFactorial_33 : decode cX0_sayFactorial 33 = .ok (.iaload, 1) := by decide +kernel
theorem dX0_sayFactorial_34 : decode cX0_sayFactorial 34 = .ok (.ifCond .eq 21, 3) := by decide +kernel
theorem dX0_sayFactorial_37 : decode cX0_sayFactorial 37 = .ok (.aload_n 0, 1) := by decide +kernel
theorem dX0_sayFactorial_38 : decode cX0_sayFactorial 38 = .ok (.aload_n 1, 1) := by decide +kernel
theorem dX0_sayFactorial_39 : decode cX0_sayFactorial 39 = .ok (.getfield 143, 3) := by decide +kernel
theorem dX0_sayFactorial_42 : decode cX0_sayFactorial 42 = .ok (.iload_n 2, 1) := by decide +kernel
theorem dX0_sayFactorial_43 : decode cX0_sayFactorial 43 = .ok (.iaload, 1) := by decide +kernel
theorem dX0_sayFactorial_44 : decode cX0_sayFactorial 44 = .ok (.invokestatic 543, 3) := by decide +kernel
theorem dX0_sayFactorial_47 : decode cX0_sayFactorial 47 = .ok (.iconst 0, 1) := by decide +kernel
theorem dX0_sayFactorial_48 : decode cX0_sayFactorial 48 = .ok (.iconst 1, 1) := by decide +kernel
theorem dX0_sayFactorial_49 : decode cX0_sayFactorial 49 = .ok (.iconst 1, 1) := by decide +kernel
theorem dX0_sayFactorial_50 : decode cX0_sayFactorial 50 = .ok (.invokevirtual 536, 3) := by decide +kernel
theorem dX0_sayFactorial_53 : decode cX0_sayFactorial 53 = .ok (.iconst 0, 1) := by decide +kernel
theorem dX0_sayFactorial_54 : decode cX0_sayFactorial 54 = .ok (.istore_n 3, 1) := by decide +kernel
theorem dX0_sayFactorial_55 : decode cX0_sayFactorial 55 = .ok (.aload_n 1, 1) := by decide +kernel
theorem dX0_sayFactorial_56 : decode cX0_sayFactorial 56 = .ok (.getfield 139, 3) := by decide +kernel
theorem dX0_sayFactorial_59 : decode cX0_sayFactorial 59 = .ok (.iload_n 2, 1) := by decide +kernel
theorem dX0_sayFactorial_60 : decode cX0_sayFactorial 60 = .ok (.iaload, 1) := by decide +kernel
theorem dX0_sayFactorial_61 : decode cX0_sayFactorial 61 = .ok (.ifCond .eq 19, 3) := by decide +kernel
theorem dX0_sayFactorial_64 : decode cX0_sayFactorial 64 = .ok (.aload_n 0, 1) := by decide +kernel
theorem dX0_sayFactorial_65 : decode cX0_sayFactorial 65 = .ok (.aload_n 1, 1) := by decide +kernel
theorem dX0_sayFactorial_66 : decode cX0_sayFactorial 66 = .ok (.getfield 139, 3) := by decide +kernel
theorem dX0_sayFactorial_69 : decode cX0_sayFactorial 69 = .ok (.iload_n 2, 1) := by decide +kernel
theorem dX0_sayFactorial_70 : decode cX0_sayFactorial 70 = .ok (.iaload, 1) := by decide +kernel
theorem dX0_sayFactorial_71 : decode cX0_sayFactorial 71 = .ok (.invokestatic 543, 3) := by decide +kernel
theorem dX0_sayFactorial_74 : decode cX0_sayFactorial 74 = .ok (.iconst 1, 1) := by decide +kernel
theorem dX0_sayFactorial_75 : decode cX0_sayFactorial 75 = .ok (.iconst 0, 1) := by decide +kernel
theorem dX0_sayFactorial_76 : decode cX0_sayFactorial 76 = .ok (.iload_n 3, 1) := by decide +kernel
theorem dX0_sayFactorial_77 : decode cX0_sayFactorial 77 = .ok (.invokevirtual 536, 3) := by decide +kernel
theorem dX0_sayFactorial_80 : decode cX0_sayFactorial 80 = .ok (.aload_n 1, 1) := by decide +kernel
theorem dX0_sayFactorial_81 : decode cX0_sayFactorial 81 = .ok (.getfield 146, 3) := by decide +kernel
theorem dX0_sayFactorial_84 : decode cX0_sayFactorial 84 = .ok (.iload_n 2, 1) := by decide +kernel
theorem dX0_sayFactorial_85 : decode cX0_sayFactorial 85 = .ok (.iaload, 1) := by decide +kernel
theorem dX0_sayFactorial_86 : decode cX0_sayFactorial 86 = .ok (.ifCond .eq 19, 3) := by decide +kernel
theorem dX0_sayFactorial_89 : decode cX0_sayFactorial 89 = .ok (.aload_n 0, 1) := by decide +kernel
theorem dX0_sayFactorial_90 : decode cX0_sayFactorial 90 = .ok (.aload_n 1, 1) := by decide +kernel
theorem dX0_sayFactorial_91 : decode cX0_sayFactorial 91 = .ok (.getfield 146, 3) := by decide +kernel
theorem dX0_sayFactorial_94 : decode cX0_sayFactorial 94 = .ok (.iload_n 2, 1) := by decide +kernel
theorem dX0_sayFactorial_95 : decode cX0_sayFactorial 95 = .ok (.iaload, 1) := by decide +kernel
theorem dX0_sayFactorial_96 : decode cX0_sayFactorial 96 = .ok (.invokestatic 543, 3) := by decide +kernel
theorem dX0_sayFactorial_99 : decode cX0_sayFactorial 99 = .ok (.iconst 0, 1) := by decide +kernel
theorem dX0_sayFactorial_100 : decode cX0_sayFactorial 100 = .ok (.iconst 0, 1) := by decide +kernel
theorem dX0_sayFactorial_101 : decode cX0_sayFactorial 101 = .ok (.iconst 0, 1) := by decide +kernel
theorem dX0_sayFactorial_102 : decode cX0_sayFactorial 102 = .ok (.invokevirtual 536, 3) := by decide +kernel
theorem dX0_sayFactorial_105 : decode cX0_sayFactorial 105 = .ok (.aload_n 0, 1) := by decide +kernel
theorem dX0_sayFactorial_106 : decode cX0_sayFactorial 106 = .ok (.bipush 41, 2) := by decide +kernel
theorem dX0_sayFactorial_108 : decode cX0_sayFactorial 108 = .ok (.invokevirtual 526, 3) := by decide +kernel
theorem dX0_sayFactorial_111 : decode cX0_sayFactorial 111 = .ok (.aload_n 0, 1) := by decide +kernel
theorem dX0_sayFactorial_112 : decode cX0_sayFactorial 112 = .ok (.bipush 33, 2) := by decide +kernel
theorem dX0_sayFactorial_114 : decode cX0_sayFactorial 114 = .ok (.invokevirtual 526, 3) := by decide +kernel
theorem dX0_sayFactorial_117 : decode cX0_sayFactorial 117 = .ok (.aload_n 1, 1) := by decide +kernel
theorem dX0_sayFactorial_118 : decode cX0_sayFactorial 118 = .ok (.getfield 149, 3) := by decide +kernel
theorem dX0_sayFactorial_121 : decode cX0_sayFactorial 121 = .ok (.iload_n 2, 1) := by decide +kernel
theorem dX0_sayFactorial_122 : decode cX0_sayFactorial 122 = .ok (.iaload, 1) := by decide +kernel
theorem dX0_sayFactorial_123 : decode cX0_sayFactorial 123 = .ok (.invokestatic 166, 3) := by decide +kernel
theorem dX0_sayFactorial_126 : decode cX0_sayFactorial 126 = .ok (.iconst 1, 1) := by decide +kernel
theorem dX0_sayFactorial_127 : decode cX0_sayFactorial 127 = .ok (.if_icmp .le 22, 3) := by decide +kernel
theorem dX0_sayFactorial_130 : decode cX0_sayFactorial 130 = .ok (.aload_n 0, 1) := by decide +kernel
theorem dX0_sayFactorial_131 : decode cX0_sayFactorial 131 = .ok (.bipush 94, 2) := by decide +kernel
theorem dX0_sayFactorial_133 : decode cX0_sayFactorial 133 = .ok (.invokevirtual 526, 3) := by decide +kernel
theorem dX0_sayFactorial_136 : decode cX0_sayFactorial 136 = .ok (.aload_n 0, 1) := by decide +kernel
theorem dX0_sayFactorial_137 : decode cX0_sayFactorial 137 = .ok (.aload_n 1, 1) := by decide +kernel
theorem dX0_sayFactorial_138 : decode cX0_sayFactorial 138 = .ok (.getfield 149, 3) := by decide +kernel
theorem dX0_sayFactorial_141 : decode cX0_sayFactorial 141 = .ok (.iload_n 2, 1) := by decide +kernel
theorem dX0_sayFactorial_142 : decode cX0_sayFactorial 142 = .ok (.iaload, 1) := by decide +kernel
theorem dX0_sayFactorial_143 : decode cX0_sayFactorial 143 = .ok (.invokestatic 166, 3) := by decide +kernel
theorem dX0_sayFactorial_146 : decode cX0_sayFactorial 146 = .ok (.invokevirtual 529, 3) := by decide +kernel
theorem dX0_sayFactorial_149 : decode cX0_sayFactorial 149 = .ok (.return_, 1) := by decide +kernel
theorem dX0_written_0 : decode cX0_written 0 = .ok (.iload_n 1, 1) := by decide +kernel
theorem dX0_written_1 : decode cX0_written 1 = .ok (.ifCond .lt 20, 3) := by decide +kernel
theorem dX0_written_4 : decode cX0_written 4 = .ok (.iload_n 1, 1) := by decide +kernel
theorem dX0_written_5 : decode cX0_written 5 = .ok (.aload_n 0, 1) := by decide +kernel
theorem dX0_written_6 : decode cX0_written 6 = .ok (.getfield 566, 3) := by decide +kernel
theorem dX0_written_9 : decode cX0_written 9 = .ok (.if_icmp .ge 12, 3) := by decide +kernel
theorem dX0_written_12 : decode cX0_written 12 = .ok (.aload_n 0, 1) := by decide +kernel
theorem dX0_written_13 : decode cX0_written 13 = .ok (.getfield 336, 3) := by decide +kernel
theorem dX0_written_16 : decode cX0_written 16 = .ok (.iload_n 1, 1) := by decide +kernel
theorem dX0_written_17 : decode cX0_written 17 = .ok (.baload, 1) := by decide +kernel
theorem dX0_written_18 : decode cX0_written 18 = .ok (.goto 4, 3) := by decide +kernel
theorem dX0_written_21 : decode cX0_written 21 = .ok (.iconst (-1), 1) := by decide +kernel
theorem dX0_written_22 : decode cX0_written 22 = .ok (.ireturn, 1) := by decide +kernel
theorem dX0_again_0 : decode cX0_again 0 = .ok (.aload_n 0, 1) := by decide +kernel
theorem dX0_again_1 : decode cX0_again 1 = .ok (.getfield 566, 3) := by decide +kernel
theorem dX0_again_4 : decode cX0_again 4 = .ok (.sipush 400, 3) := by decide +kernel
theorem dX0_again_7 : decode cX0_again 7 = .ok (.if_icmp .le 6, 3) := by decide +kernel
theorem dX0_again_10 : decode cX0_again 10 = .ok (.bipush (-2), 2) := by decide +kernel
theorem dX0_again_12 : decode cX0_again 12 = .ok (.ireturn, 1) := by decide +kernel
theorem dX0_again_13 : decode cX0_again 13 = .ok (.aload_n 0, 1) := by decide +kernel
theorem dX0_again_14 : decode cX0_again 14 = .ok (.getfield 336, 3) := by decide +kernel
theorem dX0_again_17 : decode cX0_again 17 = .ok (.iconst 0, 1) := by decide +kernel
theorem dX0_again_18 : decode cX0_again 18 = .ok (.aload_n 0, 1) := by decide +kernel
theorem dX0_again_19 : decode cX0_again 19 = .ok (.getfield 207, 3) := by decide +kernel
theorem dX0_again_22 : decode cX0_again 22 = .ok (.iconst 0, 1) := by decide +kernel
theorem dX0_again_23 : decode cX0_again 23 = .ok (.aload_n 0, 1) := by decide +kernel
theorem dX0_again_24 : decode cX0_again 24 = .ok (.getfield 566, 3) := by decide +kernel
theorem dX0_again_27 : decode cX0_again 27 = .ok (.invokestatic 560, 3) := by decide +kernel
theorem dX0_again_30 : decode cX0_again 30 = .ok (.aload_n 0, 1) := by decide +kernel
theorem dX0_again_31 : decode cX0_again 31 = .ok (.aload_n 0, 1) := by decide +kernel
theorem dX0_again_32 : decode cX0_again 32 = .ok (.getfield 566, 3) := by decide +kernel
theorem dX0_again_35 : decode cX0_again 35 = .ok (.putfield 204, 3) := by decide +kernel
theorem dX0_again_38 : decode cX0_again 38 = .ok (.aload_n 0, 1) := by decide +kernel
theorem dX0_again_39 : decode cX0_again 39 = .ok (.getfield 204, 3) := by decide +kernel
theorem dX0_again_42 : decode cX0_again 42 = .ok (.ireturn, 1) := by decide +kernel
theorem dX0_kind_0 : decode cX0_kind 0 = .ok (.iload_n 1, 1) := by decide +kernel
theorem dX0_kind_1 : decode cX0_kind 1 = .ok (.invokestatic 519, 3) := by decide +kernel
theorem dX0_kind_4 : decode cX0_kind 4 = .ok (.ifCond .eq 15, 3) := by decide +kernel
theorem dX0_kind_7 : decode cX0_kind 7 = .ok (.aload_n 0, 1) := by decide +kernel
theorem dX0_kind_8 : decode cX0_kind 8 = .ok (.getfield 326, 3) := by decide +kernel
theorem dX0_kind_11 : decode cX0_kind 11 = .ok (.iload_n 1, 1) := by decide +kernel
theorem dX0_kind_12 : decode cX0_kind 12 = .ok (.aaload, 1) := by decide +kernel
theorem dX0_kind_13 : decode cX0_kind 13 = .ok (.getfield 509, 3) := by decide +kernel
theorem dX0_kind_16 : decode cX0_kind 16 = .ok (.goto 4, 3) := by decide +kernel
theorem dX0_kind_19 : decode cX0_kind 19 = .ok (.iconst (-1), 1) := by decide +kernel
theorem dX0_kind_20 : decode cX0_kind 20 = .ok (.ireturn, 1) := by decide +kernel
theorem dX0_drop_0 : decode cX0_drop 0 = .ok (.iload_n 1, 1) := by decide +kernel
theorem dX0_drop_1 : decode cX0_drop 1 = .ok (.invokestatic 519, 3) := by decide +kernel
theorem dX0_drop_4 : decode cX0_drop 4 = .ok (.ifCond .ne 5, 3) := by decide +kernel
theorem dX0_drop_7 : decode cX0_drop 7 = .ok (.iconst (-1), 1) := by decide +kernel
theorem dX0_drop_8 : decode cX0_drop 8 = .ok (.ireturn, 1) := by decide +kernel
theorem dX0_drop_9 : decode cX0_drop 9 = .ok (.aload_n 0, 1) := by decide +kernel
theorem dX0_drop_10 : decode cX0_drop 10 = .ok (.getfield 326, 3) := by decide +kernel
theorem dX0_drop_13 : decode cX0_drop 13 = .ok (.iload_n 1, 1) := by decide +kernel
theorem dX0_drop_14 : decode cX0_drop 14 = .ok (.aaload, 1) := by decide +kernel
theorem dX0_drop_15 : decode cX0_drop 15 = .ok (.getfield 509, 3) := by decide +kernel
theorem dX0_drop_18 : decode cX0_drop 18 = .ok (.istore_n 2, 1) := by decide +kernel
theorem dX0_drop_19 : decode cX0_drop 19 = .ok (.aload_n 0, 1) := by decide +kernel
theorem dX0_drop_20 : decode cX0_drop 20 = .ok (.getfield 326, 3) := by decide +kernel
theorem dX0_drop_23 : decode cX0_drop 23 = .ok (.iload_n 1, 1) := by decide +kernel
theorem dX0_drop_24 : decode cX0_drop 24 = .ok (.aaload, 1) := by decide +kernel
theorem dX0_drop_25 : decode cX0_drop 25 = .ok (.iconst 0, 1) := by decide +kernel
theorem dX0_drop_26 : decode cX0_drop 26 = .ok (.putfield 509, 3) := by decide +kernel
theorem dX0_drop_29 : decode cX0_drop 29 = .ok (.iload_n 2, 1) := by decide +kernel
theorem dX0_drop_30 : decode cX0_drop 30 = .ok (.ireturn, 1) := by decide +kernel
theorem dX0_degree_0 : decode cX0_degree 0 = .ok (.iload_n 1, 1) := by decide +kernel
theorem dX0_degree_1 : decode cX0_degree 1 = .ok (.invokestatic 519, 3) := by decide +kernel
theorem dX0_degree_4 : decode cX0_degree 4 = .ok (.ifCond .ne 5, 3) := by decide +kernel
theorem dX0_degree_7 : decode cX0_degree 7 = .ok (.iconst (-1), 1) := by decide +kernel
theorem dX0_degree_8 : decode cX0_degree 8 = .ok (.ireturn, 1) := by decide +kernel
theorem dX0_degree_9 : decode cX0_degree 9 = .ok (.aload_n 0, 1) := by decide +kernel
theorem dX0_degree_10 : decode cX0_degree 10 = .ok (.iload_n 1, 1) := by decide +kernel
theorem dX0_degree_11 : decode cX0_degree 11 = .ok (.invokevirtual 546, 3) := by decide +kernel
theorem dX0_degree_14 : decode cX0_degree 14 = .ok (.ifCond .ne 19, 3) := by decide +kernel
theorem dX0_degree_17 : decode cX0_degree 17 = .ok (.aload_n 0, 1) := by decide +kernel
theorem dX0_degree_18 : decode cX0_degree 18 = .ok (.getfield 326, 3) := by decide +kernel
theorem dX0_degree_21 : decode cX0_degree 21 = .ok (.iload_n 1, 1) := by decide +kernel
theorem dX0_degree_22 : decode cX0_degree 22 = .ok (.aaload, 1) := by decide +kernel
theorem dX0_degree_23 : decode cX0_degree 23 = .ok (.getfield 509, 3) := by decide +kernel
theorem dX0_degree_26 : decode cX0_degree 26 = .ok (.iconst 3, 1) := by decide +kernel
theorem dX0_degree_27 : decode cX0_degree 27 = .ok (.if_icmp .eq 6, 3) := by decide +kernel
theorem dX0_degree_30 : decode cX0_degree 30 = .ok (.bipush (-3), 2) := by decide +kernel
theorem dX0_degree_32 : decode cX0_degree 32 = .ok (.ireturn, 1) := by decide +kernel
theorem dX0_degree_33 : decode cX0_degree 33 = .ok (.iload_n 2, 1) := by decide +kernel
theorem dX0_degree_34 : decode cX0_degree 34 = .ok (.iconst 0, 1) := by decide +kernel
theorem dX0_degree_35 : decode cX0_degree 35 = .ok (.iconst 1, 1) := by decide +kernel
theorem dX0_degree_36 : decode cX0_degree 36 = .ok (.invokestatic 173, 3) := by decide +kernel
theorem dX0_degree_39 : decode cX0_degree 39 = .ok (.ifCond .eq 12, 3) := by decide +kernel
theorem dX0_degree_42 : decode cX0_degree 42 = .ok (.iload_n 3, 1) := by decide +kernel
theorem dX0_degree_43 : decode cX0_degree 43 = .ok (.iconst 0, 1) := by decide +kernel
theorem dX0_degree_44 : decode cX0_degree 44 = .ok (.iconst 1, 1) := by decide +kernel
theorem dX0_degree_45 : decode cX0_degree 45 = .ok (.invokestatic 173, 3) := by decide +kernel
theorem dX0_degree_48 : decode cX0_degree 48 = .ok (.ifCond .ne 5, 3) := by decide +kernel
theorem dX0_degree_51 : decode cX0_degree 51 = .ok (.iconst (-1), 1) := by decide +kernel
theorem dX0_degree_52 : decode cX0_degree 52 = .ok (.ireturn, 1) := by decide +kernel
theorem dX0_degree_53 : decode cX0_degree 53 = .ok (.iload_n 2, 1) := by decide +kernel
theorem dX0_degree_54 : decode cX0_degree 54 = .ok (.ifCond .ne 21, 3) := by decide +kernel
theorem dX0_degree_57 : decode cX0_degree 57 = .ok (.aload_n 0, 1) := by decide +kernel
theorem dX0_degree_58 : decode cX0_degree 58 = .ok (.getfield 326, 3) := by decide +kernel
theorem dX0_degree_61 : decode cX0_degree 61 = .ok (.iload_n 1, 1) := by decide +kernel
theorem dX0_degree_62 : decode cX0_degree 62 = .ok (.aaload, 1) := by decide +kernel
theorem dX0_degree_63 : decode cX0_degree 63 = .ok (.getfield 512, 3) := by decide +kernel
theorem dX0_degree_66 : decode cX0_degree 66 = .ok (.getfield 110, 3) := by decide +kernel
theorem dX0_degree_69 : decode cX0_degree 69 = .ok (.getfield 89, 3) := by decide +kernel
theorem dX0_degree_72 : decode cX0_degree 72 = .ok (.goto 18, 3) := by decide +kernel
theorem dX0_degree_75 : decode cX0_degree 75 = .ok (.aload_n 0, 1) := by decide +kernel
theorem dX0_degree_76 : decode cX0_degree 76 = .ok (.getfield 326, 3) := by decide +kernel
theorem dX0_degree_79 : decode cX0_degree 79 = .ok (.iload_n 1, 1) := by decide +kernel
theorem dX0_degree_80 : decode cX0_degree 80 = .ok (.aaload, 1) := by decide +kernel
theorem dX0_degree_81 : decode cX0_degree 81 = .ok (.getfield 512, 3) := by decide +kernel
theorem dX0_degree_84 : decode cX0_degree 84 = .ok (.getfield 110, 3) := by decide +kernel
theorem dX0_degree_87 : decode cX0_degree 87 = .ok (.getfield 94, 3) := by decide +kernel
theorem dX0_degree_90 : decode cX0_degree 90 = .ok (.astore 4, 2) := by decide +kernel
theorem dX0_degree_92 : decode cX0_degree 92 = .ok (.iload_n 3, 1) := by decide +kernel
theorem dX0_degree_93 : decode cX0_degree 93 = .ok (.ifCond .ne 11, 3) := by decide +kernel
theorem dX0_degree_96 : decode cX0_degree 96 = .ok (.aload 4, 2) := by decide +kernel
theorem dX0_degree_98 : decode cX0_degree 98 = .ok (.invokevirtual 569, 3) := by decide +kernel
theorem dX0_degree_101 : decode cX0_degree 101 = .ok (.goto 8, 3) := by decide +kernel
theorem dX0_degree_104 : decode cX0_degree 104 = .ok (.aload 4, 2) := by decide +kernel
theorem dX0_degree_106 : decode cX0_degree 106 = .ok (.invokevirtual 572, 3) := by decide +kernel
theorem dX0_degree_109 : decode cX0_degree 109 = .ok (.ireturn, 1) := by decide +kernel
theorem dX0_number_0 : decode cX0_number 0 = .ok (.iload_n 1, 1) := by decide +kernel
theorem dX0_number_1 : decode cX0_number 1 = .ok (.invokestatic 519, 3) := by decide +kernel
theorem dX0_number_4 : decode cX0_number 4 = .ok (.ifCond .ne 5, 3) := by decide +kernel
theorem dX0_number_7 : decode cX0_number 7 = .ok (.iconst (-1), 1) := by decide +kernel
theorem dX0_number_8 : decode cX0_number 8 = .ok (.ireturn, 1) := by decide +kernel
theorem dX0_number_9 : decode cX0_number 9 = .ok (.aload_n 0, 1) := by decide +kernel
theorem dX0_number_10 : decode cX0_number 10 = .ok (.getfield 326, 3) := by decide +kernel
theorem dX0_number_13 : decode cX0_number 13 = .ok (.iload_n 1, 1) := by decide +kernel
theorem dX0_number_14 : decode cX0_number 14 = .ok (.aaload, 1) := by decide +kernel
theorem dX0_number_15 : decode cX0_number 15 = .ok (.astore 5, 2) := by decide +kernel
theorem dX0_number_17 : decode cX0_number 17 = .ok (.aload 5, 2) := by decide +kernel
theorem dX0_number_19 : decode cX0_number 19 = .ok (.getfield 509, 3) := by decide +kernel
theorem dX0_number_22 : decode cX0_number 22 = .ok (.ifCond .eq 21, 3) := by decide +kernel
theorem dX0_number_25 : decode cX0_number 25 = .ok (.aload 5, 2) := by decide +kernel
theorem dX0_number_27 : decode cX0_number 27 = .ok (.getfield 509, 3) := by decide +kernel
theorem dX0_number_30 : decode cX0_number 30 = .ok (.iconst 4, 1) := by decide +kernel
theorem dX0_number_31 : decode cX0_number 31 = .ok (.if_icmp .ne 15, 3) := by decide +kernel
theorem dX0_number_34 : decode cX0_number 34 = .ok (.iload_n 2, 1) := by decide +kernel
theorem dX0_number_35 : decode cX0_number 35 = .ok (.iconst 0, 1) := by decide +kernel
theorem dX0_number_36 : decode cX0_number 36 = .ok (.iconst 1, 1) := by decide +kernel
theorem dX0_number_37 : decode cX0_number 37 = .ok (.invokestatic 173, 3) := by decide +kernel
theorem dX0_number_40 : decode cX0_number 40 = .ok (.ifCond .eq 6, 3) := by decide +kernel
theorem dX0_number_43 : decode cX0_number 43 = .ok (.bipush (-3), 2) := by decide +kernel
theorem dX0_number_45 : decode cX0_number 45 = .ok (.ireturn, 1) := by decide +kernel
theorem dX0_number_46 : decode cX0_number 46 = .ok (.iload_n 2, 1) := by decide +kernel
theorem dX0_number_47 : decode cX0_number 47 = .ok (.iconst 0, 1) := by decide +kernel
theorem dX0_number_48 : decode cX0_number 48 = .ok (.iconst 1, 1) := by decide +kernel
theorem dX0_number_49 : decode cX0_number 49 = .ok (.invokestatic 173, 3) := by decide +kernel
theorem dX0_number_52 : decode cX0_number 52 = .ok (.ifCond .eq 39, 3) := by decide +kernel
theorem dX0_number_55 : decode cX0_number 55 = .ok (.iload_n 2, 1) := by decide +kernel
theorem dX0_number_56 : decode cX0_number 56 = .ok (.ifCond .ne 17, 3) := by decide +kernel
theorem dX0_number_59 : decode cX0_number 59 = .ok (.aload 5, 2) := by decide +kernel
theorem dX0_number_61 : decode cX0_number 61 = .ok (.getfield 512, 3) := by decide +kernel
theorem dX0_number_64 : decode cX0_number 64 = .ok (.getfield 110, 3) := by decide +kernel
theorem dX0_number_67 : decode cX0_number 67 = .ok (.getfield 89, 3) := by decide +kernel
theorem dX0_number_70 : decode cX0_number 70 = .ok (.goto 14, 3) := by decide +kernel
theorem dX0_number_73 : decode cX0_number 73 = .ok (.aload 5, 2) := by decide +kernel
theorem dX0_number_75 : decode cX0_number 75 = .ok (.getfield 512, 3) := by decide +kernel
theorem dX0_number_78 : decode cX0_number 78 = .ok (.getfield 110, 3) := by decide +kernel
theorem dX0_number_81 : decode cX0_number 81 = .ok (.getfield 94, 3) := by decide +kernel
theorem dX0_number_84 : decode cX0_number 84 = .ok (.iload_n 3, 1) := by decide +kernel
theorem dX0_number_85 : decode cX0_number 85 = .ok (.iload 4, 2) := by decide +kernel
theorem dX0_number_87 : decode cX0_number 87 = .ok (.invokevirtual 183, 3) := by decide +kernel
theorem dX0_number_90 : decode cX0_number 90 = .ok (.ireturn, 1) := by decide +kernel
theorem dX0_number_91 : decode cX0_number 91 = .ok (.aload 5, 2) := by decide +kernel
theorem dX0_number_93 : decode cX0_number 93 = .ok (.getfield 509, 3) := by decide +kernel
theorem dX0_number_96 : decode cX0_number 96 = .ok (.iconst 3, 1) := by decide +kernel
theorem dX0_number_97 : decode cX0_number 97 = .ok (.if_icmp .ge 14, 3) := by decide +kernel
theorem dX0_number_100 : decode cX0_number 100 = .ok (.iload_n 2, 1) := by decide +kernel
theorem dX0_number_101 : decode cX0_number 101 = .ok (.ifCond .ge 7, 3) := by decide +kernel
theorem dX0_number_104 : decode cX0_number 104 = .ok (.iconst (-1), 1) := by decide +kernel
theorem dX0_number_105 : decode cX0_number 105 = .ok (.goto 5, 3) := by decide +kernel
theorem dX0_number_108 : decode cX0_number 108 = .ok (.bipush (-3), 2) := by decide +kernel
theorem dX0_number_110 : decode cX0_number 110 = .ok (.ireturn, 1) := by decide +kernel
theorem dX0_number_111 : decode cX0_number 111 = .ok (.iload_n 2, 1) := by decide +kernel
theorem dX0_number_112 : decode cX0_number 112 = .ok (.iconst 2, 1) := by decide +kernel
theorem dX0_number_113 : decode cX0_number 113 = .ok (.iconst 2, 1) := by decide +kernel
theorem dX0_number_114 : decode cX0_number 114 = .ok (.aload 5, 2) := by decide +kernel
theorem dX0_number_116 : decode cX0_number 116 = .ok (.getfield 575, 3) := by decide +kernel
theorem dX0_number_119 : decode cX0_number 119 = .ok (.iadd, 1) := by decide +kernel
theorem dX0_number_120 : decode cX0_number 120 = .ok (.invokestatic 173, 3) := by decide +kernel
theorem dX0_number_123 : decode cX0_number 123 = .ok (.ifCond .ne 5, 3) := by decide +kernel
theorem dX0_number_126 : decode cX0_number 126 = .ok (.iconst (-1), 1) := by decide +kernel
theorem dX0_number_127 : decode cX0_number 127 = .ok (.ireturn, 1) := by decide +kernel
theorem dX0_number_128 : decode cX0_number 128 = .ok (.iload 4, 2) := by decide +kernel
theorem dX0_number_130 : decode cX0_number 130 = .ok (.ifCond .ne 19, 3) := by decide +kernel
theorem dX0_number_133 : decode cX0_number 133 = .ok (.aload 5, 2) := by decide +kernel
theorem dX0_number_135 : decode cX0_number 135 = .ok (.getfield 578, 3) := by decide +kernel
theorem dX0_number_138 : decode cX0_number 138 = .ok (.iload_n 2, 1) := by decide +kernel
theorem dX0_number_139 : decode cX0_number 139 = .ok (.iconst 2, 1) := by decide +kernel
theorem dX0_number_140 : decode cX0_number 140 = .ok (.isub, 1) := by decide +kernel
theorem dX0_number_141 : decode cX0_number 141 = .ok (.aaload, 1) := by decide +kernel
theorem dX0_number_142 : decode cX0_number 142 = .ok (.iload_n 3, 1) := by decide +kernel
theorem dX0_number_143 : decode cX0_number 143 = .ok (.invokevirtual 580, 3) := by decide +kernel
theorem dX0_number_146 : decode cX0_number 146 = .ok (.goto 4, 3) := by decide +kernel
theorem dX0_number_149 : decode cX0_number 149 = .ok (.iconst 0, 1) := by decide +kernel
theorem dX0_number_150 : decode cX0_number 150 = .ok (.ireturn, 1) := by decide +kernel
theorem dX0_told_0 : decode cX0_told 0 = .ok (.iload_n 1, 1) := by decide +kernel
theorem dX0_told_1 : decode cX0_told 1 = .ok (.invokestatic 519, 3) := by decide +kernel
theorem dX0_told_4 : decode cX0_told 4 = .ok (.ifCond .ne 5, 3) := by decide +kernel
theorem dX0_told_7 : decode cX0_told 7 = .ok (.iconst (-1), 1) := by decide +kernel
theorem dX0_told_8 : decode cX0_told 8 = .ok (.ireturn, 1) := by decide +kernel
theorem dX0_told_9 : decode cX0_told 9 = .ok (.aload_n 0, 1) := by decide +kernel
theorem dX0_told_10 : decode cX0_told 10 = .ok (.getfield 326, 3) := by decide +kernel
theorem dX0_told_13 : decode cX0_told 13 = .ok (.iload_n 1, 1) := by decide +kernel
theorem dX0_told_14 : decode cX0_told 14 = .ok (.aaload, 1) := by decide +kernel
theorem dX0_told_15 : decode cX0_told 15 = .ok (.astore_n 3, 1) := by decide +kernel
theorem dX0_told_16 : decode cX0_told 16 = .ok (.iload_n 2, 1) := by decide +kernel
theorem dX0_told_17 : decode cX0_told 17 = .ok (.tableswitch 134 0 4 #[35, 56, 77, 98, 116], 35) := by decide +kernel
theorem dX0_told_52 : decode cX0_told 52 = .ok (.aload_n 3, 1) := by decide +kernel
theorem dX0_told_53 : decode cX0_told 53 = .ok (.getfield 509, 3) := by decide +kernel
theorem dX0_told_56 : decode cX0_told 56 = .ok (.iconst 2, 1) := by decide +kernel
theorem dX0_told_57 : decode cX0_told 57 = .ok (.if_icmp .eq 8, 3) := by decide +kernel
theorem dX0_told_60 : decode cX0_told 60 = .ok (.bipush (-3), 2) := by decide +kernel
theorem dX0_told_62 : decode cX0_told 62 = .ok (.goto 10, 3) := by decide +kernel
theorem dX0_told_65 : decode cX0_told 65 = .ok (.aload_n 3, 1) := by decide +kernel
theorem dX0_told_66 : decode cX0_told 66 = .ok (.getfield 512, 3) := by decide +kernel
theorem dX0_told_69 : decode cX0_told 69 = .ok (.getfield 130, 3) := by decide +kernel
theorem dX0_told_72 : decode cX0_told 72 = .ok (.ireturn, 1) := by decide +kernel
theorem dX0_told_73 : decode cX0_told 73 = .ok (.aload_n 3, 1) := by decide +kernel
theorem dX0_told_74 : decode cX0_told 74 = .ok (.getfield 509, 3) := by decide +kernel
theorem dX0_told_77 : decode cX0_told 77 = .ok (.iconst 2, 1) := by decide +kernel
theorem dX0_told_78 : decode cX0_told 78 = .ok (.if_icmp .eq 8, 3) := by decide +kernel
theorem dX0_told_81 : decode cX0_told 81 = .ok (.bipush (-3), 2) := by decide +kernel
theorem dX0_told_83 : decode cX0_told 83 = .ok (.goto 10, 3) := by decide +kernel
theorem dX0_told_86 : decode cX0_told 86 = .ok (.aload_n 3, 1) := by decide +kernel
theorem dX0_told_87 : decode cX0_told 87 = .ok (.getfield 512, 3) := by decide +kernel
theorem dX0_told_90 : decode cX0_told 90 = .ok (.getfield 133, 3) := by decide +kernel
theorem dX0_told_93 : decode cX0_told 93 = .ok (.ireturn, 1) := by decide +kernel
theorem dX0_told_94 : decode cX0_told 94 = .ok (.aload_n 3, 1) := by decide +kernel
theorem dX0_told_95 : decode cX0_told 95 = .ok (.getfield 509, 3) := by decide +kernel
theorem dX0_told_98 : decode cX0_told 98 = .ok (.iconst 2, 1) := by decide +kernel
theorem dX0_told_99 : decode cX0_told 99 = .ok (.if_icmp .eq 8, 3) := by decide +kernel
theorem dX0_told_102 : decode cX0_told 102 = .ok (.bipush (-3), 2) := by decide +kernel
theorem dX0_told_104 : decode cX0_told 104 = .ok (.goto 10, 3) := by decide +kernel
theorem dX0_told_107 : decode cX0_told 107 = .ok (.aload_n 3, 1) := by decide +kernel
theorem dX0_told_108 : decode cX0_told 108 = .ok (.getfield 512, 3) := by decide +kernel
theorem dX0_told_111 : decode cX0_told 111 = .ok (.getfield 136, 3) := by decide +kernel
theorem dX0_told_114 : decode cX0_told 114 = .ok (.ireturn, 1) := by decide +kernel
theorem dX0_told_115 : decode cX0_told 115 = .ok (.aload_n 3, 1) := by decide +kernel
theorem dX0_told_116 : decode cX0_told 116 = .ok (.getfield 509, 3) := by decide +kernel
theorem dX0_told_119 : decode cX0_told 119 = .ok (.iconst 3, 1) := by decide +kernel
theorem dX0_told_120 : decode cX0_told 120 = .ok (.if_icmp .ge 8, 3) := by decide +kernel
theorem dX0_told_123 : decode cX0_told 123 = .ok (.bipush (-3), 2) := by decide +kernel
theorem dX0_told_125 : decode cX0_told 125 = .ok (.goto 7, 3) := by decide +kernel
theorem dX0_told_128 : decode cX0_told 128 = .ok (.aload_n 3, 1) := by decide +kernel
theorem dX0_told_129 : decode cX0_told 129 = .ok (.getfield 575, 3) := by decide +kernel
theorem dX0_told_132 : decode cX0_told 132 = .ok (.ireturn, 1) := by decide +kernel
theorem dX0_told_133 : decode cX0_told 133 = .ok (.aload_n 3, 1) := by decide +kernel
theorem dX0_told_134 : decode cX0_told 134 = .ok (.getfield 509, 3) := by decide +kernel
theorem dX0_told_137 : decode cX0_told 137 = .ok (.iconst 4, 1) := by decide +kernel
theorem dX0_told_138 : decode cX0_told 138 = .ok (.if_icmp .eq 8, 3) := by decide +kernel
theorem dX0_told_141 : decode cX0_told 141 = .ok (.bipush (-3), 2) := by decide +kernel
theorem dX0_told_143 : decode cX0_told 143 = .ok (.goto 7, 3) := by decide +kernel
theorem dX0_told_146 : decode cX0_told 146 = .ok (.aload_n 3, 1) := by decide +kernel
theorem dX0_told_147 : decode cX0_told 147 = .ok (.getfield 582, 3) := by decide +kernel
theorem dX0_told_150 : decode cX0_told 150 = .ok (.ireturn, 1) := by decide +kernel
theorem dX0_told_151 : decode cX0_told 151 = .ok (.iconst (-1), 1) := by decide +kernel
theorem dX0_told_152 : decode cX0_told 152 = .ok (.ireturn, 1) := by decide +kernel
abbrev W_X0_type (g : GX) (d : Nat) (av : List Value) (Q : QT) (n : Nat) (pc : Nat) (ls : LV) (stk : List Value) (h : Hp) : Prop := RJ g m_X0_type d 0 0 av Q pc ls stk n h 0 0
theorem s_X0_type_0 {g : GX} {d : Nat} {av : List Value} {Q : QT} {n : Nat} {h : Hp} {y1 : Int64} {x3 : Int32} (hp : g.2.2.2.2 = true)  (H : ((x3 < (1 : Int32)) → (Q (some (.int (-1 : Int32))) n h)) ∧ ((¬ x3 < (1 : Int32)) → ((((8 : Int32) < x3) → (Q (some (.int (-1 : Int32))) n h)) ∧ ((¬ (8 : Int32) < x3) → (((((ri h 0 12) + x3) ≤ (400 : Int32)) → (W_X0_type g d av Q n 30 [some (.ref 0), some (.long y1), none, none, some (.int (x3 - (1 : Int32)))] [] h)) ∧ ((¬ ((ri h 0 12) + x3) ≤ (400 : Int32)) → (Q (some (.int (-1 : Int32))) n h))))))) : W_X0_type g d av Q n 0 [some (.ref 0), some (.long y1), none, some (.int x3), none] [] h := by
  refine r_iload_n dX0_type_0 rfl rfl ?_
  refine r_iconst (v := (1 : Int32)) dX0_type_1 rfl ?_
  refine r_icmp_lt (tgt := 23) dX0_type_2 rfl (fun cH => ?_) (fun cH => ?_)
  · replace H := H.1 cH
    refine r_iconst (v := (-1 : Int32)) dX0_type_23 rfl ?_
    exact r_zret dX0_type_24 rfl rfl (Nat.le_refl _) (Nat.le_refl _) H
  · replace H := H.2 cH
    refine r_iload_n dX0_type_5 rfl rfl ?_
    refine r_bipush (v := (8 : Int32)) dX0_type_6 rfl ?_
    refine r_icmp_gt (tgt := 23) dX0_type_8 rfl (fun cH => ?_) (fun cH => ?_)
    · replace H := H.1 cH
      refine r_iconst (v := (-1 : Int32)) dX0_type_23 rfl ?_
      exact r_zret dX0_type_24 rfl rfl (Nat.le_refl _) (Nat.le_refl _) H
    · replace H := H.2 cH
      refine r_aload_n dX0_type_11 rfl rfl ?_
      refine m_getI hp fw_X0_204 dX0_type_12 rfl ly_0 ?_
      refine r_iload_n dX0_type_15 rfl rfl ?_
      refine r_iadd dX0_type_16 ?_
      refine r_sipush (v := (400 : Int32)) dX0_type_17 rfl ?_
      refine r_icmp_le (tgt := 25) dX0_type_20 rfl (fun cH => ?_) (fun cH => ?_)
      · replace H := H.1 cH
        refine r_iload_n dX0_type_25 rfl rfl ?_
        refine r_iconst (v := (1 : Int32)) dX0_type_26 rfl ?_
        refine r_isub dX0_type_27 ?_
        refine r_istore (ls2 := [some (.ref 0), some (.long y1), none, some (.int x3), some (.int (x3 - (1 : Int32)))]) dX0_type_28 (by decide) rfl ?_
        refine r_prune [true, true, false, false, true] (ls2 := [some (.ref 0), some (.long y1), none, none, some (.int (x3 - (1 : Int32)))]) rfl ?_
        exact H
      · replace H := H.2 cH
        refine r_iconst (v := (-1 : Int32)) dX0_type_23 rfl ?_
        exact r_zret dX0_type_24 rfl rfl (Nat.le_refl _) (Nat.le_refl _) H
theorem s_X0_type_30 {g : GX} {d : Nat} {av : List Value} {Q : QT} {n : Nat} {h : Hp} {y1 : Int64} {x4 : Int32} (hp : g.2.2.2.2 = true)  (H : ((x4 < (0 : Int32)) → (Q (some (.int (ri h 0 12))) n h)) ∧ ((¬ x4 < (0 : Int32)) → (∀ h1, h1 = wi h 0 12 ((ri h 0 12) + (1 : Int32)) → (vp_in (ri h 0 12) 400 ∧ ∀ h2, h2 = wi h1 77 ((ri h 0 12)).toNatClampNeg (((y1 >>> ((((8 : Int32) * x4)).toInt64 &&& 63))).toInt32).toInt8.toInt32 → (W_X0_type g d av Q n 30 [some (.ref 0), some (.long y1), none, none, some (.int (x4 + (-1 : Int32)))] [] h2))))) : W_X0_type g d av Q n 30 [some (.ref 0), some (.long y1), none, none, some (.int x4)] [] h := by
  refine r_iload dX0_type_30 rfl ?_
  refine r_if_lt (tgt := 66) dX0_type_32 rfl (fun cH => ?_) (fun cH => ?_)
  · replace H := H.1 cH
    refine r_aload_n dX0_type_66 rfl rfl ?_
    refine m_getI hp fw_X0_204 dX0_type_67 rfl ly_0 ?_
    exact r_zret dX0_type_70 rfl rfl (Nat.le_refl _) (Nat.le_refl _) H
  · replace H := H.2 cH
    refine r_aload_n dX0_type_35 rfl rfl ?_
    refine m_getF (x := 77) hp fw_X0_207 dX0_type_36 rfl ly_0 (ff_0_11 ly_0) ?_
    refine r_aload_n dX0_type_39 rfl rfl ?_
    refine r_dup dX0_type_40 rfl ?_
    refine m_getI hp fw_X0_204 dX0_type_41 rfl ly_0 ?_
    refine r_dup_x1 dX0_type_44 rfl rfl ?_
    refine r_iconst (v := (1 : Int32)) dX0_type_45 rfl ?_
    refine r_iadd dX0_type_46 ?_
    refine m_putI hp fw_X0_204 dX0_type_47 rfl rfl ly_0 (fun h1 eh1 => ?_)
    replace H := H h1 eh1
    refine r_lload_n dX0_type_50 rfl rfl ?_
    refine r_bipush (v := (8 : Int32)) dX0_type_51 rfl ?_
    refine r_iload dX0_type_53 rfl ?_
    refine r_imul dX0_type_55 ?_
    refine r_lshr dX0_type_56 ?_
    refine r_l2i dX0_type_57 ?_
    refine r_i2b dX0_type_58 ?_
    refine m_bast hp dX0_type_59 (lf_0_11 ly_0) H.1 (pk_nb _) (fun h2 eh2 => ?_)
    replace H := H.2 h2 eh2
    refine r_iinc (v := (x4 + (-1 : Int32))) (ls2 := [some (.ref 0), some (.long y1), none, none, some (.int (x4 + (-1 : Int32)))]) dX0_type_60 rfl rfl (by decide) rfl ?_
    refine r_goto (tgt := 30) dX0_type_63 rfl ?_
    exact H
abbrev W_X0_read (g : GX) (d : Nat) (av : List Value) (Q : QT) (n : Nat) (pc : Nat) (ls : LV) (stk : List Value) (h : Hp) : Prop := RJ g m_X0_read (d + 1) 0 0 av Q pc ls stk n h 0 0
theorem s_X0_read_0 {g : GX} {d : Nat} {av : List Value} {Q : QT} {n : Nat} {h : Hp} {x1 : Int32} (hp : g.2.2.2.2 = true)  (H : CallI g m_X0_isSlot d [.int x1] n h (fun v1 h1 => (((¬ v1 = (0 : Int32)) → (∀ h2, h2 = wi h1 0 13 (0 : Int32) → (∀ h3, h3 = wi h2 0 14 (0 : Int32) → (∀ h4, h4 = wi h3 0 15 (0 : Int32) → (∀ h5, h5 = wi h4 0 19 (0 : Int32) → (CallV g m_X0_lookE d [.ref 0] n h5 (fun h6 => (((¬ (ri h6 0 15) = (0 : Int32)) → (W_X0_read g d av Q n 57 [some (.ref 0), some (.int x1)] [] h6)) ∧ (((ri h6 0 15) = (0 : Int32)) → (CallI g m_X0_next d [.ref 0] n h6 (fun v7 h7 => (((v7 = (-1 : Int32)) → (W_X0_read g d av Q n 57 [some (.ref 0), some (.int x1)] [] h7)) ∧ ((¬ v7 = (-1 : Int32)) → (CallV g m_X0_flaw d [.ref 0, .int (1 : Int32), .int (ri h7 0 13)] n h7 (fun h8 => (W_X0_read g d av Q n 57 [some (.ref 0), some (.int x1)] [] h8)))))))))))))))) ∧ ((v1 = (0 : Int32)) → (Q (some (.int (-1 : Int32))) n h1))))) : W_X0_read g d av Q n 0 [some (.ref 0), some (.int x1)] [] h := by
  refine r_iload_n dX0_read_0 rfl rfl ?_
  refine k_SI (As := [.int x1]) (stk := []) cs_X0_519 dX0_read_1 rfl (Nat.le_of_ble_eq_true rfl) (H.mono (fun v1 h1 H => ?_)) ⟨Nat.le_refl _, Nat.le_refl _⟩
  refine r_if_ne (tgt := 9) dX0_read_4 rfl (fun cH => ?_) (fun cH => ?_)
  · replace H := H.1 cH
    refine r_aload_n dX0_read_9 rfl rfl ?_
    refine r_iconst (v := (0 : Int32)) dX0_read_10 rfl ?_
    refine m_putI hp fw_X0_211 dX0_read_11 rfl rfl ly_0 (fun h2 eh2 => ?_)
    replace H := H h2 eh2
    refine r_aload_n dX0_read_14 rfl rfl ?_
    refine r_iconst (v := (0 : Int32)) dX0_read_15 rfl ?_
    refine m_putI hp fw_X0_247 dX0_read_16 rfl rfl ly_0 (fun h3 eh3 => ?_)
    replace H := H h3 eh3
    refine r_aload_n dX0_read_19 rfl rfl ?_
    refine r_iconst (v := (0 : Int32)) dX0_read_20 rfl ?_
    refine m_putI hp fw_X0_214 dX0_read_21 rfl rfl ly_0 (fun h4 eh4 => ?_)
    replace H := H h4 eh4
    refine r_aload_n dX0_read_24 rfl rfl ?_
    refine r_iconst (v := (0 : Int32)) dX0_read_25 rfl ?_
    refine m_putI hp fw_X0_231 dX0_read_26 rfl rfl ly_0 (fun h5 eh5 => ?_)
    replace H := H h5 eh5
    refine r_aload_n dX0_read_29 rfl rfl ?_
    refine k_VV (As := []) (stk := []) hp cv_X0_257 dX0_read_30 rfl (Nat.le_of_ble_eq_true rfl) ly_0 (H.mono (fun h6 H => ?_)) ⟨Nat.le_refl _, Nat.le_refl _⟩
    refine r_aload_n dX0_read_33 rfl rfl ?_
    refine m_getI hp fw_X0_214 dX0_read_34 rfl ly_0 ?_
    refine r_if_ne (tgt := 57) dX0_read_37 rfl (fun cH => ?_) (fun cH => ?_)
    · replace H := H.1 cH
      exact H
    · replace H := H.2 cH
      refine r_aload_n dX0_read_40 rfl rfl ?_
      refine k_VI (As := []) (stk := []) hp cv_X0_220 dX0_read_41 rfl (Nat.le_of_ble_eq_true rfl) ly_0 (H.mono (fun v7 h7 H => ?_)) ⟨Nat.le_refl _, Nat.le_refl _⟩
      refine r_iconst (v := (-1 : Int32)) dX0_read_44 rfl ?_
      refine r_icmp_eq (tgt := 57) dX0_read_45 rfl (fun cH => ?_) (fun cH => ?_)
      · replace H := H.1 cH
        exact H
      · replace H := H.2 cH
        refine r_aload_n dX0_read_48 rfl rfl ?_
        refine r_iconst (v := (1 : Int32)) dX0_read_49 rfl ?_
        refine r_aload_n dX0_read_50 rfl rfl ?_
        refine m_getI hp fw_X0_211 dX0_read_51 rfl ly_0 ?_
        refine k_VV (As := [.int (1 : Int32), .int (ri h7 0 13)]) (stk := []) hp cv_X0_227 dX0_read_54 rfl (Nat.le_of_ble_eq_true rfl) ly_0 (H.mono (fun h8 H => ?_)) ⟨Nat.le_refl _, Nat.le_refl _⟩
        exact H
  · replace H := H.2 cH
    refine r_iconst (v := (-1 : Int32)) dX0_read_7 rfl ?_
    exact r_zret dX0_read_8 rfl rfl (Nat.le_refl _) (Nat.le_refl _) H
theorem s_X0_read_57 {g : GX} {d : Nat} {av : List Value} {Q : QT} {n : Nat} {h : Hp} {x1 : Int32} (hp : g.2.2.2.2 = true)  (H : ((¬ (ri h 0 15) = (0 : Int32)) → (W_X0_read g d av Q n 73 [some (.ref 0), some (.int x1)] [] h)) ∧ (((ri h 0 15) = (0 : Int32)) → (∀ h1, h1 = wi h 0 13 (0 : Int32) → (CallV g m_X0_readE d [.ref 0] n h1 (fun h2 => (W_X0_read g d av Q n 73 [some (.ref 0), some (.int x1)] [] h2)))))) : W_X0_read g d av Q n 57 [some (.ref 0), some (.int x1)] [] h := by
  refine r_aload_n dX0_read_57 rfl rfl ?_
  refine m_getI hp fw_X0_214 dX0_read_58 rfl ly_0 ?_
  refine r_if_ne (tgt := 73) dX0_read_61 rfl (fun cH => ?_) (fun cH => ?_)
  · replace H := H.1 cH
    exact H
  · replace H := H.2 cH
    refine r_aload_n dX0_read_64 rfl rfl ?_
    refine r_iconst (v := (0 : Int32)) dX0_read_65 rfl ?_
    refine m_putI hp fw_X0_211 dX0_read_66 rfl rfl ly_0 (fun h1 eh1 => ?_)
    replace H := H h1 eh1
    refine r_aload_n dX0_read_69 rfl rfl ?_
    refine k_VV (As := []) (stk := []) hp cv_X0_309 dX0_read_70 rfl (Nat.le_of_ble_eq_true rfl) ly_0 (H.mono (fun h2 H => ?_)) ⟨Nat.le_refl _, Nat.le_refl _⟩
    exact H
theorem s_X0_read_73 {g : GX} {d : Nat} {av : List Value} {Q : QT} {n : Nat} {h : Hp} {x1 : Int32} (hp : g.2.2.2.2 = true)  (H : ∀ h1, h1 = wi h 0 12 (0 : Int32) → (((¬ (ri h1 0 15) = (0 : Int32)) → (W_X0_read g d av Q n 94 [some (.ref 0), some (.int x1)] [.int (ri h1 0 16), .ref 0] h1)) ∧ (((ri h1 0 15) = (0 : Int32)) → (W_X0_read g d av Q n 94 [some (.ref 0), some (.int x1)] [.int (-1 : Int32), .ref 0] h1)))) : W_X0_read g d av Q n 73 [some (.ref 0), some (.int x1)] [] h := by
  refine r_aload_n dX0_read_73 rfl rfl ?_
  refine r_iconst (v := (0 : Int32)) dX0_read_74 rfl ?_
  refine m_putI hp fw_X0_204 dX0_read_75 rfl rfl ly_0 (fun h1 eh1 => ?_)
  replace H := H h1 eh1
  refine r_aload_n dX0_read_78 rfl rfl ?_
  refine r_aload_n dX0_read_79 rfl rfl ?_
  refine m_getI hp fw_X0_214 dX0_read_80 rfl ly_0 ?_
  refine r_if_ne (tgt := 90) dX0_read_83 rfl (fun cH => ?_) (fun cH => ?_)
  · replace H := H.1 cH
    refine r_aload_n dX0_read_90 rfl rfl ?_
    refine m_getI hp fw_X0_217 dX0_read_91 rfl ly_0 ?_
    exact H
  · replace H := H.2 cH
    refine r_iconst (v := (-1 : Int32)) dX0_read_86 rfl ?_
    refine r_goto (tgt := 94) dX0_read_87 rfl ?_
    exact H
theorem s_X0_read_94 {g : GX} {d : Nat} {av : List Value} {Q : QT} {n : Nat} {h : Hp} {x1 : Int32} {xs0 : Int32} {as1 : Nat} (hp : g.2.2.2.2 = true) (ts1 : lay as1 = (0, 0, 80)) (H : ∀ h1, h1 = wi h as1 17 xs0 → (((¬ (ri h1 0 15) = (0 : Int32)) → (Q (some (.int ((-10 : Int32) - (ri h1 0 15)))) n h1)) ∧ (((ri h1 0 15) = (0 : Int32)) → (vp_in (0 : Int32) 100 ∧ ∀ r2, r2 = 1509 + 10 * ((0 : Int32)).toNatClampNeg → (CallI g m_X0_keep d [.ref 0, .ref r2, .int x1] n h1 (fun v3 h3 => (Q (some (.int v3)) n h3))))))) : W_X0_read g d av Q n 94 [some (.ref 0), some (.int x1)] [.int xs0, .ref as1] h := by
  refine m_putI hp fw_X0_321 dX0_read_94 rfl rfl ts1 (fun h1 eh1 => ?_)
  replace H := H h1 eh1
  refine r_aload_n dX0_read_97 rfl rfl ?_
  refine m_getI hp fw_X0_214 dX0_read_98 rfl ly_0 ?_
  refine r_if_ne (tgt := 118) dX0_read_101 rfl (fun cH => ?_) (fun cH => ?_)
  · replace H := H.1 cH
    refine r_bipush (v := (-10 : Int32)) dX0_read_118 rfl ?_
    refine r_aload_n dX0_read_120 rfl rfl ?_
    refine m_getI hp fw_X0_214 dX0_read_121 rfl ly_0 ?_
    refine r_isub dX0_read_124 ?_
    exact r_zret dX0_read_125 rfl rfl (Nat.le_refl _) (Nat.le_refl _) H
  · replace H := H.2 cH
    refine r_aload_n dX0_read_104 rfl rfl ?_
    refine r_aload_n dX0_read_105 rfl rfl ?_
    refine m_getF (x := 78) hp fw_X0_234 dX0_read_106 rfl ly_0 (ff_0_18 ly_0) ?_
    refine r_iconst (v := (0 : Int32)) dX0_read_109 rfl ?_
    obtain ⟨r2, er2⟩ : ∃ y, y = 1509 + 10 * ((0 : Int32)).toNatClampNeg := ⟨_, rfl⟩
    have hir2 := H.1
    replace H := H.2 r2 er2
    have tLr2 := la_78 hir2 er2
    refine m_aalF (x := r2) hp dX0_read_110 (lf_0_18 ly_0) rfl rfl (lu_0_18 ly_0) hir2 (fa_78 hir2 er2) ?_
    refine r_iload_n dX0_read_111 rfl rfl ?_
    refine k_VI (As := [.ref r2, .int x1]) (stk := []) hp cv_X0_515 dX0_read_112 rfl (Nat.le_of_ble_eq_true rfl) ly_0 (H.mono (fun v3 h3 H => ?_)) ⟨Nat.le_refl _, Nat.le_refl _⟩
    refine r_goto (tgt := 125) dX0_read_115 rfl ?_
    exact r_zret dX0_read_125 rfl rfl (Nat.le_refl _) (Nat.le_refl _) H
abbrev W_X0_isSlot (g : GX) (d : Nat) (av : List Value) (Q : QT) (n : Nat) (pc : Nat) (ls : LV) (stk : List Value) (h : Hp) : Prop := RJ g m_X0_isSlot d 0 0 av Q pc ls stk n h 0 0
theorem s_X0_isSlot_0 {g : GX} {d : Nat} {av : List Value} {Q : QT} {n : Nat} {h : Hp} {x0 : Int32} (hp : g.2.2.2.2 = true)  (H : ((x0 < (0 : Int32)) → (Q (some (.int (0 : Int32))) n h)) ∧ ((¬ x0 < (0 : Int32)) → ((((12 : Int32) ≤ x0) → (Q (some (.int (0 : Int32))) n h)) ∧ ((¬ (12 : Int32) ≤ x0) → (Q (some (.int (1 : Int32))) n h))))) : W_X0_isSlot g d av Q n 0 [some (.int x0)] [] h := by
  refine r_iload_n dX0_isSlot_0 rfl rfl ?_
  refine r_if_lt (tgt := 14) dX0_isSlot_1 rfl (fun cH => ?_) (fun cH => ?_)
  · replace H := H.1 cH
    refine r_iconst (v := (0 : Int32)) dX0_isSlot_14 rfl ?_
    exact r_zret dX0_isSlot_15 rfl rfl (Nat.le_refl _) (Nat.le_refl _) H
  · replace H := H.2 cH
    refine r_iload_n dX0_isSlot_4 rfl rfl ?_
    refine r_bipush (v := (12 : Int32)) dX0_isSlot_5 rfl ?_
    refine r_icmp_ge (tgt := 14) dX0_isSlot_7 rfl (fun cH => ?_) (fun cH => ?_)
    · replace H := H.1 cH
      refine r_iconst (v := (0 : Int32)) dX0_isSlot_14 rfl ?_
      exact r_zret dX0_isSlot_15 rfl rfl (Nat.le_refl _) (Nat.le_refl _) H
    · replace H := H.2 cH
      refine r_iconst (v := (1 : Int32)) dX0_isSlot_10 rfl ?_
      refine r_goto (tgt := 15) dX0_isSlot_11 rfl ?_
      exact r_zret dX0_isSlot_15 rfl rfl (Nat.le_refl _) (Nat.le_refl _) H
abbrev W_X0_lookE (g : GX) (d : Nat) (av : List Value) (Q : QT) (n : Nat) (pc : Nat) (ls : LV) (stk : List Value) (h : Hp) : Prop := RJ g m_X0_lookE (d + 1) 0 0 av Q pc ls stk n h 0 0
theorem s_X0_lookE_0 {g : GX} {d : Nat} {av : List Value} {Q : QT} {n : Nat} {h : Hp}  (hp : g.2.2.2.2 = true)  (H : CallI g m_X0_isNext d [.ref 0, .int (45 : Int32)] n h (fun v1 h1 => (((v1 = (0 : Int32)) → (W_X0_lookE g d av Q n 19 [some (.ref 0)] [] h1)) ∧ ((¬ v1 = (0 : Int32)) → (∀ h2, h2 = wi h1 0 13 ((ri h1 0 13) + (1 : Int32)) → (W_X0_lookE g d av Q n 19 [some (.ref 0)] [] h2)))))) : W_X0_lookE g d av Q n 0 [some (.ref 0)] [] h := by
  refine r_aload_n dX0_lookE_0 rfl rfl ?_
  refine r_bipush (v := (45 : Int32)) dX0_lookE_1 rfl ?_
  refine k_VI (As := [.int (45 : Int32)]) (stk := []) hp cv_X0_223 dX0_lookE_3 rfl (Nat.le_of_ble_eq_true rfl) ly_0 (H.mono (fun v1 h1 H => ?_)) ⟨Nat.le_refl _, Nat.le_refl _⟩
  refine r_if_eq (tgt := 19) dX0_lookE_6 rfl (fun cH => ?_) (fun cH => ?_)
  · replace H := H.1 cH
    exact H
  · replace H := H.2 cH
    refine r_aload_n dX0_lookE_9 rfl rfl ?_
    refine r_dup dX0_lookE_10 rfl ?_
    refine m_getI hp fw_X0_211 dX0_lookE_11 rfl ly_0 ?_
    refine r_iconst (v := (1 : Int32)) dX0_lookE_14 rfl ?_
    refine r_iadd dX0_lookE_15 ?_
    refine m_putI hp fw_X0_211 dX0_lookE_16 rfl rfl ly_0 (fun h2 eh2 => ?_)
    replace H := H h2 eh2
    exact H
theorem s_X0_lookE_19 {g : GX} {d : Nat} {av : List Value} {Q : QT} {n : Nat} {h : Hp}  (hp : g.2.2.2.2 = true)  (H : CallV g m_X0_lookU d [.ref 0] n h (fun h1 => (W_X0_lookE g d av Q n 23 [some (.ref 0)] [] h1))) : W_X0_lookE g d av Q n 19 [some (.ref 0)] [] h := by
  refine r_aload_n dX0_lookE_19 rfl rfl ?_
  refine k_VV (As := []) (stk := []) hp cv_X0_238 dX0_lookE_20 rfl (Nat.le_of_ble_eq_true rfl) ly_0 (H.mono (fun h1 H => ?_)) ⟨Nat.le_refl _, Nat.le_refl _⟩
  exact H
theorem s_X0_lookE_23 {g : GX} {d : Nat} {av : List Value} {Q : QT} {n : Nat} {h : Hp}  (hp : g.2.2.2.2 = true)  (H : CallI g m_X0_isNext d [.ref 0, .int (43 : Int32)] n h (fun v1 h1 => (((¬ v1 = (0 : Int32)) → (W_X0_lookE g d av Q n 41 [some (.ref 0)] [] h1)) ∧ ((v1 = (0 : Int32)) → (CallI g m_X0_isNext d [.ref 0, .int (45 : Int32)] n h1 (fun v2 h2 => (((v2 = (0 : Int32)) → (Q none n h2)) ∧ ((¬ v2 = (0 : Int32)) → (W_X0_lookE g d av Q n 41 [some (.ref 0)] [] h2))))))))) : W_X0_lookE g d av Q n 23 [some (.ref 0)] [] h := by
  refine r_aload_n dX0_lookE_23 rfl rfl ?_
  refine r_bipush (v := (43 : Int32)) dX0_lookE_24 rfl ?_
  refine k_VI (As := [.int (43 : Int32)]) (stk := []) hp cv_X0_223 dX0_lookE_26 rfl (Nat.le_of_ble_eq_true rfl) ly_0 (H.mono (fun v1 h1 H => ?_)) ⟨Nat.le_refl _, Nat.le_refl _⟩
  refine r_if_ne (tgt := 41) dX0_lookE_29 rfl (fun cH => ?_) (fun cH => ?_)
  · replace H := H.1 cH
    exact H
  · replace H := H.2 cH
    refine r_aload_n dX0_lookE_32 rfl rfl ?_
    refine r_bipush (v := (45 : Int32)) dX0_lookE_33 rfl ?_
    refine k_VI (As := [.int (45 : Int32)]) (stk := []) hp cv_X0_223 dX0_lookE_35 rfl (Nat.le_of_ble_eq_true rfl) ly_0 (H.mono (fun v2 h2 H => ?_)) ⟨Nat.le_refl _, Nat.le_refl _⟩
    refine r_if_eq (tgt := 58) dX0_lookE_38 rfl (fun cH => ?_) (fun cH => ?_)
    · replace H := H.1 cH
      exact r_vret dX0_lookE_58 rfl (Nat.le_refl _) (Nat.le_refl _) H
    · replace H := H.2 cH
      exact H
theorem s_X0_lookE_41 {g : GX} {d : Nat} {av : List Value} {Q : QT} {n : Nat} {h : Hp}  (hp : g.2.2.2.2 = true)  (H : ∀ h1, h1 = wi h 0 13 ((ri h 0 13) + (1 : Int32)) → (CallV g m_X0_lookU d [.ref 0] n h1 (fun h2 => (W_X0_lookE g d av Q n 23 [some (.ref 0)] [] h2)))) : W_X0_lookE g d av Q n 41 [some (.ref 0)] [] h := by
  refine r_aload_n dX0_lookE_41 rfl rfl ?_
  refine r_dup dX0_lookE_42 rfl ?_
  refine m_getI hp fw_X0_211 dX0_lookE_43 rfl ly_0 ?_
  refine r_iconst (v := (1 : Int32)) dX0_lookE_46 rfl ?_
  refine r_iadd dX0_lookE_47 ?_
  refine m_putI hp fw_X0_211 dX0_lookE_48 rfl rfl ly_0 (fun h1 eh1 => ?_)
  replace H := H h1 eh1
  refine r_aload_n dX0_lookE_51 rfl rfl ?_
  refine k_VV (As := []) (stk := []) hp cv_X0_238 dX0_lookE_52 rfl (Nat.le_of_ble_eq_true rfl) ly_0 (H.mono (fun h2 H => ?_)) ⟨Nat.le_refl _, Nat.le_refl _⟩
  refine r_goto (tgt := 23) dX0_lookE_55 rfl ?_
  exact H
abbrev W_X0_isNext (g : GX) (d : Nat) (av : List Value) (Q : QT) (n : Nat) (pc : Nat) (ls : LV) (stk : List Value) (h : Hp) : Prop := RJ g m_X0_isNext (d + 1) 0 0 av Q pc ls stk n h 0 0
theorem s_X0_isNext_0 {g : GX} {d : Nat} {av : List Value} {Q : QT} {n : Nat} {h : Hp} {x1 : Int32} (hp : g.2.2.2.2 = true)  (H : ((¬ (ri h 0 15) = (0 : Int32)) → (Q (some (.int (0 : Int32))) n h)) ∧ (((ri h 0 15) = (0 : Int32)) → (CallI g m_X0_next d [.ref 0] n h (fun v1 h1 => (((¬ v1 = x1) → (Q (some (.int (0 : Int32))) n h1)) ∧ ((v1 = x1) → (Q (some (.int (1 : Int32))) n h1))))))) : W_X0_isNext g d av Q n 0 [some (.ref 0), some (.int x1)] [] h := by
  refine r_aload_n dX0_isNext_0 rfl rfl ?_
  refine m_getI hp fw_X0_214 dX0_isNext_1 rfl ly_0 ?_
  refine r_if_ne (tgt := 19) dX0_isNext_4 rfl (fun cH => ?_) (fun cH => ?_)
  · replace H := H.1 cH
    refine r_iconst (v := (0 : Int32)) dX0_isNext_19 rfl ?_
    exact r_zret dX0_isNext_20 rfl rfl (Nat.le_refl _) (Nat.le_refl _) H
  · replace H := H.2 cH
    refine r_aload_n dX0_isNext_7 rfl rfl ?_
    refine k_VI (As := []) (stk := []) hp cv_X0_220 dX0_isNext_8 rfl (Nat.le_of_ble_eq_true rfl) ly_0 (H.mono (fun v1 h1 H => ?_)) ⟨Nat.le_refl _, Nat.le_refl _⟩
    refine r_iload_n dX0_isNext_11 rfl rfl ?_
    refine r_icmp_ne (tgt := 19) dX0_isNext_12 rfl (fun cH => ?_) (fun cH => ?_)
    · replace H := H.1 cH
      refine r_iconst (v := (0 : Int32)) dX0_isNext_19 rfl ?_
      exact r_zret dX0_isNext_20 rfl rfl (Nat.le_refl _) (Nat.le_refl _) H
    · replace H := H.2 cH
      refine r_iconst (v := (1 : Int32)) dX0_isNext_15 rfl ?_
      refine r_goto (tgt := 20) dX0_isNext_16 rfl ?_
      exact r_zret dX0_isNext_20 rfl rfl (Nat.le_refl _) (Nat.le_refl _) H
abbrev W_X0_next (g : GX) (d : Nat) (av : List Value) (Q : QT) (n : Nat) (pc : Nat) (ls : LV) (stk : List Value) (h : Hp) : Prop := RJ g m_X0_next d 0 0 av Q pc ls stk n h 0 0
theorem s_X0_next_0 {g : GX} {d : Nat} {av : List Value} {Q : QT} {n : Nat} {h : Hp}  (hp : g.2.2.2.2 = true)  (H : (((ri h 0 12) ≤ (ri h 0 13)) → (W_X0_next g d av Q n 38 [some (.ref 0)] [] h)) ∧ ((¬ (ri h 0 12) ≤ (ri h 0 13)) → (vp_in (ri h 0 13) 400 ∧ (((¬ (ri h 77 ((ri h 0 13)).toNatClampNeg) = (32 : Int32)) → (W_X0_next g d av Q n 38 [some (.ref 0)] [] h)) ∧ (((ri h 77 ((ri h 0 13)).toNatClampNeg) = (32 : Int32)) → (∀ h1, h1 = wi h 0 13 ((ri h 0 13) + (1 : Int32)) → (W_X0_next g d av Q n 0 [some (.ref 0)] [] h1))))))) : W_X0_next g d av Q n 0 [some (.ref 0)] [] h := by
  refine r_aload_n dX0_next_0 rfl rfl ?_
  refine m_getI hp fw_X0_211 dX0_next_1 rfl ly_0 ?_
  refine r_aload_n dX0_next_4 rfl rfl ?_
  refine m_getI hp fw_X0_204 dX0_next_5 rfl ly_0 ?_
  refine r_icmp_ge (tgt := 38) dX0_next_8 rfl (fun cH => ?_) (fun cH => ?_)
  · replace H := H.1 cH
    exact H
  · replace H := H.2 cH
    refine r_aload_n dX0_next_11 rfl rfl ?_
    refine m_getF (x := 77) hp fw_X0_207 dX0_next_12 rfl ly_0 (ff_0_11 ly_0) ?_
    refine r_aload_n dX0_next_15 rfl rfl ?_
    refine m_getI hp fw_X0_211 dX0_next_16 rfl ly_0 ?_
    refine m_bald hp dX0_next_19 (lf_0_11 ly_0) H.1 ?_
    replace H := H.2
    refine r_bipush (v := (32 : Int32)) dX0_next_20 rfl ?_
    refine r_icmp_ne (tgt := 38) dX0_next_22 rfl (fun cH => ?_) (fun cH => ?_)
    · replace H := H.1 cH
      exact H
    · replace H := H.2 cH
      refine r_aload_n dX0_next_25 rfl rfl ?_
      refine r_dup dX0_next_26 rfl ?_
      refine m_getI hp fw_X0_211 dX0_next_27 rfl ly_0 ?_
      refine r_iconst (v := (1 : Int32)) dX0_next_30 rfl ?_
      refine r_iadd dX0_next_31 ?_
      refine m_putI hp fw_X0_211 dX0_next_32 rfl rfl ly_0 (fun h1 eh1 => ?_)
      replace H := H h1 eh1
      refine r_goto (tgt := 0) dX0_next_35 rfl ?_
      exact H
theorem s_X0_next_38 {g : GX} {d : Nat} {av : List Value} {Q : QT} {n : Nat} {h : Hp}  (hp : g.2.2.2.2 = true)  (H : (((ri h 0 12) ≤ (ri h 0 13)) → (Q (some (.int (-1 : Int32))) n h)) ∧ ((¬ (ri h 0 12) ≤ (ri h 0 13)) → (vp_in (ri h 0 13) 400 ∧ (Q (some (.int ((ri h 77 ((ri h 0 13)).toNatClampNeg) &&& (255 : Int32)))) n h)))) : W_X0_next g d av Q n 38 [some (.ref 0)] [] h := by
  refine r_aload_n dX0_next_38 rfl rfl ?_
  refine m_getI hp fw_X0_211 dX0_next_39 rfl ly_0 ?_
  refine r_aload_n dX0_next_42 rfl rfl ?_
  refine m_getI hp fw_X0_204 dX0_next_43 rfl ly_0 ?_
  refine r_icmp_ge (tgt := 65) dX0_next_46 rfl (fun cH => ?_) (fun cH => ?_)
  · replace H := H.1 cH
    refine r_iconst (v := (-1 : Int32)) dX0_next_65 rfl ?_
    exact r_zret dX0_next_66 rfl rfl (Nat.le_refl _) (Nat.le_refl _) H
  · replace H := H.2 cH
    refine r_aload_n dX0_next_49 rfl rfl ?_
    refine m_getF (x := 77) hp fw_X0_207 dX0_next_50 rfl ly_0 (ff_0_11 ly_0) ?_
    refine r_aload_n dX0_next_53 rfl rfl ?_
    refine m_getI hp fw_X0_211 dX0_next_54 rfl ly_0 ?_
    refine m_bald hp dX0_next_57 (lf_0_11 ly_0) H.1 ?_
    replace H := H.2
    refine r_sipush (v := (255 : Int32)) dX0_next_58 rfl ?_
    refine r_iand dX0_next_61 ?_
    refine r_goto (tgt := 66) dX0_next_62 rfl ?_
    exact r_zret dX0_next_66 rfl rfl (Nat.le_refl _) (Nat.le_refl _) H
abbrev W_X0_lookU (g : GX) (d : Nat) (av : List Value) (Q : QT) (n : Nat) (pc : Nat) (ls : LV) (stk : List Value) (h : Hp) : Prop := RJ g m_X0_lookU (d + 1) 0 0 av Q pc ls stk n h 0 0
theorem s_X0_lookU_0 {g : GX} {d : Nat} {av : List Value} {Q : QT} {n : Nat} {h : Hp}  (hp : g.2.2.2.2 = true)  (H : CallV g m_X0_lookW d [.ref 0] n h (fun h1 => (W_X0_lookU g d av Q n 4 [some (.ref 0)] [] h1))) : W_X0_lookU g d av Q n 0 [some (.ref 0)] [] h := by
  refine r_aload_n dX0_lookU_0 rfl rfl ?_
  refine k_VV (As := []) (stk := []) hp cv_X0_241 dX0_lookU_1 rfl (Nat.le_of_ble_eq_true rfl) ly_0 (H.mono (fun h1 H => ?_)) ⟨Nat.le_refl _, Nat.le_refl _⟩
  exact H
theorem s_X0_lookU_4 {g : GX} {d : Nat} {av : List Value} {Q : QT} {n : Nat} {h : Hp}  (hp : g.2.2.2.2 = true)  (H : CallI g m_X0_isNext d [.ref 0, .int (42 : Int32)] n h (fun v1 h1 => (((¬ v1 = (0 : Int32)) → (W_X0_lookU g d av Q n 22 [some (.ref 0)] [] h1)) ∧ ((v1 = (0 : Int32)) → (CallI g m_X0_isNext d [.ref 0, .int (47 : Int32)] n h1 (fun v2 h2 => (((v2 = (0 : Int32)) → (Q none n h2)) ∧ ((¬ v2 = (0 : Int32)) → (W_X0_lookU g d av Q n 22 [some (.ref 0)] [] h2))))))))) : W_X0_lookU g d av Q n 4 [some (.ref 0)] [] h := by
  refine r_aload_n dX0_lookU_4 rfl rfl ?_
  refine r_bipush (v := (42 : Int32)) dX0_lookU_5 rfl ?_
  refine k_VI (As := [.int (42 : Int32)]) (stk := []) hp cv_X0_223 dX0_lookU_7 rfl (Nat.le_of_ble_eq_true rfl) ly_0 (H.mono (fun v1 h1 H => ?_)) ⟨Nat.le_refl _, Nat.le_refl _⟩
  refine r_if_ne (tgt := 22) dX0_lookU_10 rfl (fun cH => ?_) (fun cH => ?_)
  · replace H := H.1 cH
    exact H
  · replace H := H.2 cH
    refine r_aload_n dX0_lookU_13 rfl rfl ?_
    refine r_bipush (v := (47 : Int32)) dX0_lookU_14 rfl ?_
    refine k_VI (As := [.int (47 : Int32)]) (stk := []) hp cv_X0_223 dX0_lookU_16 rfl (Nat.le_of_ble_eq_true rfl) ly_0 (H.mono (fun v2 h2 H => ?_)) ⟨Nat.le_refl _, Nat.le_refl _⟩
    refine r_if_eq (tgt := 39) dX0_lookU_19 rfl (fun cH => ?_) (fun cH => ?_)
    · replace H := H.1 cH
      exact r_vret dX0_lookU_39 rfl (Nat.le_refl _) (Nat.le_refl _) H
    · replace H := H.2 cH
      exact H
theorem s_X0_lookU_22 {g : GX} {d : Nat} {av : List Value} {Q : QT} {n : Nat} {h : Hp}  (hp : g.2.2.2.2 = true)  (H : ∀ h1, h1 = wi h 0 13 ((ri h 0 13) + (1 : Int32)) → (CallV g m_X0_lookW d [.ref 0] n h1 (fun h2 => (W_X0_lookU g d av Q n 4 [some (.ref 0)] [] h2)))) : W_X0_lookU g d av Q n 22 [some (.ref 0)] [] h := by
  refine r_aload_n dX0_lookU_22 rfl rfl ?_
  refine r_dup dX0_lookU_23 rfl ?_
  refine m_getI hp fw_X0_211 dX0_lookU_24 rfl ly_0 ?_
  refine r_iconst (v := (1 : Int32)) dX0_lookU_27 rfl ?_
  refine r_iadd dX0_lookU_28 ?_
  refine m_putI hp fw_X0_211 dX0_lookU_29 rfl rfl ly_0 (fun h1 eh1 => ?_)
  replace H := H h1 eh1
  refine r_aload_n dX0_lookU_32 rfl rfl ?_
  refine k_VV (As := []) (stk := []) hp cv_X0_241 dX0_lookU_33 rfl (Nat.le_of_ble_eq_true rfl) ly_0 (H.mono (fun h2 H => ?_)) ⟨Nat.le_refl _, Nat.le_refl _⟩
  refine r_goto (tgt := 4) dX0_lookU_36 rfl ?_
  exact H
abbrev W_X0_lookW (g : GX) (d : Nat) (av : List Value) (Q : QT) (n : Nat) (pc : Nat) (ls : LV) (stk : List Value) (h : Hp) : Prop := RJ g m_X0_lookW (d + 1) 0 0 av Q pc ls stk n h 0 0
theorem s_X0_lookW_0 {g : GX} {d : Nat} {av : List Value} {Q : QT} {n : Nat} {h : Hp}  (hp : g.2.2.2.2 = true)  (H : CallV g m_X0_lookB d [.ref 0] n h (fun h1 => (CallI g m_X0_isNext d [.ref 0, .int (33 : Int32)] n h1 (fun v2 h2 => (((v2 = (0 : Int32)) → (W_X0_lookW g d av Q n 23 [some (.ref 0)] [] h2)) ∧ ((¬ v2 = (0 : Int32)) → (∀ h3, h3 = wi h2 0 13 ((ri h2 0 13) + (1 : Int32)) → (W_X0_lookW g d av Q n 23 [some (.ref 0)] [] h3)))))))) : W_X0_lookW g d av Q n 0 [some (.ref 0)] [] h := by
  refine r_aload_n dX0_lookW_0 rfl rfl ?_
  refine k_VV (As := []) (stk := []) hp cv_X0_244 dX0_lookW_1 rfl (Nat.le_of_ble_eq_true rfl) ly_0 (H.mono (fun h1 H => ?_)) ⟨Nat.le_refl _, Nat.le_refl _⟩
  refine r_aload_n dX0_lookW_4 rfl rfl ?_
  refine r_bipush (v := (33 : Int32)) dX0_lookW_5 rfl ?_
  refine k_VI (As := [.int (33 : Int32)]) (stk := []) hp cv_X0_223 dX0_lookW_7 rfl (Nat.le_of_ble_eq_true rfl) ly_0 (H.mono (fun v2 h2 H => ?_)) ⟨Nat.le_refl _, Nat.le_refl _⟩
  refine r_if_eq (tgt := 23) dX0_lookW_10 rfl (fun cH => ?_) (fun cH => ?_)
  · replace H := H.1 cH
    exact H
  · replace H := H.2 cH
    refine r_aload_n dX0_lookW_13 rfl rfl ?_
    refine r_dup dX0_lookW_14 rfl ?_
    refine m_getI hp fw_X0_211 dX0_lookW_15 rfl ly_0 ?_
    refine r_iconst (v := (1 : Int32)) dX0_lookW_18 rfl ?_
    refine r_iadd dX0_lookW_19 ?_
    refine m_putI hp fw_X0_211 dX0_lookW_20 rfl rfl ly_0 (fun h3 eh3 => ?_)
    replace H := H h3 eh3
    exact H
theorem s_X0_lookW_23 {g : GX} {d : Nat} {av : List Value} {Q : QT} {n : Nat} {h : Hp}  (hp : g.2.2.2.2 = true)  (H : CallI g m_X0_isNext d [.ref 0, .int (94 : Int32)] n h (fun v1 h1 => (((v1 = (0 : Int32)) → (Q none n h1)) ∧ ((¬ v1 = (0 : Int32)) → (∀ h2, h2 = wi h1 0 13 ((ri h1 0 13) + (1 : Int32)) → (CallV g m_X0_lookB d [.ref 0] n h2 (fun h3 => (Q none n h3)))))))) : W_X0_lookW g d av Q n 23 [some (.ref 0)] [] h := by
  refine r_aload_n dX0_lookW_23 rfl rfl ?_
  refine r_bipush (v := (94 : Int32)) dX0_lookW_24 rfl ?_
  refine k_VI (As := [.int (94 : Int32)]) (stk := []) hp cv_X0_223 dX0_lookW_26 rfl (Nat.le_of_ble_eq_true rfl) ly_0 (H.mono (fun v1 h1 H => ?_)) ⟨Nat.le_refl _, Nat.le_refl _⟩
  refine r_if_eq (tgt := 46) dX0_lookW_29 rfl (fun cH => ?_) (fun cH => ?_)
  · replace H := H.1 cH
    exact r_vret dX0_lookW_46 rfl (Nat.le_refl _) (Nat.le_refl _) H
  · replace H := H.2 cH
    refine r_aload_n dX0_lookW_32 rfl rfl ?_
    refine r_dup dX0_lookW_33 rfl ?_
    refine m_getI hp fw_X0_211 dX0_lookW_34 rfl ly_0 ?_
    refine r_iconst (v := (1 : Int32)) dX0_lookW_37 rfl ?_
    refine r_iadd dX0_lookW_38 ?_
    refine m_putI hp fw_X0_211 dX0_lookW_39 rfl rfl ly_0 (fun h2 eh2 => ?_)
    replace H := H h2 eh2
    refine r_aload_n dX0_lookW_42 rfl rfl ?_
    refine k_VV (As := []) (stk := []) hp cv_X0_244 dX0_lookW_43 rfl (Nat.le_of_ble_eq_true rfl) ly_0 (H.mono (fun h3 H => ?_)) ⟨Nat.le_refl _, Nat.le_refl _⟩
    exact r_vret dX0_lookW_46 rfl (Nat.le_refl _) (Nat.le_refl _) H
abbrev W_X0_lookB (g : GX) (d : Nat) (av : List Value) (Q : QT) (n : Nat) (pc : Nat) (ls : LV) (stk : List Value) (h : Hp) : Prop := RJ g m_X0_lookB (d + 1) 0 0 av Q pc ls stk n h 0 0
theorem s_X0_lookB_0 {g : GX} {d : Nat} {av : List Value} {Q : QT} {n : Nat} {h : Hp}  (hp : g.2.2.2.2 = true)  (H : ((¬ (ri h 0 15) = (0 : Int32)) → (W_X0_lookB g d av Q n 15 [some (.ref 0), none, none] [.int (-1 : Int32)] h)) ∧ (((ri h 0 15) = (0 : Int32)) → (CallI g m_X0_next d [.ref 0] n h (fun v1 h1 => (W_X0_lookB g d av Q n 15 [some (.ref 0), none, none] [.int v1] h1))))) : W_X0_lookB g d av Q n 0 [some (.ref 0), none, none] [] h := by
  refine r_aload_n dX0_lookB_0 rfl rfl ?_
  refine m_getI hp fw_X0_214 dX0_lookB_1 rfl ly_0 ?_
  refine r_if_ne (tgt := 14) dX0_lookB_4 rfl (fun cH => ?_) (fun cH => ?_)
  · replace H := H.1 cH
    refine r_iconst (v := (-1 : Int32)) dX0_lookB_14 rfl ?_
    exact H
  · replace H := H.2 cH
    refine r_aload_n dX0_lookB_7 rfl rfl ?_
    refine k_VI (As := []) (stk := []) hp cv_X0_220 dX0_lookB_8 rfl (Nat.le_of_ble_eq_true rfl) ly_0 (H.mono (fun v1 h1 H => ?_)) ⟨Nat.le_refl _, Nat.le_refl _⟩
    refine r_goto (tgt := 15) dX0_lookB_11 rfl ?_
    exact H
theorem s_X0_lookB_15 {g : GX} {d : Nat} {av : List Value} {Q : QT} {n : Nat} {h : Hp} {xs0 : Int32} (hp : g.2.2.2.2 = true)  (H : ((xs0 < (48 : Int32)) → (W_X0_lookB g d av Q n 109 [some (.ref 0), some (.int xs0), none] [] h)) ∧ ((¬ xs0 < (48 : Int32)) → ((((57 : Int32) < xs0) → (W_X0_lookB g d av Q n 109 [some (.ref 0), some (.int xs0), none] [] h)) ∧ ((¬ (57 : Int32) < xs0) → (W_X0_lookB g d av Q n 33 [some (.ref 0), none, some (.int (ri h 0 13))] [] h))))) : W_X0_lookB g d av Q n 15 [some (.ref 0), none, none] [.int xs0] h := by
  refine r_istore_n (ls2 := [some (.ref 0), some (.int xs0), none]) dX0_lookB_15 rfl (by decide) rfl ?_
  refine r_iload_n dX0_lookB_16 rfl rfl ?_
  refine r_bipush (v := (48 : Int32)) dX0_lookB_17 rfl ?_
  refine r_icmp_lt (tgt := 109) dX0_lookB_19 rfl (fun cH => ?_) (fun cH => ?_)
  · replace H := H.1 cH
    exact H
  · replace H := H.2 cH
    refine r_iload_n dX0_lookB_22 rfl rfl ?_
    refine r_bipush (v := (57 : Int32)) dX0_lookB_23 rfl ?_
    refine r_icmp_gt (tgt := 109) dX0_lookB_25 rfl (fun cH => ?_) (fun cH => ?_)
    · replace H := H.1 cH
      exact H
    · replace H := H.2 cH
      refine r_aload_n dX0_lookB_28 rfl rfl ?_
      refine m_getI hp fw_X0_211 dX0_lookB_29 rfl ly_0 ?_
      refine r_istore_n (ls2 := [some (.ref 0), some (.int xs0), some (.int (ri h 0 13))]) dX0_lookB_32 rfl (by decide) rfl ?_
      refine r_prune [true, false, true] (ls2 := [some (.ref 0), none, some (.int (ri h 0 13))]) rfl ?_
      exact H
theorem s_X0_lookB_33 {g : GX} {d : Nat} {av : List Value} {Q : QT} {n : Nat} {h : Hp} {x2 : Int32} (hp : g.2.2.2.2 = true)  (H : (((ri h 0 12) ≤ (ri h 0 13)) → (Q none n h)) ∧ ((¬ (ri h 0 12) ≤ (ri h 0 13)) → (vp_in (ri h 0 13) 400 ∧ ((((ri h 77 ((ri h 0 13)).toNatClampNeg) < (48 : Int32)) → (Q none n h)) ∧ ((¬ (ri h 77 ((ri h 0 13)).toNatClampNeg) < (48 : Int32)) → (vp_in (ri h 0 13) 400 ∧ ((((57 : Int32) < (ri h 77 ((ri h 0 13)).toNatClampNeg)) → (Q none n h)) ∧ ((¬ (57 : Int32) < (ri h 77 ((ri h 0 13)).toNatClampNeg)) → (((¬ ((ri h 0 13) - x2) = (10 : Int32)) → (∀ h1, h1 = wi h 0 13 ((ri h 0 13) + (1 : Int32)) → (W_X0_lookB g d av Q n 33 [some (.ref 0), none, some (.int x2)] [] h1))) ∧ ((((ri h 0 13) - x2) = (10 : Int32)) → (CallV g m_X0_flaw d [.ref 0, .int (1 : Int32), .int (ri h 0 13)] n h (fun h2 => (Q none n h2))))))))))))) : W_X0_lookB g d av Q n 33 [some (.ref 0), none, some (.int x2)] [] h := by
  refine r_aload_n dX0_lookB_33 rfl rfl ?_
  refine m_getI hp fw_X0_211 dX0_lookB_34 rfl ly_0 ?_
  refine r_aload_n dX0_lookB_37 rfl rfl ?_
  refine m_getI hp fw_X0_204 dX0_lookB_38 rfl ly_0 ?_
  refine r_icmp_ge (tgt := 106) dX0_lookB_41 rfl (fun cH => ?_) (fun cH => ?_)
  · replace H := H.1 cH
    refine r_goto (tgt := 229) dX0_lookB_106 rfl ?_
    exact r_vret dX0_lookB_229 rfl (Nat.le_refl _) (Nat.le_refl _) H
  · replace H := H.2 cH
    refine r_aload_n dX0_lookB_44 rfl rfl ?_
    refine m_getF (x := 77) hp fw_X0_207 dX0_lookB_45 rfl ly_0 (ff_0_11 ly_0) ?_
    refine r_aload_n dX0_lookB_48 rfl rfl ?_
    refine m_getI hp fw_X0_211 dX0_lookB_49 rfl ly_0 ?_
    refine m_bald hp dX0_lookB_52 (lf_0_11 ly_0) H.1 ?_
    replace H := H.2
    refine r_bipush (v := (48 : Int32)) dX0_lookB_53 rfl ?_
    refine r_icmp_lt (tgt := 106) dX0_lookB_55 rfl (fun cH => ?_) (fun cH => ?_)
    · replace H := H.1 cH
      refine r_goto (tgt := 229) dX0_lookB_106 rfl ?_
      exact r_vret dX0_lookB_229 rfl (Nat.le_refl _) (Nat.le_refl _) H
    · replace H := H.2 cH
      refine r_aload_n dX0_lookB_58 rfl rfl ?_
      refine m_getF (x := 77) hp fw_X0_207 dX0_lookB_59 rfl ly_0 (ff_0_11 ly_0) ?_
      refine r_aload_n dX0_lookB_62 rfl rfl ?_
      refine m_getI hp fw_X0_211 dX0_lookB_63 rfl ly_0 ?_
      refine m_bald hp dX0_lookB_66 (lf_0_11 ly_0) H.1 ?_
      replace H := H.2
      refine r_bipush (v := (57 : Int32)) dX0_lookB_67 rfl ?_
      refine r_icmp_gt (tgt := 106) dX0_lookB_69 rfl (fun cH => ?_) (fun cH => ?_)
      · replace H := H.1 cH
        refine r_goto (tgt := 229) dX0_lookB_106 rfl ?_
        exact r_vret dX0_lookB_229 rfl (Nat.le_refl _) (Nat.le_refl _) H
      · replace H := H.2 cH
        refine r_aload_n dX0_lookB_72 rfl rfl ?_
        refine m_getI hp fw_X0_211 dX0_lookB_73 rfl ly_0 ?_
        refine r_iload_n dX0_lookB_76 rfl rfl ?_
        refine r_isub dX0_lookB_77 ?_
        refine r_bipush (v := (10 : Int32)) dX0_lookB_78 rfl ?_
        refine r_icmp_ne (tgt := 93) dX0_lookB_80 rfl (fun cH => ?_) (fun cH => ?_)
        · replace H := H.1 cH
          refine r_aload_n dX0_lookB_93 rfl rfl ?_
          refine r_dup dX0_lookB_94 rfl ?_
          refine m_getI hp fw_X0_211 dX0_lookB_95 rfl ly_0 ?_
          refine r_iconst (v := (1 : Int32)) dX0_lookB_98 rfl ?_
          refine r_iadd dX0_lookB_99 ?_
          refine m_putI hp fw_X0_211 dX0_lookB_100 rfl rfl ly_0 (fun h1 eh1 => ?_)
          replace H := H h1 eh1
          refine r_goto (tgt := 33) dX0_lookB_103 rfl ?_
          exact H
        · replace H := H.2 cH
          refine r_aload_n dX0_lookB_83 rfl rfl ?_
          refine r_iconst (v := (1 : Int32)) dX0_lookB_84 rfl ?_
          refine r_aload_n dX0_lookB_85 rfl rfl ?_
          refine m_getI hp fw_X0_211 dX0_lookB_86 rfl ly_0 ?_
          refine k_VV (As := [.int (1 : Int32), .int (ri h 0 13)]) (stk := []) hp cv_X0_227 dX0_lookB_89 rfl (Nat.le_of_ble_eq_true rfl) ly_0 (H.mono (fun h2 H => ?_)) ⟨Nat.le_refl _, Nat.le_refl _⟩
          exact r_vret dX0_lookB_92 rfl (Nat.le_refl _) (Nat.le_refl _) H
theorem s_X0_lookB_109 {g : GX} {d : Nat} {av : List Value} {Q : QT} {n : Nat} {h : Hp} {x1 : Int32} (hp : g.2.2.2.2 = true)  (H : ((x1 = (110 : Int32)) → (W_X0_lookB g d av Q n 121 [some (.ref 0), none, none] [] h)) ∧ ((¬ x1 = (110 : Int32)) → (((¬ x1 = (107 : Int32)) → (((¬ x1 = (67 : Int32)) → (((¬ x1 = (40 : Int32)) → (CallV g m_X0_flaw d [.ref 0, .int (1 : Int32), .int (ri h 0 13)] n h (fun h1 => (Q none n h1)))) ∧ ((x1 = (40 : Int32)) → (CallV g m_X0_open d [.ref 0] n h (fun h2 => (CallV g m_X0_lookE d [.ref 0] n h2 (fun h3 => (CallV g m_X0_want d [.ref 0, .int (41 : Int32)] n h3 (fun h4 => (∀ h5, h5 = wi h4 0 14 ((ri h4 0 14) - (1 : Int32)) → (Q none n h5))))))))))) ∧ ((x1 = (67 : Int32)) → (∀ h6, h6 = wi h 0 13 ((ri h 0 13) + (1 : Int32)) → (CallV g m_X0_open d [.ref 0] n h6 (fun h7 => (CallV g m_X0_lookE d [.ref 0] n h7 (fun h8 => (CallV g m_X0_want d [.ref 0, .int (44 : Int32)] n h8 (fun h9 => (CallV g m_X0_lookE d [.ref 0] n h9 (fun h10 => (CallV g m_X0_want d [.ref 0, .int (41 : Int32)] n h10 (fun h11 => (∀ h12, h12 = wi h11 0 14 ((ri h11 0 14) - (1 : Int32)) → (Q none n h12)))))))))))))))) ∧ ((x1 = (107 : Int32)) → (W_X0_lookB g d av Q n 121 [some (.ref 0), none, none] [] h))))) : W_X0_lookB g d av Q n 109 [some (.ref 0), some (.int x1), none] [] h := by
  refine r_iload_n dX0_lookB_109 rfl rfl ?_
  refine r_bipush (v := (110 : Int32)) dX0_lookB_110 rfl ?_
  refine r_icmp_eq (tgt := 121) dX0_lookB_112 rfl (fun cH => ?_) (fun cH => ?_)
  · replace H := H.1 cH
    refine r_prune [true, false, false] (ls2 := [some (.ref 0), none, none]) rfl ?_
    exact H
  · replace H := H.2 cH
    refine r_iload_n dX0_lookB_115 rfl rfl ?_
    refine r_bipush (v := (107 : Int32)) dX0_lookB_116 rfl ?_
    refine r_icmp_ne (tgt := 134) dX0_lookB_118 rfl (fun cH => ?_) (fun cH => ?_)
    · replace H := H.1 cH
      refine r_iload_n dX0_lookB_134 rfl rfl ?_
      refine r_bipush (v := (67 : Int32)) dX0_lookB_135 rfl ?_
      refine r_icmp_ne (tgt := 187) dX0_lookB_137 rfl (fun cH => ?_) (fun cH => ?_)
      · replace H := H.1 cH
        refine r_iload_n dX0_lookB_187 rfl rfl ?_
        refine r_bipush (v := (40 : Int32)) dX0_lookB_188 rfl ?_
        refine r_icmp_ne (tgt := 220) dX0_lookB_190 rfl (fun cH => ?_) (fun cH => ?_)
        · replace H := H.1 cH
          refine r_aload_n dX0_lookB_220 rfl rfl ?_
          refine r_iconst (v := (1 : Int32)) dX0_lookB_221 rfl ?_
          refine r_aload_n dX0_lookB_222 rfl rfl ?_
          refine m_getI hp fw_X0_211 dX0_lookB_223 rfl ly_0 ?_
          refine k_VV (As := [.int (1 : Int32), .int (ri h 0 13)]) (stk := []) hp cv_X0_227 dX0_lookB_226 rfl (Nat.le_of_ble_eq_true rfl) ly_0 (H.mono (fun h1 H => ?_)) ⟨Nat.le_refl _, Nat.le_refl _⟩
          exact r_vret dX0_lookB_229 rfl (Nat.le_refl _) (Nat.le_refl _) H
        · replace H := H.2 cH
          refine r_aload_n dX0_lookB_193 rfl rfl ?_
          refine k_VV (As := []) (stk := []) hp cv_X0_254 dX0_lookB_194 rfl (Nat.le_of_ble_eq_true rfl) ly_0 (H.mono (fun h2 H => ?_)) ⟨Nat.le_refl _, Nat.le_refl _⟩
          refine r_aload_n dX0_lookB_197 rfl rfl ?_
          refine k_VV (As := []) (stk := []) hp cv_X0_257 dX0_lookB_198 rfl (Nat.le_of_ble_eq_true rfl) ly_0 (H.mono (fun h3 H => ?_)) ⟨Nat.le_refl _, Nat.le_refl _⟩
          refine r_aload_n dX0_lookB_201 rfl rfl ?_
          refine r_bipush (v := (41 : Int32)) dX0_lookB_202 rfl ?_
          refine k_VV (As := [.int (41 : Int32)]) (stk := []) hp cv_X0_250 dX0_lookB_204 rfl (Nat.le_of_ble_eq_true rfl) ly_0 (H.mono (fun h4 H => ?_)) ⟨Nat.le_refl _, Nat.le_refl _⟩
          refine r_aload_n dX0_lookB_207 rfl rfl ?_
          refine r_dup dX0_lookB_208 rfl ?_
          refine m_getI hp fw_X0_247 dX0_lookB_209 rfl ly_0 ?_
          refine r_iconst (v := (1 : Int32)) dX0_lookB_212 rfl ?_
          refine r_isub dX0_lookB_213 ?_
          refine m_putI hp fw_X0_247 dX0_lookB_214 rfl rfl ly_0 (fun h5 eh5 => ?_)
          replace H := H h5 eh5
          refine r_goto (tgt := 229) dX0_lookB_217 rfl ?_
          exact r_vret dX0_lookB_229 rfl (Nat.le_refl _) (Nat.le_refl _) H
      · replace H := H.2 cH
        refine r_aload_n dX0_lookB_140 rfl rfl ?_
        refine r_dup dX0_lookB_141 rfl ?_
        refine m_getI hp fw_X0_211 dX0_lookB_142 rfl ly_0 ?_
        refine r_iconst (v := (1 : Int32)) dX0_lookB_145 rfl ?_
        refine r_iadd dX0_lookB_146 ?_
        refine m_putI hp fw_X0_211 dX0_lookB_147 rfl rfl ly_0 (fun h6 eh6 => ?_)
        replace H := H h6 eh6
        refine r_aload_n dX0_lookB_150 rfl rfl ?_
        refine k_VV (As := []) (stk := []) hp cv_X0_254 dX0_lookB_151 rfl (Nat.le_of_ble_eq_true rfl) ly_0 (H.mono (fun h7 H => ?_)) ⟨Nat.le_refl _, Nat.le_refl _⟩
        refine r_aload_n dX0_lookB_154 rfl rfl ?_
        refine k_VV (As := []) (stk := []) hp cv_X0_257 dX0_lookB_155 rfl (Nat.le_of_ble_eq_true rfl) ly_0 (H.mono (fun h8 H => ?_)) ⟨Nat.le_refl _, Nat.le_refl _⟩
        refine r_aload_n dX0_lookB_158 rfl rfl ?_
        refine r_bipush (v := (44 : Int32)) dX0_lookB_159 rfl ?_
        refine k_VV (As := [.int (44 : Int32)]) (stk := []) hp cv_X0_250 dX0_lookB_161 rfl (Nat.le_of_ble_eq_true rfl) ly_0 (H.mono (fun h9 H => ?_)) ⟨Nat.le_refl _, Nat.le_refl _⟩
        refine r_aload_n dX0_lookB_164 rfl rfl ?_
        refine k_VV (As := []) (stk := []) hp cv_X0_257 dX0_lookB_165 rfl (Nat.le_of_ble_eq_true rfl) ly_0 (H.mono (fun h10 H => ?_)) ⟨Nat.le_refl _, Nat.le_refl _⟩
        refine r_aload_n dX0_lookB_168 rfl rfl ?_
        refine r_bipush (v := (41 : Int32)) dX0_lookB_169 rfl ?_
        refine k_VV (As := [.int (41 : Int32)]) (stk := []) hp cv_X0_250 dX0_lookB_171 rfl (Nat.le_of_ble_eq_true rfl) ly_0 (H.mono (fun h11 H => ?_)) ⟨Nat.le_refl _, Nat.le_refl _⟩
        refine r_aload_n dX0_lookB_174 rfl rfl ?_
        refine r_dup dX0_lookB_175 rfl ?_
        refine m_getI hp fw_X0_247 dX0_lookB_176 rfl ly_0 ?_
        refine r_iconst (v := (1 : Int32)) dX0_lookB_179 rfl ?_
        refine r_isub dX0_lookB_180 ?_
        refine m_putI hp fw_X0_247 dX0_lookB_181 rfl rfl ly_0 (fun h12 eh12 => ?_)
        replace H := H h12 eh12
        refine r_goto (tgt := 229) dX0_lookB_184 rfl ?_
        exact r_vret dX0_lookB_229 rfl (Nat.le_refl _) (Nat.le_refl _) H
    · replace H := H.2 cH
      refine r_prune [true, false, false] (ls2 := [some (.ref 0), none, none]) rfl ?_
      exact H
theorem s_X0_lookB_121 {g : GX} {d : Nat} {av : List Value} {Q : QT} {n : Nat} {h : Hp}  (hp : g.2.2.2.2 = true)  (H : ∀ h1, h1 = wi h 0 13 ((ri h 0 13) + (1 : Int32)) → (Q none n h1)) : W_X0_lookB g d av Q n 121 [some (.ref 0), none, none] [] h := by
  refine r_aload_n dX0_lookB_121 rfl rfl ?_
  refine r_dup dX0_lookB_122 rfl ?_
  refine m_getI hp fw_X0_211 dX0_lookB_123 rfl ly_0 ?_
  refine r_iconst (v := (1 : Int32)) dX0_lookB_126 rfl ?_
  refine r_iadd dX0_lookB_127 ?_
  refine m_putI hp fw_X0_211 dX0_lookB_128 rfl rfl ly_0 (fun h1 eh1 => ?_)
  replace H := H h1 eh1
  refine r_goto (tgt := 229) dX0_lookB_131 rfl ?_
  exact r_vret dX0_lookB_229 rfl (Nat.le_refl _) (Nat.le_refl _) H
abbrev W_X0_flaw (g : GX) (d : Nat) (av : List Value) (Q : QT) (n : Nat) (pc : Nat) (ls : LV) (stk : List Value) (h : Hp) : Prop := RJ g m_X0_flaw d 0 0 av Q pc ls stk n h 0 0
theorem s_X0_flaw_0 {g : GX} {d : Nat} {av : List Value} {Q : QT} {n : Nat} {h : Hp} {x1 : Int32} {x2 : Int32} (hp : g.2.2.2.2 = true)  (H : ((¬ (ri h 0 15) = (0 : Int32)) → (Q none n h)) ∧ (((ri h 0 15) = (0 : Int32)) → (∀ h1, h1 = wi h 0 15 x1 → (∀ h2, h2 = wi h1 0 16 x2 → (Q none n h2))))) : W_X0_flaw g d av Q n 0 [some (.ref 0), some (.int x1), some (.int x2)] [] h := by
  refine r_aload_n dX0_flaw_0 rfl rfl ?_
  refine m_getI hp fw_X0_214 dX0_flaw_1 rfl ly_0 ?_
  refine r_if_ne (tgt := 17) dX0_flaw_4 rfl (fun cH => ?_) (fun cH => ?_)
  · replace H := H.1 cH
    exact r_vret dX0_flaw_17 rfl (Nat.le_refl _) (Nat.le_refl _) H
  · replace H := H.2 cH
    refine r_aload_n dX0_flaw_7 rfl rfl ?_
    refine r_iload_n dX0_flaw_8 rfl rfl ?_
    refine m_putI hp fw_X0_214 dX0_flaw_9 rfl rfl ly_0 (fun h1 eh1 => ?_)
    replace H := H h1 eh1
    refine r_aload_n dX0_flaw_12 rfl rfl ?_
    refine r_iload_n dX0_flaw_13 rfl rfl ?_
    refine m_putI hp fw_X0_217 dX0_flaw_14 rfl rfl ly_0 (fun h2 eh2 => ?_)
    replace H := H h2 eh2
    exact r_vret dX0_flaw_17 rfl (Nat.le_refl _) (Nat.le_refl _) H
abbrev W_X0_open (g : GX) (d : Nat) (av : List Value) (Q : QT) (n : Nat) (pc : Nat) (ls : LV) (stk : List Value) (h : Hp) : Prop := RJ g m_X0_open (d + 1) 0 0 av Q pc ls stk n h 0 0
theorem s_X0_open_0 {g : GX} {d : Nat} {av : List Value} {Q : QT} {n : Nat} {h : Hp}  (hp : g.2.2.2.2 = true)  (H : CallI g m_X0_isNext d [.ref 0, .int (40 : Int32)] n h (fun v1 h1 => (((v1 = (0 : Int32)) → (W_X0_open g d av Q n 27 [some (.ref 0)] [] h1)) ∧ ((¬ v1 = (0 : Int32)) → (((¬ (ri h1 0 14) = (20 : Int32)) → (W_X0_open g d av Q n 27 [some (.ref 0)] [] h1)) ∧ (((ri h1 0 14) = (20 : Int32)) → (CallV g m_X0_flaw d [.ref 0, .int (1 : Int32), .int (ri h1 0 13)] n h1 (fun h2 => (W_X0_open g d av Q n 27 [some (.ref 0)] [] h2))))))))) : W_X0_open g d av Q n 0 [some (.ref 0)] [] h := by
  refine r_aload_n dX0_open_0 rfl rfl ?_
  refine r_bipush (v := (40 : Int32)) dX0_open_1 rfl ?_
  refine k_VI (As := [.int (40 : Int32)]) (stk := []) hp cv_X0_223 dX0_open_3 rfl (Nat.le_of_ble_eq_true rfl) ly_0 (H.mono (fun v1 h1 H => ?_)) ⟨Nat.le_refl _, Nat.le_refl _⟩
  refine r_if_eq (tgt := 27) dX0_open_6 rfl (fun cH => ?_) (fun cH => ?_)
  · replace H := H.1 cH
    exact H
  · replace H := H.2 cH
    refine r_aload_n dX0_open_9 rfl rfl ?_
    refine m_getI hp fw_X0_247 dX0_open_10 rfl ly_0 ?_
    refine r_bipush (v := (20 : Int32)) dX0_open_13 rfl ?_
    refine r_icmp_ne (tgt := 27) dX0_open_15 rfl (fun cH => ?_) (fun cH => ?_)
    · replace H := H.1 cH
      exact H
    · replace H := H.2 cH
      refine r_aload_n dX0_open_18 rfl rfl ?_
      refine r_iconst (v := (1 : Int32)) dX0_open_19 rfl ?_
      refine r_aload_n dX0_open_20 rfl rfl ?_
      refine m_getI hp fw_X0_211 dX0_open_21 rfl ly_0 ?_
      refine k_VV (As := [.int (1 : Int32), .int (ri h1 0 13)]) (stk := []) hp cv_X0_227 dX0_open_24 rfl (Nat.le_of_ble_eq_true rfl) ly_0 (H.mono (fun h2 H => ?_)) ⟨Nat.le_refl _, Nat.le_refl _⟩
      exact H
theorem s_X0_open_27 {g : GX} {d : Nat} {av : List Value} {Q : QT} {n : Nat} {h : Hp}  (hp : g.2.2.2.2 = true)  (H : CallV g m_X0_want d [.ref 0, .int (40 : Int32)] n h (fun h1 => (∀ h2, h2 = wi h1 0 14 ((ri h1 0 14) + (1 : Int32)) → (Q none n h2)))) : W_X0_open g d av Q n 27 [some (.ref 0)] [] h := by
  refine r_aload_n dX0_open_27 rfl rfl ?_
  refine r_bipush (v := (40 : Int32)) dX0_open_28 rfl ?_
  refine k_VV (As := [.int (40 : Int32)]) (stk := []) hp cv_X0_250 dX0_open_30 rfl (Nat.le_of_ble_eq_true rfl) ly_0 (H.mono (fun h1 H => ?_)) ⟨Nat.le_refl _, Nat.le_refl _⟩
  refine r_aload_n dX0_open_33 rfl rfl ?_
  refine r_dup dX0_open_34 rfl ?_
  refine m_getI hp fw_X0_247 dX0_open_35 rfl ly_0 ?_
  refine r_iconst (v := (1 : Int32)) dX0_open_38 rfl ?_
  refine r_iadd dX0_open_39 ?_
  refine m_putI hp fw_X0_247 dX0_open_40 rfl rfl ly_0 (fun h2 eh2 => ?_)
  replace H := H h2 eh2
  exact r_vret dX0_open_43 rfl (Nat.le_refl _) (Nat.le_refl _) H
abbrev W_X0_want (g : GX) (d : Nat) (av : List Value) (Q : QT) (n : Nat) (pc : Nat) (ls : LV) (stk : List Value) (h : Hp) : Prop := RJ g m_X0_want (d + 1) 0 0 av Q pc ls stk n h 0 0
theorem s_X0_want_0 {g : GX} {d : Nat} {av : List Value} {Q : QT} {n : Nat} {h : Hp} {x1 : Int32} (hp : g.2.2.2.2 = true)  (H : CallI g m_X0_isNext d [.ref 0, .int x1] n h (fun v1 h1 => (((v1 = (0 : Int32)) → (CallV g m_X0_flaw d [.ref 0, .int (1 : Int32), .int (ri h1 0 13)] n h1 (fun h2 => (Q none n h2)))) ∧ ((¬ v1 = (0 : Int32)) → (∀ h3, h3 = wi h1 0 13 ((ri h1 0 13) + (1 : Int32)) → (Q none n h3)))))) : W_X0_want g d av Q n 0 [some (.ref 0), some (.int x1)] [] h := by
  refine r_aload_n dX0_want_0 rfl rfl ?_
  refine r_iload_n dX0_want_1 rfl rfl ?_
  refine k_VI (As := [.int x1]) (stk := []) hp cv_X0_223 dX0_want_2 rfl (Nat.le_of_ble_eq_true rfl) ly_0 (H.mono (fun v1 h1 H => ?_)) ⟨Nat.le_refl _, Nat.le_refl _⟩
  refine r_if_eq (tgt := 21) dX0_want_5 rfl (fun cH => ?_) (fun cH => ?_)
  · replace H := H.1 cH
    refine r_aload_n dX0_want_21 rfl rfl ?_
    refine r_iconst (v := (1 : Int32)) dX0_want_22 rfl ?_
    refine r_aload_n dX0_want_23 rfl rfl ?_
    refine m_getI hp fw_X0_211 dX0_want_24 rfl ly_0 ?_
    refine k_VV (As := [.int (1 : Int32), .int (ri h1 0 13)]) (stk := []) hp cv_X0_227 dX0_want_27 rfl (Nat.le_of_ble_eq_true rfl) ly_0 (H.mono (fun h2 H => ?_)) ⟨Nat.le_refl _, Nat.le_refl _⟩
    exact r_vret dX0_want_30 rfl (Nat.le_refl _) (Nat.le_refl _) H
  · replace H := H.2 cH
    refine r_aload_n dX0_want_8 rfl rfl ?_
    refine r_dup dX0_want_9 rfl ?_
    refine m_getI hp fw_X0_211 dX0_want_10 rfl ly_0 ?_
    refine r_iconst (v := (1 : Int32)) dX0_want_13 rfl ?_
    refine r_iadd dX0_want_14 ?_
    refine m_putI hp fw_X0_211 dX0_want_15 rfl rfl ly_0 (fun h3 eh3 => ?_)
    replace H := H h3 eh3
    refine r_goto (tgt := 30) dX0_want_18 rfl ?_
    exact r_vret dX0_want_30 rfl (Nat.le_refl _) (Nat.le_refl _) H
abbrev W_X0_readE (g : GX) (d : Nat) (av : List Value) (Q : QT) (n : Nat) (pc : Nat) (ls : LV) (stk : List Value) (h : Hp) : Prop := RJ g m_X0_readE (d + 1) 0 0 av Q pc ls stk n h 0 0
theorem s_X0_readE_0 {g : GX} {d : Nat} {av : List Value} {Q : QT} {n : Nat} {h : Hp}  (hp : g.2.2.2.2 = true)  (H : CallI g m_X0_next d [.ref 0] n h (fun v1 h1 => (((¬ v1 = (45 : Int32)) → (W_X0_readE g d av Q n 14 [some (.ref 0), none, none, none, none, none] [.int (0 : Int32)] h1)) ∧ ((v1 = (45 : Int32)) → (W_X0_readE g d av Q n 14 [some (.ref 0), none, none, none, none, none] [.int (1 : Int32)] h1))))) : W_X0_readE g d av Q n 0 [some (.ref 0), none, none, none, none, none] [] h := by
  refine r_aload_n dX0_readE_0 rfl rfl ?_
  refine k_VI (As := []) (stk := []) hp cv_X0_220 dX0_readE_1 rfl (Nat.le_of_ble_eq_true rfl) ly_0 (H.mono (fun v1 h1 H => ?_)) ⟨Nat.le_refl _, Nat.le_refl _⟩
  refine r_bipush (v := (45 : Int32)) dX0_readE_4 rfl ?_
  refine r_icmp_ne (tgt := 13) dX0_readE_6 rfl (fun cH => ?_) (fun cH => ?_)
  · replace H := H.1 cH
    refine r_iconst (v := (0 : Int32)) dX0_readE_13 rfl ?_
    exact H
  · replace H := H.2 cH
    refine r_iconst (v := (1 : Int32)) dX0_readE_9 rfl ?_
    refine r_goto (tgt := 14) dX0_readE_10 rfl ?_
    exact H
theorem s_X0_readE_14 {g : GX} {d : Nat} {av : List Value} {Q : QT} {n : Nat} {h : Hp} {xs0 : Int32} (hp : g.2.2.2.2 = true)  (H : ((xs0 = (0 : Int32)) → (W_X0_readE g d av Q n 29 [some (.ref 0), some (.int xs0), none, none, none, none] [.int (0 : Int32), .int (ri h 0 13), .ref 0] h)) ∧ ((¬ xs0 = (0 : Int32)) → (W_X0_readE g d av Q n 29 [some (.ref 0), some (.int xs0), none, none, none, none] [.int (1 : Int32), .int (ri h 0 13), .ref 0] h))) : W_X0_readE g d av Q n 14 [some (.ref 0), none, none, none, none, none] [.int xs0] h := by
  refine r_istore_n (ls2 := [some (.ref 0), some (.int xs0), none, none, none, none]) dX0_readE_14 rfl (by decide) rfl ?_
  refine r_aload_n dX0_readE_15 rfl rfl ?_
  refine r_dup dX0_readE_16 rfl ?_
  refine m_getI hp fw_X0_211 dX0_readE_17 rfl ly_0 ?_
  refine r_iload_n dX0_readE_20 rfl rfl ?_
  refine r_if_eq (tgt := 28) dX0_readE_21 rfl (fun cH => ?_) (fun cH => ?_)
  · replace H := H.1 cH
    refine r_iconst (v := (0 : Int32)) dX0_readE_28 rfl ?_
    exact H
  · replace H := H.2 cH
    refine r_iconst (v := (1 : Int32)) dX0_readE_24 rfl ?_
    refine r_goto (tgt := 29) dX0_readE_25 rfl ?_
    exact H
theorem s_X0_readE_29 {g : GX} {d : Nat} {av : List Value} {Q : QT} {n : Nat} {h : Hp} {x1 : Int32} {xs0 : Int32} {xs1 : Int32} {as2 : Nat} (hp : g.2.2.2.2 = true) (ts2 : lay as2 = (0, 0, 80)) (H : ∀ h1, h1 = wi h as2 13 (xs1 + xs0) → (CallV g m_X0_readU d [.ref 0] n h1 (fun h2 => (((x1 = (0 : Int32)) → (W_X0_readE g d av Q n 70 [some (.ref 0), none, none, none, none, none] [] h2)) ∧ ((¬ x1 = (0 : Int32)) → (((¬ (ri h2 0 15) = (0 : Int32)) → (W_X0_readE g d av Q n 70 [some (.ref 0), none, none, none, none, none] [] h2)) ∧ (((ri h2 0 15) = (0 : Int32)) → (vp_in ((ri h2 0 19) - (1 : Int32)) 100 ∧ ∀ r3, r3 = 1509 + 10 * (((ri h2 0 19) - (1 : Int32))).toNatClampNeg → (CallV g m_X4_scale d [.ref (r3 + 2), .int (2147483646 : Int32)] n h2 (fun h4 => (W_X0_readE g d av Q n 70 [some (.ref 0), none, none, none, none, none] [] h4))))))))))) : W_X0_readE g d av Q n 29 [some (.ref 0), some (.int x1), none, none, none, none] [.int xs0, .int xs1, .ref as2] h := by
  refine r_iadd dX0_readE_29 ?_
  refine m_putI hp fw_X0_211 dX0_readE_30 rfl rfl ts2 (fun h1 eh1 => ?_)
  replace H := H h1 eh1
  refine r_aload_n dX0_readE_33 rfl rfl ?_
  refine k_VV (As := []) (stk := []) hp cv_X0_260 dX0_readE_34 rfl (Nat.le_of_ble_eq_true rfl) ly_0 (H.mono (fun h2 H => ?_)) ⟨Nat.le_refl _, Nat.le_refl _⟩
  refine r_iload_n dX0_readE_37 rfl rfl ?_
  refine r_if_eq (tgt := 70) dX0_readE_38 rfl (fun cH => ?_) (fun cH => ?_)
  · replace H := H.1 cH
    refine r_prune [true, false, false, false, false, false] (ls2 := [some (.ref 0), none, none, none, none, none]) rfl ?_
    exact H
  · replace H := H.2 cH
    refine r_aload_n dX0_readE_41 rfl rfl ?_
    refine m_getI hp fw_X0_214 dX0_readE_42 rfl ly_0 ?_
    refine r_if_ne (tgt := 70) dX0_readE_45 rfl (fun cH => ?_) (fun cH => ?_)
    · replace H := H.1 cH
      refine r_prune [true, false, false, false, false, false] (ls2 := [some (.ref 0), none, none, none, none, none]) rfl ?_
      exact H
    · replace H := H.2 cH
      refine r_aload_n dX0_readE_48 rfl rfl ?_
      refine m_getF (x := 78) hp fw_X0_234 dX0_readE_49 rfl ly_0 (ff_0_18 ly_0) ?_
      refine r_aload_n dX0_readE_52 rfl rfl ?_
      refine m_getI hp fw_X0_231 dX0_readE_53 rfl ly_0 ?_
      refine r_iconst (v := (1 : Int32)) dX0_readE_56 rfl ?_
      refine r_isub dX0_readE_57 ?_
      obtain ⟨r3, er3⟩ : ∃ y, y = 1509 + 10 * (((ri h2 0 19) - (1 : Int32))).toNatClampNeg := ⟨_, rfl⟩
      have hir3 := H.1
      replace H := H.2 r3 er3
      have tLr3 := la_78 hir3 er3
      refine m_aalF (x := r3) hp dX0_readE_58 (lf_0_18 ly_0) rfl rfl (lu_0_18 ly_0) hir3 (fa_78 hir3 er3) ?_
      refine m_getF (x := (r3 + 1)) hp fw_X0_110 dX0_readE_59 rfl tLr3 (ff_5_0 tLr3) ?_
      refine m_getF (x := (r3 + 2)) hp fw_X0_89 dX0_readE_62 rfl (lf_5_0 tLr3) (ff_6_0 (lf_5_0 tLr3)) ?_
      refine r_ldc (own := "") (v := (2147483646 : Int32)) dX0_readE_65 q1022 ?_
      refine k_VV (As := [.int (2147483646 : Int32)]) (stk := []) hp cv_X0_78 dX0_readE_67 rfl (Nat.le_of_ble_eq_true rfl) (lf_6_0 (lf_5_0 tLr3)) (H.mono (fun h4 H => ?_)) ⟨Nat.le_refl _, Nat.le_refl _⟩
      refine r_prune [true, false, false, false, false, false] (ls2 := [some (.ref 0), none, none, none, none, none]) rfl ?_
      exact H
theorem s_X0_readE_70 {g : GX} {d : Nat} {av : List Value} {Q : QT} {n : Nat} {h : Hp}  (hp : g.2.2.2.2 = true)  (H : ((¬ (ri h 0 15) = (0 : Int32)) → (Q none n h)) ∧ (((ri h 0 15) = (0 : Int32)) → (CallI g m_X0_next d [.ref 0] n h (fun v1 h1 => (((v1 = (43 : Int32)) → (W_X0_readE g d av Q n 95 [some (.ref 0), none, none, none, none, none] [] h1)) ∧ ((¬ v1 = (43 : Int32)) → (CallI g m_X0_next d [.ref 0] n h1 (fun v2 h2 => (((¬ v2 = (45 : Int32)) → (Q none n h2)) ∧ ((v2 = (45 : Int32)) → (W_X0_readE g d av Q n 95 [some (.ref 0), none, none, none, none, none] [] h2))))))))))) : W_X0_readE g d av Q n 70 [some (.ref 0), none, none, none, none, none] [] h := by
  refine r_aload_n dX0_readE_70 rfl rfl ?_
  refine m_getI hp fw_X0_214 dX0_readE_71 rfl ly_0 ?_
  refine r_if_ne (tgt := 240) dX0_readE_74 rfl (fun cH => ?_) (fun cH => ?_)
  · replace H := H.1 cH
    exact r_vret dX0_readE_240 rfl (Nat.le_refl _) (Nat.le_refl _) H
  · replace H := H.2 cH
    refine r_aload_n dX0_readE_77 rfl rfl ?_
    refine k_VI (As := []) (stk := []) hp cv_X0_220 dX0_readE_78 rfl (Nat.le_of_ble_eq_true rfl) ly_0 (H.mono (fun v1 h1 H => ?_)) ⟨Nat.le_refl _, Nat.le_refl _⟩
    refine r_bipush (v := (43 : Int32)) dX0_readE_81 rfl ?_
    refine r_icmp_eq (tgt := 95) dX0_readE_83 rfl (fun cH => ?_) (fun cH => ?_)
    · replace H := H.1 cH
      exact H
    · replace H := H.2 cH
      refine r_aload_n dX0_readE_86 rfl rfl ?_
      refine k_VI (As := []) (stk := []) hp cv_X0_220 dX0_readE_87 rfl (Nat.le_of_ble_eq_true rfl) ly_0 (H.mono (fun v2 h2 H => ?_)) ⟨Nat.le_refl _, Nat.le_refl _⟩
      refine r_bipush (v := (45 : Int32)) dX0_readE_90 rfl ?_
      refine r_icmp_ne (tgt := 240) dX0_readE_92 rfl (fun cH => ?_) (fun cH => ?_)
      · replace H := H.1 cH
        exact r_vret dX0_readE_240 rfl (Nat.le_refl _) (Nat.le_refl _) H
      · replace H := H.2 cH
        exact H
theorem s_X0_readE_95 {g : GX} {d : Nat} {av : List Value} {Q : QT} {n : Nat} {h : Hp}  (hp : g.2.2.2.2 = true)  (H : vp_in (ri h 0 13) 400 ∧ (((¬ (ri h 77 ((ri h 0 13)).toNatClampNeg) = (45 : Int32)) → (W_X0_readE g d av Q n 119 [some (.ref 0), none, some (.int (ri h 0 13)), none, none, none] [.int (0 : Int32)] h)) ∧ (((ri h 77 ((ri h 0 13)).toNatClampNeg) = (45 : Int32)) → (W_X0_readE g d av Q n 119 [some (.ref 0), none, some (.int (ri h 0 13)), none, none, none] [.int (1 : Int32)] h)))) : W_X0_readE g d av Q n 95 [some (.ref 0), none, none, none, none, none] [] h := by
  refine r_aload_n dX0_readE_95 rfl rfl ?_
  refine m_getI hp fw_X0_211 dX0_readE_96 rfl ly_0 ?_
  refine r_istore_n (ls2 := [some (.ref 0), none, some (.int (ri h 0 13)), none, none, none]) dX0_readE_99 rfl (by decide) rfl ?_
  refine r_aload_n dX0_readE_100 rfl rfl ?_
  refine m_getF (x := 77) hp fw_X0_207 dX0_readE_101 rfl ly_0 (ff_0_11 ly_0) ?_
  refine r_aload_n dX0_readE_104 rfl rfl ?_
  refine m_getI hp fw_X0_211 dX0_readE_105 rfl ly_0 ?_
  refine m_bald hp dX0_readE_108 (lf_0_11 ly_0) H.1 ?_
  replace H := H.2
  refine r_bipush (v := (45 : Int32)) dX0_readE_109 rfl ?_
  refine r_icmp_ne (tgt := 118) dX0_readE_111 rfl (fun cH => ?_) (fun cH => ?_)
  · replace H := H.1 cH
    refine r_iconst (v := (0 : Int32)) dX0_readE_118 rfl ?_
    exact H
  · replace H := H.2 cH
    refine r_iconst (v := (1 : Int32)) dX0_readE_114 rfl ?_
    refine r_goto (tgt := 119) dX0_readE_115 rfl ?_
    exact H
theorem s_X0_readE_119 {g : GX} {d : Nat} {av : List Value} {Q : QT} {n : Nat} {h : Hp} {x2 : Int32} {xs0 : Int32} (hp : g.2.2.2.2 = true)  (H : ∀ h1, h1 = wi h 0 13 ((ri h 0 13) + (1 : Int32)) → (CallV g m_X0_readU d [.ref 0] n h1 (fun h2 => (((¬ (ri h2 0 15) = (0 : Int32)) → (W_X0_readE g d av Q n 237 [some (.ref 0), none, none, none, none, none] [] h2)) ∧ (((ri h2 0 15) = (0 : Int32)) → (∀ h3, h3 = wi h2 0 19 ((ri h2 0 19) - (1 : Int32)) → (vp_in ((ri h3 0 19) - (1 : Int32)) 100 ∧ ∀ r4, r4 = 1509 + 10 * (((ri h3 0 19) - (1 : Int32))).toNatClampNeg → (vp_in (ri h3 0 19) 100 ∧ ∀ r5, r5 = 1509 + 10 * ((ri h3 0 19)).toNatClampNeg → (CallI g m_X5_isTerm d [.ref r4] n h3 (fun v6 h6 => (((¬ v6 = (0 : Int32)) → (W_X0_readE g d av Q n 191 [some (.ref 0), none, some (.int x2), none, none, none] [] h6)) ∧ ((v6 = (0 : Int32)) → (CallI g m_X5_isTerm d [.ref r5] n h6 (fun v7 h7 => (((v7 = (0 : Int32)) → (((xs0 = (0 : Int32)) → (W_X0_readE g d av Q n 210 [some (.ref 0), none, some (.int x2), none, some (.ref r4), some (.ref r5)] [.int (0 : Int32), .ref 0] h7)) ∧ ((¬ xs0 = (0 : Int32)) → (W_X0_readE g d av Q n 210 [some (.ref 0), none, some (.int x2), none, some (.ref r4), some (.ref r5)] [.int (1 : Int32), .ref 0] h7)))) ∧ ((¬ v7 = (0 : Int32)) → (W_X0_readE g d av Q n 191 [some (.ref 0), none, some (.int x2), none, none, none] [] h7))))))))))))))))) : W_X0_readE g d av Q n 119 [some (.ref 0), none, some (.int x2), none, none, none] [.int xs0] h := by
  refine r_istore_n (ls2 := [some (.ref 0), none, some (.int x2), some (.int xs0), none, none]) dX0_readE_119 rfl (by decide) rfl ?_
  refine r_aload_n dX0_readE_120 rfl rfl ?_
  refine r_dup dX0_readE_121 rfl ?_
  refine m_getI hp fw_X0_211 dX0_readE_122 rfl ly_0 ?_
  refine r_iconst (v := (1 : Int32)) dX0_readE_125 rfl ?_
  refine r_iadd dX0_readE_126 ?_
  refine m_putI hp fw_X0_211 dX0_readE_127 rfl rfl ly_0 (fun h1 eh1 => ?_)
  replace H := H h1 eh1
  refine r_aload_n dX0_readE_130 rfl rfl ?_
  refine k_VV (As := []) (stk := []) hp cv_X0_260 dX0_readE_131 rfl (Nat.le_of_ble_eq_true rfl) ly_0 (H.mono (fun h2 H => ?_)) ⟨Nat.le_refl _, Nat.le_refl _⟩
  refine r_aload_n dX0_readE_134 rfl rfl ?_
  refine m_getI hp fw_X0_214 dX0_readE_135 rfl ly_0 ?_
  refine r_if_ne (tgt := 237) dX0_readE_138 rfl (fun cH => ?_) (fun cH => ?_)
  · replace H := H.1 cH
    refine r_prune [true, false, false, false, false, false] (ls2 := [some (.ref 0), none, none, none, none, none]) rfl ?_
    exact H
  · replace H := H.2 cH
    refine r_aload_n dX0_readE_141 rfl rfl ?_
    refine r_dup dX0_readE_142 rfl ?_
    refine m_getI hp fw_X0_231 dX0_readE_143 rfl ly_0 ?_
    refine r_iconst (v := (1 : Int32)) dX0_readE_146 rfl ?_
    refine r_isub dX0_readE_147 ?_
    refine m_putI hp fw_X0_231 dX0_readE_148 rfl rfl ly_0 (fun h3 eh3 => ?_)
    replace H := H h3 eh3
    refine r_aload_n dX0_readE_151 rfl rfl ?_
    refine m_getF (x := 78) hp fw_X0_234 dX0_readE_152 rfl ly_0 (ff_0_18 ly_0) ?_
    refine r_aload_n dX0_readE_155 rfl rfl ?_
    refine m_getI hp fw_X0_231 dX0_readE_156 rfl ly_0 ?_
    refine r_iconst (v := (1 : Int32)) dX0_readE_159 rfl ?_
    refine r_isub dX0_readE_160 ?_
    obtain ⟨r4, er4⟩ : ∃ y, y = 1509 + 10 * (((ri h3 0 19) - (1 : Int32))).toNatClampNeg := ⟨_, rfl⟩
    have hir4 := H.1
    replace H := H.2 r4 er4
    have tLr4 := la_78 hir4 er4
    refine m_aalF (x := r4) hp dX0_readE_161 (lf_0_18 ly_0) rfl rfl (lu_0_18 ly_0) hir4 (fa_78 hir4 er4) ?_
    refine r_astore (ls2 := [some (.ref 0), none, some (.int x2), some (.int xs0), some (.ref r4), none]) dX0_readE_162 (by decide) rfl ?_
    refine r_aload_n dX0_readE_164 rfl rfl ?_
    refine m_getF (x := 78) hp fw_X0_234 dX0_readE_165 rfl ly_0 (ff_0_18 ly_0) ?_
    refine r_aload_n dX0_readE_168 rfl rfl ?_
    refine m_getI hp fw_X0_231 dX0_readE_169 rfl ly_0 ?_
    obtain ⟨r5, er5⟩ : ∃ y, y = 1509 + 10 * ((ri h3 0 19)).toNatClampNeg := ⟨_, rfl⟩
    have hir5 := H.1
    replace H := H.2 r5 er5
    have tLr5 := la_78 hir5 er5
    refine m_aalF (x := r5) hp dX0_readE_172 (lf_0_18 ly_0) rfl rfl (lu_0_18 ly_0) hir5 (fa_78 hir5 er5) ?_
    refine r_astore (ls2 := [some (.ref 0), none, some (.int x2), some (.int xs0), some (.ref r4), some (.ref r5)]) dX0_readE_173 (by decide) rfl ?_
    refine r_aload dX0_readE_175 rfl ?_
    refine k_VI (As := []) (stk := []) hp cv_X0_177 dX0_readE_177 rfl (Nat.le_of_ble_eq_true rfl) tLr4 (H.mono (fun v6 h6 H => ?_)) ⟨Nat.le_refl _, Nat.le_refl _⟩
    refine r_if_ne (tgt := 191) dX0_readE_180 rfl (fun cH => ?_) (fun cH => ?_)
    · replace H := H.1 cH
      refine r_prune [true, false, true, false, false, false] (ls2 := [some (.ref 0), none, some (.int x2), none, none, none]) rfl ?_
      exact H
    · replace H := H.2 cH
      refine r_aload dX0_readE_183 rfl ?_
      refine k_VI (As := []) (stk := []) hp cv_X0_177 dX0_readE_185 rfl (Nat.le_of_ble_eq_true rfl) tLr5 (H.mono (fun v7 h7 H => ?_)) ⟨Nat.le_refl _, Nat.le_refl _⟩
      refine r_if_eq (tgt := 200) dX0_readE_188 rfl (fun cH => ?_) (fun cH => ?_)
      · replace H := H.1 cH
        refine r_aload_n dX0_readE_200 rfl rfl ?_
        refine r_iload_n dX0_readE_201 rfl rfl ?_
        refine r_if_eq (tgt := 209) dX0_readE_202 rfl (fun cH => ?_) (fun cH => ?_)
        · replace H := H.1 cH
          refine r_iconst (v := (0 : Int32)) dX0_readE_209 rfl ?_
          refine r_prune [true, false, true, false, true, true] (ls2 := [some (.ref 0), none, some (.int x2), none, some (.ref r4), some (.ref r5)]) rfl ?_
          exact H
        · replace H := H.2 cH
          refine r_iconst (v := (1 : Int32)) dX0_readE_205 rfl ?_
          refine r_goto (tgt := 210) dX0_readE_206 rfl ?_
          refine r_prune [true, false, true, false, true, true] (ls2 := [some (.ref 0), none, some (.int x2), none, some (.ref r4), some (.ref r5)]) rfl ?_
          exact H
      · replace H := H.2 cH
        refine r_prune [true, false, true, false, false, false] (ls2 := [some (.ref 0), none, some (.int x2), none, none, none]) rfl ?_
        exact H
theorem s_X0_readE_191 {g : GX} {d : Nat} {av : List Value} {Q : QT} {n : Nat} {h : Hp} {x2 : Int32} (hp : g.2.2.2.2 = true)  (H : CallV g m_X0_flaw d [.ref 0, .int (2 : Int32), .int x2] n h (fun h1 => (W_X0_readE g d av Q n 237 [some (.ref 0), none, none, none, none, none] [] h1))) : W_X0_readE g d av Q n 191 [some (.ref 0), none, some (.int x2), none, none, none] [] h := by
  refine r_aload_n dX0_readE_191 rfl rfl ?_
  refine r_iconst (v := (2 : Int32)) dX0_readE_192 rfl ?_
  refine r_iload_n dX0_readE_193 rfl rfl ?_
  refine k_VV (As := [.int (2 : Int32), .int x2]) (stk := []) hp cv_X0_227 dX0_readE_194 rfl (Nat.le_of_ble_eq_true rfl) ly_0 (H.mono (fun h1 H => ?_)) ⟨Nat.le_refl _, Nat.le_refl _⟩
  refine r_goto (tgt := 237) dX0_readE_197 rfl ?_
  refine r_prune [true, false, false, false, false, false] (ls2 := [some (.ref 0), none, none, none, none, none]) rfl ?_
  exact H
theorem s_X0_readE_210 {g : GX} {d : Nat} {av : List Value} {Q : QT} {n : Nat} {h : Hp} {x2 : Int32} {a4 : Nat} {a5 : Nat} {xs0 : Int32} {as1 : Nat} (hp : g.2.2.2.2 = true) (t4 : lay a4 = (0, 5, 8)) (t5 : lay a5 = (0, 5, 8)) (ts1 : lay as1 = (0, 0, 80)) (H : CallI g m_X0_reckon d [.ref as1, .int xs0, .ref (a4 + 1), .ref (a5 + 1), .ref (a4 + 1)] n h (fun v1 h1 => (((¬ v1 = (0 : Int32)) → (W_X0_readE g d av Q n 237 [some (.ref 0), none, none, none, none, none] [] h1)) ∧ ((v1 = (0 : Int32)) → (CallV g m_X0_flaw d [.ref 0, .int (4 : Int32), .int x2] n h1 (fun h2 => (W_X0_readE g d av Q n 237 [some (.ref 0), none, none, none, none, none] [] h2))))))) : W_X0_readE g d av Q n 210 [some (.ref 0), none, some (.int x2), none, some (.ref a4), some (.ref a5)] [.int xs0, .ref as1] h := by
  refine r_aload dX0_readE_210 rfl ?_
  refine m_getF (x := (a4 + 1)) hp fw_X0_110 dX0_readE_212 rfl t4 (ff_5_0 t4) ?_
  refine r_aload dX0_readE_215 rfl ?_
  refine m_getF (x := (a5 + 1)) hp fw_X0_110 dX0_readE_217 rfl t5 (ff_5_0 t5) ?_
  refine r_aload dX0_readE_220 rfl ?_
  refine m_getF (x := (a4 + 1)) hp fw_X0_110 dX0_readE_222 rfl t4 (ff_5_0 t4) ?_
  refine k_VI (As := [.int xs0, .ref (a4 + 1), .ref (a5 + 1), .ref (a4 + 1)]) (stk := []) hp cv_X0_120 dX0_readE_225 rfl (Nat.le_of_ble_eq_true rfl) ts1 (H.mono (fun v1 h1 H => ?_)) ⟨Nat.le_refl _, Nat.le_refl _⟩
  refine r_if_ne (tgt := 237) dX0_readE_228 rfl (fun cH => ?_) (fun cH => ?_)
  · replace H := H.1 cH
    refine r_prune [true, false, false, false, false, false] (ls2 := [some (.ref 0), none, none, none, none, none]) rfl ?_
    exact H
  · replace H := H.2 cH
    refine r_aload_n dX0_readE_231 rfl rfl ?_
    refine r_iconst (v := (4 : Int32)) dX0_readE_232 rfl ?_
    refine r_iload_n dX0_readE_233 rfl rfl ?_
    refine k_VV (As := [.int (4 : Int32), .int x2]) (stk := []) hp cv_X0_227 dX0_readE_234 rfl (Nat.le_of_ble_eq_true rfl) ly_0 (H.mono (fun h2 H => ?_)) ⟨Nat.le_refl _, Nat.le_refl _⟩
    refine r_prune [true, false, false, false, false, false] (ls2 := [some (.ref 0), none, none, none, none, none]) rfl ?_
    exact H
theorem s_X0_readE_237 {g : GX} {d : Nat} {av : List Value} {Q : QT} {n : Nat} {h : Hp}  (hp : g.2.2.2.2 = true)  (H : W_X0_readE g d av Q n 70 [some (.ref 0), none, none, none, none, none] [] h) : W_X0_readE g d av Q n 237 [some (.ref 0), none, none, none, none, none] [] h := by
  refine r_goto (tgt := 70) dX0_readE_237 rfl ?_
  exact H
abbrev W_X0_readU (g : GX) (d : Nat) (av : List Value) (Q : QT) (n : Nat) (pc : Nat) (ls : LV) (stk : List Value) (h : Hp) : Prop := RJ g m_X0_readU (d + 1) 0 0 av Q pc ls stk n h 0 0
theorem s_X0_readU_0 {g : GX} {d : Nat} {av : List Value} {Q : QT} {n : Nat} {h : Hp}  (hp : g.2.2.2.2 = true)  (H : CallV g m_X0_readW d [.ref 0] n h (fun h1 => (W_X0_readU g d av Q n 4 [some (.ref 0), none, none, none, none] [] h1))) : W_X0_readU g d av Q n 0 [some (.ref 0), none, none, none, none] [] h := by
  refine r_aload_n dX0_readU_0 rfl rfl ?_
  refine k_VV (As := []) (stk := []) hp cv_X0_263 dX0_readU_1 rfl (Nat.le_of_ble_eq_true rfl) ly_0 (H.mono (fun h1 H => ?_)) ⟨Nat.le_refl _, Nat.le_refl _⟩
  exact H
theorem s_X0_readU_4 {g : GX} {d : Nat} {av : List Value} {Q : QT} {n : Nat} {h : Hp}  (hp : g.2.2.2.2 = true)  (H : ((¬ (ri h 0 15) = (0 : Int32)) → (Q none n h)) ∧ (((ri h 0 15) = (0 : Int32)) → (CallI g m_X0_next d [.ref 0] n h (fun v1 h1 => (((v1 = (42 : Int32)) → (W_X0_readU g d av Q n 29 [some (.ref 0), none, none, none, none] [] h1)) ∧ ((¬ v1 = (42 : Int32)) → (CallI g m_X0_next d [.ref 0] n h1 (fun v2 h2 => (((¬ v2 = (47 : Int32)) → (Q none n h2)) ∧ ((v2 = (47 : Int32)) → (W_X0_readU g d av Q n 29 [some (.ref 0), none, none, none, none] [] h2))))))))))) : W_X0_readU g d av Q n 4 [some (.ref 0), none, none, none, none] [] h := by
  refine r_aload_n dX0_readU_4 rfl rfl ?_
  refine m_getI hp fw_X0_214 dX0_readU_5 rfl ly_0 ?_
  refine r_if_ne (tgt := 153) dX0_readU_8 rfl (fun cH => ?_) (fun cH => ?_)
  · replace H := H.1 cH
    exact r_vret dX0_readU_153 rfl (Nat.le_refl _) (Nat.le_refl _) H
  · replace H := H.2 cH
    refine r_aload_n dX0_readU_11 rfl rfl ?_
    refine k_VI (As := []) (stk := []) hp cv_X0_220 dX0_readU_12 rfl (Nat.le_of_ble_eq_true rfl) ly_0 (H.mono (fun v1 h1 H => ?_)) ⟨Nat.le_refl _, Nat.le_refl _⟩
    refine r_bipush (v := (42 : Int32)) dX0_readU_15 rfl ?_
    refine r_icmp_eq (tgt := 29) dX0_readU_17 rfl (fun cH => ?_) (fun cH => ?_)
    · replace H := H.1 cH
      exact H
    · replace H := H.2 cH
      refine r_aload_n dX0_readU_20 rfl rfl ?_
      refine k_VI (As := []) (stk := []) hp cv_X0_220 dX0_readU_21 rfl (Nat.le_of_ble_eq_true rfl) ly_0 (H.mono (fun v2 h2 H => ?_)) ⟨Nat.le_refl _, Nat.le_refl _⟩
      refine r_bipush (v := (47 : Int32)) dX0_readU_24 rfl ?_
      refine r_icmp_ne (tgt := 153) dX0_readU_26 rfl (fun cH => ?_) (fun cH => ?_)
      · replace H := H.1 cH
        exact r_vret dX0_readU_153 rfl (Nat.le_refl _) (Nat.le_refl _) H
      · replace H := H.2 cH
        exact H
theorem s_X0_readU_29 {g : GX} {d : Nat} {av : List Value} {Q : QT} {n : Nat} {h : Hp}  (hp : g.2.2.2.2 = true)  (H : vp_in (ri h 0 13) 400 ∧ (((¬ (ri h 77 ((ri h 0 13)).toNatClampNeg) = (47 : Int32)) → (W_X0_readU g d av Q n 53 [some (.ref 0), some (.int (ri h 0 13)), none, none, none] [.int (0 : Int32)] h)) ∧ (((ri h 77 ((ri h 0 13)).toNatClampNeg) = (47 : Int32)) → (W_X0_readU g d av Q n 53 [some (.ref 0), some (.int (ri h 0 13)), none, none, none] [.int (1 : Int32)] h)))) : W_X0_readU g d av Q n 29 [some (.ref 0), none, none, none, none] [] h := by
  refine r_aload_n dX0_readU_29 rfl rfl ?_
  refine m_getI hp fw_X0_211 dX0_readU_30 rfl ly_0 ?_
  refine r_istore_n (ls2 := [some (.ref 0), some (.int (ri h 0 13)), none, none, none]) dX0_readU_33 rfl (by decide) rfl ?_
  refine r_aload_n dX0_readU_34 rfl rfl ?_
  refine m_getF (x := 77) hp fw_X0_207 dX0_readU_35 rfl ly_0 (ff_0_11 ly_0) ?_
  refine r_aload_n dX0_readU_38 rfl rfl ?_
  refine m_getI hp fw_X0_211 dX0_readU_39 rfl ly_0 ?_
  refine m_bald hp dX0_readU_42 (lf_0_11 ly_0) H.1 ?_
  replace H := H.2
  refine r_bipush (v := (47 : Int32)) dX0_readU_43 rfl ?_
  refine r_icmp_ne (tgt := 52) dX0_readU_45 rfl (fun cH => ?_) (fun cH => ?_)
  · replace H := H.1 cH
    refine r_iconst (v := (0 : Int32)) dX0_readU_52 rfl ?_
    exact H
  · replace H := H.2 cH
    refine r_iconst (v := (1 : Int32)) dX0_readU_48 rfl ?_
    refine r_goto (tgt := 53) dX0_readU_49 rfl ?_
    exact H
theorem s_X0_readU_53 {g : GX} {d : Nat} {av : List Value} {Q : QT} {n : Nat} {h : Hp} {x1 : Int32} {xs0 : Int32} (hp : g.2.2.2.2 = true)  (H : ∀ h1, h1 = wi h 0 13 ((ri h 0 13) + (1 : Int32)) → (CallV g m_X0_readW d [.ref 0] n h1 (fun h2 => (((¬ (ri h2 0 15) = (0 : Int32)) → (W_X0_readU g d av Q n 150 [some (.ref 0), none, none, none, none] [] h2)) ∧ (((ri h2 0 15) = (0 : Int32)) → (∀ h3, h3 = wi h2 0 19 ((ri h2 0 19) - (1 : Int32)) → (vp_in ((ri h3 0 19) - (1 : Int32)) 100 ∧ ∀ r4, r4 = 1509 + 10 * (((ri h3 0 19) - (1 : Int32))).toNatClampNeg → (vp_in (ri h3 0 19) 100 ∧ ∀ r5, r5 = 1509 + 10 * ((ri h3 0 19)).toNatClampNeg → (((xs0 = (0 : Int32)) → (W_X0_readU g d av Q n 132 [some (.ref 0), some (.int x1), some (.int xs0), some (.ref r4), some (.ref r5)] [] h3)) ∧ ((¬ xs0 = (0 : Int32)) → (CallI g m_X6_isZero d [.ref (r5 + 1)] n h3 (fun v6 h6 => (((v6 = (0 : Int32)) → (W_X0_readU g d av Q n 132 [some (.ref 0), some (.int x1), some (.int xs0), some (.ref r4), some (.ref r5)] [] h6)) ∧ ((¬ v6 = (0 : Int32)) → (CallV g m_X0_flaw d [.ref 0, .int (3 : Int32), .int x1] n h6 (fun h7 => (W_X0_readU g d av Q n 150 [some (.ref 0), none, none, none, none] [] h7))))))))))))))))) : W_X0_readU g d av Q n 53 [some (.ref 0), some (.int x1), none, none, none] [.int xs0] h := by
  refine r_istore_n (ls2 := [some (.ref 0), some (.int x1), some (.int xs0), none, none]) dX0_readU_53 rfl (by decide) rfl ?_
  refine r_aload_n dX0_readU_54 rfl rfl ?_
  refine r_dup dX0_readU_55 rfl ?_
  refine m_getI hp fw_X0_211 dX0_readU_56 rfl ly_0 ?_
  refine r_iconst (v := (1 : Int32)) dX0_readU_59 rfl ?_
  refine r_iadd dX0_readU_60 ?_
  refine m_putI hp fw_X0_211 dX0_readU_61 rfl rfl ly_0 (fun h1 eh1 => ?_)
  replace H := H h1 eh1
  refine r_aload_n dX0_readU_64 rfl rfl ?_
  refine k_VV (As := []) (stk := []) hp cv_X0_263 dX0_readU_65 rfl (Nat.le_of_ble_eq_true rfl) ly_0 (H.mono (fun h2 H => ?_)) ⟨Nat.le_refl _, Nat.le_refl _⟩
  refine r_aload_n dX0_readU_68 rfl rfl ?_
  refine m_getI hp fw_X0_214 dX0_readU_69 rfl ly_0 ?_
  refine r_if_ne (tgt := 150) dX0_readU_72 rfl (fun cH => ?_) (fun cH => ?_)
  · replace H := H.1 cH
    refine r_prune [true, false, false, false, false] (ls2 := [some (.ref 0), none, none, none, none]) rfl ?_
    exact H
  · replace H := H.2 cH
    refine r_aload_n dX0_readU_75 rfl rfl ?_
    refine r_dup dX0_readU_76 rfl ?_
    refine m_getI hp fw_X0_231 dX0_readU_77 rfl ly_0 ?_
    refine r_iconst (v := (1 : Int32)) dX0_readU_80 rfl ?_
    refine r_isub dX0_readU_81 ?_
    refine m_putI hp fw_X0_231 dX0_readU_82 rfl rfl ly_0 (fun h3 eh3 => ?_)
    replace H := H h3 eh3
    refine r_aload_n dX0_readU_85 rfl rfl ?_
    refine m_getF (x := 78) hp fw_X0_234 dX0_readU_86 rfl ly_0 (ff_0_18 ly_0) ?_
    refine r_aload_n dX0_readU_89 rfl rfl ?_
    refine m_getI hp fw_X0_231 dX0_readU_90 rfl ly_0 ?_
    refine r_iconst (v := (1 : Int32)) dX0_readU_93 rfl ?_
    refine r_isub dX0_readU_94 ?_
    obtain ⟨r4, er4⟩ : ∃ y, y = 1509 + 10 * (((ri h3 0 19) - (1 : Int32))).toNatClampNeg := ⟨_, rfl⟩
    have hir4 := H.1
    replace H := H.2 r4 er4
    have tLr4 := la_78 hir4 er4
    refine m_aalF (x := r4) hp dX0_readU_95 (lf_0_18 ly_0) rfl rfl (lu_0_18 ly_0) hir4 (fa_78 hir4 er4) ?_
    refine r_astore_n (ls2 := [some (.ref 0), some (.int x1), some (.int xs0), some (.ref r4), none]) dX0_readU_96 rfl (by decide) rfl ?_
    refine r_aload_n dX0_readU_97 rfl rfl ?_
    refine m_getF (x := 78) hp fw_X0_234 dX0_readU_98 rfl ly_0 (ff_0_18 ly_0) ?_
    refine r_aload_n dX0_readU_101 rfl rfl ?_
    refine m_getI hp fw_X0_231 dX0_readU_102 rfl ly_0 ?_
    obtain ⟨r5, er5⟩ : ∃ y, y = 1509 + 10 * ((ri h3 0 19)).toNatClampNeg := ⟨_, rfl⟩
    have hir5 := H.1
    replace H := H.2 r5 er5
    have tLr5 := la_78 hir5 er5
    refine m_aalF (x := r5) hp dX0_readU_105 (lf_0_18 ly_0) rfl rfl (lu_0_18 ly_0) hir5 (fa_78 hir5 er5) ?_
    refine r_astore (ls2 := [some (.ref 0), some (.int x1), some (.int xs0), some (.ref r4), some (.ref r5)]) dX0_readU_106 (by decide) rfl ?_
    refine r_iload_n dX0_readU_108 rfl rfl ?_
    refine r_if_eq (tgt := 132) dX0_readU_109 rfl (fun cH => ?_) (fun cH => ?_)
    · replace H := H.1 cH
      exact H
    · replace H := H.2 cH
      refine r_aload dX0_readU_112 rfl ?_
      refine m_getF (x := (r5 + 1)) hp fw_X0_110 dX0_readU_114 rfl tLr5 (ff_5_0 tLr5) ?_
      refine k_VI (As := []) (stk := []) hp cv_X0_128 dX0_readU_117 rfl (Nat.le_of_ble_eq_true rfl) (lf_5_0 tLr5) (H.mono (fun v6 h6 H => ?_)) ⟨Nat.le_refl _, Nat.le_refl _⟩
      refine r_if_eq (tgt := 132) dX0_readU_120 rfl (fun cH => ?_) (fun cH => ?_)
      · replace H := H.1 cH
        exact H
      · replace H := H.2 cH
        refine r_aload_n dX0_readU_123 rfl rfl ?_
        refine r_iconst (v := (3 : Int32)) dX0_readU_124 rfl ?_
        refine r_iload_n dX0_readU_125 rfl rfl ?_
        refine k_VV (As := [.int (3 : Int32), .int x1]) (stk := []) hp cv_X0_227 dX0_readU_126 rfl (Nat.le_of_ble_eq_true rfl) ly_0 (H.mono (fun h7 H => ?_)) ⟨Nat.le_refl _, Nat.le_refl _⟩
        refine r_goto (tgt := 150) dX0_readU_129 rfl ?_
        refine r_prune [true, false, false, false, false] (ls2 := [some (.ref 0), none, none, none, none]) rfl ?_
        exact H
theorem s_X0_readU_132 {g : GX} {d : Nat} {av : List Value} {Q : QT} {n : Nat} {h : Hp} {x1 : Int32} {x2 : Int32} {a3 : Nat} {a4 : Nat} (hp : g.2.2.2.2 = true) (t3 : lay a3 = (0, 5, 8)) (t4 : lay a4 = (0, 5, 8)) (H : CallI g m_X0_multiply d [.ref 0, .ref a3, .ref a4, .int x2, .ref a3] n h (fun v1 h1 => (((¬ v1 = (0 : Int32)) → (W_X0_readU g d av Q n 150 [some (.ref 0), none, none, none, none] [] h1)) ∧ ((v1 = (0 : Int32)) → (CallV g m_X0_flaw d [.ref 0, .int (4 : Int32), .int x1] n h1 (fun h2 => (W_X0_readU g d av Q n 150 [some (.ref 0), none, none, none, none] [] h2))))))) : W_X0_readU g d av Q n 132 [some (.ref 0), some (.int x1), some (.int x2), some (.ref a3), some (.ref a4)] [] h := by
  refine r_aload_n dX0_readU_132 rfl rfl ?_
  refine r_aload_n dX0_readU_133 rfl rfl ?_
  refine r_aload dX0_readU_134 rfl ?_
  refine r_iload_n dX0_readU_136 rfl rfl ?_
  refine r_aload_n dX0_readU_137 rfl rfl ?_
  refine k_VI (As := [.ref a3, .ref a4, .int x2, .ref a3]) (stk := []) hp cv_X0_169 dX0_readU_138 rfl (Nat.le_of_ble_eq_true rfl) ly_0 (H.mono (fun v1 h1 H => ?_)) ⟨Nat.le_refl _, Nat.le_refl _⟩
  refine r_if_ne (tgt := 150) dX0_readU_141 rfl (fun cH => ?_) (fun cH => ?_)
  · replace H := H.1 cH
    refine r_prune [true, false, false, false, false] (ls2 := [some (.ref 0), none, none, none, none]) rfl ?_
    exact H
  · replace H := H.2 cH
    refine r_aload_n dX0_readU_144 rfl rfl ?_
    refine r_iconst (v := (4 : Int32)) dX0_readU_145 rfl ?_
    refine r_iload_n dX0_readU_146 rfl rfl ?_
    refine k_VV (As := [.int (4 : Int32), .int x1]) (stk := []) hp cv_X0_227 dX0_readU_147 rfl (Nat.le_of_ble_eq_true rfl) ly_0 (H.mono (fun h2 H => ?_)) ⟨Nat.le_refl _, Nat.le_refl _⟩
    refine r_prune [true, false, false, false, false] (ls2 := [some (.ref 0), none, none, none, none]) rfl ?_
    exact H
theorem s_X0_readU_150 {g : GX} {d : Nat} {av : List Value} {Q : QT} {n : Nat} {h : Hp}  (hp : g.2.2.2.2 = true)  (H : W_X0_readU g d av Q n 4 [some (.ref 0), none, none, none, none] [] h) : W_X0_readU g d av Q n 150 [some (.ref 0), none, none, none, none] [] h := by
  refine r_goto (tgt := 4) dX0_readU_150 rfl ?_
  exact H
abbrev W_X0_readW (g : GX) (d : Nat) (av : List Value) (Q : QT) (n : Nat) (pc : Nat) (ls : LV) (stk : List Value) (h : Hp) : Prop := RJ g m_X0_readW (d + 1) 0 0 av Q pc ls stk n h 0 0
theorem s_X0_readW_0 {g : GX} {d : Nat} {av : List Value} {Q : QT} {n : Nat} {h : Hp}  (hp : g.2.2.2.2 = true)  (H : CallV g m_X0_readB d [.ref 0] n h (fun h1 => (((¬ (ri h1 0 15) = (0 : Int32)) → (W_X0_readW g d av Q n 51 [some (.ref 0), none] [] h1)) ∧ (((ri h1 0 15) = (0 : Int32)) → (CallI g m_X0_next d [.ref 0] n h1 (fun v2 h2 => (((¬ v2 = (33 : Int32)) → (W_X0_readW g d av Q n 51 [some (.ref 0), none] [] h2)) ∧ ((v2 = (33 : Int32)) → (∀ h3, h3 = wi h2 0 13 ((ri h2 0 13) + (1 : Int32)) → (vp_in ((ri h3 0 19) - (1 : Int32)) 100 ∧ ∀ r4, r4 = 1509 + 10 * (((ri h3 0 19) - (1 : Int32))).toNatClampNeg → (CallV g m_X0_readFactorial d [.ref 0, .ref r4, .int (ri h2 0 13)] n h3 (fun h5 => (W_X0_readW g d av Q n 51 [some (.ref 0), none] [] h5))))))))))))) : W_X0_readW g d av Q n 0 [some (.ref 0), none] [] h := by
  refine r_aload_n dX0_readW_0 rfl rfl ?_
  refine k_VV (As := []) (stk := []) hp cv_X0_266 dX0_readW_1 rfl (Nat.le_of_ble_eq_true rfl) ly_0 (H.mono (fun h1 H => ?_)) ⟨Nat.le_refl _, Nat.le_refl _⟩
  refine r_aload_n dX0_readW_4 rfl rfl ?_
  refine m_getI hp fw_X0_214 dX0_readW_5 rfl ly_0 ?_
  refine r_if_ne (tgt := 51) dX0_readW_8 rfl (fun cH => ?_) (fun cH => ?_)
  · replace H := H.1 cH
    exact H
  · replace H := H.2 cH
    refine r_aload_n dX0_readW_11 rfl rfl ?_
    refine k_VI (As := []) (stk := []) hp cv_X0_220 dX0_readW_12 rfl (Nat.le_of_ble_eq_true rfl) ly_0 (H.mono (fun v2 h2 H => ?_)) ⟨Nat.le_refl _, Nat.le_refl _⟩
    refine r_bipush (v := (33 : Int32)) dX0_readW_15 rfl ?_
    refine r_icmp_ne (tgt := 51) dX0_readW_17 rfl (fun cH => ?_) (fun cH => ?_)
    · replace H := H.1 cH
      exact H
    · replace H := H.2 cH
      refine r_aload_n dX0_readW_20 rfl rfl ?_
      refine m_getI hp fw_X0_211 dX0_readW_21 rfl ly_0 ?_
      refine r_istore_n (ls2 := [some (.ref 0), some (.int (ri h2 0 13))]) dX0_readW_24 rfl (by decide) rfl ?_
      refine r_aload_n dX0_readW_25 rfl rfl ?_
      refine r_dup dX0_readW_26 rfl ?_
      refine m_getI hp fw_X0_211 dX0_readW_27 rfl ly_0 ?_
      refine r_iconst (v := (1 : Int32)) dX0_readW_30 rfl ?_
      refine r_iadd dX0_readW_31 ?_
      refine m_putI hp fw_X0_211 dX0_readW_32 rfl rfl ly_0 (fun h3 eh3 => ?_)
      replace H := H h3 eh3
      refine r_aload_n dX0_readW_35 rfl rfl ?_
      refine r_aload_n dX0_readW_36 rfl rfl ?_
      refine m_getF (x := 78) hp fw_X0_234 dX0_readW_37 rfl ly_0 (ff_0_18 ly_0) ?_
      refine r_aload_n dX0_readW_40 rfl rfl ?_
      refine m_getI hp fw_X0_231 dX0_readW_41 rfl ly_0 ?_
      refine r_iconst (v := (1 : Int32)) dX0_readW_44 rfl ?_
      refine r_isub dX0_readW_45 ?_
      obtain ⟨r4, er4⟩ : ∃ y, y = 1509 + 10 * (((ri h3 0 19) - (1 : Int32))).toNatClampNeg := ⟨_, rfl⟩
      have hir4 := H.1
      replace H := H.2 r4 er4
      have tLr4 := la_78 hir4 er4
      refine m_aalF (x := r4) hp dX0_readW_46 (lf_0_18 ly_0) rfl rfl (lu_0_18 ly_0) hir4 (fa_78 hir4 er4) ?_
      refine r_iload_n dX0_readW_47 rfl rfl ?_
      refine k_VV (As := [.ref r4, .int (ri h2 0 13)]) (stk := []) hp cv_X0_269 dX0_readW_48 rfl (Nat.le_of_ble_eq_true rfl) ly_0 (H.mono (fun h5 H => ?_)) ⟨Nat.le_refl _, Nat.le_refl _⟩
      refine r_prune [true, false] (ls2 := [some (.ref 0), none]) rfl ?_
      exact H
theorem s_X0_readW_51 {g : GX} {d : Nat} {av : List Value} {Q : QT} {n : Nat} {h : Hp}  (hp : g.2.2.2.2 = true)  (H : ((¬ (ri h 0 15) = (0 : Int32)) → (Q none n h)) ∧ (((ri h 0 15) = (0 : Int32)) → (CallI g m_X0_next d [.ref 0] n h (fun v1 h1 => (((¬ v1 = (94 : Int32)) → (Q none n h1)) ∧ ((v1 = (94 : Int32)) → (∀ h2, h2 = wi h1 0 13 ((ri h1 0 13) + (1 : Int32)) → (CallV g m_X0_readB d [.ref 0] n h2 (fun h3 => (((¬ (ri h3 0 15) = (0 : Int32)) → (Q none n h3)) ∧ (((ri h3 0 15) = (0 : Int32)) → (∀ h4, h4 = wi h3 0 19 ((ri h3 0 19) - (1 : Int32)) → (vp_in ((ri h4 0 19) - (1 : Int32)) 100 ∧ ∀ r5, r5 = 1509 + 10 * (((ri h4 0 19) - (1 : Int32))).toNatClampNeg → (vp_in (ri h4 0 19) 100 ∧ ∀ r6, r6 = 1509 + 10 * ((ri h4 0 19)).toNatClampNeg → (CallV g m_X0_readPower d [.ref 0, .ref r5, .ref r6, .int (ri h1 0 13)] n h4 (fun h7 => (Q none n h7))))))))))))))))) : W_X0_readW g d av Q n 51 [some (.ref 0), none] [] h := by
  refine r_aload_n dX0_readW_51 rfl rfl ?_
  refine m_getI hp fw_X0_214 dX0_readW_52 rfl ly_0 ?_
  refine r_if_ne (tgt := 128) dX0_readW_55 rfl (fun cH => ?_) (fun cH => ?_)
  · replace H := H.1 cH
    exact r_vret dX0_readW_128 rfl (Nat.le_refl _) (Nat.le_refl _) H
  · replace H := H.2 cH
    refine r_aload_n dX0_readW_58 rfl rfl ?_
    refine k_VI (As := []) (stk := []) hp cv_X0_220 dX0_readW_59 rfl (Nat.le_of_ble_eq_true rfl) ly_0 (H.mono (fun v1 h1 H => ?_)) ⟨Nat.le_refl _, Nat.le_refl _⟩
    refine r_bipush (v := (94 : Int32)) dX0_readW_62 rfl ?_
    refine r_icmp_ne (tgt := 128) dX0_readW_64 rfl (fun cH => ?_) (fun cH => ?_)
    · replace H := H.1 cH
      exact r_vret dX0_readW_128 rfl (Nat.le_refl _) (Nat.le_refl _) H
    · replace H := H.2 cH
      refine r_aload_n dX0_readW_67 rfl rfl ?_
      refine m_getI hp fw_X0_211 dX0_readW_68 rfl ly_0 ?_
      refine r_istore_n (ls2 := [some (.ref 0), some (.int (ri h1 0 13))]) dX0_readW_71 rfl (by decide) rfl ?_
      refine r_aload_n dX0_readW_72 rfl rfl ?_
      refine r_dup dX0_readW_73 rfl ?_
      refine m_getI hp fw_X0_211 dX0_readW_74 rfl ly_0 ?_
      refine r_iconst (v := (1 : Int32)) dX0_readW_77 rfl ?_
      refine r_iadd dX0_readW_78 ?_
      refine m_putI hp fw_X0_211 dX0_readW_79 rfl rfl ly_0 (fun h2 eh2 => ?_)
      replace H := H h2 eh2
      refine r_aload_n dX0_readW_82 rfl rfl ?_
      refine k_VV (As := []) (stk := []) hp cv_X0_266 dX0_readW_83 rfl (Nat.le_of_ble_eq_true rfl) ly_0 (H.mono (fun h3 H => ?_)) ⟨Nat.le_refl _, Nat.le_refl _⟩
      refine r_aload_n dX0_readW_86 rfl rfl ?_
      refine m_getI hp fw_X0_214 dX0_readW_87 rfl ly_0 ?_
      refine r_if_ne (tgt := 128) dX0_readW_90 rfl (fun cH => ?_) (fun cH => ?_)
      · replace H := H.1 cH
        exact r_vret dX0_readW_128 rfl (Nat.le_refl _) (Nat.le_refl _) H
      · replace H := H.2 cH
        refine r_aload_n dX0_readW_93 rfl rfl ?_
        refine r_dup dX0_readW_94 rfl ?_
        refine m_getI hp fw_X0_231 dX0_readW_95 rfl ly_0 ?_
        refine r_iconst (v := (1 : Int32)) dX0_readW_98 rfl ?_
        refine r_isub dX0_readW_99 ?_
        refine m_putI hp fw_X0_231 dX0_readW_100 rfl rfl ly_0 (fun h4 eh4 => ?_)
        replace H := H h4 eh4
        refine r_aload_n dX0_readW_103 rfl rfl ?_
        refine r_aload_n dX0_readW_104 rfl rfl ?_
        refine m_getF (x := 78) hp fw_X0_234 dX0_readW_105 rfl ly_0 (ff_0_18 ly_0) ?_
        refine r_aload_n dX0_readW_108 rfl rfl ?_
        refine m_getI hp fw_X0_231 dX0_readW_109 rfl ly_0 ?_
        refine r_iconst (v := (1 : Int32)) dX0_readW_112 rfl ?_
        refine r_isub dX0_readW_113 ?_
        obtain ⟨r5, er5⟩ : ∃ y, y = 1509 + 10 * (((ri h4 0 19) - (1 : Int32))).toNatClampNeg := ⟨_, rfl⟩
        have hir5 := H.1
        replace H := H.2 r5 er5
        have tLr5 := la_78 hir5 er5
        refine m_aalF (x := r5) hp dX0_readW_114 (lf_0_18 ly_0) rfl rfl (lu_0_18 ly_0) hir5 (fa_78 hir5 er5) ?_
        refine r_aload_n dX0_readW_115 rfl rfl ?_
        refine m_getF (x := 78) hp fw_X0_234 dX0_readW_116 rfl ly_0 (ff_0_18 ly_0) ?_
        refine r_aload_n dX0_readW_119 rfl rfl ?_
        refine m_getI hp fw_X0_231 dX0_readW_120 rfl ly_0 ?_
        obtain ⟨r6, er6⟩ : ∃ y, y = 1509 + 10 * ((ri h4 0 19)).toNatClampNeg := ⟨_, rfl⟩
        have hir6 := H.1
        replace H := H.2 r6 er6
        have tLr6 := la_78 hir6 er6
        refine m_aalF (x := r6) hp dX0_readW_123 (lf_0_18 ly_0) rfl rfl (lu_0_18 ly_0) hir6 (fa_78 hir6 er6) ?_
        refine r_iload_n dX0_readW_124 rfl rfl ?_
        refine k_VV (As := [.ref r5, .ref r6, .int (ri h1 0 13)]) (stk := []) hp cv_X0_273 dX0_readW_125 rfl (Nat.le_of_ble_eq_true rfl) ly_0 (H.mono (fun h7 H => ?_)) ⟨Nat.le_refl _, Nat.le_refl _⟩
        exact r_vret dX0_readW_128 rfl (Nat.le_refl _) (Nat.le_refl _) H
abbrev W_X0_readB (g : GX) (d : Nat) (av : List Value) (Q : QT) (n : Nat) (pc : Nat) (ls : LV) (stk : List Value) (h : Hp) : Prop := RJ g m_X0_readB (d + 1) 0 0 av Q pc ls stk n h 0 0
theorem s_X0_readB_0 {g : GX} {d : Nat} {av : List Value} {Q : QT} {n : Nat} {h : Hp}  (hp : g.2.2.2.2 = true)  (H : CallI g m_X0_next d [.ref 0] n h (fun v1 h1 => (((v1 < (48 : Int32)) → (W_X0_readB g d av Q n 108 [some (.ref 0), some (.int v1), none, none] [] h1)) ∧ ((¬ v1 < (48 : Int32)) → ((((57 : Int32) < v1) → (W_X0_readB g d av Q n 108 [some (.ref 0), some (.int v1), none, none] [] h1)) ∧ ((¬ (57 : Int32) < v1) → (W_X0_readB g d av Q n 19 [some (.ref 0), none, some (.long (0 : Int64)), none] [] h1))))))) : W_X0_readB g d av Q n 0 [some (.ref 0), none, none, none] [] h := by
  refine r_aload_n dX0_readB_0 rfl rfl ?_
  refine k_VI (As := []) (stk := []) hp cv_X0_220 dX0_readB_1 rfl (Nat.le_of_ble_eq_true rfl) ly_0 (H.mono (fun v1 h1 H => ?_)) ⟨Nat.le_refl _, Nat.le_refl _⟩
  refine r_istore_n (ls2 := [some (.ref 0), some (.int v1), none, none]) dX0_readB_4 rfl (by decide) rfl ?_
  refine r_iload_n dX0_readB_5 rfl rfl ?_
  refine r_bipush (v := (48 : Int32)) dX0_readB_6 rfl ?_
  refine r_icmp_lt (tgt := 108) dX0_readB_8 rfl (fun cH => ?_) (fun cH => ?_)
  · replace H := H.1 cH
    exact H
  · replace H := H.2 cH
    refine r_iload_n dX0_readB_11 rfl rfl ?_
    refine r_bipush (v := (57 : Int32)) dX0_readB_12 rfl ?_
    refine r_icmp_gt (tgt := 108) dX0_readB_14 rfl (fun cH => ?_) (fun cH => ?_)
    · replace H := H.1 cH
      exact H
    · replace H := H.2 cH
      refine r_lconst (v := (0 : Int64)) dX0_readB_17 rfl ?_
      refine r_lstore_n (ls2 := [some (.ref 0), some (.int v1), some (.long (0 : Int64)), none]) dX0_readB_18 rfl (by decide) rfl ?_
      refine r_prune [true, false, true, false] (ls2 := [some (.ref 0), none, some (.long (0 : Int64)), none]) rfl ?_
      exact H
theorem s_X0_readB_19 {g : GX} {d : Nat} {av : List Value} {Q : QT} {n : Nat} {h : Hp} {y2 : Int64} (hp : g.2.2.2.2 = true)  (H : (((ri h 0 12) ≤ (ri h 0 13)) → (W_X0_readB g d av Q n 92 [some (.ref 0), none, some (.long y2), none] [] h)) ∧ ((¬ (ri h 0 12) ≤ (ri h 0 13)) → (vp_in (ri h 0 13) 400 ∧ ((((ri h 77 ((ri h 0 13)).toNatClampNeg) < (48 : Int32)) → (W_X0_readB g d av Q n 92 [some (.ref 0), none, some (.long y2), none] [] h)) ∧ ((¬ (ri h 77 ((ri h 0 13)).toNatClampNeg) < (48 : Int32)) → (vp_in (ri h 0 13) 400 ∧ ((((57 : Int32) < (ri h 77 ((ri h 0 13)).toNatClampNeg)) → (W_X0_readB g d av Q n 92 [some (.ref 0), none, some (.long y2), none] [] h)) ∧ ((¬ (57 : Int32) < (ri h 77 ((ri h 0 13)).toNatClampNeg)) → (vp_in (ri h 0 13) 400 ∧ (∀ h1, h1 = wi h 0 13 ((ri h 0 13) + (1 : Int32)) → (W_X0_readB g d av Q n 19 [some (.ref 0), none, some (.long ((((10 : Int64) * y2) + ((ri h 77 ((ri h 0 13)).toNatClampNeg)).toInt64) - (48 : Int64))), none] [] h1))))))))))) : W_X0_readB g d av Q n 19 [some (.ref 0), none, some (.long y2), none] [] h := by
  refine r_aload_n dX0_readB_19 rfl rfl ?_
  refine m_getI hp fw_X0_211 dX0_readB_20 rfl ly_0 ?_
  refine r_aload_n dX0_readB_23 rfl rfl ?_
  refine m_getI hp fw_X0_204 dX0_readB_24 rfl ly_0 ?_
  refine r_icmp_ge (tgt := 92) dX0_readB_27 rfl (fun cH => ?_) (fun cH => ?_)
  · replace H := H.1 cH
    exact H
  · replace H := H.2 cH
    refine r_aload_n dX0_readB_30 rfl rfl ?_
    refine m_getF (x := 77) hp fw_X0_207 dX0_readB_31 rfl ly_0 (ff_0_11 ly_0) ?_
    refine r_aload_n dX0_readB_34 rfl rfl ?_
    refine m_getI hp fw_X0_211 dX0_readB_35 rfl ly_0 ?_
    refine m_bald hp dX0_readB_38 (lf_0_11 ly_0) H.1 ?_
    replace H := H.2
    refine r_bipush (v := (48 : Int32)) dX0_readB_39 rfl ?_
    refine r_icmp_lt (tgt := 92) dX0_readB_41 rfl (fun cH => ?_) (fun cH => ?_)
    · replace H := H.1 cH
      exact H
    · replace H := H.2 cH
      refine r_aload_n dX0_readB_44 rfl rfl ?_
      refine m_getF (x := 77) hp fw_X0_207 dX0_readB_45 rfl ly_0 (ff_0_11 ly_0) ?_
      refine r_aload_n dX0_readB_48 rfl rfl ?_
      refine m_getI hp fw_X0_211 dX0_readB_49 rfl ly_0 ?_
      refine m_bald hp dX0_readB_52 (lf_0_11 ly_0) H.1 ?_
      replace H := H.2
      refine r_bipush (v := (57 : Int32)) dX0_readB_53 rfl ?_
      refine r_icmp_gt (tgt := 92) dX0_readB_55 rfl (fun cH => ?_) (fun cH => ?_)
      · replace H := H.1 cH
        exact H
      · replace H := H.2 cH
        refine r_ldc2 (own := "") (v := (10 : Int64)) dX0_readB_58 q861 ?_
        refine r_lload_n dX0_readB_61 rfl rfl ?_
        refine r_lmul dX0_readB_62 ?_
        refine r_aload_n dX0_readB_63 rfl rfl ?_
        refine m_getF (x := 77) hp fw_X0_207 dX0_readB_64 rfl ly_0 (ff_0_11 ly_0) ?_
        refine r_aload_n dX0_readB_67 rfl rfl ?_
        refine m_getI hp fw_X0_211 dX0_readB_68 rfl ly_0 ?_
        refine m_bald hp dX0_readB_71 (lf_0_11 ly_0) H.1 ?_
        replace H := H.2
        refine r_i2l dX0_readB_72 ?_
        refine r_ladd dX0_readB_73 ?_
        refine r_ldc2 (own := "") (v := (48 : Int64)) dX0_readB_74 q862 ?_
        refine r_lsub dX0_readB_77 ?_
        refine r_lstore_n (ls2 := [some (.ref 0), none, some (.long ((((10 : Int64) * y2) + ((ri h 77 ((ri h 0 13)).toNatClampNeg)).toInt64) - (48 : Int64))), none]) dX0_readB_78 rfl (by decide) rfl ?_
        refine r_aload_n dX0_readB_79 rfl rfl ?_
        refine r_dup dX0_readB_80 rfl ?_
        refine m_getI hp fw_X0_211 dX0_readB_81 rfl ly_0 ?_
        refine r_iconst (v := (1 : Int32)) dX0_readB_84 rfl ?_
        refine r_iadd dX0_readB_85 ?_
        refine m_putI hp fw_X0_211 dX0_readB_86 rfl rfl ly_0 (fun h1 eh1 => ?_)
        replace H := H h1 eh1
        refine r_goto (tgt := 19) dX0_readB_89 rfl ?_
        exact H
theorem s_X0_readB_92 {g : GX} {d : Nat} {av : List Value} {Q : QT} {n : Nat} {h : Hp} {y2 : Int64} (hp : g.2.2.2.2 = true)  (H : CallR g m_X0_push d [.ref 0] n h (fun v1 h1 => (lay v1 = (0, 5, 8) ∧ (CallV g m_X5_set d [.ref v1, .int ((y2 - y2 / (2147483647 : Int64) * (2147483647 : Int64))).toInt32] n h1 (fun h2 => (Q none n h2)))))) : W_X0_readB g d av Q n 92 [some (.ref 0), none, some (.long y2), none] [] h := by
  refine r_aload_n dX0_readB_92 rfl rfl ?_
  refine k_VR (As := []) (stk := []) hp cv_X0_297 dX0_readB_93 rfl (Nat.le_of_ble_eq_true rfl) ly_0 (H.mono (fun v1 h1 H => ?_)) ⟨Nat.le_refl _, Nat.le_refl _⟩
  obtain ⟨tv1, H⟩ := H
  refine r_lload_n dX0_readB_96 rfl rfl ?_
  refine r_ldc2 (own := "") (v := (2147483647 : Int64)) dX0_readB_97 q867 ?_
  refine r_lrem dX0_readB_100 (by decide) ?_
  refine r_l2i dX0_readB_101 ?_
  refine k_VV (As := [.int ((y2 - y2 / (2147483647 : Int64) * (2147483647 : Int64))).toInt32]) (stk := []) hp cv_X0_129 dX0_readB_102 rfl (Nat.le_of_ble_eq_true rfl) tv1 (H.mono (fun h2 H => ?_)) ⟨Nat.le_refl _, Nat.le_refl _⟩
  refine r_goto (tgt := 251) dX0_readB_105 rfl ?_
  exact r_vret dX0_readB_251 rfl (Nat.le_refl _) (Nat.le_refl _) H
theorem s_X0_readB_108 {g : GX} {d : Nat} {av : List Value} {Q : QT} {n : Nat} {h : Hp} {x1 : Int32} (hp : g.2.2.2.2 = true)  (H : ((x1 = (110 : Int32)) → (W_X0_readB g d av Q n 120 [some (.ref 0), some (.int x1), none, none] [] h)) ∧ ((¬ x1 = (110 : Int32)) → (((¬ x1 = (107 : Int32)) → (((¬ x1 = (67 : Int32)) → (∀ h1, h1 = wi h 0 13 ((ri h 0 13) + (1 : Int32)) → (CallV g m_X0_readE d [.ref 0] n h1 (fun h2 => (CallI g m_X0_next d [.ref 0] n h2 (fun v3 h3 => (∀ h4, h4 = wi h3 0 13 ((ri h3 0 13) + (1 : Int32)) → (Q none n h4)))))))) ∧ ((x1 = (67 : Int32)) → (CallV g m_X0_readChoice d [.ref 0] n h (fun h5 => (Q none n h5)))))) ∧ ((x1 = (107 : Int32)) → (W_X0_readB g d av Q n 120 [some (.ref 0), some (.int x1), none, none] [] h))))) : W_X0_readB g d av Q n 108 [some (.ref 0), some (.int x1), none, none] [] h := by
  refine r_iload_n dX0_readB_108 rfl rfl ?_
  refine r_bipush (v := (110 : Int32)) dX0_readB_109 rfl ?_
  refine r_icmp_eq (tgt := 120) dX0_readB_111 rfl (fun cH => ?_) (fun cH => ?_)
  · replace H := H.1 cH
    exact H
  · replace H := H.2 cH
    refine r_iload_n dX0_readB_114 rfl rfl ?_
    refine r_bipush (v := (107 : Int32)) dX0_readB_115 rfl ?_
    refine r_icmp_ne (tgt := 209) dX0_readB_117 rfl (fun cH => ?_) (fun cH => ?_)
    · replace H := H.1 cH
      refine r_iload_n dX0_readB_209 rfl rfl ?_
      refine r_bipush (v := (67 : Int32)) dX0_readB_210 rfl ?_
      refine r_icmp_ne (tgt := 222) dX0_readB_212 rfl (fun cH => ?_) (fun cH => ?_)
      · replace H := H.1 cH
        refine r_aload_n dX0_readB_222 rfl rfl ?_
        refine r_dup dX0_readB_223 rfl ?_
        refine m_getI hp fw_X0_211 dX0_readB_224 rfl ly_0 ?_
        refine r_iconst (v := (1 : Int32)) dX0_readB_227 rfl ?_
        refine r_iadd dX0_readB_228 ?_
        refine m_putI hp fw_X0_211 dX0_readB_229 rfl rfl ly_0 (fun h1 eh1 => ?_)
        replace H := H h1 eh1
        refine r_aload_n dX0_readB_232 rfl rfl ?_
        refine k_VV (As := []) (stk := []) hp cv_X0_309 dX0_readB_233 rfl (Nat.le_of_ble_eq_true rfl) ly_0 (H.mono (fun h2 H => ?_)) ⟨Nat.le_refl _, Nat.le_refl _⟩
        refine r_aload_n dX0_readB_236 rfl rfl ?_
        refine k_VI (As := []) (stk := []) hp cv_X0_220 dX0_readB_237 rfl (Nat.le_of_ble_eq_true rfl) ly_0 (H.mono (fun v3 h3 H => ?_)) ⟨Nat.le_refl _, Nat.le_refl _⟩
        refine r_istore_n (ls2 := [some (.ref 0), some (.int x1), some (.int v3), none]) dX0_readB_240 rfl (by decide) rfl ?_
        refine r_aload_n dX0_readB_241 rfl rfl ?_
        refine r_dup dX0_readB_242 rfl ?_
        refine m_getI hp fw_X0_211 dX0_readB_243 rfl ly_0 ?_
        refine r_iconst (v := (1 : Int32)) dX0_readB_246 rfl ?_
        refine r_iadd dX0_readB_247 ?_
        refine m_putI hp fw_X0_211 dX0_readB_248 rfl rfl ly_0 (fun h4 eh4 => ?_)
        replace H := H h4 eh4
        exact r_vret dX0_readB_251 rfl (Nat.le_refl _) (Nat.le_refl _) H
      · replace H := H.2 cH
        refine r_aload_n dX0_readB_215 rfl rfl ?_
        refine k_VV (As := []) (stk := []) hp cv_X0_306 dX0_readB_216 rfl (Nat.le_of_ble_eq_true rfl) ly_0 (H.mono (fun h5 H => ?_)) ⟨Nat.le_refl _, Nat.le_refl _⟩
        refine r_goto (tgt := 251) dX0_readB_219 rfl ?_
        exact r_vret dX0_readB_251 rfl (Nat.le_refl _) (Nat.le_refl _) H
    · replace H := H.2 cH
      exact H
theorem s_X0_readB_120 {g : GX} {d : Nat} {av : List Value} {Q : QT} {n : Nat} {h : Hp} {x1 : Int32} (hp : g.2.2.2.2 = true)  (H : ∀ h1, h1 = wi h 0 13 ((ri h 0 13) + (1 : Int32)) → (CallR g m_X0_push d [.ref 0] n h1 (fun v2 h2 => (lay v2 = (0, 5, 8) ∧ (CallV g m_X5_plain d [.ref v2] n h2 (fun h3 => (CallV g m_X4_set d [.ref (v2 + 4), .int (1 : Int32)] n h3 (fun h4 => (((¬ x1 = (110 : Int32)) → (W_X0_readB g d av Q n 168 [none, some (.int x1), some (.ref v2), none] [.int (1 : Int32), .ref (v2 + 2)] h4)) ∧ ((x1 = (110 : Int32)) → (W_X0_readB g d av Q n 168 [none, some (.int x1), some (.ref v2), none] [.int (2 : Int32), .ref (v2 + 2)] h4))))))))))) : W_X0_readB g d av Q n 120 [some (.ref 0), some (.int x1), none, none] [] h := by
  refine r_aload_n dX0_readB_120 rfl rfl ?_
  refine r_dup dX0_readB_121 rfl ?_
  refine m_getI hp fw_X0_211 dX0_readB_122 rfl ly_0 ?_
  refine r_iconst (v := (1 : Int32)) dX0_readB_125 rfl ?_
  refine r_iadd dX0_readB_126 ?_
  refine m_putI hp fw_X0_211 dX0_readB_127 rfl rfl ly_0 (fun h1 eh1 => ?_)
  replace H := H h1 eh1
  refine r_aload_n dX0_readB_130 rfl rfl ?_
  refine k_VR (As := []) (stk := []) hp cv_X0_297 dX0_readB_131 rfl (Nat.le_of_ble_eq_true rfl) ly_0 (H.mono (fun v2 h2 H => ?_)) ⟨Nat.le_refl _, Nat.le_refl _⟩
  obtain ⟨tv2, H⟩ := H
  refine r_astore_n (ls2 := [some (.ref 0), some (.int x1), some (.ref v2), none]) dX0_readB_134 rfl (by decide) rfl ?_
  refine r_aload_n dX0_readB_135 rfl rfl ?_
  refine k_VV (As := []) (stk := []) hp cv_X0_301 dX0_readB_136 rfl (Nat.le_of_ble_eq_true rfl) tv2 (H.mono (fun h3 H => ?_)) ⟨Nat.le_refl _, Nat.le_refl _⟩
  refine r_aload_n dX0_readB_139 rfl rfl ?_
  refine m_getF (x := (v2 + 1)) hp fw_X0_110 dX0_readB_140 rfl tv2 (ff_5_0 tv2) ?_
  refine m_getF (x := (v2 + 4)) hp fw_X0_94 dX0_readB_143 rfl (lf_5_0 tv2) (ff_6_1 (lf_5_0 tv2)) ?_
  refine r_iconst (v := (1 : Int32)) dX0_readB_146 rfl ?_
  refine k_VV (As := [.int (1 : Int32)]) (stk := []) hp cv_X0_42 dX0_readB_147 rfl (Nat.le_of_ble_eq_true rfl) (lf_6_1 (lf_5_0 tv2)) (H.mono (fun h4 H => ?_)) ⟨Nat.le_refl _, Nat.le_refl _⟩
  refine r_aload_n dX0_readB_150 rfl rfl ?_
  refine m_getF (x := (v2 + 1)) hp fw_X0_110 dX0_readB_151 rfl tv2 (ff_5_0 tv2) ?_
  refine m_getF (x := (v2 + 2)) hp fw_X0_89 dX0_readB_154 rfl (lf_5_0 tv2) (ff_6_0 (lf_5_0 tv2)) ?_
  refine r_iload_n dX0_readB_157 rfl rfl ?_
  refine r_bipush (v := (110 : Int32)) dX0_readB_158 rfl ?_
  refine r_icmp_ne (tgt := 167) dX0_readB_160 rfl (fun cH => ?_) (fun cH => ?_)
  · replace H := H.1 cH
    refine r_iconst (v := (1 : Int32)) dX0_readB_167 rfl ?_
    refine r_prune [false, true, true, false] (ls2 := [none, some (.int x1), some (.ref v2), none]) rfl ?_
    exact H
  · replace H := H.2 cH
    refine r_iconst (v := (2 : Int32)) dX0_readB_163 rfl ?_
    refine r_goto (tgt := 168) dX0_readB_164 rfl ?_
    refine r_prune [false, true, true, false] (ls2 := [none, some (.int x1), some (.ref v2), none]) rfl ?_
    exact H
theorem s_X0_readB_168 {g : GX} {d : Nat} {av : List Value} {Q : QT} {n : Nat} {h : Hp} {x1 : Int32} {a2 : Nat} {xs0 : Int32} {as1 : Nat} (hp : g.2.2.2.2 = true) (t2 : lay a2 = (0, 5, 8)) (ts1 : lay as1 = (0, 4, 4)) (H : ((¬ x1 = (110 : Int32)) → (W_X0_readB g d av Q n 179 [none, some (.int x1), some (.ref a2), none] [.int (2 : Int32), .int xs0, .ref as1] h)) ∧ ((x1 = (110 : Int32)) → (W_X0_readB g d av Q n 179 [none, some (.int x1), some (.ref a2), none] [.int (1 : Int32), .int xs0, .ref as1] h))) : W_X0_readB g d av Q n 168 [none, some (.int x1), some (.ref a2), none] [.int xs0, .ref as1] h := by
  refine r_iload_n dX0_readB_168 rfl rfl ?_
  refine r_bipush (v := (110 : Int32)) dX0_readB_169 rfl ?_
  refine r_icmp_ne (tgt := 178) dX0_readB_171 rfl (fun cH => ?_) (fun cH => ?_)
  · replace H := H.1 cH
    refine r_iconst (v := (2 : Int32)) dX0_readB_178 rfl ?_
    exact H
  · replace H := H.2 cH
    refine r_iconst (v := (1 : Int32)) dX0_readB_174 rfl ?_
    refine r_goto (tgt := 179) dX0_readB_175 rfl ?_
    exact H
theorem s_X0_readB_179 {g : GX} {d : Nat} {av : List Value} {Q : QT} {n : Nat} {h : Hp} {x1 : Int32} {a2 : Nat} {xs0 : Int32} {xs1 : Int32} {as2 : Nat} (hp : g.2.2.2.2 = true) (t2 : lay a2 = (0, 5, 8)) (ts2 : lay as2 = (0, 4, 4)) (H : CallV g m_X4_open d [.ref as2, .int xs1, .int xs0] n h (fun h1 => (((¬ x1 = (110 : Int32)) → (W_X0_readB g d av Q n 204 [none, none, none, none] [.int (25 : Int32), .ref (a2 + 3)] h1)) ∧ ((x1 = (110 : Int32)) → (W_X0_readB g d av Q n 204 [none, none, none, none] [.int (1 : Int32), .ref (a2 + 3)] h1))))) : W_X0_readB g d av Q n 179 [none, some (.int x1), some (.ref a2), none] [.int xs0, .int xs1, .ref as2] h := by
  refine k_VV (As := [.int xs1, .int xs0]) (stk := []) hp cv_X0_304 dX0_readB_179 rfl (Nat.le_of_ble_eq_true rfl) ts2 (H.mono (fun h1 H => ?_)) ⟨Nat.le_refl _, Nat.le_refl _⟩
  refine r_aload_n dX0_readB_182 rfl rfl ?_
  refine m_getF (x := (a2 + 1)) hp fw_X0_110 dX0_readB_183 rfl t2 (ff_5_0 t2) ?_
  refine m_getF (x := (a2 + 2)) hp fw_X0_89 dX0_readB_186 rfl (lf_5_0 t2) (ff_6_0 (lf_5_0 t2)) ?_
  refine m_getF (x := (a2 + 3)) hp fw_X0_288 dX0_readB_189 rfl (lf_6_0 (lf_5_0 t2)) (ff_4_1 (lf_6_0 (lf_5_0 t2))) ?_
  refine r_iload_n dX0_readB_192 rfl rfl ?_
  refine r_bipush (v := (110 : Int32)) dX0_readB_193 rfl ?_
  refine r_icmp_ne (tgt := 202) dX0_readB_195 rfl (fun cH => ?_) (fun cH => ?_)
  · replace H := H.1 cH
    refine r_bipush (v := (25 : Int32)) dX0_readB_202 rfl ?_
    refine r_prune [false, false, false, false] (ls2 := [none, none, none, none]) rfl ?_
    exact H
  · replace H := H.2 cH
    refine r_iconst (v := (1 : Int32)) dX0_readB_198 rfl ?_
    refine r_goto (tgt := 204) dX0_readB_199 rfl ?_
    refine r_prune [false, false, false, false] (ls2 := [none, none, none, none]) rfl ?_
    exact H
theorem s_X0_readB_204 {g : GX} {d : Nat} {av : List Value} {Q : QT} {n : Nat} {h : Hp} {xs0 : Int32} {as1 : Nat} {Ls1 : Nat} (hp : g.2.2.2.2 = true) (ts1 : lay as1 = (1, Ls1, 0)) (H : vp_in xs0 Ls1 ∧ ∀ h1, h1 = wi h as1 (xs0).toNatClampNeg (1 : Int32) → (Q none n h1)) : W_X0_readB g d av Q n 204 [none, none, none, none] [.int xs0, .ref as1] h := by
  refine r_iconst (v := (1 : Int32)) dX0_readB_204 rfl ?_
  refine m_iast hp dX0_readB_205 ts1 H.1 (fun h1 eh1 => ?_)
  replace H := H.2 h1 eh1
  refine r_goto (tgt := 251) dX0_readB_206 rfl ?_
  exact r_vret dX0_readB_251 rfl (Nat.le_refl _) (Nat.le_refl _) H
abbrev W_X0_push (g : GX) (d : Nat) (av : List Value) (Q : QT) (n : Nat) (pc : Nat) (ls : LV) (stk : List Value) (h : Hp) : Prop := RJ g m_X0_push d 0 0 av Q pc ls stk n h 0 0
theorem s_X0_push_0 {g : GX} {d : Nat} {av : List Value} {Q : QT} {n : Nat} {h : Hp}  (hp : g.2.2.2.2 = true)  (H : ∀ h1, h1 = wi h 0 19 ((ri h 0 19) + (1 : Int32)) → (vp_in ((ri h1 0 19) - (1 : Int32)) 100 ∧ ∀ r2, r2 = 1509 + 10 * (((ri h1 0 19) - (1 : Int32))).toNatClampNeg → (Q (some (.ref r2)) n h1))) : W_X0_push g d av Q n 0 [some (.ref 0)] [] h := by
  refine r_aload_n dX0_push_0 rfl rfl ?_
  refine r_dup dX0_push_1 rfl ?_
  refine m_getI hp fw_X0_231 dX0_push_2 rfl ly_0 ?_
  refine r_iconst (v := (1 : Int32)) dX0_push_5 rfl ?_
  refine r_iadd dX0_push_6 ?_
  refine m_putI hp fw_X0_231 dX0_push_7 rfl rfl ly_0 (fun h1 eh1 => ?_)
  replace H := H h1 eh1
  refine r_aload_n dX0_push_10 rfl rfl ?_
  refine m_getF (x := 78) hp fw_X0_234 dX0_push_11 rfl ly_0 (ff_0_18 ly_0) ?_
  refine r_aload_n dX0_push_14 rfl rfl ?_
  refine m_getI hp fw_X0_231 dX0_push_15 rfl ly_0 ?_
  refine r_iconst (v := (1 : Int32)) dX0_push_18 rfl ?_
  refine r_isub dX0_push_19 ?_
  obtain ⟨r2, er2⟩ : ∃ y, y = 1509 + 10 * (((ri h1 0 19) - (1 : Int32))).toNatClampNeg := ⟨_, rfl⟩
  have hir2 := H.1
  replace H := H.2 r2 er2
  have tLr2 := la_78 hir2 er2
  refine m_aalF (x := r2) hp dX0_push_20 (lf_0_18 ly_0) rfl rfl (lu_0_18 ly_0) hir2 (fa_78 hir2 er2) ?_
  exact r_aret dX0_push_21 rfl (Or.inl ⟨_, rfl⟩) (Nat.le_refl _) (Nat.le_refl _) H
abbrev W_X0_readChoice (g : GX) (d : Nat) (av : List Value) (Q : QT) (n : Nat) (pc : Nat) (ls : LV) (stk : List Value) (h : Hp) : Prop := RJ g m_X0_readChoice (d + 1) 0 0 av Q pc ls stk n h 0 0
theorem s_X0_readChoice_0 {g : GX} {d : Nat} {av : List Value} {Q : QT} {n : Nat} {h : Hp}  (hp : g.2.2.2.2 = true)  (H : ∀ h1, h1 = wi h 0 13 ((ri h 0 13) + (1 : Int32)) → (CallI g m_X0_next d [.ref 0] n h1 (fun v2 h2 => (∀ h3, h3 = wi h2 0 13 ((ri h2 0 13) + (1 : Int32)) → (CallV g m_X0_readE d [.ref 0] n h3 (fun h4 => (CallI g m_X0_next d [.ref 0] n h4 (fun v5 h5 => (∀ h6, h6 = wi h5 0 13 ((ri h5 0 13) + (1 : Int32)) → (((¬ (ri h6 0 15) = (0 : Int32)) → (W_X0_readChoice g d av Q n 76 [some (.ref 0), some (.int (ri h 0 13)), none, none, none, none, none, none, none, none] [] h6)) ∧ (((ri h6 0 15) = (0 : Int32)) → (CallV g m_X0_readE d [.ref 0] n h6 (fun h7 => (CallI g m_X0_next d [.ref 0] n h7 (fun v8 h8 => (∀ h9, h9 = wi h8 0 13 ((ri h8 0 13) + (1 : Int32)) → (W_X0_readChoice g d av Q n 76 [some (.ref 0), some (.int (ri h 0 13)), none, none, none, none, none, none, none, none] [] h9))))))))))))))))) : W_X0_readChoice g d av Q n 0 [some (.ref 0), none, none, none, none, none, none, none, none, none] [] h := by
  refine r_aload_n dX0_readChoice_0 rfl rfl ?_
  refine m_getI hp fw_X0_211 dX0_readChoice_1 rfl ly_0 ?_
  refine r_istore_n (ls2 := [some (.ref 0), some (.int (ri h 0 13)), none, none, none, none, none, none, none, none]) dX0_readChoice_4 rfl (by decide) rfl ?_
  refine r_aload_n dX0_readChoice_5 rfl rfl ?_
  refine r_dup dX0_readChoice_6 rfl ?_
  refine m_getI hp fw_X0_211 dX0_readChoice_7 rfl ly_0 ?_
  refine r_iconst (v := (1 : Int32)) dX0_readChoice_10 rfl ?_
  refine r_iadd dX0_readChoice_11 ?_
  refine m_putI hp fw_X0_211 dX0_readChoice_12 rfl rfl ly_0 (fun h1 eh1 => ?_)
  replace H := H h1 eh1
  refine r_aload_n dX0_readChoice_15 rfl rfl ?_
  refine k_VI (As := []) (stk := []) hp cv_X0_220 dX0_readChoice_16 rfl (Nat.le_of_ble_eq_true rfl) ly_0 (H.mono (fun v2 h2 H => ?_)) ⟨Nat.le_refl _, Nat.le_refl _⟩
  refine r_istore_n (ls2 := [some (.ref 0), some (.int (ri h 0 13)), some (.int v2), none, none, none, none, none, none, none]) dX0_readChoice_19 rfl (by decide) rfl ?_
  refine r_aload_n dX0_readChoice_20 rfl rfl ?_
  refine r_dup dX0_readChoice_21 rfl ?_
  refine m_getI hp fw_X0_211 dX0_readChoice_22 rfl ly_0 ?_
  refine r_iconst (v := (1 : Int32)) dX0_readChoice_25 rfl ?_
  refine r_iadd dX0_readChoice_26 ?_
  refine m_putI hp fw_X0_211 dX0_readChoice_27 rfl rfl ly_0 (fun h3 eh3 => ?_)
  replace H := H h3 eh3
  refine r_aload_n dX0_readChoice_30 rfl rfl ?_
  refine k_VV (As := []) (stk := []) hp cv_X0_309 dX0_readChoice_31 rfl (Nat.le_of_ble_eq_true rfl) ly_0 (H.mono (fun h4 H => ?_)) ⟨Nat.le_refl _, Nat.le_refl _⟩
  refine r_aload_n dX0_readChoice_34 rfl rfl ?_
  refine k_VI (As := []) (stk := []) hp cv_X0_220 dX0_readChoice_35 rfl (Nat.le_of_ble_eq_true rfl) ly_0 (H.mono (fun v5 h5 H => ?_)) ⟨Nat.le_refl _, Nat.le_refl _⟩
  refine r_istore_n (ls2 := [some (.ref 0), some (.int (ri h 0 13)), some (.int v2), some (.int v5), none, none, none, none, none, none]) dX0_readChoice_38 rfl (by decide) rfl ?_
  refine r_aload_n dX0_readChoice_39 rfl rfl ?_
  refine r_dup dX0_readChoice_40 rfl ?_
  refine m_getI hp fw_X0_211 dX0_readChoice_41 rfl ly_0 ?_
  refine r_iconst (v := (1 : Int32)) dX0_readChoice_44 rfl ?_
  refine r_iadd dX0_readChoice_45 ?_
  refine m_putI hp fw_X0_211 dX0_readChoice_46 rfl rfl ly_0 (fun h6 eh6 => ?_)
  replace H := H h6 eh6
  refine r_aload_n dX0_readChoice_49 rfl rfl ?_
  refine m_getI hp fw_X0_214 dX0_readChoice_50 rfl ly_0 ?_
  refine r_if_ne (tgt := 76) dX0_readChoice_53 rfl (fun cH => ?_) (fun cH => ?_)
  · replace H := H.1 cH
    refine r_prune [true, true, false, false, false, false, false, false, false, false] (ls2 := [some (.ref 0), some (.int (ri h 0 13)), none, none, none, none, none, none, none, none]) rfl ?_
    exact H
  · replace H := H.2 cH
    refine r_aload_n dX0_readChoice_56 rfl rfl ?_
    refine k_VV (As := []) (stk := []) hp cv_X0_309 dX0_readChoice_57 rfl (Nat.le_of_ble_eq_true rfl) ly_0 (H.mono (fun h7 H => ?_)) ⟨Nat.le_refl _, Nat.le_refl _⟩
    refine r_aload_n dX0_readChoice_60 rfl rfl ?_
    refine k_VI (As := []) (stk := []) hp cv_X0_220 dX0_readChoice_61 rfl (Nat.le_of_ble_eq_true rfl) ly_0 (H.mono (fun v8 h8 H => ?_)) ⟨Nat.le_refl _, Nat.le_refl _⟩
    refine r_istore (ls2 := [some (.ref 0), some (.int (ri h 0 13)), some (.int v2), some (.int v5), some (.int v8), none, none, none, none, none]) dX0_readChoice_64 (by decide) rfl ?_
    refine r_aload_n dX0_readChoice_66 rfl rfl ?_
    refine r_dup dX0_readChoice_67 rfl ?_
    refine m_getI hp fw_X0_211 dX0_readChoice_68 rfl ly_0 ?_
    refine r_iconst (v := (1 : Int32)) dX0_readChoice_71 rfl ?_
    refine r_iadd dX0_readChoice_72 ?_
    refine m_putI hp fw_X0_211 dX0_readChoice_73 rfl rfl ly_0 (fun h9 eh9 => ?_)
    replace H := H h9 eh9
    refine r_prune [true, true, false, false, false, false, false, false, false, false] (ls2 := [some (.ref 0), some (.int (ri h 0 13)), none, none, none, none, none, none, none, none]) rfl ?_
    exact H
theorem s_X0_readChoice_76 {g : GX} {d : Nat} {av : List Value} {Q : QT} {n : Nat} {h : Hp} {x1 : Int32} (hp : g.2.2.2.2 = true)  (H : (((ri h 0 15) = (0 : Int32)) → (∀ h1, h1 = wi h 0 19 ((ri h 0 19) - (1 : Int32)) → (vp_in ((ri h1 0 19) - (1 : Int32)) 100 ∧ ∀ r2, r2 = 1509 + 10 * (((ri h1 0 19) - (1 : Int32))).toNatClampNeg → (CallI g m_X0_isLine d [.ref 0, .ref r2] n h1 (fun v3 h3 => (((v3 = (0 : Int32)) → (W_X0_readChoice g d av Q n 185 [some (.ref 0), some (.int x1), none, none, some (.ref r2), none, some (.int (ri h3 0 8)), some (.int (ri h3 0 9)), some (.int (ri h3 0 10)), none] [] h3)) ∧ ((¬ v3 = (0 : Int32)) → (vp_in (ri h3 0 19) 100 ∧ ∀ r4, r4 = 1509 + 10 * ((ri h3 0 19)).toNatClampNeg → (CallI g m_X0_isLine d [.ref 0, .ref r4] n h3 (fun v5 h5 => (((v5 = (0 : Int32)) → (W_X0_readChoice g d av Q n 185 [some (.ref 0), some (.int x1), none, none, some (.ref r2), none, some (.int (ri h3 0 8)), some (.int (ri h3 0 9)), some (.int (ri h3 0 10)), none] [] h5)) ∧ ((¬ v5 = (0 : Int32)) → (CallI g m_X0_isLine_2 d [.int ((ri h3 0 8) - (ri h5 0 8)), .int ((ri h3 0 9) - (ri h5 0 9)), .int ((ri h3 0 10) - (ri h5 0 10))] n h5 (fun v6 h6 => (((v6 = (0 : Int32)) → (W_X0_readChoice g d av Q n 185 [some (.ref 0), some (.int x1), none, none, some (.ref r2), none, some (.int (ri h3 0 8)), some (.int (ri h3 0 9)), some (.int (ri h3 0 10)), none] [] h6)) ∧ ((¬ v6 = (0 : Int32)) → (W_X0_readChoice g d av Q n 186 [some (.ref 0), some (.int x1), none, none, some (.ref r2), none, some (.int (ri h3 0 8)), some (.int (ri h3 0 9)), some (.int (ri h3 0 10)), none] [.int (1 : Int32)] h6))))))))))))))))) ∧ ((¬ (ri h 0 15) = (0 : Int32)) → (Q none n h))) : W_X0_readChoice g d av Q n 76 [some (.ref 0), some (.int x1), none, none, none, none, none, none, none, none] [] h := by
  refine r_aload_n dX0_readChoice_76 rfl rfl ?_
  refine m_getI hp fw_X0_214 dX0_readChoice_77 rfl ly_0 ?_
  refine r_if_eq (tgt := 84) dX0_readChoice_80 rfl (fun cH => ?_) (fun cH => ?_)
  · replace H := H.1 cH
    refine r_aload_n dX0_readChoice_84 rfl rfl ?_
    refine r_dup dX0_readChoice_85 rfl ?_
    refine m_getI hp fw_X0_231 dX0_readChoice_86 rfl ly_0 ?_
    refine r_iconst (v := (1 : Int32)) dX0_readChoice_89 rfl ?_
    refine r_isub dX0_readChoice_90 ?_
    refine m_putI hp fw_X0_231 dX0_readChoice_91 rfl rfl ly_0 (fun h1 eh1 => ?_)
    replace H := H h1 eh1
    refine r_aload_n dX0_readChoice_94 rfl rfl ?_
    refine m_getF (x := 78) hp fw_X0_234 dX0_readChoice_95 rfl ly_0 (ff_0_18 ly_0) ?_
    refine r_aload_n dX0_readChoice_98 rfl rfl ?_
    refine m_getI hp fw_X0_231 dX0_readChoice_99 rfl ly_0 ?_
    refine r_iconst (v := (1 : Int32)) dX0_readChoice_102 rfl ?_
    refine r_isub dX0_readChoice_103 ?_
    obtain ⟨r2, er2⟩ : ∃ y, y = 1509 + 10 * (((ri h1 0 19) - (1 : Int32))).toNatClampNeg := ⟨_, rfl⟩
    have hir2 := H.1
    replace H := H.2 r2 er2
    have tLr2 := la_78 hir2 er2
    refine m_aalF (x := r2) hp dX0_readChoice_104 (lf_0_18 ly_0) rfl rfl (lu_0_18 ly_0) hir2 (fa_78 hir2 er2) ?_
    refine r_astore (ls2 := [some (.ref 0), some (.int x1), none, none, some (.ref r2), none, none, none, none, none]) dX0_readChoice_105 (by decide) rfl ?_
    refine r_aload_n dX0_readChoice_107 rfl rfl ?_
    refine r_aload dX0_readChoice_108 rfl ?_
    refine k_VI (As := [.ref r2]) (stk := []) hp cv_X0_277 dX0_readChoice_110 rfl (Nat.le_of_ble_eq_true rfl) ly_0 (H.mono (fun v3 h3 H => ?_)) ⟨Nat.le_refl _, Nat.le_refl _⟩
    refine r_istore (ls2 := [some (.ref 0), some (.int x1), none, none, some (.ref r2), some (.int v3), none, none, none, none]) dX0_readChoice_113 (by decide) rfl ?_
    refine r_aload_n dX0_readChoice_115 rfl rfl ?_
    refine m_getI hp fw_X0_189 dX0_readChoice_116 rfl ly_0 ?_
    refine r_istore (ls2 := [some (.ref 0), some (.int x1), none, none, some (.ref r2), some (.int v3), some (.int (ri h3 0 8)), none, none, none]) dX0_readChoice_119 (by decide) rfl ?_
    refine r_aload_n dX0_readChoice_121 rfl rfl ?_
    refine m_getI hp fw_X0_192 dX0_readChoice_122 rfl ly_0 ?_
    refine r_istore (ls2 := [some (.ref 0), some (.int x1), none, none, some (.ref r2), some (.int v3), some (.int (ri h3 0 8)), some (.int (ri h3 0 9)), none, none]) dX0_readChoice_125 (by decide) rfl ?_
    refine r_aload_n dX0_readChoice_127 rfl rfl ?_
    refine m_getI hp fw_X0_195 dX0_readChoice_128 rfl ly_0 ?_
    refine r_istore (ls2 := [some (.ref 0), some (.int x1), none, none, some (.ref r2), some (.int v3), some (.int (ri h3 0 8)), some (.int (ri h3 0 9)), some (.int (ri h3 0 10)), none]) dX0_readChoice_131 (by decide) rfl ?_
    refine r_iload dX0_readChoice_133 rfl ?_
    refine r_if_eq (tgt := 185) dX0_readChoice_135 rfl (fun cH => ?_) (fun cH => ?_)
    · replace H := H.1 cH
      refine r_prune [true, true, false, false, true, false, true, true, true, false] (ls2 := [some (.ref 0), some (.int x1), none, none, some (.ref r2), none, some (.int (ri h3 0 8)), some (.int (ri h3 0 9)), some (.int (ri h3 0 10)), none]) rfl ?_
      exact H
    · replace H := H.2 cH
      refine r_aload_n dX0_readChoice_138 rfl rfl ?_
      refine r_aload_n dX0_readChoice_139 rfl rfl ?_
      refine m_getF (x := 78) hp fw_X0_234 dX0_readChoice_140 rfl ly_0 (ff_0_18 ly_0) ?_
      refine r_aload_n dX0_readChoice_143 rfl rfl ?_
      refine m_getI hp fw_X0_231 dX0_readChoice_144 rfl ly_0 ?_
      obtain ⟨r4, er4⟩ : ∃ y, y = 1509 + 10 * ((ri h3 0 19)).toNatClampNeg := ⟨_, rfl⟩
      have hir4 := H.1
      replace H := H.2 r4 er4
      have tLr4 := la_78 hir4 er4
      refine m_aalF (x := r4) hp dX0_readChoice_147 (lf_0_18 ly_0) rfl rfl (lu_0_18 ly_0) hir4 (fa_78 hir4 er4) ?_
      refine k_VI (As := [.ref r4]) (stk := []) hp cv_X0_277 dX0_readChoice_148 rfl (Nat.le_of_ble_eq_true rfl) ly_0 (H.mono (fun v5 h5 H => ?_)) ⟨Nat.le_refl _, Nat.le_refl _⟩
      refine r_if_eq (tgt := 185) dX0_readChoice_151 rfl (fun cH => ?_) (fun cH => ?_)
      · replace H := H.1 cH
        refine r_prune [true, true, false, false, true, false, true, true, true, false] (ls2 := [some (.ref 0), some (.int x1), none, none, some (.ref r2), none, some (.int (ri h3 0 8)), some (.int (ri h3 0 9)), some (.int (ri h3 0 10)), none]) rfl ?_
        exact H
      · replace H := H.2 cH
        refine r_iload dX0_readChoice_154 rfl ?_
        refine r_aload_n dX0_readChoice_156 rfl rfl ?_
        refine m_getI hp fw_X0_189 dX0_readChoice_157 rfl ly_0 ?_
        refine r_isub dX0_readChoice_160 ?_
        refine r_iload dX0_readChoice_161 rfl ?_
        refine r_aload_n dX0_readChoice_163 rfl rfl ?_
        refine m_getI hp fw_X0_192 dX0_readChoice_164 rfl ly_0 ?_
        refine r_isub dX0_readChoice_167 ?_
        refine r_iload dX0_readChoice_168 rfl ?_
        refine r_aload_n dX0_readChoice_170 rfl rfl ?_
        refine m_getI hp fw_X0_195 dX0_readChoice_171 rfl ly_0 ?_
        refine r_isub dX0_readChoice_174 ?_
        refine k_SI (As := [.int ((ri h3 0 8) - (ri h5 0 8)), .int ((ri h3 0 9) - (ri h5 0 9)), .int ((ri h3 0 10) - (ri h5 0 10))]) (stk := []) cs_X0_198 dX0_readChoice_175 rfl (Nat.le_of_ble_eq_true rfl) (H.mono (fun v6 h6 H => ?_)) ⟨Nat.le_refl _, Nat.le_refl _⟩
        refine r_if_eq (tgt := 185) dX0_readChoice_178 rfl (fun cH => ?_) (fun cH => ?_)
        · replace H := H.1 cH
          refine r_prune [true, true, false, false, true, false, true, true, true, false] (ls2 := [some (.ref 0), some (.int x1), none, none, some (.ref r2), none, some (.int (ri h3 0 8)), some (.int (ri h3 0 9)), some (.int (ri h3 0 10)), none]) rfl ?_
          exact H
        · replace H := H.2 cH
          refine r_iconst (v := (1 : Int32)) dX0_readChoice_181 rfl ?_
          refine r_goto (tgt := 186) dX0_readChoice_182 rfl ?_
          refine r_prune [true, true, false, false, true, false, true, true, true, false] (ls2 := [some (.ref 0), some (.int x1), none, none, some (.ref r2), none, some (.int (ri h3 0 8)), some (.int (ri h3 0 9)), some (.int (ri h3 0 10)), none]) rfl ?_
          exact H
  · replace H := H.2 cH
    exact r_vret dX0_readChoice_83 rfl (Nat.le_refl _) (Nat.le_refl _) H
theorem s_X0_readChoice_185 {g : GX} {d : Nat} {av : List Value} {Q : QT} {n : Nat} {h : Hp} {x1 : Int32} {a4 : Nat} {x6 : Int32} {x7 : Int32} {x8 : Int32} (hp : g.2.2.2.2 = true) (t4 : lay a4 = (0, 5, 8)) (H : W_X0_readChoice g d av Q n 186 [some (.ref 0), some (.int x1), none, none, some (.ref a4), none, some (.int x6), some (.int x7), some (.int x8), none] [.int (0 : Int32)] h) : W_X0_readChoice g d av Q n 185 [some (.ref 0), some (.int x1), none, none, some (.ref a4), none, some (.int x6), some (.int x7), some (.int x8), none] [] h := by
  refine r_iconst (v := (0 : Int32)) dX0_readChoice_185 rfl ?_
  exact H
theorem s_X0_readChoice_186 {g : GX} {d : Nat} {av : List Value} {Q : QT} {n : Nat} {h : Hp} {x1 : Int32} {a4 : Nat} {x6 : Int32} {x7 : Int32} {x8 : Int32} {xs0 : Int32} (hp : g.2.2.2.2 = true) (t4 : lay a4 = (0, 5, 8)) (H : ((¬ xs0 = (0 : Int32)) → (CallV g m_X5_set d [.ref a4, .int (1 : Int32)] n h (fun h1 => (CallI g m_X0_addFactorial d [.ref 0, .ref a4, .int x6, .int x7, .int x8, .int (1 : Int32)] n h1 (fun v2 h2 => (((v2 = (0 : Int32)) → (W_X0_readChoice g d av Q n 279 [some (.ref 0), some (.int x1), none, none, none, none, none, none, none, none] [] h2)) ∧ ((¬ v2 = (0 : Int32)) → (CallI g m_X0_addFactorial d [.ref 0, .ref a4, .int (ri h2 0 8), .int (ri h2 0 9), .int (ri h2 0 10), .int (-1 : Int32)] n h2 (fun v3 h3 => (((v3 = (0 : Int32)) → (W_X0_readChoice g d av Q n 279 [some (.ref 0), some (.int x1), none, none, none, none, none, none, none, none] [] h3)) ∧ ((¬ v3 = (0 : Int32)) → (CallI g m_X0_addFactorial d [.ref 0, .ref a4, .int (x6 - (ri h3 0 8)), .int (x7 - (ri h3 0 9)), .int (x8 - (ri h3 0 10)), .int (-1 : Int32)] n h3 (fun v4 h4 => (((v4 = (0 : Int32)) → (W_X0_readChoice g d av Q n 279 [some (.ref 0), some (.int x1), none, none, none, none, none, none, none, none] [] h4)) ∧ ((¬ v4 = (0 : Int32)) → (W_X0_readChoice g d av Q n 280 [some (.ref 0), some (.int x1), none, none, none, none, none, none, none, none] [.int (1 : Int32)] h4)))))))))))))))) ∧ ((xs0 = (0 : Int32)) → (CallV g m_X0_flaw d [.ref 0, .int (2 : Int32), .int x1] n h (fun h5 => (Q none n h5))))) : W_X0_readChoice g d av Q n 186 [some (.ref 0), some (.int x1), none, none, some (.ref a4), none, some (.int x6), some (.int x7), some (.int x8), none] [.int xs0] h := by
  refine r_istore (ls2 := [some (.ref 0), some (.int x1), none, none, some (.ref a4), some (.int xs0), some (.int x6), some (.int x7), some (.int x8), none]) dX0_readChoice_186 (by decide) rfl ?_
  refine r_iload dX0_readChoice_188 rfl ?_
  refine r_if_ne (tgt := 200) dX0_readChoice_190 rfl (fun cH => ?_) (fun cH => ?_)
  · replace H := H.1 cH
    refine r_aload dX0_readChoice_200 rfl ?_
    refine r_iconst (v := (1 : Int32)) dX0_readChoice_202 rfl ?_
    refine k_VV (As := [.int (1 : Int32)]) (stk := []) hp cv_X0_129 dX0_readChoice_203 rfl (Nat.le_of_ble_eq_true rfl) t4 (H.mono (fun h1 H => ?_)) ⟨Nat.le_refl _, Nat.le_refl _⟩
    refine r_aload_n dX0_readChoice_206 rfl rfl ?_
    refine r_aload dX0_readChoice_207 rfl ?_
    refine r_iload dX0_readChoice_209 rfl ?_
    refine r_iload dX0_readChoice_211 rfl ?_
    refine r_iload dX0_readChoice_213 rfl ?_
    refine r_iconst (v := (1 : Int32)) dX0_readChoice_215 rfl ?_
    refine k_VI (As := [.ref a4, .int x6, .int x7, .int x8, .int (1 : Int32)]) (stk := []) hp cv_X0_280 dX0_readChoice_216 rfl (Nat.le_of_ble_eq_true rfl) ly_0 (H.mono (fun v2 h2 H => ?_)) ⟨Nat.le_refl _, Nat.le_refl _⟩
    refine r_if_eq (tgt := 279) dX0_readChoice_219 rfl (fun cH => ?_) (fun cH => ?_)
    · replace H := H.1 cH
      refine r_prune [true, true, false, false, false, false, false, false, false, false] (ls2 := [some (.ref 0), some (.int x1), none, none, none, none, none, none, none, none]) rfl ?_
      exact H
    · replace H := H.2 cH
      refine r_aload_n dX0_readChoice_222 rfl rfl ?_
      refine r_aload dX0_readChoice_223 rfl ?_
      refine r_aload_n dX0_readChoice_225 rfl rfl ?_
      refine m_getI hp fw_X0_189 dX0_readChoice_226 rfl ly_0 ?_
      refine r_aload_n dX0_readChoice_229 rfl rfl ?_
      refine m_getI hp fw_X0_192 dX0_readChoice_230 rfl ly_0 ?_
      refine r_aload_n dX0_readChoice_233 rfl rfl ?_
      refine m_getI hp fw_X0_195 dX0_readChoice_234 rfl ly_0 ?_
      refine r_iconst (v := (-1 : Int32)) dX0_readChoice_237 rfl ?_
      refine k_VI (As := [.ref a4, .int (ri h2 0 8), .int (ri h2 0 9), .int (ri h2 0 10), .int (-1 : Int32)]) (stk := []) hp cv_X0_280 dX0_readChoice_238 rfl (Nat.le_of_ble_eq_true rfl) ly_0 (H.mono (fun v3 h3 H => ?_)) ⟨Nat.le_refl _, Nat.le_refl _⟩
      refine r_if_eq (tgt := 279) dX0_readChoice_241 rfl (fun cH => ?_) (fun cH => ?_)
      · replace H := H.1 cH
        refine r_prune [true, true, false, false, false, false, false, false, false, false] (ls2 := [some (.ref 0), some (.int x1), none, none, none, none, none, none, none, none]) rfl ?_
        exact H
      · replace H := H.2 cH
        refine r_aload_n dX0_readChoice_244 rfl rfl ?_
        refine r_aload dX0_readChoice_245 rfl ?_
        refine r_iload dX0_readChoice_247 rfl ?_
        refine r_aload_n dX0_readChoice_249 rfl rfl ?_
        refine m_getI hp fw_X0_189 dX0_readChoice_250 rfl ly_0 ?_
        refine r_isub dX0_readChoice_253 ?_
        refine r_iload dX0_readChoice_254 rfl ?_
        refine r_aload_n dX0_readChoice_256 rfl rfl ?_
        refine m_getI hp fw_X0_192 dX0_readChoice_257 rfl ly_0 ?_
        refine r_isub dX0_readChoice_260 ?_
        refine r_iload dX0_readChoice_261 rfl ?_
        refine r_aload_n dX0_readChoice_263 rfl rfl ?_
        refine m_getI hp fw_X0_195 dX0_readChoice_264 rfl ly_0 ?_
        refine r_isub dX0_readChoice_267 ?_
        refine r_iconst (v := (-1 : Int32)) dX0_readChoice_268 rfl ?_
        refine k_VI (As := [.ref a4, .int (x6 - (ri h3 0 8)), .int (x7 - (ri h3 0 9)), .int (x8 - (ri h3 0 10)), .int (-1 : Int32)]) (stk := []) hp cv_X0_280 dX0_readChoice_269 rfl (Nat.le_of_ble_eq_true rfl) ly_0 (H.mono (fun v4 h4 H => ?_)) ⟨Nat.le_refl _, Nat.le_refl _⟩
        refine r_if_eq (tgt := 279) dX0_readChoice_272 rfl (fun cH => ?_) (fun cH => ?_)
        · replace H := H.1 cH
          refine r_prune [true, true, false, false, false, false, false, false, false, false] (ls2 := [some (.ref 0), some (.int x1), none, none, none, none, none, none, none, none]) rfl ?_
          exact H
        · replace H := H.2 cH
          refine r_iconst (v := (1 : Int32)) dX0_readChoice_275 rfl ?_
          refine r_goto (tgt := 280) dX0_readChoice_276 rfl ?_
          refine r_prune [true, true, false, false, false, false, false, false, false, false] (ls2 := [some (.ref 0), some (.int x1), none, none, none, none, none, none, none, none]) rfl ?_
          exact H
  · replace H := H.2 cH
    refine r_aload_n dX0_readChoice_193 rfl rfl ?_
    refine r_iconst (v := (2 : Int32)) dX0_readChoice_194 rfl ?_
    refine r_iload_n dX0_readChoice_195 rfl rfl ?_
    refine k_VV (As := [.int (2 : Int32), .int x1]) (stk := []) hp cv_X0_227 dX0_readChoice_196 rfl (Nat.le_of_ble_eq_true rfl) ly_0 (H.mono (fun h5 H => ?_)) ⟨Nat.le_refl _, Nat.le_refl _⟩
    exact r_vret dX0_readChoice_199 rfl (Nat.le_refl _) (Nat.le_refl _) H
theorem s_X0_readChoice_279 {g : GX} {d : Nat} {av : List Value} {Q : QT} {n : Nat} {h : Hp} {x1 : Int32} (hp : g.2.2.2.2 = true)  (H : W_X0_readChoice g d av Q n 280 [some (.ref 0), some (.int x1), none, none, none, none, none, none, none, none] [.int (0 : Int32)] h) : W_X0_readChoice g d av Q n 279 [some (.ref 0), some (.int x1), none, none, none, none, none, none, none, none] [] h := by
  refine r_iconst (v := (0 : Int32)) dX0_readChoice_279 rfl ?_
  exact H
theorem s_X0_readChoice_280 {g : GX} {d : Nat} {av : List Value} {Q : QT} {n : Nat} {h : Hp} {x1 : Int32} {xs0 : Int32} (hp : g.2.2.2.2 = true)  (H : ((¬ xs0 = (0 : Int32)) → (Q none n h)) ∧ ((xs0 = (0 : Int32)) → (CallV g m_X0_flaw d [.ref 0, .int (3 : Int32), .int x1] n h (fun h1 => (Q none n h1))))) : W_X0_readChoice g d av Q n 280 [some (.ref 0), some (.int x1), none, none, none, none, none, none, none, none] [.int xs0] h := by
  refine r_istore (ls2 := [some (.ref 0), some (.int x1), none, none, none, none, none, none, none, some (.int xs0)]) dX0_readChoice_280 (by decide) rfl ?_
  refine r_iload dX0_readChoice_282 rfl ?_
  refine r_if_ne (tgt := 293) dX0_readChoice_284 rfl (fun cH => ?_) (fun cH => ?_)
  · replace H := H.1 cH
    exact r_vret dX0_readChoice_293 rfl (Nat.le_refl _) (Nat.le_refl _) H
  · replace H := H.2 cH
    refine r_aload_n dX0_readChoice_287 rfl rfl ?_
    refine r_iconst (v := (3 : Int32)) dX0_readChoice_288 rfl ?_
    refine r_iload_n dX0_readChoice_289 rfl rfl ?_
    refine k_VV (As := [.int (3 : Int32), .int x1]) (stk := []) hp cv_X0_227 dX0_readChoice_290 rfl (Nat.le_of_ble_eq_true rfl) ly_0 (H.mono (fun h1 H => ?_)) ⟨Nat.le_refl _, Nat.le_refl _⟩
    exact r_vret dX0_readChoice_293 rfl (Nat.le_refl _) (Nat.le_refl _) H
abbrev W_X0_isLine (g : GX) (d : Nat) (av : List Value) (Q : QT) (n : Nat) (pc : Nat) (ls : LV) (stk : List Value) (h : Hp) : Prop := RJ g m_X0_isLine (d + 1) 0 0 av Q pc ls stk n h 0 0
theorem s_X0_isLine_0 {g : GX} {d : Nat} {av : List Value} {Q : QT} {n : Nat} {h : Hp} {a1 : Nat} (hp : g.2.2.2.2 = true) (t1 : lay a1 = (0, 5, 8)) (H : CallI g m_X5_isTerm d [.ref a1] n h (fun v1 h1 => (((¬ v1 = (0 : Int32)) → (Q (some (.int (0 : Int32))) n h1)) ∧ ((v1 = (0 : Int32)) → (CallI g m_X6_isPolynomial d [.ref (a1 + 1)] n h1 (fun v2 h2 => (((v2 = (0 : Int32)) → (Q (some (.int (0 : Int32))) n h2)) ∧ ((¬ v2 = (0 : Int32)) → ((((2 : Int32) < (ri h2 (a1 + 2) 2)) → (Q (some (.int (0 : Int32))) n h2)) ∧ ((¬ (2 : Int32) < (ri h2 (a1 + 2) 2)) → ((((2 : Int32) < (ri h2 (a1 + 2) 3)) → (Q (some (.int (0 : Int32))) n h2)) ∧ ((¬ (2 : Int32) < (ri h2 (a1 + 2) 3)) → (CallI g m_X4_get d [.ref (a1 + 2), .int (1 : Int32), .int (1 : Int32)] n h2 (fun v3 h3 => (((v3 = (0 : Int32)) → (CallI g m_X4_get d [.ref (a1 + 2), .int (1 : Int32), .int (0 : Int32)] n h3 (fun v4 h4 => (CallI g m_X0_small d [.int v4] n h4 (fun v5 h5 => (∀ h6, h6 = wi h5 0 8 v5 → (CallI g m_X4_get d [.ref (a1 + 2), .int (0 : Int32), .int (1 : Int32)] n h6 (fun v7 h7 => (CallI g m_X0_small d [.int v7] n h7 (fun v8 h8 => (∀ h9, h9 = wi h8 0 9 v8 → (CallI g m_X4_get d [.ref (a1 + 2), .int (0 : Int32), .int (0 : Int32)] n h9 (fun v10 h10 => (CallI g m_X0_small d [.int v10] n h10 (fun v11 h11 => (∀ h12, h12 = wi h11 0 10 v11 → (CallI g m_X0_isLine_2 d [.int (ri h12 0 8), .int (ri h12 0 9), .int (ri h12 0 10)] n h12 (fun v13 h13 => ((v13 = 0 ∨ v13 = 1) ∧ Q (some (.int v13)) n h13))))))))))))))))))) ∧ ((¬ v3 = (0 : Int32)) → (Q (some (.int (0 : Int32))) n h3))))))))))))))))) : W_X0_isLine g d av Q n 0 [some (.ref 0), some (.ref a1), none] [] h := by
  refine r_aload_n dX0_isLine_0 rfl rfl ?_
  refine m_getF (x := (a1 + 1)) hp fw_X0_110 dX0_isLine_1 rfl t1 (ff_5_0 t1) ?_
  refine m_getF (x := (a1 + 2)) hp fw_X0_89 dX0_isLine_4 rfl (lf_5_0 t1) (ff_6_0 (lf_5_0 t1)) ?_
  refine r_astore_n (ls2 := [some (.ref 0), some (.ref a1), some (.ref (a1 + 2))]) dX0_isLine_7 rfl (by decide) rfl ?_
  refine r_aload_n dX0_isLine_8 rfl rfl ?_
  refine k_VI (As := []) (stk := []) hp cv_X0_177 dX0_isLine_9 rfl (Nat.le_of_ble_eq_true rfl) t1 (H.mono (fun v1 h1 H => ?_)) ⟨Nat.le_refl _, Nat.le_refl _⟩
  refine r_if_ne (tgt := 50) dX0_isLine_12 rfl (fun cH => ?_) (fun cH => ?_)
  · replace H := H.1 cH
    refine r_iconst (v := (0 : Int32)) dX0_isLine_50 rfl ?_
    exact r_zret dX0_isLine_51 rfl rfl (Nat.le_refl _) (Nat.le_refl _) H
  · replace H := H.2 cH
    refine r_aload_n dX0_isLine_15 rfl rfl ?_
    refine m_getF (x := (a1 + 1)) hp fw_X0_110 dX0_isLine_16 rfl t1 (ff_5_0 t1) ?_
    refine k_VI (As := []) (stk := []) hp cv_X0_180 dX0_isLine_19 rfl (Nat.le_of_ble_eq_true rfl) (lf_5_0 t1) (H.mono (fun v2 h2 H => ?_)) ⟨Nat.le_refl _, Nat.le_refl _⟩
    refine r_if_eq (tgt := 50) dX0_isLine_22 rfl (fun cH => ?_) (fun cH => ?_)
    · replace H := H.1 cH
      refine r_iconst (v := (0 : Int32)) dX0_isLine_50 rfl ?_
      exact r_zret dX0_isLine_51 rfl rfl (Nat.le_refl _) (Nat.le_refl _) H
    · replace H := H.2 cH
      refine r_aload_n dX0_isLine_25 rfl rfl ?_
      refine m_getI hp fw_X0_22 dX0_isLine_26 rfl (lf_6_0 (lf_5_0 t1)) ?_
      refine r_iconst (v := (2 : Int32)) dX0_isLine_29 rfl ?_
      refine r_icmp_gt (tgt := 50) dX0_isLine_30 rfl (fun cH => ?_) (fun cH => ?_)
      · replace H := H.1 cH
        refine r_iconst (v := (0 : Int32)) dX0_isLine_50 rfl ?_
        exact r_zret dX0_isLine_51 rfl rfl (Nat.le_refl _) (Nat.le_refl _) H
      · replace H := H.2 cH
        refine r_aload_n dX0_isLine_33 rfl rfl ?_
        refine m_getI hp fw_X0_28 dX0_isLine_34 rfl (lf_6_0 (lf_5_0 t1)) ?_
        refine r_iconst (v := (2 : Int32)) dX0_isLine_37 rfl ?_
        refine r_icmp_gt (tgt := 50) dX0_isLine_38 rfl (fun cH => ?_) (fun cH => ?_)
        · replace H := H.1 cH
          refine r_iconst (v := (0 : Int32)) dX0_isLine_50 rfl ?_
          exact r_zret dX0_isLine_51 rfl rfl (Nat.le_refl _) (Nat.le_refl _) H
        · replace H := H.2 cH
          refine r_aload_n dX0_isLine_41 rfl rfl ?_
          refine r_iconst (v := (1 : Int32)) dX0_isLine_42 rfl ?_
          refine r_iconst (v := (1 : Int32)) dX0_isLine_43 rfl ?_
          refine k_VI (As := [.int (1 : Int32), .int (1 : Int32)]) (stk := []) hp cv_X0_183 dX0_isLine_44 rfl (Nat.le_of_ble_eq_true rfl) (lf_6_0 (lf_5_0 t1)) (H.mono (fun v3 h3 H => ?_)) ⟨Nat.le_refl _, Nat.le_refl _⟩
          refine r_if_eq (tgt := 52) dX0_isLine_47 rfl (fun cH => ?_) (fun cH => ?_)
          · replace H := H.1 cH
            refine r_aload_n dX0_isLine_52 rfl rfl ?_
            refine r_aload_n dX0_isLine_53 rfl rfl ?_
            refine r_iconst (v := (1 : Int32)) dX0_isLine_54 rfl ?_
            refine r_iconst (v := (0 : Int32)) dX0_isLine_55 rfl ?_
            refine k_VI (As := [.int (1 : Int32), .int (0 : Int32)]) (stk := [.ref 0]) hp cv_X0_183 dX0_isLine_56 rfl (Nat.le_of_ble_eq_true rfl) (lf_6_0 (lf_5_0 t1)) (H.mono (fun v4 h4 H => ?_)) ⟨Nat.le_refl _, Nat.le_refl _⟩
            refine k_SI (As := [.int v4]) (stk := [.ref 0]) cs_X0_186 dX0_isLine_59 rfl (Nat.le_of_ble_eq_true rfl) (H.mono (fun v5 h5 H => ?_)) ⟨Nat.le_refl _, Nat.le_refl _⟩
            refine m_putI hp fw_X0_189 dX0_isLine_62 rfl rfl ly_0 (fun h6 eh6 => ?_)
            replace H := H h6 eh6
            refine r_aload_n dX0_isLine_65 rfl rfl ?_
            refine r_aload_n dX0_isLine_66 rfl rfl ?_
            refine r_iconst (v := (0 : Int32)) dX0_isLine_67 rfl ?_
            refine r_iconst (v := (1 : Int32)) dX0_isLine_68 rfl ?_
            refine k_VI (As := [.int (0 : Int32), .int (1 : Int32)]) (stk := [.ref 0]) hp cv_X0_183 dX0_isLine_69 rfl (Nat.le_of_ble_eq_true rfl) (lf_6_0 (lf_5_0 t1)) (H.mono (fun v7 h7 H => ?_)) ⟨Nat.le_refl _, Nat.le_refl _⟩
            refine k_SI (As := [.int v7]) (stk := [.ref 0]) cs_X0_186 dX0_isLine_72 rfl (Nat.le_of_ble_eq_true rfl) (H.mono (fun v8 h8 H => ?_)) ⟨Nat.le_refl _, Nat.le_refl _⟩
            refine m_putI hp fw_X0_192 dX0_isLine_75 rfl rfl ly_0 (fun h9 eh9 => ?_)
            replace H := H h9 eh9
            refine r_aload_n dX0_isLine_78 rfl rfl ?_
            refine r_aload_n dX0_isLine_79 rfl rfl ?_
            refine r_iconst (v := (0 : Int32)) dX0_isLine_80 rfl ?_
            refine r_iconst (v := (0 : Int32)) dX0_isLine_81 rfl ?_
            refine k_VI (As := [.int (0 : Int32), .int (0 : Int32)]) (stk := [.ref 0]) hp cv_X0_183 dX0_isLine_82 rfl (Nat.le_of_ble_eq_true rfl) (lf_6_0 (lf_5_0 t1)) (H.mono (fun v10 h10 H => ?_)) ⟨Nat.le_refl _, Nat.le_refl _⟩
            refine k_SI (As := [.int v10]) (stk := [.ref 0]) cs_X0_186 dX0_isLine_85 rfl (Nat.le_of_ble_eq_true rfl) (H.mono (fun v11 h11 H => ?_)) ⟨Nat.le_refl _, Nat.le_refl _⟩
            refine m_putI hp fw_X0_195 dX0_isLine_88 rfl rfl ly_0 (fun h12 eh12 => ?_)
            replace H := H h12 eh12
            refine r_aload_n dX0_isLine_91 rfl rfl ?_
            refine m_getI hp fw_X0_189 dX0_isLine_92 rfl ly_0 ?_
            refine r_aload_n dX0_isLine_95 rfl rfl ?_
            refine m_getI hp fw_X0_192 dX0_isLine_96 rfl ly_0 ?_
            refine r_aload_n dX0_isLine_99 rfl rfl ?_
            refine m_getI hp fw_X0_195 dX0_isLine_100 rfl ly_0 ?_
            refine k_SI (As := [.int (ri h12 0 8), .int (ri h12 0 9), .int (ri h12 0 10)]) (stk := []) cs_X0_198 dX0_isLine_103 rfl (Nat.le_of_ble_eq_true rfl) (H.mono (fun v13 h13 H => ?_)) ⟨Nat.le_refl _, Nat.le_refl _⟩
            exact r_zret dX0_isLine_106 rfl (nar01 H.1) (Nat.le_refl _) (Nat.le_refl _) H.2
          · replace H := H.2 cH
            refine r_iconst (v := (0 : Int32)) dX0_isLine_50 rfl ?_
            exact r_zret dX0_isLine_51 rfl rfl (Nat.le_refl _) (Nat.le_refl _) H
abbrev W_X0_isLine_2 (g : GX) (d : Nat) (av : List Value) (Q : QT) (n : Nat) (pc : Nat) (ls : LV) (stk : List Value) (h : Hp) : Prop := RJ g m_X0_isLine_2 (d + 1) 0 0 av Q pc ls stk n h 0 0
theorem s_X0_isLine_2_0 {g : GX} {d : Nat} {av : List Value} {Q : QT} {n : Nat} {h : Hp} {x0 : Int32} {x1 : Int32} {x2 : Int32} (hp : g.2.2.2.2 = true)  (H : CallI g m_X0_within d [.int x0, .int (-3 : Int32), .int (3 : Int32)] n h (fun v1 h1 => (((v1 = (0 : Int32)) → (Q (some (.int (0 : Int32))) n h1)) ∧ ((¬ v1 = (0 : Int32)) → (CallI g m_X0_within d [.int x1, .int (-3 : Int32), .int (3 : Int32)] n h1 (fun v2 h2 => (((v2 = (0 : Int32)) → (Q (some (.int (0 : Int32))) n h2)) ∧ ((¬ v2 = (0 : Int32)) → (CallI g m_X0_within d [.int x2, .int (-50 : Int32), .int (50 : Int32)] n h2 (fun v3 h3 => (((v3 = (0 : Int32)) → (Q (some (.int (0 : Int32))) n h3)) ∧ ((¬ v3 = (0 : Int32)) → (Q (some (.int (1 : Int32))) n h3))))))))))))) : W_X0_isLine_2 g d av Q n 0 [some (.int x0), some (.int x1), some (.int x2)] [] h := by
  refine r_iload_n dX0_isLine_2_0 rfl rfl ?_
  refine r_bipush (v := (-3 : Int32)) dX0_isLine_2_1 rfl ?_
  refine r_iconst (v := (3 : Int32)) dX0_isLine_2_3 rfl ?_
  refine k_SI (As := [.int x0, .int (-3 : Int32), .int (3 : Int32)]) (stk := []) cs_X0_173 dX0_isLine_2_4 rfl (Nat.le_of_ble_eq_true rfl) (H.mono (fun v1 h1 H => ?_)) ⟨Nat.le_refl _, Nat.le_refl _⟩
  refine r_if_eq (tgt := 35) dX0_isLine_2_7 rfl (fun cH => ?_) (fun cH => ?_)
  · replace H := H.1 cH
    refine r_iconst (v := (0 : Int32)) dX0_isLine_2_35 rfl ?_
    exact r_zret dX0_isLine_2_36 rfl rfl (Nat.le_refl _) (Nat.le_refl _) H
  · replace H := H.2 cH
    refine r_iload_n dX0_isLine_2_10 rfl rfl ?_
    refine r_bipush (v := (-3 : Int32)) dX0_isLine_2_11 rfl ?_
    refine r_iconst (v := (3 : Int32)) dX0_isLine_2_13 rfl ?_
    refine k_SI (As := [.int x1, .int (-3 : Int32), .int (3 : Int32)]) (stk := []) cs_X0_173 dX0_isLine_2_14 rfl (Nat.le_of_ble_eq_true rfl) (H.mono (fun v2 h2 H => ?_)) ⟨Nat.le_refl _, Nat.le_refl _⟩
    refine r_if_eq (tgt := 35) dX0_isLine_2_17 rfl (fun cH => ?_) (fun cH => ?_)
    · replace H := H.1 cH
      refine r_iconst (v := (0 : Int32)) dX0_isLine_2_35 rfl ?_
      exact r_zret dX0_isLine_2_36 rfl rfl (Nat.le_refl _) (Nat.le_refl _) H
    · replace H := H.2 cH
      refine r_iload_n dX0_isLine_2_20 rfl rfl ?_
      refine r_bipush (v := (-50 : Int32)) dX0_isLine_2_21 rfl ?_
      refine r_bipush (v := (50 : Int32)) dX0_isLine_2_23 rfl ?_
      refine k_SI (As := [.int x2, .int (-50 : Int32), .int (50 : Int32)]) (stk := []) cs_X0_173 dX0_isLine_2_25 rfl (Nat.le_of_ble_eq_true rfl) (H.mono (fun v3 h3 H => ?_)) ⟨Nat.le_refl _, Nat.le_refl _⟩
      refine r_if_eq (tgt := 35) dX0_isLine_2_28 rfl (fun cH => ?_) (fun cH => ?_)
      · replace H := H.1 cH
        refine r_iconst (v := (0 : Int32)) dX0_isLine_2_35 rfl ?_
        exact r_zret dX0_isLine_2_36 rfl rfl (Nat.le_refl _) (Nat.le_refl _) H
      · replace H := H.2 cH
        refine r_iconst (v := (1 : Int32)) dX0_isLine_2_31 rfl ?_
        refine r_goto (tgt := 36) dX0_isLine_2_32 rfl ?_
        exact r_zret dX0_isLine_2_36 rfl rfl (Nat.le_refl _) (Nat.le_refl _) H
abbrev W_X0_within (g : GX) (d : Nat) (av : List Value) (Q : QT) (n : Nat) (pc : Nat) (ls : LV) (stk : List Value) (h : Hp) : Prop := RJ g m_X0_within d 0 0 av Q pc ls stk n h 0 0
theorem s_X0_within_0 {g : GX} {d : Nat} {av : List Value} {Q : QT} {n : Nat} {h : Hp} {x0 : Int32} {x1 : Int32} {x2 : Int32} (hp : g.2.2.2.2 = true)  (H : ((x0 < x1) → (Q (some (.int (0 : Int32))) n h)) ∧ ((¬ x0 < x1) → (((x2 < x0) → (Q (some (.int (0 : Int32))) n h)) ∧ ((¬ x2 < x0) → (Q (some (.int (1 : Int32))) n h))))) : W_X0_within g d av Q n 0 [some (.int x0), some (.int x1), some (.int x2)] [] h := by
  refine r_iload_n dX0_within_0 rfl rfl ?_
  refine r_iload_n dX0_within_1 rfl rfl ?_
  refine r_icmp_lt (tgt := 14) dX0_within_2 rfl (fun cH => ?_) (fun cH => ?_)
  · replace H := H.1 cH
    refine r_iconst (v := (0 : Int32)) dX0_within_14 rfl ?_
    exact r_zret dX0_within_15 rfl rfl (Nat.le_refl _) (Nat.le_refl _) H
  · replace H := H.2 cH
    refine r_iload_n dX0_within_5 rfl rfl ?_
    refine r_iload_n dX0_within_6 rfl rfl ?_
    refine r_icmp_gt (tgt := 14) dX0_within_7 rfl (fun cH => ?_) (fun cH => ?_)
    · replace H := H.1 cH
      refine r_iconst (v := (0 : Int32)) dX0_within_14 rfl ?_
      exact r_zret dX0_within_15 rfl rfl (Nat.le_refl _) (Nat.le_refl _) H
    · replace H := H.2 cH
      refine r_iconst (v := (1 : Int32)) dX0_within_10 rfl ?_
      refine r_goto (tgt := 15) dX0_within_11 rfl ?_
      exact r_zret dX0_within_15 rfl rfl (Nat.le_refl _) (Nat.le_refl _) H
abbrev W_X0_addFactorial (g : GX) (d : Nat) (av : List Value) (Q : QT) (n : Nat) (pc : Nat) (ls : LV) (stk : List Value) (h : Hp) : Prop := RJ g m_X0_addFactorial (d + 1) 0 0 av Q pc ls stk n h 0 0
theorem s_X0_addFactorial_0 {g : GX} {d : Nat} {av : List Value} {Q : QT} {n : Nat} {h : Hp} {a1 : Nat} {x2 : Int32} {x3 : Int32} {x4 : Int32} {x5 : Int32} (hp : g.2.2.2.2 = true) (t1 : lay a1 = (0, 5, 8)) (H : ((¬ x2 = (0 : Int32)) → (W_X0_addFactorial g d av Q n 8 [none, some (.ref a1), some (.int x2), some (.int x3), some (.int x4), some (.int x5), none] [] h)) ∧ ((x2 = (0 : Int32)) → (((x3 = (0 : Int32)) → ((((0 : Int32) ≤ x4) → (CallI g m_X0_factorial d [.int x4] n h (fun v1 h1 => (((x5 ≤ (0 : Int32)) → (CallI g m_X0_inverse d [.int v1] n h1 (fun v2 h2 => (W_X0_addFactorial g d av Q n 56 [none, none, none, none, none, none, none] [.int v2, .ref (a1 + 2)] h2)))) ∧ ((¬ x5 ≤ (0 : Int32)) → (W_X0_addFactorial g d av Q n 56 [none, none, none, none, none, none, none] [.int v1, .ref (a1 + 2)] h1)))))) ∧ ((¬ (0 : Int32) ≤ x4) → (Q (some (.int (0 : Int32))) n h)))) ∧ ((¬ x3 = (0 : Int32)) → (W_X0_addFactorial g d av Q n 8 [none, some (.ref a1), some (.int x2), some (.int x3), some (.int x4), some (.int x5), none] [] h))))) : W_X0_addFactorial g d av Q n 0 [some (.ref 0), some (.ref a1), some (.int x2), some (.int x3), some (.int x4), some (.int x5), none] [] h := by
  refine r_iload_n dX0_addFactorial_0 rfl rfl ?_
  refine r_if_ne (tgt := 8) dX0_addFactorial_1 rfl (fun cH => ?_) (fun cH => ?_)
  · replace H := H.1 cH
    refine r_prune [false, true, true, true, true, true, false] (ls2 := [none, some (.ref a1), some (.int x2), some (.int x3), some (.int x4), some (.int x5), none]) rfl ?_
    exact H
  · replace H := H.2 cH
    refine r_iload_n dX0_addFactorial_4 rfl rfl ?_
    refine r_if_eq (tgt := 20) dX0_addFactorial_5 rfl (fun cH => ?_) (fun cH => ?_)
    · replace H := H.1 cH
      refine r_iload dX0_addFactorial_20 rfl ?_
      refine r_if_ge (tgt := 27) dX0_addFactorial_22 rfl (fun cH => ?_) (fun cH => ?_)
      · replace H := H.1 cH
        refine r_iload dX0_addFactorial_27 rfl ?_
        refine k_SI (As := [.int x4]) (stk := []) cs_X0_201 dX0_addFactorial_29 rfl (Nat.le_of_ble_eq_true rfl) (H.mono (fun v1 h1 H => ?_)) ⟨Nat.le_refl _, Nat.le_refl _⟩
        refine r_istore (ls2 := [some (.ref 0), some (.ref a1), some (.int x2), some (.int x3), some (.int x4), some (.int x5), some (.int v1)]) dX0_addFactorial_32 (by decide) rfl ?_
        refine r_aload_n dX0_addFactorial_34 rfl rfl ?_
        refine m_getF (x := (a1 + 1)) hp fw_X0_110 dX0_addFactorial_35 rfl t1 (ff_5_0 t1) ?_
        refine m_getF (x := (a1 + 2)) hp fw_X0_89 dX0_addFactorial_38 rfl (lf_5_0 t1) (ff_6_0 (lf_5_0 t1)) ?_
        refine r_iload dX0_addFactorial_41 rfl ?_
        refine r_if_le (tgt := 51) dX0_addFactorial_43 rfl (fun cH => ?_) (fun cH => ?_)
        · replace H := H.1 cH
          refine r_iload dX0_addFactorial_51 rfl ?_
          refine k_SI (As := [.int v1]) (stk := [.ref (a1 + 2)]) cs_X0_74 dX0_addFactorial_53 rfl (Nat.le_of_ble_eq_true rfl) (H.mono (fun v2 h2 H => ?_)) ⟨Nat.le_refl _, Nat.le_refl _⟩
          refine r_prune [false, false, false, false, false, false, false] (ls2 := [none, none, none, none, none, none, none]) rfl ?_
          exact H
        · replace H := H.2 cH
          refine r_iload dX0_addFactorial_46 rfl ?_
          refine r_goto (tgt := 56) dX0_addFactorial_48 rfl ?_
          refine r_prune [false, false, false, false, false, false, false] (ls2 := [none, none, none, none, none, none, none]) rfl ?_
          exact H
      · replace H := H.2 cH
        refine r_iconst (v := (0 : Int32)) dX0_addFactorial_25 rfl ?_
        exact r_zret dX0_addFactorial_26 rfl rfl (Nat.le_refl _) (Nat.le_refl _) H
    · replace H := H.2 cH
      refine r_prune [false, true, true, true, true, true, false] (ls2 := [none, some (.ref a1), some (.int x2), some (.int x3), some (.int x4), some (.int x5), none]) rfl ?_
      exact H
theorem s_X0_addFactorial_8 {g : GX} {d : Nat} {av : List Value} {Q : QT} {n : Nat} {h : Hp} {a1 : Nat} {x2 : Int32} {x3 : Int32} {x4 : Int32} {x5 : Int32} (hp : g.2.2.2.2 = true) (t1 : lay a1 = (0, 5, 8)) (H : CallV g m_X5_add d [.ref a1, .int x2, .int x3, .int x4, .int x5] n h (fun h1 => (Q (some (.int (1 : Int32))) n h1))) : W_X0_addFactorial g d av Q n 8 [none, some (.ref a1), some (.int x2), some (.int x3), some (.int x4), some (.int x5), none] [] h := by
  refine r_aload_n dX0_addFactorial_8 rfl rfl ?_
  refine r_iload_n dX0_addFactorial_9 rfl rfl ?_
  refine r_iload_n dX0_addFactorial_10 rfl rfl ?_
  refine r_iload dX0_addFactorial_11 rfl ?_
  refine r_iload dX0_addFactorial_13 rfl ?_
  refine k_VV (As := [.int x2, .int x3, .int x4, .int x5]) (stk := []) hp cv_X0_152 dX0_addFactorial_15 rfl (Nat.le_of_ble_eq_true rfl) t1 (H.mono (fun h1 H => ?_)) ⟨Nat.le_refl _, Nat.le_refl _⟩
  refine r_iconst (v := (1 : Int32)) dX0_addFactorial_18 rfl ?_
  exact r_zret dX0_addFactorial_19 rfl rfl (Nat.le_refl _) (Nat.le_refl _) H
theorem s_X0_addFactorial_56 {g : GX} {d : Nat} {av : List Value} {Q : QT} {n : Nat} {h : Hp} {xs0 : Int32} {as1 : Nat} (hp : g.2.2.2.2 = true) (ts1 : lay as1 = (0, 4, 4)) (H : CallV g m_X4_scale d [.ref as1, .int xs0] n h (fun h1 => (Q (some (.int (1 : Int32))) n h1))) : W_X0_addFactorial g d av Q n 56 [none, none, none, none, none, none, none] [.int xs0, .ref as1] h := by
  refine k_VV (As := [.int xs0]) (stk := []) hp cv_X0_78 dX0_addFactorial_56 rfl (Nat.le_of_ble_eq_true rfl) ts1 (H.mono (fun h1 H => ?_)) ⟨Nat.le_refl _, Nat.le_refl _⟩
  refine r_iconst (v := (1 : Int32)) dX0_addFactorial_59 rfl ?_
  exact r_zret dX0_addFactorial_60 rfl rfl (Nat.le_refl _) (Nat.le_refl _) H
abbrev W_X0_factorial (g : GX) (d : Nat) (av : List Value) (Q : QT) (n : Nat) (pc : Nat) (ls : LV) (stk : List Value) (h : Hp) : Prop := RJ g m_X0_factorial (d + 1) 0 0 av Q pc ls stk n h 0 0
theorem s_X0_factorial_0 {g : GX} {d : Nat} {av : List Value} {Q : QT} {n : Nat} {h : Hp} {x0 : Int32} (hp : g.2.2.2.2 = true)  (H : W_X0_factorial g d av Q n 4 [some (.int x0), some (.int (1 : Int32)), some (.int (2 : Int32))] [] h) : W_X0_factorial g d av Q n 0 [some (.int x0), none, none] [] h := by
  refine r_iconst (v := (1 : Int32)) dX0_factorial_0 rfl ?_
  refine r_istore_n (ls2 := [some (.int x0), some (.int (1 : Int32)), none]) dX0_factorial_1 rfl (by decide) rfl ?_
  refine r_iconst (v := (2 : Int32)) dX0_factorial_2 rfl ?_
  refine r_istore_n (ls2 := [some (.int x0), some (.int (1 : Int32)), some (.int (2 : Int32))]) dX0_factorial_3 rfl (by decide) rfl ?_
  exact H
theorem s_X0_factorial_4 {g : GX} {d : Nat} {av : List Value} {Q : QT} {n : Nat} {h : Hp} {x0 : Int32} {x1 : Int32} {x2 : Int32} (hp : g.2.2.2.2 = true)  (H : ((x0 < x2) → (Q (some (.int x1)) n h)) ∧ ((¬ x0 < x2) → (CallI g m_X0_times d [.int x1, .int x2] n h (fun v1 h1 => (W_X0_factorial g d av Q n 4 [some (.int x0), some (.int v1), some (.int (x2 + (1 : Int32)))] [] h1))))) : W_X0_factorial g d av Q n 4 [some (.int x0), some (.int x1), some (.int x2)] [] h := by
  refine r_iload_n dX0_factorial_4 rfl rfl ?_
  refine r_iload_n dX0_factorial_5 rfl rfl ?_
  refine r_icmp_gt (tgt := 21) dX0_factorial_6 rfl (fun cH => ?_) (fun cH => ?_)
  · replace H := H.1 cH
    refine r_iload_n dX0_factorial_21 rfl rfl ?_
    exact r_zret dX0_factorial_22 rfl rfl (Nat.le_refl _) (Nat.le_refl _) H
  · replace H := H.2 cH
    refine r_iload_n dX0_factorial_9 rfl rfl ?_
    refine r_iload_n dX0_factorial_10 rfl rfl ?_
    refine k_SI (As := [.int x1, .int x2]) (stk := []) cs_X0_6 dX0_factorial_11 rfl (Nat.le_of_ble_eq_true rfl) (H.mono (fun v1 h1 H => ?_)) ⟨Nat.le_refl _, Nat.le_refl _⟩
    refine r_istore_n (ls2 := [some (.int x0), some (.int v1), some (.int x2)]) dX0_factorial_14 rfl (by decide) rfl ?_
    refine r_iinc (v := (x2 + (1 : Int32))) (ls2 := [some (.int x0), some (.int v1), some (.int (x2 + (1 : Int32)))]) dX0_factorial_15 rfl rfl (by decide) rfl ?_
    refine r_goto (tgt := 4) dX0_factorial_18 rfl ?_
    exact H
abbrev W_X0_readFactorial (g : GX) (d : Nat) (av : List Value) (Q : QT) (n : Nat) (pc : Nat) (ls : LV) (stk : List Value) (h : Hp) : Prop := RJ g m_X0_readFactorial (d + 1) 0 0 av Q pc ls stk n h 0 0
theorem s_X0_readFactorial_0 {g : GX} {d : Nat} {av : List Value} {Q : QT} {n : Nat} {h : Hp} {a1 : Nat} {x2 : Int32} (hp : g.2.2.2.2 = true) (t1 : lay a1 = (0, 5, 8)) (H : CallI g m_X0_isLine d [.ref 0, .ref a1] n h (fun v1 h1 => (((¬ v1 = (0 : Int32)) → (CallV g m_X5_set d [.ref a1, .int (1 : Int32)] n h1 (fun h2 => (CallI g m_X0_addFactorial d [.ref 0, .ref a1, .int (ri h2 0 8), .int (ri h2 0 9), .int (ri h2 0 10), .int (1 : Int32)] n h2 (fun v3 h3 => (((¬ v3 = (0 : Int32)) → (Q none n h3)) ∧ ((v3 = (0 : Int32)) → (CallV g m_X0_flaw d [.ref 0, .int (3 : Int32), .int x2] n h3 (fun h4 => (Q none n h4)))))))))) ∧ ((v1 = (0 : Int32)) → (CallV g m_X0_flaw d [.ref 0, .int (2 : Int32), .int x2] n h1 (fun h5 => (Q none n h5))))))) : W_X0_readFactorial g d av Q n 0 [some (.ref 0), some (.ref a1), some (.int x2)] [] h := by
  refine r_aload_n dX0_readFactorial_0 rfl rfl ?_
  refine r_aload_n dX0_readFactorial_1 rfl rfl ?_
  refine k_VI (As := [.ref a1]) (stk := []) hp cv_X0_277 dX0_readFactorial_2 rfl (Nat.le_of_ble_eq_true rfl) ly_0 (H.mono (fun v1 h1 H => ?_)) ⟨Nat.le_refl _, Nat.le_refl _⟩
  refine r_if_ne (tgt := 15) dX0_readFactorial_5 rfl (fun cH => ?_) (fun cH => ?_)
  · replace H := H.1 cH
    refine r_aload_n dX0_readFactorial_15 rfl rfl ?_
    refine r_iconst (v := (1 : Int32)) dX0_readFactorial_16 rfl ?_
    refine k_VV (As := [.int (1 : Int32)]) (stk := []) hp cv_X0_129 dX0_readFactorial_17 rfl (Nat.le_of_ble_eq_true rfl) t1 (H.mono (fun h2 H => ?_)) ⟨Nat.le_refl _, Nat.le_refl _⟩
    refine r_aload_n dX0_readFactorial_20 rfl rfl ?_
    refine r_aload_n dX0_readFactorial_21 rfl rfl ?_
    refine r_aload_n dX0_readFactorial_22 rfl rfl ?_
    refine m_getI hp fw_X0_189 dX0_readFactorial_23 rfl ly_0 ?_
    refine r_aload_n dX0_readFactorial_26 rfl rfl ?_
    refine m_getI hp fw_X0_192 dX0_readFactorial_27 rfl ly_0 ?_
    refine r_aload_n dX0_readFactorial_30 rfl rfl ?_
    refine m_getI hp fw_X0_195 dX0_readFactorial_31 rfl ly_0 ?_
    refine r_iconst (v := (1 : Int32)) dX0_readFactorial_34 rfl ?_
    refine k_VI (As := [.ref a1, .int (ri h2 0 8), .int (ri h2 0 9), .int (ri h2 0 10), .int (1 : Int32)]) (stk := []) hp cv_X0_280 dX0_readFactorial_35 rfl (Nat.le_of_ble_eq_true rfl) ly_0 (H.mono (fun v3 h3 H => ?_)) ⟨Nat.le_refl _, Nat.le_refl _⟩
    refine r_if_ne (tgt := 47) dX0_readFactorial_38 rfl (fun cH => ?_) (fun cH => ?_)
    · replace H := H.1 cH
      exact r_vret dX0_readFactorial_47 rfl (Nat.le_refl _) (Nat.le_refl _) H
    · replace H := H.2 cH
      refine r_aload_n dX0_readFactorial_41 rfl rfl ?_
      refine r_iconst (v := (3 : Int32)) dX0_readFactorial_42 rfl ?_
      refine r_iload_n dX0_readFactorial_43 rfl rfl ?_
      refine k_VV (As := [.int (3 : Int32), .int x2]) (stk := []) hp cv_X0_227 dX0_readFactorial_44 rfl (Nat.le_of_ble_eq_true rfl) ly_0 (H.mono (fun h4 H => ?_)) ⟨Nat.le_refl _, Nat.le_refl _⟩
      exact r_vret dX0_readFactorial_47 rfl (Nat.le_refl _) (Nat.le_refl _) H
  · replace H := H.2 cH
    refine r_aload_n dX0_readFactorial_8 rfl rfl ?_
    refine r_iconst (v := (2 : Int32)) dX0_readFactorial_9 rfl ?_
    refine r_iload_n dX0_readFactorial_10 rfl rfl ?_
    refine k_VV (As := [.int (2 : Int32), .int x2]) (stk := []) hp cv_X0_227 dX0_readFactorial_11 rfl (Nat.le_of_ble_eq_true rfl) ly_0 (H.mono (fun h5 H => ?_)) ⟨Nat.le_refl _, Nat.le_refl _⟩
    exact r_vret dX0_readFactorial_14 rfl (Nat.le_refl _) (Nat.le_refl _) H
abbrev W_X0_readPower (g : GX) (d : Nat) (av : List Value) (Q : QT) (n : Nat) (pc : Nat) (ls : LV) (stk : List Value) (h : Hp) : Prop := RJ g m_X0_readPower (d + 1) 0 0 av Q pc ls stk n h 0 0
theorem s_X0_readPower_0 {g : GX} {d : Nat} {av : List Value} {Q : QT} {n : Nat} {h : Hp} {a1 : Nat} {a2 : Nat} {x3 : Int32} (hp : g.2.2.2.2 = true) (t1 : lay a1 = (0, 5, 8)) (t2 : lay a2 = (0, 5, 8)) (H : CallI g m_X0_isLine d [.ref 0, .ref a2] n h (fun v1 h1 => (((¬ v1 = (0 : Int32)) → (CallI g m_X5_isTerm d [.ref a1] n h1 (fun v2 h2 => (((¬ v2 = (0 : Int32)) → (W_X0_readPower g d av Q n 54 [some (.ref 0), some (.ref a1), none, some (.int x3), some (.int (ri h1 0 8)), some (.int (ri h1 0 9)), some (.int (ri h1 0 10)), none, none, none] [] h2)) ∧ ((v2 = (0 : Int32)) → (CallI g m_X6_isZero d [.ref (a1 + 1)] n h2 (fun v3 h3 => (((v3 = (0 : Int32)) → (W_X0_readPower g d av Q n 54 [some (.ref 0), some (.ref a1), none, some (.int x3), some (.int (ri h1 0 8)), some (.int (ri h1 0 9)), some (.int (ri h1 0 10)), none, none, none] [] h3)) ∧ ((¬ v3 = (0 : Int32)) → (W_X0_readPower g d av Q n 55 [some (.ref 0), some (.ref a1), none, some (.int x3), some (.int (ri h1 0 8)), some (.int (ri h1 0 9)), some (.int (ri h1 0 10)), none, none, none] [.int (1 : Int32)] h3)))))))))) ∧ ((v1 = (0 : Int32)) → (CallV g m_X0_flaw d [.ref 0, .int (2 : Int32), .int x3] n h1 (fun h4 => (Q none n h4))))))) : W_X0_readPower g d av Q n 0 [some (.ref 0), some (.ref a1), some (.ref a2), some (.int x3), none, none, none, none, none, none] [] h := by
  refine r_aload_n dX0_readPower_0 rfl rfl ?_
  refine r_aload_n dX0_readPower_1 rfl rfl ?_
  refine k_VI (As := [.ref a2]) (stk := []) hp cv_X0_277 dX0_readPower_2 rfl (Nat.le_of_ble_eq_true rfl) ly_0 (H.mono (fun v1 h1 H => ?_)) ⟨Nat.le_refl _, Nat.le_refl _⟩
  refine r_if_ne (tgt := 15) dX0_readPower_5 rfl (fun cH => ?_) (fun cH => ?_)
  · replace H := H.1 cH
    refine r_aload_n dX0_readPower_15 rfl rfl ?_
    refine m_getI hp fw_X0_189 dX0_readPower_16 rfl ly_0 ?_
    refine r_istore (ls2 := [some (.ref 0), some (.ref a1), some (.ref a2), some (.int x3), some (.int (ri h1 0 8)), none, none, none, none, none]) dX0_readPower_19 (by decide) rfl ?_
    refine r_aload_n dX0_readPower_21 rfl rfl ?_
    refine m_getI hp fw_X0_192 dX0_readPower_22 rfl ly_0 ?_
    refine r_istore (ls2 := [some (.ref 0), some (.ref a1), some (.ref a2), some (.int x3), some (.int (ri h1 0 8)), some (.int (ri h1 0 9)), none, none, none, none]) dX0_readPower_25 (by decide) rfl ?_
    refine r_aload_n dX0_readPower_27 rfl rfl ?_
    refine m_getI hp fw_X0_195 dX0_readPower_28 rfl ly_0 ?_
    refine r_istore (ls2 := [some (.ref 0), some (.ref a1), some (.ref a2), some (.int x3), some (.int (ri h1 0 8)), some (.int (ri h1 0 9)), some (.int (ri h1 0 10)), none, none, none]) dX0_readPower_31 (by decide) rfl ?_
    refine r_aload_n dX0_readPower_33 rfl rfl ?_
    refine k_VI (As := []) (stk := []) hp cv_X0_177 dX0_readPower_34 rfl (Nat.le_of_ble_eq_true rfl) t1 (H.mono (fun v2 h2 H => ?_)) ⟨Nat.le_refl _, Nat.le_refl _⟩
    refine r_if_ne (tgt := 54) dX0_readPower_37 rfl (fun cH => ?_) (fun cH => ?_)
    · replace H := H.1 cH
      refine r_prune [true, true, false, true, true, true, true, false, false, false] (ls2 := [some (.ref 0), some (.ref a1), none, some (.int x3), some (.int (ri h1 0 8)), some (.int (ri h1 0 9)), some (.int (ri h1 0 10)), none, none, none]) rfl ?_
      exact H
    · replace H := H.2 cH
      refine r_aload_n dX0_readPower_40 rfl rfl ?_
      refine m_getF (x := (a1 + 1)) hp fw_X0_110 dX0_readPower_41 rfl t1 (ff_5_0 t1) ?_
      refine k_VI (As := []) (stk := []) hp cv_X0_128 dX0_readPower_44 rfl (Nat.le_of_ble_eq_true rfl) (lf_5_0 t1) (H.mono (fun v3 h3 H => ?_)) ⟨Nat.le_refl _, Nat.le_refl _⟩
      refine r_if_eq (tgt := 54) dX0_readPower_47 rfl (fun cH => ?_) (fun cH => ?_)
      · replace H := H.1 cH
        refine r_prune [true, true, false, true, true, true, true, false, false, false] (ls2 := [some (.ref 0), some (.ref a1), none, some (.int x3), some (.int (ri h1 0 8)), some (.int (ri h1 0 9)), some (.int (ri h1 0 10)), none, none, none]) rfl ?_
        exact H
      · replace H := H.2 cH
        refine r_iconst (v := (1 : Int32)) dX0_readPower_50 rfl ?_
        refine r_goto (tgt := 55) dX0_readPower_51 rfl ?_
        refine r_prune [true, true, false, true, true, true, true, false, false, false] (ls2 := [some (.ref 0), some (.ref a1), none, some (.int x3), some (.int (ri h1 0 8)), some (.int (ri h1 0 9)), some (.int (ri h1 0 10)), none, none, none]) rfl ?_
        exact H
  · replace H := H.2 cH
    refine r_aload_n dX0_readPower_8 rfl rfl ?_
    refine r_iconst (v := (2 : Int32)) dX0_readPower_9 rfl ?_
    refine r_iload_n dX0_readPower_10 rfl rfl ?_
    refine k_VV (As := [.int (2 : Int32), .int x3]) (stk := []) hp cv_X0_227 dX0_readPower_11 rfl (Nat.le_of_ble_eq_true rfl) ly_0 (H.mono (fun h4 H => ?_)) ⟨Nat.le_refl _, Nat.le_refl _⟩
    exact r_vret dX0_readPower_14 rfl (Nat.le_refl _) (Nat.le_refl _) H
theorem s_X0_readPower_54 {g : GX} {d : Nat} {av : List Value} {Q : QT} {n : Nat} {h : Hp} {a1 : Nat} {x3 : Int32} {x4 : Int32} {x5 : Int32} {x6 : Int32} (hp : g.2.2.2.2 = true) (t1 : lay a1 = (0, 5, 8)) (H : W_X0_readPower g d av Q n 55 [some (.ref 0), some (.ref a1), none, some (.int x3), some (.int x4), some (.int x5), some (.int x6), none, none, none] [.int (0 : Int32)] h) : W_X0_readPower g d av Q n 54 [some (.ref 0), some (.ref a1), none, some (.int x3), some (.int x4), some (.int x5), some (.int x6), none, none, none] [] h := by
  refine r_iconst (v := (0 : Int32)) dX0_readPower_54 rfl ?_
  exact H
theorem s_X0_readPower_55 {g : GX} {d : Nat} {av : List Value} {Q : QT} {n : Nat} {h : Hp} {a1 : Nat} {x3 : Int32} {x4 : Int32} {x5 : Int32} {x6 : Int32} {xs0 : Int32} (hp : g.2.2.2.2 = true) (t1 : lay a1 = (0, 5, 8)) (H : ((¬ x4 = (0 : Int32)) → (W_X0_readPower g d av Q n 104 [some (.ref 0), some (.ref a1), none, some (.int x3), some (.int x4), some (.int x5), some (.int x6), some (.int xs0), none, none] [] h)) ∧ ((x4 = (0 : Int32)) → (((¬ x5 = (0 : Int32)) → (W_X0_readPower g d av Q n 104 [some (.ref 0), some (.ref a1), none, some (.int x3), some (.int x4), some (.int x5), some (.int x6), some (.int xs0), none, none] [] h)) ∧ ((x5 = (0 : Int32)) → (((xs0 = (0 : Int32)) → (W_X0_readPower g d av Q n 86 [some (.ref 0), some (.ref a1), none, some (.int x3), none, none, some (.int x6), none, none, none] [] h)) ∧ ((¬ xs0 = (0 : Int32)) → ((((0 : Int32) ≤ x6) → (W_X0_readPower g d av Q n 86 [some (.ref 0), some (.ref a1), none, some (.int x3), none, none, some (.int x6), none, none, none] [] h)) ∧ ((¬ (0 : Int32) ≤ x6) → (CallV g m_X0_flaw d [.ref 0, .int (3 : Int32), .int x3] n h (fun h1 => (Q none n h1))))))))))) : W_X0_readPower g d av Q n 55 [some (.ref 0), some (.ref a1), none, some (.int x3), some (.int x4), some (.int x5), some (.int x6), none, none, none] [.int xs0] h := by
  refine r_istore (ls2 := [some (.ref 0), some (.ref a1), none, some (.int x3), some (.int x4), some (.int x5), some (.int x6), some (.int xs0), none, none]) dX0_readPower_55 (by decide) rfl ?_
  refine r_iload dX0_readPower_57 rfl ?_
  refine r_if_ne (tgt := 104) dX0_readPower_59 rfl (fun cH => ?_) (fun cH => ?_)
  · replace H := H.1 cH
    exact H
  · replace H := H.2 cH
    refine r_iload dX0_readPower_62 rfl ?_
    refine r_if_ne (tgt := 104) dX0_readPower_64 rfl (fun cH => ?_) (fun cH => ?_)
    · replace H := H.1 cH
      exact H
    · replace H := H.2 cH
      refine r_iload dX0_readPower_67 rfl ?_
      refine r_if_eq (tgt := 86) dX0_readPower_69 rfl (fun cH => ?_) (fun cH => ?_)
      · replace H := H.1 cH
        refine r_prune [true, true, false, true, false, false, true, false, false, false] (ls2 := [some (.ref 0), some (.ref a1), none, some (.int x3), none, none, some (.int x6), none, none, none]) rfl ?_
        exact H
      · replace H := H.2 cH
        refine r_iload dX0_readPower_72 rfl ?_
        refine r_if_ge (tgt := 86) dX0_readPower_74 rfl (fun cH => ?_) (fun cH => ?_)
        · replace H := H.1 cH
          refine r_prune [true, true, false, true, false, false, true, false, false, false] (ls2 := [some (.ref 0), some (.ref a1), none, some (.int x3), none, none, some (.int x6), none, none, none]) rfl ?_
          exact H
        · replace H := H.2 cH
          refine r_aload_n dX0_readPower_77 rfl rfl ?_
          refine r_iconst (v := (3 : Int32)) dX0_readPower_78 rfl ?_
          refine r_iload_n dX0_readPower_79 rfl rfl ?_
          refine k_VV (As := [.int (3 : Int32), .int x3]) (stk := []) hp cv_X0_227 dX0_readPower_80 rfl (Nat.le_of_ble_eq_true rfl) ly_0 (H.mono (fun h1 H => ?_)) ⟨Nat.le_refl _, Nat.le_refl _⟩
          refine r_goto (tgt := 103) dX0_readPower_83 rfl ?_
          exact r_vret dX0_readPower_103 rfl (Nat.le_refl _) (Nat.le_refl _) H
theorem s_X0_readPower_86 {g : GX} {d : Nat} {av : List Value} {Q : QT} {n : Nat} {h : Hp} {a1 : Nat} {x3 : Int32} {x6 : Int32} (hp : g.2.2.2.2 = true) (t1 : lay a1 = (0, 5, 8)) (H : CallI g m_X0_raise d [.ref 0, .ref a1, .int x6, .ref a1] n h (fun v1 h1 => (((¬ v1 = (0 : Int32)) → (Q none n h1)) ∧ ((v1 = (0 : Int32)) → (CallV g m_X0_flaw d [.ref 0, .int (4 : Int32), .int x3] n h1 (fun h2 => (Q none n h2))))))) : W_X0_readPower g d av Q n 86 [some (.ref 0), some (.ref a1), none, some (.int x3), none, none, some (.int x6), none, none, none] [] h := by
  refine r_aload_n dX0_readPower_86 rfl rfl ?_
  refine r_aload_n dX0_readPower_87 rfl rfl ?_
  refine r_iload dX0_readPower_88 rfl ?_
  refine r_aload_n dX0_readPower_90 rfl rfl ?_
  refine k_VI (As := [.ref a1, .int x6, .ref a1]) (stk := []) hp cv_X0_284 dX0_readPower_91 rfl (Nat.le_of_ble_eq_true rfl) ly_0 (H.mono (fun v1 h1 H => ?_)) ⟨Nat.le_refl _, Nat.le_refl _⟩
  refine r_if_ne (tgt := 103) dX0_readPower_94 rfl (fun cH => ?_) (fun cH => ?_)
  · replace H := H.1 cH
    exact r_vret dX0_readPower_103 rfl (Nat.le_refl _) (Nat.le_refl _) H
  · replace H := H.2 cH
    refine r_aload_n dX0_readPower_97 rfl rfl ?_
    refine r_iconst (v := (4 : Int32)) dX0_readPower_98 rfl ?_
    refine r_iload_n dX0_readPower_99 rfl rfl ?_
    refine k_VV (As := [.int (4 : Int32), .int x3]) (stk := []) hp cv_X0_227 dX0_readPower_100 rfl (Nat.le_of_ble_eq_true rfl) ly_0 (H.mono (fun h2 H => ?_)) ⟨Nat.le_refl _, Nat.le_refl _⟩
    exact r_vret dX0_readPower_103 rfl (Nat.le_refl _) (Nat.le_refl _) H
theorem s_X0_readPower_104 {g : GX} {d : Nat} {av : List Value} {Q : QT} {n : Nat} {h : Hp} {a1 : Nat} {x3 : Int32} {x4 : Int32} {x5 : Int32} {x6 : Int32} {x7 : Int32} (hp : g.2.2.2.2 = true) (t1 : lay a1 = (0, 5, 8)) (H : CallI g m_X5_isTerm d [.ref a1] n h (fun v1 h1 => (((¬ v1 = (0 : Int32)) → (W_X0_readPower g d av Q n 153 [some (.ref 0), some (.ref a1), none, some (.int x3), some (.int x4), some (.int x5), some (.int x6), some (.int x7), none, none] [] h1)) ∧ ((v1 = (0 : Int32)) → (CallI g m_X6_isPolynomial d [.ref (a1 + 1)] n h1 (fun v2 h2 => (((v2 = (0 : Int32)) → (W_X0_readPower g d av Q n 153 [some (.ref 0), some (.ref a1), none, some (.int x3), some (.int x4), some (.int x5), some (.int x6), some (.int x7), none, none] [] h2)) ∧ ((¬ v2 = (0 : Int32)) → ((((1 : Int32) < (ri h2 (a1 + 2) 2)) → (W_X0_readPower g d av Q n 153 [some (.ref 0), some (.ref a1), none, some (.int x3), some (.int x4), some (.int x5), some (.int x6), some (.int x7), none, none] [] h2)) ∧ ((¬ (1 : Int32) < (ri h2 (a1 + 2) 2)) → ((((1 : Int32) < (ri h2 (a1 + 2) 3)) → (W_X0_readPower g d av Q n 153 [some (.ref 0), some (.ref a1), none, some (.int x3), some (.int x4), some (.int x5), some (.int x6), some (.int x7), none, none] [] h2)) ∧ ((¬ (1 : Int32) < (ri h2 (a1 + 2) 3)) → (W_X0_readPower g d av Q n 154 [some (.ref 0), some (.ref a1), none, some (.int x3), some (.int x4), some (.int x5), some (.int x6), some (.int x7), none, none] [.int (1 : Int32)] h2))))))))))))) : W_X0_readPower g d av Q n 104 [some (.ref 0), some (.ref a1), none, some (.int x3), some (.int x4), some (.int x5), some (.int x6), some (.int x7), none, none] [] h := by
  refine r_aload_n dX0_readPower_104 rfl rfl ?_
  refine k_VI (As := []) (stk := []) hp cv_X0_177 dX0_readPower_105 rfl (Nat.le_of_ble_eq_true rfl) t1 (H.mono (fun v1 h1 H => ?_)) ⟨Nat.le_refl _, Nat.le_refl _⟩
  refine r_if_ne (tgt := 153) dX0_readPower_108 rfl (fun cH => ?_) (fun cH => ?_)
  · replace H := H.1 cH
    exact H
  · replace H := H.2 cH
    refine r_aload_n dX0_readPower_111 rfl rfl ?_
    refine m_getF (x := (a1 + 1)) hp fw_X0_110 dX0_readPower_112 rfl t1 (ff_5_0 t1) ?_
    refine k_VI (As := []) (stk := []) hp cv_X0_180 dX0_readPower_115 rfl (Nat.le_of_ble_eq_true rfl) (lf_5_0 t1) (H.mono (fun v2 h2 H => ?_)) ⟨Nat.le_refl _, Nat.le_refl _⟩
    refine r_if_eq (tgt := 153) dX0_readPower_118 rfl (fun cH => ?_) (fun cH => ?_)
    · replace H := H.1 cH
      exact H
    · replace H := H.2 cH
      refine r_aload_n dX0_readPower_121 rfl rfl ?_
      refine m_getF (x := (a1 + 1)) hp fw_X0_110 dX0_readPower_122 rfl t1 (ff_5_0 t1) ?_
      refine m_getF (x := (a1 + 2)) hp fw_X0_89 dX0_readPower_125 rfl (lf_5_0 t1) (ff_6_0 (lf_5_0 t1)) ?_
      refine m_getI hp fw_X0_22 dX0_readPower_128 rfl (lf_6_0 (lf_5_0 t1)) ?_
      refine r_iconst (v := (1 : Int32)) dX0_readPower_131 rfl ?_
      refine r_icmp_gt (tgt := 153) dX0_readPower_132 rfl (fun cH => ?_) (fun cH => ?_)
      · replace H := H.1 cH
        exact H
      · replace H := H.2 cH
        refine r_aload_n dX0_readPower_135 rfl rfl ?_
        refine m_getF (x := (a1 + 1)) hp fw_X0_110 dX0_readPower_136 rfl t1 (ff_5_0 t1) ?_
        refine m_getF (x := (a1 + 2)) hp fw_X0_89 dX0_readPower_139 rfl (lf_5_0 t1) (ff_6_0 (lf_5_0 t1)) ?_
        refine m_getI hp fw_X0_28 dX0_readPower_142 rfl (lf_6_0 (lf_5_0 t1)) ?_
        refine r_iconst (v := (1 : Int32)) dX0_readPower_145 rfl ?_
        refine r_icmp_gt (tgt := 153) dX0_readPower_146 rfl (fun cH => ?_) (fun cH => ?_)
        · replace H := H.1 cH
          exact H
        · replace H := H.2 cH
          refine r_iconst (v := (1 : Int32)) dX0_readPower_149 rfl ?_
          refine r_goto (tgt := 154) dX0_readPower_150 rfl ?_
          exact H
theorem s_X0_readPower_153 {g : GX} {d : Nat} {av : List Value} {Q : QT} {n : Nat} {h : Hp} {a1 : Nat} {x3 : Int32} {x4 : Int32} {x5 : Int32} {x6 : Int32} {x7 : Int32} (hp : g.2.2.2.2 = true) (t1 : lay a1 = (0, 5, 8)) (H : W_X0_readPower g d av Q n 154 [some (.ref 0), some (.ref a1), none, some (.int x3), some (.int x4), some (.int x5), some (.int x6), some (.int x7), none, none] [.int (0 : Int32)] h) : W_X0_readPower g d av Q n 153 [some (.ref 0), some (.ref a1), none, some (.int x3), some (.int x4), some (.int x5), some (.int x6), some (.int x7), none, none] [] h := by
  refine r_iconst (v := (0 : Int32)) dX0_readPower_153 rfl ?_
  exact H
theorem s_X0_readPower_154 {g : GX} {d : Nat} {av : List Value} {Q : QT} {n : Nat} {h : Hp} {a1 : Nat} {x3 : Int32} {x4 : Int32} {x5 : Int32} {x6 : Int32} {x7 : Int32} {xs0 : Int32} (hp : g.2.2.2.2 = true) (t1 : lay a1 = (0, 5, 8)) (H : ((¬ xs0 = (0 : Int32)) → (((x7 = (0 : Int32)) → (vp_in (0 : Int32) (rm (a1 + 3)) ∧ (CallI g m_X0_signedPower d [.int (ri h (a1 + 3) ((0 : Int32)).toNatClampNeg), .int x6] n h (fun v1 h1 => (CallV g m_X5_set d [.ref a1, .int v1] n h1 (fun h2 => (CallI g m_X0_signedPower d [.int (ri h (a1 + 3) ((0 : Int32)).toNatClampNeg), .int x4] n h2 (fun v3 h3 => (∀ h4, h4 = wi h3 a1 1 v3 → (CallI g m_X0_signedPower d [.int (ri h (a1 + 3) ((0 : Int32)).toNatClampNeg), .int x5] n h4 (fun v5 h5 => (∀ h6, h6 = wi h5 a1 2 v5 → (Q none n h6))))))))))))) ∧ ((¬ x7 = (0 : Int32)) → (CallV g m_X0_flaw d [.ref 0, .int (3 : Int32), .int x3] n h (fun h7 => (Q none n h7)))))) ∧ ((xs0 = (0 : Int32)) → (CallV g m_X0_flaw d [.ref 0, .int (2 : Int32), .int x3] n h (fun h8 => (Q none n h8))))) : W_X0_readPower g d av Q n 154 [some (.ref 0), some (.ref a1), none, some (.int x3), some (.int x4), some (.int x5), some (.int x6), some (.int x7), none, none] [.int xs0] h := by
  refine r_istore (ls2 := [some (.ref 0), some (.ref a1), none, some (.int x3), some (.int x4), some (.int x5), some (.int x6), some (.int x7), some (.int xs0), none]) dX0_readPower_154 (by decide) rfl ?_
  refine r_iload dX0_readPower_156 rfl ?_
  refine r_if_ne (tgt := 170) dX0_readPower_158 rfl (fun cH => ?_) (fun cH => ?_)
  · replace H := H.1 cH
    refine r_iload dX0_readPower_170 rfl ?_
    refine r_if_eq (tgt := 184) dX0_readPower_172 rfl (fun cH => ?_) (fun cH => ?_)
    · replace H := H.1 cH
      refine r_aload_n dX0_readPower_184 rfl rfl ?_
      refine m_getF (x := (a1 + 1)) hp fw_X0_110 dX0_readPower_185 rfl t1 (ff_5_0 t1) ?_
      refine m_getF (x := (a1 + 2)) hp fw_X0_89 dX0_readPower_188 rfl (lf_5_0 t1) (ff_6_0 (lf_5_0 t1)) ?_
      refine m_getF (x := (a1 + 3)) hp fw_X0_288 dX0_readPower_191 rfl (lf_6_0 (lf_5_0 t1)) (ff_4_1 (lf_6_0 (lf_5_0 t1))) ?_
      refine r_iconst (v := (0 : Int32)) dX0_readPower_194 rfl ?_
      refine m_iald hp dX0_readPower_195 (lf_4_1 (lf_6_0 (lf_5_0 t1))) H.1 ?_
      replace H := H.2
      refine r_istore (ls2 := [some (.ref 0), some (.ref a1), none, some (.int x3), some (.int x4), some (.int x5), some (.int x6), some (.int x7), some (.int xs0), some (.int (ri h (a1 + 3) ((0 : Int32)).toNatClampNeg))]) dX0_readPower_196 (by decide) rfl ?_
      refine r_aload_n dX0_readPower_198 rfl rfl ?_
      refine r_iload dX0_readPower_199 rfl ?_
      refine r_iload dX0_readPower_201 rfl ?_
      refine k_SI (As := [.int (ri h (a1 + 3) ((0 : Int32)).toNatClampNeg), .int x6]) (stk := [.ref a1]) cs_X0_290 dX0_readPower_203 rfl (Nat.le_of_ble_eq_true rfl) (H.mono (fun v1 h1 H => ?_)) ⟨Nat.le_refl _, Nat.le_refl _⟩
      refine k_VV (As := [.int v1]) (stk := []) hp cv_X0_129 dX0_readPower_206 rfl (Nat.le_of_ble_eq_true rfl) t1 (H.mono (fun h2 H => ?_)) ⟨Nat.le_refl _, Nat.le_refl _⟩
      refine r_aload_n dX0_readPower_209 rfl rfl ?_
      refine r_iload dX0_readPower_210 rfl ?_
      refine r_iload dX0_readPower_212 rfl ?_
      refine k_SI (As := [.int (ri h (a1 + 3) ((0 : Int32)).toNatClampNeg), .int x4]) (stk := [.ref a1]) cs_X0_290 dX0_readPower_214 rfl (Nat.le_of_ble_eq_true rfl) (H.mono (fun v3 h3 H => ?_)) ⟨Nat.le_refl _, Nat.le_refl _⟩
      refine m_putI hp fw_X0_130 dX0_readPower_217 rfl rfl t1 (fun h4 eh4 => ?_)
      replace H := H h4 eh4
      refine r_aload_n dX0_readPower_220 rfl rfl ?_
      refine r_iload dX0_readPower_221 rfl ?_
      refine r_iload dX0_readPower_223 rfl ?_
      refine k_SI (As := [.int (ri h (a1 + 3) ((0 : Int32)).toNatClampNeg), .int x5]) (stk := [.ref a1]) cs_X0_290 dX0_readPower_225 rfl (Nat.le_of_ble_eq_true rfl) (H.mono (fun v5 h5 H => ?_)) ⟨Nat.le_refl _, Nat.le_refl _⟩
      refine m_putI hp fw_X0_133 dX0_readPower_228 rfl rfl t1 (fun h6 eh6 => ?_)
      replace H := H h6 eh6
      exact r_vret dX0_readPower_231 rfl (Nat.le_refl _) (Nat.le_refl _) H
    · replace H := H.2 cH
      refine r_aload_n dX0_readPower_175 rfl rfl ?_
      refine r_iconst (v := (3 : Int32)) dX0_readPower_176 rfl ?_
      refine r_iload_n dX0_readPower_177 rfl rfl ?_
      refine k_VV (As := [.int (3 : Int32), .int x3]) (stk := []) hp cv_X0_227 dX0_readPower_178 rfl (Nat.le_of_ble_eq_true rfl) ly_0 (H.mono (fun h7 H => ?_)) ⟨Nat.le_refl _, Nat.le_refl _⟩
      refine r_goto (tgt := 231) dX0_readPower_181 rfl ?_
      exact r_vret dX0_readPower_231 rfl (Nat.le_refl _) (Nat.le_refl _) H
  · replace H := H.2 cH
    refine r_aload_n dX0_readPower_161 rfl rfl ?_
    refine r_iconst (v := (2 : Int32)) dX0_readPower_162 rfl ?_
    refine r_iload_n dX0_readPower_163 rfl rfl ?_
    refine k_VV (As := [.int (2 : Int32), .int x3]) (stk := []) hp cv_X0_227 dX0_readPower_164 rfl (Nat.le_of_ble_eq_true rfl) ly_0 (H.mono (fun h8 H => ?_)) ⟨Nat.le_refl _, Nat.le_refl _⟩
    refine r_goto (tgt := 231) dX0_readPower_167 rfl ?_
    exact r_vret dX0_readPower_231 rfl (Nat.le_refl _) (Nat.le_refl _) H
abbrev W_X0_raise (g : GX) (d : Nat) (av : List Value) (Q : QT) (n : Nat) (pc : Nat) (ls : LV) (stk : List Value) (h : Hp) : Prop := RJ g m_X0_raise (d + 1) 0 0 av Q pc ls stk n h 0 0
theorem s_X0_raise_0 {g : GX} {d : Nat} {av : List Value} {Q : QT} {n : Nat} {h : Hp} {a1 : Nat} {x2 : Int32} {a3 : Nat} (hp : g.2.2.2.2 = true) (t1 : lay a1 = (0, 5, 8)) (t3 : lay a3 = (0, 5, 8)) (H : CallV g m_X5_copy d [.ref 57, .ref a1] n h (fun h1 => (CallV g m_X5_set d [.ref 67, .int (1 : Int32)] n h1 (fun h2 => (CallI g m_J3_abs d [.int x2] n h2 (fun v3 h3 => (W_X0_raise g d av Q n 25 [some (.ref 0), none, some (.int x2), some (.ref a3), some (.int v3), some (.int (0 : Int32))] [] h3))))))) : W_X0_raise g d av Q n 0 [some (.ref 0), some (.ref a1), some (.int x2), some (.ref a3), none, none] [] h := by
  refine r_aload_n dX0_raise_0 rfl rfl ?_
  refine m_getF (x := 57) hp fw_X0_160 dX0_raise_1 rfl ly_0 (ff_0_6 ly_0) ?_
  refine r_aload_n dX0_raise_4 rfl rfl ?_
  refine k_VV (As := [.ref a1]) (stk := []) hp cv_X0_158 dX0_raise_5 rfl (Nat.le_of_ble_eq_true rfl) (lf_0_6 ly_0) (H.mono (fun h1 H => ?_)) ⟨Nat.le_refl _, Nat.le_refl _⟩
  refine r_aload_n dX0_raise_8 rfl rfl ?_
  refine m_getF (x := 67) hp fw_X0_163 dX0_raise_9 rfl ly_0 (ff_0_7 ly_0) ?_
  refine r_iconst (v := (1 : Int32)) dX0_raise_12 rfl ?_
  refine k_VV (As := [.int (1 : Int32)]) (stk := []) hp cv_X0_129 dX0_raise_13 rfl (Nat.le_of_ble_eq_true rfl) (lf_0_7 ly_0) (H.mono (fun h2 H => ?_)) ⟨Nat.le_refl _, Nat.le_refl _⟩
  refine r_iload_n dX0_raise_16 rfl rfl ?_
  refine k_SI (As := [.int x2]) (stk := []) cs_X0_166 dX0_raise_17 rfl (Nat.le_of_ble_eq_true rfl) (H.mono (fun v3 h3 H => ?_)) ⟨Nat.le_refl _, Nat.le_refl _⟩
  refine r_istore (ls2 := [some (.ref 0), some (.ref a1), some (.int x2), some (.ref a3), some (.int v3), none]) dX0_raise_20 (by decide) rfl ?_
  refine r_iconst (v := (0 : Int32)) dX0_raise_22 rfl ?_
  refine r_istore (ls2 := [some (.ref 0), some (.ref a1), some (.int x2), some (.ref a3), some (.int v3), some (.int (0 : Int32))]) dX0_raise_23 (by decide) rfl ?_
  refine r_prune [true, false, true, true, true, true] (ls2 := [some (.ref 0), none, some (.int x2), some (.ref a3), some (.int v3), some (.int (0 : Int32))]) rfl ?_
  exact H
theorem s_X0_raise_25 {g : GX} {d : Nat} {av : List Value} {Q : QT} {n : Nat} {h : Hp} {x2 : Int32} {a3 : Nat} {x4 : Int32} {x5 : Int32} (hp : g.2.2.2.2 = true) (t3 : lay a3 = (0, 5, 8)) (H : ((x4 ≤ x5) → (CallV g m_X5_copy d [.ref a3, .ref 67] n h (fun h1 => (Q (some (.int (1 : Int32))) n h1)))) ∧ ((¬ x4 ≤ x5) → ((((0 : Int32) ≤ x2) → (W_X0_raise g d av Q n 50 [some (.ref 0), none, some (.int x2), some (.ref a3), some (.int x4), some (.int x5)] [.int (0 : Int32), .ref 57, .ref 67, .ref 0] h)) ∧ ((¬ (0 : Int32) ≤ x2) → (W_X0_raise g d av Q n 50 [some (.ref 0), none, some (.int x2), some (.ref a3), some (.int x4), some (.int x5)] [.int (1 : Int32), .ref 57, .ref 67, .ref 0] h))))) : W_X0_raise g d av Q n 25 [some (.ref 0), none, some (.int x2), some (.ref a3), some (.int x4), some (.int x5)] [] h := by
  refine r_iload dX0_raise_25 rfl ?_
  refine r_iload dX0_raise_27 rfl ?_
  refine r_icmp_ge (tgt := 68) dX0_raise_29 rfl (fun cH => ?_) (fun cH => ?_)
  · replace H := H.1 cH
    refine r_aload_n dX0_raise_68 rfl rfl ?_
    refine r_aload_n dX0_raise_69 rfl rfl ?_
    refine m_getF (x := 67) hp fw_X0_163 dX0_raise_70 rfl ly_0 (ff_0_7 ly_0) ?_
    refine k_VV (As := [.ref 67]) (stk := []) hp cv_X0_158 dX0_raise_73 rfl (Nat.le_of_ble_eq_true rfl) t3 (H.mono (fun h1 H => ?_)) ⟨Nat.le_refl _, Nat.le_refl _⟩
    refine r_iconst (v := (1 : Int32)) dX0_raise_76 rfl ?_
    exact r_zret dX0_raise_77 rfl rfl (Nat.le_refl _) (Nat.le_refl _) H
  · replace H := H.2 cH
    refine r_aload_n dX0_raise_32 rfl rfl ?_
    refine r_aload_n dX0_raise_33 rfl rfl ?_
    refine m_getF (x := 67) hp fw_X0_163 dX0_raise_34 rfl ly_0 (ff_0_7 ly_0) ?_
    refine r_aload_n dX0_raise_37 rfl rfl ?_
    refine m_getF (x := 57) hp fw_X0_160 dX0_raise_38 rfl ly_0 (ff_0_6 ly_0) ?_
    refine r_iload_n dX0_raise_41 rfl rfl ?_
    refine r_if_ge (tgt := 49) dX0_raise_42 rfl (fun cH => ?_) (fun cH => ?_)
    · replace H := H.1 cH
      refine r_iconst (v := (0 : Int32)) dX0_raise_49 rfl ?_
      exact H
    · replace H := H.2 cH
      refine r_iconst (v := (1 : Int32)) dX0_raise_45 rfl ?_
      refine r_goto (tgt := 50) dX0_raise_46 rfl ?_
      exact H
theorem s_X0_raise_50 {g : GX} {d : Nat} {av : List Value} {Q : QT} {n : Nat} {h : Hp} {x2 : Int32} {a3 : Nat} {x4 : Int32} {x5 : Int32} {xs0 : Int32} {as1 : Nat} {as2 : Nat} {as3 : Nat} (hp : g.2.2.2.2 = true) (t3 : lay a3 = (0, 5, 8)) (ts1 : lay as1 = (0, 5, 8)) (ts2 : lay as2 = (0, 5, 8)) (ts3 : lay as3 = (0, 0, 80)) (H : CallI g m_X0_multiply d [.ref as3, .ref as2, .ref as1, .int xs0, .ref 67] n h (fun v1 h1 => (((¬ v1 = (0 : Int32)) → (W_X0_raise g d av Q n 25 [some (.ref 0), none, some (.int x2), some (.ref a3), some (.int x4), some (.int (x5 + (1 : Int32)))] [] h1)) ∧ ((v1 = (0 : Int32)) → (Q (some (.int (0 : Int32))) n h1))))) : W_X0_raise g d av Q n 50 [some (.ref 0), none, some (.int x2), some (.ref a3), some (.int x4), some (.int x5)] [.int xs0, .ref as1, .ref as2, .ref as3] h := by
  refine r_aload_n dX0_raise_50 rfl rfl ?_
  refine m_getF (x := 67) hp fw_X0_163 dX0_raise_51 rfl ly_0 (ff_0_7 ly_0) ?_
  refine k_VI (As := [.ref as2, .ref as1, .int xs0, .ref 67]) (stk := []) hp cv_X0_169 dX0_raise_54 rfl (Nat.le_of_ble_eq_true rfl) ts3 (H.mono (fun v1 h1 H => ?_)) ⟨Nat.le_refl _, Nat.le_refl _⟩
  refine r_if_ne (tgt := 62) dX0_raise_57 rfl (fun cH => ?_) (fun cH => ?_)
  · replace H := H.1 cH
    refine r_iinc (v := (x5 + (1 : Int32))) (ls2 := [some (.ref 0), none, some (.int x2), some (.ref a3), some (.int x4), some (.int (x5 + (1 : Int32)))]) dX0_raise_62 rfl rfl (by decide) rfl ?_
    refine r_goto (tgt := 25) dX0_raise_65 rfl ?_
    exact H
  · replace H := H.2 cH
    refine r_iconst (v := (0 : Int32)) dX0_raise_60 rfl ?_
    exact r_zret dX0_raise_61 rfl rfl (Nat.le_refl _) (Nat.le_refl _) H
abbrev W_X0_multiply (g : GX) (d : Nat) (av : List Value) (Q : QT) (n : Nat) (pc : Nat) (ls : LV) (stk : List Value) (h : Hp) : Prop := RJ g m_X0_multiply (d + 1) 0 0 av Q pc ls stk n h 0 0
theorem s_X0_multiply_0 {g : GX} {d : Nat} {av : List Value} {Q : QT} {n : Nat} {h : Hp} {a1 : Nat} {a2 : Nat} {x3 : Int32} {a4 : Nat} (hp : g.2.2.2.2 = true) (t1 : lay a1 = (0, 5, 8)) (t2 : lay a2 = (0, 5, 8)) (t4 : lay a4 = (0, 5, 8)) (H : ((x3 = (0 : Int32)) → (W_X0_multiply g d av Q n 10 [some (.ref 0), some (.ref a1), some (.ref a2), some (.int x3), some (.ref a4), none] [.int (2 : Int32), .ref 0] h)) ∧ ((¬ x3 = (0 : Int32)) → (W_X0_multiply g d av Q n 10 [some (.ref 0), some (.ref a1), some (.ref a2), some (.int x3), some (.ref a4), none] [.int (3 : Int32), .ref 0] h))) : W_X0_multiply g d av Q n 0 [some (.ref 0), some (.ref a1), some (.ref a2), some (.int x3), some (.ref a4), none] [] h := by
  refine r_aload_n dX0_multiply_0 rfl rfl ?_
  refine r_iload_n dX0_multiply_1 rfl rfl ?_
  refine r_if_eq (tgt := 9) dX0_multiply_2 rfl (fun cH => ?_) (fun cH => ?_)
  · replace H := H.1 cH
    refine r_iconst (v := (2 : Int32)) dX0_multiply_9 rfl ?_
    exact H
  · replace H := H.2 cH
    refine r_iconst (v := (3 : Int32)) dX0_multiply_5 rfl ?_
    refine r_goto (tgt := 10) dX0_multiply_6 rfl ?_
    exact H
theorem s_X0_multiply_10 {g : GX} {d : Nat} {av : List Value} {Q : QT} {n : Nat} {h : Hp} {a1 : Nat} {a2 : Nat} {x3 : Int32} {a4 : Nat} {xs0 : Int32} {as1 : Nat} (hp : g.2.2.2.2 = true) (t1 : lay a1 = (0, 5, 8)) (t2 : lay a2 = (0, 5, 8)) (t4 : lay a4 = (0, 5, 8)) (ts1 : lay as1 = (0, 0, 80)) (H : CallI g m_X0_reckon d [.ref as1, .int xs0, .ref (a1 + 1), .ref (a2 + 1), .ref 48] n h (fun v1 h1 => (((¬ v1 = (0 : Int32)) → (CallV g m_X5_copyParts d [.ref 47, .ref a1] n h1 (fun h2 => (CallI g m_X6_isZero d [.ref 48] n h2 (fun v3 h3 => (((v3 = (0 : Int32)) → (((x3 = (0 : Int32)) → (W_X0_multiply g d av Q n 91 [some (.ref 0), none, some (.ref a2), some (.int x3), some (.ref a4), none] [.int (ri h3 a2 1), .int (ri h3 47 1), .ref 47] h3)) ∧ ((¬ x3 = (0 : Int32)) → (CallI g m_X0_inverse d [.int (ri h3 a2 1)] n h3 (fun v4 h4 => (W_X0_multiply g d av Q n 91 [some (.ref 0), none, some (.ref a2), some (.int x3), some (.ref a4), none] [.int v4, .int (ri h3 47 1), .ref 47] h4)))))) ∧ ((¬ v3 = (0 : Int32)) → (CallV g m_X5_set d [.ref a4, .int (0 : Int32)] n h3 (fun h5 => (Q (some (.int (1 : Int32))) n h5)))))))))) ∧ ((v1 = (0 : Int32)) → (Q (some (.int (0 : Int32))) n h1))))) : W_X0_multiply g d av Q n 10 [some (.ref 0), some (.ref a1), some (.ref a2), some (.int x3), some (.ref a4), none] [.int xs0, .ref as1] h := by
  refine r_aload_n dX0_multiply_10 rfl rfl ?_
  refine m_getF (x := (a1 + 1)) hp fw_X0_110 dX0_multiply_11 rfl t1 (ff_5_0 t1) ?_
  refine r_aload_n dX0_multiply_14 rfl rfl ?_
  refine m_getF (x := (a2 + 1)) hp fw_X0_110 dX0_multiply_15 rfl t2 (ff_5_0 t2) ?_
  refine r_aload_n dX0_multiply_18 rfl rfl ?_
  refine m_getF (x := 47) hp fw_X0_116 dX0_multiply_19 rfl ly_0 (ff_0_5 ly_0) ?_
  refine m_getF (x := 48) hp fw_X0_110 dX0_multiply_22 rfl (lf_0_5 ly_0) (ff_5_0 (lf_0_5 ly_0)) ?_
  refine k_VI (As := [.int xs0, .ref (a1 + 1), .ref (a2 + 1), .ref 48]) (stk := []) hp cv_X0_120 dX0_multiply_25 rfl (Nat.le_of_ble_eq_true rfl) ts1 (H.mono (fun v1 h1 H => ?_)) ⟨Nat.le_refl _, Nat.le_refl _⟩
  refine r_if_ne (tgt := 33) dX0_multiply_28 rfl (fun cH => ?_) (fun cH => ?_)
  · replace H := H.1 cH
    refine r_aload_n dX0_multiply_33 rfl rfl ?_
    refine m_getF (x := 47) hp fw_X0_116 dX0_multiply_34 rfl ly_0 (ff_0_5 ly_0) ?_
    refine r_aload_n dX0_multiply_37 rfl rfl ?_
    refine k_VV (As := [.ref a1]) (stk := []) hp cv_X0_124 dX0_multiply_38 rfl (Nat.le_of_ble_eq_true rfl) (lf_0_5 ly_0) (H.mono (fun h2 H => ?_)) ⟨Nat.le_refl _, Nat.le_refl _⟩
    refine r_aload_n dX0_multiply_41 rfl rfl ?_
    refine m_getF (x := 47) hp fw_X0_116 dX0_multiply_42 rfl ly_0 (ff_0_5 ly_0) ?_
    refine m_getF (x := 48) hp fw_X0_110 dX0_multiply_45 rfl (lf_0_5 ly_0) (ff_5_0 (lf_0_5 ly_0)) ?_
    refine k_VI (As := []) (stk := []) hp cv_X0_128 dX0_multiply_48 rfl (Nat.le_of_ble_eq_true rfl) (lf_5_0 (lf_0_5 ly_0)) (H.mono (fun v3 h3 H => ?_)) ⟨Nat.le_refl _, Nat.le_refl _⟩
    refine r_if_eq (tgt := 62) dX0_multiply_51 rfl (fun cH => ?_) (fun cH => ?_)
    · replace H := H.1 cH
      refine r_aload_n dX0_multiply_62 rfl rfl ?_
      refine m_getF (x := 47) hp fw_X0_116 dX0_multiply_63 rfl ly_0 (ff_0_5 ly_0) ?_
      refine r_aload_n dX0_multiply_66 rfl rfl ?_
      refine m_getF (x := 47) hp fw_X0_116 dX0_multiply_67 rfl ly_0 (ff_0_5 ly_0) ?_
      refine m_getI hp fw_X0_130 dX0_multiply_70 rfl (lf_0_5 ly_0) ?_
      refine r_iload_n dX0_multiply_73 rfl rfl ?_
      refine r_if_eq (tgt := 87) dX0_multiply_74 rfl (fun cH => ?_) (fun cH => ?_)
      · replace H := H.1 cH
        refine r_aload_n dX0_multiply_87 rfl rfl ?_
        refine m_getI hp fw_X0_130 dX0_multiply_88 rfl t2 ?_
        refine r_prune [true, false, true, true, true, false] (ls2 := [some (.ref 0), none, some (.ref a2), some (.int x3), some (.ref a4), none]) rfl ?_
        exact H
      · replace H := H.2 cH
        refine r_aload_n dX0_multiply_77 rfl rfl ?_
        refine m_getI hp fw_X0_130 dX0_multiply_78 rfl t2 ?_
        refine k_SI (As := [.int (ri h3 a2 1)]) (stk := [.int (ri h3 47 1), .ref 47]) cs_X0_74 dX0_multiply_81 rfl (Nat.le_of_ble_eq_true rfl) (H.mono (fun v4 h4 H => ?_)) ⟨Nat.le_refl _, Nat.le_refl _⟩
        refine r_goto (tgt := 91) dX0_multiply_84 rfl ?_
        refine r_prune [true, false, true, true, true, false] (ls2 := [some (.ref 0), none, some (.ref a2), some (.int x3), some (.ref a4), none]) rfl ?_
        exact H
    · replace H := H.2 cH
      refine r_aload dX0_multiply_54 rfl ?_
      refine r_iconst (v := (0 : Int32)) dX0_multiply_56 rfl ?_
      refine k_VV (As := [.int (0 : Int32)]) (stk := []) hp cv_X0_129 dX0_multiply_57 rfl (Nat.le_of_ble_eq_true rfl) t4 (H.mono (fun h5 H => ?_)) ⟨Nat.le_refl _, Nat.le_refl _⟩
      refine r_iconst (v := (1 : Int32)) dX0_multiply_60 rfl ?_
      exact r_zret dX0_multiply_61 rfl rfl (Nat.le_refl _) (Nat.le_refl _) H
  · replace H := H.2 cH
    refine r_iconst (v := (0 : Int32)) dX0_multiply_31 rfl ?_
    exact r_zret dX0_multiply_32 rfl rfl (Nat.le_refl _) (Nat.le_refl _) H
theorem s_X0_multiply_91 {g : GX} {d : Nat} {av : List Value} {Q : QT} {n : Nat} {h : Hp} {a2 : Nat} {x3 : Int32} {a4 : Nat} {xs0 : Int32} {xs1 : Int32} {as2 : Nat} (hp : g.2.2.2.2 = true) (t2 : lay a2 = (0, 5, 8)) (t4 : lay a4 = (0, 5, 8)) (ts2 : lay as2 = (0, 5, 8)) (H : CallI g m_X0_times d [.int xs1, .int xs0] n h (fun v1 h1 => (∀ h2, h2 = wi h1 as2 1 v1 → (((x3 = (0 : Int32)) → (W_X0_multiply g d av Q n 126 [some (.ref 0), none, some (.ref a2), some (.int x3), some (.ref a4), none] [.int (ri h2 a2 2), .int (ri h2 47 2), .ref 47] h2)) ∧ ((¬ x3 = (0 : Int32)) → (CallI g m_X0_inverse d [.int (ri h2 a2 2)] n h2 (fun v3 h3 => (W_X0_multiply g d av Q n 126 [some (.ref 0), none, some (.ref a2), some (.int x3), some (.ref a4), none] [.int v3, .int (ri h2 47 2), .ref 47] h3)))))))) : W_X0_multiply g d av Q n 91 [some (.ref 0), none, some (.ref a2), some (.int x3), some (.ref a4), none] [.int xs0, .int xs1, .ref as2] h := by
  refine k_SI (As := [.int xs1, .int xs0]) (stk := [.ref as2]) cs_X0_6 dX0_multiply_91 rfl (Nat.le_of_ble_eq_true rfl) (H.mono (fun v1 h1 H => ?_)) ⟨Nat.le_refl _, Nat.le_refl _⟩
  refine m_putI hp fw_X0_130 dX0_multiply_94 rfl rfl ts2 (fun h2 eh2 => ?_)
  replace H := H h2 eh2
  refine r_aload_n dX0_multiply_97 rfl rfl ?_
  refine m_getF (x := 47) hp fw_X0_116 dX0_multiply_98 rfl ly_0 (ff_0_5 ly_0) ?_
  refine r_aload_n dX0_multiply_101 rfl rfl ?_
  refine m_getF (x := 47) hp fw_X0_116 dX0_multiply_102 rfl ly_0 (ff_0_5 ly_0) ?_
  refine m_getI hp fw_X0_133 dX0_multiply_105 rfl (lf_0_5 ly_0) ?_
  refine r_iload_n dX0_multiply_108 rfl rfl ?_
  refine r_if_eq (tgt := 122) dX0_multiply_109 rfl (fun cH => ?_) (fun cH => ?_)
  · replace H := H.1 cH
    refine r_aload_n dX0_multiply_122 rfl rfl ?_
    refine m_getI hp fw_X0_133 dX0_multiply_123 rfl t2 ?_
    exact H
  · replace H := H.2 cH
    refine r_aload_n dX0_multiply_112 rfl rfl ?_
    refine m_getI hp fw_X0_133 dX0_multiply_113 rfl t2 ?_
    refine k_SI (As := [.int (ri h2 a2 2)]) (stk := [.int (ri h2 47 2), .ref 47]) cs_X0_74 dX0_multiply_116 rfl (Nat.le_of_ble_eq_true rfl) (H.mono (fun v3 h3 H => ?_)) ⟨Nat.le_refl _, Nat.le_refl _⟩
    refine r_goto (tgt := 126) dX0_multiply_119 rfl ?_
    exact H
theorem s_X0_multiply_126 {g : GX} {d : Nat} {av : List Value} {Q : QT} {n : Nat} {h : Hp} {a2 : Nat} {x3 : Int32} {a4 : Nat} {xs0 : Int32} {xs1 : Int32} {as2 : Nat} (hp : g.2.2.2.2 = true) (t2 : lay a2 = (0, 5, 8)) (t4 : lay a4 = (0, 5, 8)) (ts2 : lay as2 = (0, 5, 8)) (H : CallI g m_X0_times d [.int xs1, .int xs0] n h (fun v1 h1 => (∀ h2, h2 = wi h1 as2 2 v1 → (W_X0_multiply g d av Q n 135 [some (.ref 0), none, some (.ref a2), some (.int x3), some (.ref a4), some (.int (0 : Int32))] [] h2)))) : W_X0_multiply g d av Q n 126 [some (.ref 0), none, some (.ref a2), some (.int x3), some (.ref a4), none] [.int xs0, .int xs1, .ref as2] h := by
  refine k_SI (As := [.int xs1, .int xs0]) (stk := [.ref as2]) cs_X0_6 dX0_multiply_126 rfl (Nat.le_of_ble_eq_true rfl) (H.mono (fun v1 h1 H => ?_)) ⟨Nat.le_refl _, Nat.le_refl _⟩
  refine m_putI hp fw_X0_133 dX0_multiply_129 rfl rfl ts2 (fun h2 eh2 => ?_)
  replace H := H h2 eh2
  refine r_iconst (v := (0 : Int32)) dX0_multiply_132 rfl ?_
  refine r_istore (ls2 := [some (.ref 0), none, some (.ref a2), some (.int x3), some (.ref a4), some (.int (0 : Int32))]) dX0_multiply_133 (by decide) rfl ?_
  exact H
theorem s_X0_multiply_135 {g : GX} {d : Nat} {av : List Value} {Q : QT} {n : Nat} {h : Hp} {a2 : Nat} {x3 : Int32} {a4 : Nat} {x5 : Int32} (hp : g.2.2.2.2 = true) (t2 : lay a2 = (0, 5, 8)) (t4 : lay a4 = (0, 5, 8)) (H : (((ri h a2 3) ≤ x5) → (CallI g m_X5_sizes d [.ref 47] n h (fun v1 h1 => (((v1 ≤ (12 : Int32)) → (CallV g m_X5_copy d [.ref a4, .ref 47] n h1 (fun h2 => (Q (some (.int (1 : Int32))) n h2)))) ∧ ((¬ v1 ≤ (12 : Int32)) → (Q (some (.int (0 : Int32))) n h1)))))) ∧ ((¬ (ri h a2 3) ≤ x5) → (vp_in x5 60 ∧ (vp_in x5 60 ∧ (vp_in x5 60 ∧ (((x3 = (0 : Int32)) → (vp_in x5 60 ∧ (W_X0_multiply g d av Q n 191 [some (.ref 0), none, some (.ref a2), some (.int x3), some (.ref a4), some (.int x5)] [.int (ri h (a2 + 9) (x5).toNatClampNeg), .int (ri h (a2 + 8) (x5).toNatClampNeg), .int (ri h (a2 + 7) (x5).toNatClampNeg), .int (ri h (a2 + 6) (x5).toNatClampNeg), .ref 47] h))) ∧ ((¬ x3 = (0 : Int32)) → (vp_in x5 60 ∧ (W_X0_multiply g d av Q n 191 [some (.ref 0), none, some (.ref a2), some (.int x3), some (.ref a4), some (.int x5)] [.int (-(ri h (a2 + 9) (x5).toNatClampNeg)), .int (ri h (a2 + 8) (x5).toNatClampNeg), .int (ri h (a2 + 7) (x5).toNatClampNeg), .int (ri h (a2 + 6) (x5).toNatClampNeg), .ref 47] h))))))))) : W_X0_multiply g d av Q n 135 [some (.ref 0), none, some (.ref a2), some (.int x3), some (.ref a4), some (.int x5)] [] h := by
  refine r_iload dX0_multiply_135 rfl ?_
  refine r_aload_n dX0_multiply_137 rfl rfl ?_
  refine m_getI hp fw_X0_136 dX0_multiply_138 rfl t2 ?_
  refine r_icmp_ge (tgt := 200) dX0_multiply_141 rfl (fun cH => ?_) (fun cH => ?_)
  · replace H := H.1 cH
    refine r_aload_n dX0_multiply_200 rfl rfl ?_
    refine m_getF (x := 47) hp fw_X0_116 dX0_multiply_201 rfl ly_0 (ff_0_5 ly_0) ?_
    refine k_VI (As := []) (stk := []) hp cv_X0_155 dX0_multiply_204 rfl (Nat.le_of_ble_eq_true rfl) (lf_0_5 ly_0) (H.mono (fun v1 h1 H => ?_)) ⟨Nat.le_refl _, Nat.le_refl _⟩
    refine r_bipush (v := (12 : Int32)) dX0_multiply_207 rfl ?_
    refine r_icmp_le (tgt := 214) dX0_multiply_209 rfl (fun cH => ?_) (fun cH => ?_)
    · replace H := H.1 cH
      refine r_aload dX0_multiply_214 rfl ?_
      refine r_aload_n dX0_multiply_216 rfl rfl ?_
      refine m_getF (x := 47) hp fw_X0_116 dX0_multiply_217 rfl ly_0 (ff_0_5 ly_0) ?_
      refine k_VV (As := [.ref 47]) (stk := []) hp cv_X0_158 dX0_multiply_220 rfl (Nat.le_of_ble_eq_true rfl) t4 (H.mono (fun h2 H => ?_)) ⟨Nat.le_refl _, Nat.le_refl _⟩
      refine r_iconst (v := (1 : Int32)) dX0_multiply_223 rfl ?_
      exact r_zret dX0_multiply_224 rfl rfl (Nat.le_refl _) (Nat.le_refl _) H
    · replace H := H.2 cH
      refine r_iconst (v := (0 : Int32)) dX0_multiply_212 rfl ?_
      exact r_zret dX0_multiply_213 rfl rfl (Nat.le_refl _) (Nat.le_refl _) H
  · replace H := H.2 cH
    refine r_aload_n dX0_multiply_144 rfl rfl ?_
    refine m_getF (x := 47) hp fw_X0_116 dX0_multiply_145 rfl ly_0 (ff_0_5 ly_0) ?_
    refine r_aload_n dX0_multiply_148 rfl rfl ?_
    refine m_getF (x := (a2 + 6)) hp fw_X0_139 dX0_multiply_149 rfl t2 (ff_5_4 t2) ?_
    refine r_iload dX0_multiply_152 rfl ?_
    refine m_iald hp dX0_multiply_154 (lf_5_4 t2) H.1 ?_
    replace H := H.2
    refine r_aload_n dX0_multiply_155 rfl rfl ?_
    refine m_getF (x := (a2 + 7)) hp fw_X0_143 dX0_multiply_156 rfl t2 (ff_5_5 t2) ?_
    refine r_iload dX0_multiply_159 rfl ?_
    refine m_iald hp dX0_multiply_161 (lf_5_5 t2) H.1 ?_
    replace H := H.2
    refine r_aload_n dX0_multiply_162 rfl rfl ?_
    refine m_getF (x := (a2 + 8)) hp fw_X0_146 dX0_multiply_163 rfl t2 (ff_5_6 t2) ?_
    refine r_iload dX0_multiply_166 rfl ?_
    refine m_iald hp dX0_multiply_168 (lf_5_6 t2) H.1 ?_
    replace H := H.2
    refine r_iload_n dX0_multiply_169 rfl rfl ?_
    refine r_if_eq (tgt := 184) dX0_multiply_170 rfl (fun cH => ?_) (fun cH => ?_)
    · replace H := H.1 cH
      refine r_aload_n dX0_multiply_184 rfl rfl ?_
      refine m_getF (x := (a2 + 9)) hp fw_X0_149 dX0_multiply_185 rfl t2 (ff_5_7 t2) ?_
      refine r_iload dX0_multiply_188 rfl ?_
      refine m_iald hp dX0_multiply_190 (lf_5_7 t2) H.1 ?_
      replace H := H.2
      exact H
    · replace H := H.2 cH
      refine r_aload_n dX0_multiply_173 rfl rfl ?_
      refine m_getF (x := (a2 + 9)) hp fw_X0_149 dX0_multiply_174 rfl t2 (ff_5_7 t2) ?_
      refine r_iload dX0_multiply_177 rfl ?_
      refine m_iald hp dX0_multiply_179 (lf_5_7 t2) H.1 ?_
      replace H := H.2
      refine r_ineg dX0_multiply_180 ?_
      refine r_goto (tgt := 191) dX0_multiply_181 rfl ?_
      exact H
theorem s_X0_multiply_191 {g : GX} {d : Nat} {av : List Value} {Q : QT} {n : Nat} {h : Hp} {a2 : Nat} {x3 : Int32} {a4 : Nat} {x5 : Int32} {xs0 : Int32} {xs1 : Int32} {xs2 : Int32} {xs3 : Int32} {as4 : Nat} (hp : g.2.2.2.2 = true) (t2 : lay a2 = (0, 5, 8)) (t4 : lay a4 = (0, 5, 8)) (ts4 : lay as4 = (0, 5, 8)) (H : CallV g m_X5_add d [.ref as4, .int xs3, .int xs2, .int xs1, .int xs0] n h (fun h1 => (W_X0_multiply g d av Q n 135 [some (.ref 0), none, some (.ref a2), some (.int x3), some (.ref a4), some (.int (x5 + (1 : Int32)))] [] h1))) : W_X0_multiply g d av Q n 191 [some (.ref 0), none, some (.ref a2), some (.int x3), some (.ref a4), some (.int x5)] [.int xs0, .int xs1, .int xs2, .int xs3, .ref as4] h := by
  refine k_VV (As := [.int xs3, .int xs2, .int xs1, .int xs0]) (stk := []) hp cv_X0_152 dX0_multiply_191 rfl (Nat.le_of_ble_eq_true rfl) ts4 (H.mono (fun h1 H => ?_)) ⟨Nat.le_refl _, Nat.le_refl _⟩
  refine r_iinc (v := (x5 + (1 : Int32))) (ls2 := [some (.ref 0), none, some (.ref a2), some (.int x3), some (.ref a4), some (.int (x5 + (1 : Int32)))]) dX0_multiply_194 rfl rfl (by decide) rfl ?_
  refine r_goto (tgt := 135) dX0_multiply_197 rfl ?_
  exact H
abbrev W_X0_reckon (g : GX) (d : Nat) (av : List Value) (Q : QT) (n : Nat) (pc : Nat) (ls : LV) (stk : List Value) (h : Hp) : Prop := RJ g m_X0_reckon (d + 1) 0 0 av Q pc ls stk n h 0 0
theorem s_X0_reckon_0 {g : GX} {d : Nat} {av : List Value} {Q : QT} {n : Nat} {h : Hp} {x1 : Int32} {a2 : Nat} {a3 : Nat} {a4 : Nat} (hp : g.2.2.2.2 = true) (t2 : lay a2 = (0, 6, 2)) (t3 : lay a3 = (0, 6, 2)) (t4 : lay a4 = (0, 6, 2)) (H : (((2 : Int32) ≤ x1) → (((¬ x1 = (2 : Int32)) → (W_X0_reckon g d av Q n 98 [some (.ref 0), some (.int x1), some (.ref a2), some (.ref a3), some (.ref a4)] [.ref (a3 + 3), .ref (a2 + 1), .ref 39] h)) ∧ ((x1 = (2 : Int32)) → (W_X0_reckon g d av Q n 98 [some (.ref 0), some (.int x1), some (.ref a2), some (.ref a3), some (.ref a4)] [.ref (a3 + 1), .ref (a2 + 1), .ref 39] h)))) ∧ ((¬ (2 : Int32) ≤ x1) → (CallV g m_X4_product d [.ref 39, .ref (a2 + 1), .ref (a3 + 3)] n h (fun h1 => (CallV g m_X4_product d [.ref 45, .ref (a3 + 1), .ref (a2 + 3)] n h1 (fun h2 => (((¬ x1 = (0 : Int32)) → (W_X0_reckon g d av Q n 53 [some (.ref 0), none, some (.ref a2), some (.ref a3), some (.ref a4)] [.int (2147483646 : Int32), .ref 45, .ref 39] h2)) ∧ ((x1 = (0 : Int32)) → (W_X0_reckon g d av Q n 53 [some (.ref 0), none, some (.ref a2), some (.ref a3), some (.ref a4)] [.int (1 : Int32), .ref 45, .ref 39] h2))))))))) : W_X0_reckon g d av Q n 0 [some (.ref 0), some (.int x1), some (.ref a2), some (.ref a3), some (.ref a4)] [] h := by
  refine r_iload_n dX0_reckon_0 rfl rfl ?_
  refine r_iconst (v := (2 : Int32)) dX0_reckon_1 rfl ?_
  refine r_icmp_ge (tgt := 74) dX0_reckon_2 rfl (fun cH => ?_) (fun cH => ?_)
  · replace H := H.1 cH
    refine r_aload_n dX0_reckon_74 rfl rfl ?_
    refine m_getF (x := 39) hp fw_X0_31 dX0_reckon_75 rfl ly_0 (ff_0_1 ly_0) ?_
    refine r_aload_n dX0_reckon_78 rfl rfl ?_
    refine m_getF (x := (a2 + 1)) hp fw_X0_89 dX0_reckon_79 rfl t2 (ff_6_0 t2) ?_
    refine r_iload_n dX0_reckon_82 rfl rfl ?_
    refine r_iconst (v := (2 : Int32)) dX0_reckon_83 rfl ?_
    refine r_icmp_ne (tgt := 94) dX0_reckon_84 rfl (fun cH => ?_) (fun cH => ?_)
    · replace H := H.1 cH
      refine r_aload_n dX0_reckon_94 rfl rfl ?_
      refine m_getF (x := (a3 + 3)) hp fw_X0_94 dX0_reckon_95 rfl t3 (ff_6_1 t3) ?_
      exact H
    · replace H := H.2 cH
      refine r_aload_n dX0_reckon_87 rfl rfl ?_
      refine m_getF (x := (a3 + 1)) hp fw_X0_89 dX0_reckon_88 rfl t3 (ff_6_0 t3) ?_
      refine r_goto (tgt := 98) dX0_reckon_91 rfl ?_
      exact H
  · replace H := H.2 cH
    refine r_aload_n dX0_reckon_5 rfl rfl ?_
    refine m_getF (x := 39) hp fw_X0_31 dX0_reckon_6 rfl ly_0 (ff_0_1 ly_0) ?_
    refine r_aload_n dX0_reckon_9 rfl rfl ?_
    refine m_getF (x := (a2 + 1)) hp fw_X0_89 dX0_reckon_10 rfl t2 (ff_6_0 t2) ?_
    refine r_aload_n dX0_reckon_13 rfl rfl ?_
    refine m_getF (x := (a3 + 3)) hp fw_X0_94 dX0_reckon_14 rfl t3 (ff_6_1 t3) ?_
    refine k_VV (As := [.ref (a2 + 1), .ref (a3 + 3)]) (stk := []) hp cv_X0_97 dX0_reckon_17 rfl (Nat.le_of_ble_eq_true rfl) (lf_0_1 ly_0) (H.mono (fun h1 H => ?_)) ⟨Nat.le_refl _, Nat.le_refl _⟩
    refine r_aload_n dX0_reckon_20 rfl rfl ?_
    refine m_getF (x := 45) hp fw_X0_59 dX0_reckon_21 rfl ly_0 (ff_0_4 ly_0) ?_
    refine r_aload_n dX0_reckon_24 rfl rfl ?_
    refine m_getF (x := (a3 + 1)) hp fw_X0_89 dX0_reckon_25 rfl t3 (ff_6_0 t3) ?_
    refine r_aload_n dX0_reckon_28 rfl rfl ?_
    refine m_getF (x := (a2 + 3)) hp fw_X0_94 dX0_reckon_29 rfl t2 (ff_6_1 t2) ?_
    refine k_VV (As := [.ref (a3 + 1), .ref (a2 + 3)]) (stk := []) hp cv_X0_97 dX0_reckon_32 rfl (Nat.le_of_ble_eq_true rfl) (lf_0_4 ly_0) (H.mono (fun h2 H => ?_)) ⟨Nat.le_refl _, Nat.le_refl _⟩
    refine r_aload_n dX0_reckon_35 rfl rfl ?_
    refine m_getF (x := 39) hp fw_X0_31 dX0_reckon_36 rfl ly_0 (ff_0_1 ly_0) ?_
    refine r_aload_n dX0_reckon_39 rfl rfl ?_
    refine m_getF (x := 45) hp fw_X0_59 dX0_reckon_40 rfl ly_0 (ff_0_4 ly_0) ?_
    refine r_iload_n dX0_reckon_43 rfl rfl ?_
    refine r_if_ne (tgt := 51) dX0_reckon_44 rfl (fun cH => ?_) (fun cH => ?_)
    · replace H := H.1 cH
      refine r_ldc (own := "") (v := (2147483646 : Int32)) dX0_reckon_51 q1022 ?_
      refine r_prune [true, false, true, true, true] (ls2 := [some (.ref 0), none, some (.ref a2), some (.ref a3), some (.ref a4)]) rfl ?_
      exact H
    · replace H := H.2 cH
      refine r_iconst (v := (1 : Int32)) dX0_reckon_47 rfl ?_
      refine r_goto (tgt := 53) dX0_reckon_48 rfl ?_
      refine r_prune [true, false, true, true, true] (ls2 := [some (.ref 0), none, some (.ref a2), some (.ref a3), some (.ref a4)]) rfl ?_
      exact H
theorem s_X0_reckon_53 {g : GX} {d : Nat} {av : List Value} {Q : QT} {n : Nat} {h : Hp} {a2 : Nat} {a3 : Nat} {a4 : Nat} {xs0 : Int32} {as1 : Nat} {as2 : Nat} (hp : g.2.2.2.2 = true) (t2 : lay a2 = (0, 6, 2)) (t3 : lay a3 = (0, 6, 2)) (t4 : lay a4 = (0, 6, 2)) (ts1 : lay as1 = (0, 4, 4)) (ts2 : lay as2 = (0, 4, 4)) (H : CallV g m_X4_add d [.ref as2, .ref as1, .int xs0] n h (fun h1 => (CallV g m_X4_product d [.ref 41, .ref (a2 + 3), .ref (a3 + 3)] n h1 (fun h2 => (W_X0_reckon g d av Q n 128 [some (.ref 0), none, none, none, some (.ref a4)] [] h2))))) : W_X0_reckon g d av Q n 53 [some (.ref 0), none, some (.ref a2), some (.ref a3), some (.ref a4)] [.int xs0, .ref as1, .ref as2] h := by
  refine k_VV (As := [.ref as1, .int xs0]) (stk := []) hp cv_X0_102 dX0_reckon_53 rfl (Nat.le_of_ble_eq_true rfl) ts2 (H.mono (fun h1 H => ?_)) ⟨Nat.le_refl _, Nat.le_refl _⟩
  refine r_aload_n dX0_reckon_56 rfl rfl ?_
  refine m_getF (x := 41) hp fw_X0_39 dX0_reckon_57 rfl ly_0 (ff_0_2 ly_0) ?_
  refine r_aload_n dX0_reckon_60 rfl rfl ?_
  refine m_getF (x := (a2 + 3)) hp fw_X0_94 dX0_reckon_61 rfl t2 (ff_6_1 t2) ?_
  refine r_aload_n dX0_reckon_64 rfl rfl ?_
  refine m_getF (x := (a3 + 3)) hp fw_X0_94 dX0_reckon_65 rfl t3 (ff_6_1 t3) ?_
  refine k_VV (As := [.ref (a2 + 3), .ref (a3 + 3)]) (stk := []) hp cv_X0_97 dX0_reckon_68 rfl (Nat.le_of_ble_eq_true rfl) (lf_0_2 ly_0) (H.mono (fun h2 H => ?_)) ⟨Nat.le_refl _, Nat.le_refl _⟩
  refine r_goto (tgt := 128) dX0_reckon_71 rfl ?_
  refine r_prune [true, false, false, false, true] (ls2 := [some (.ref 0), none, none, none, some (.ref a4)]) rfl ?_
  exact H
theorem s_X0_reckon_98 {g : GX} {d : Nat} {av : List Value} {Q : QT} {n : Nat} {h : Hp} {x1 : Int32} {a2 : Nat} {a3 : Nat} {a4 : Nat} {as0 : Nat} {as1 : Nat} {as2 : Nat} (hp : g.2.2.2.2 = true) (t2 : lay a2 = (0, 6, 2)) (t3 : lay a3 = (0, 6, 2)) (t4 : lay a4 = (0, 6, 2)) (ts0 : lay as0 = (0, 4, 4)) (ts1 : lay as1 = (0, 4, 4)) (ts2 : lay as2 = (0, 4, 4)) (H : CallV g m_X4_product d [.ref as2, .ref as1, .ref as0] n h (fun h1 => (((¬ x1 = (2 : Int32)) → (W_X0_reckon g d av Q n 125 [some (.ref 0), none, none, none, some (.ref a4)] [.ref (a3 + 1), .ref (a2 + 3), .ref 41] h1)) ∧ ((x1 = (2 : Int32)) → (W_X0_reckon g d av Q n 125 [some (.ref 0), none, none, none, some (.ref a4)] [.ref (a3 + 3), .ref (a2 + 3), .ref 41] h1))))) : W_X0_reckon g d av Q n 98 [some (.ref 0), some (.int x1), some (.ref a2), some (.ref a3), some (.ref a4)] [.ref as0, .ref as1, .ref as2] h := by
  refine k_VV (As := [.ref as1, .ref as0]) (stk := []) hp cv_X0_97 dX0_reckon_98 rfl (Nat.le_of_ble_eq_true rfl) ts2 (H.mono (fun h1 H => ?_)) ⟨Nat.le_refl _, Nat.le_refl _⟩
  refine r_aload_n dX0_reckon_101 rfl rfl ?_
  refine m_getF (x := 41) hp fw_X0_39 dX0_reckon_102 rfl ly_0 (ff_0_2 ly_0) ?_
  refine r_aload_n dX0_reckon_105 rfl rfl ?_
  refine m_getF (x := (a2 + 3)) hp fw_X0_94 dX0_reckon_106 rfl t2 (ff_6_1 t2) ?_
  refine r_iload_n dX0_reckon_109 rfl rfl ?_
  refine r_iconst (v := (2 : Int32)) dX0_reckon_110 rfl ?_
  refine r_icmp_ne (tgt := 121) dX0_reckon_111 rfl (fun cH => ?_) (fun cH => ?_)
  · replace H := H.1 cH
    refine r_aload_n dX0_reckon_121 rfl rfl ?_
    refine m_getF (x := (a3 + 1)) hp fw_X0_89 dX0_reckon_122 rfl t3 (ff_6_0 t3) ?_
    refine r_prune [true, false, false, false, true] (ls2 := [some (.ref 0), none, none, none, some (.ref a4)]) rfl ?_
    exact H
  · replace H := H.2 cH
    refine r_aload_n dX0_reckon_114 rfl rfl ?_
    refine m_getF (x := (a3 + 3)) hp fw_X0_94 dX0_reckon_115 rfl t3 (ff_6_1 t3) ?_
    refine r_goto (tgt := 125) dX0_reckon_118 rfl ?_
    refine r_prune [true, false, false, false, true] (ls2 := [some (.ref 0), none, none, none, some (.ref a4)]) rfl ?_
    exact H
theorem s_X0_reckon_125 {g : GX} {d : Nat} {av : List Value} {Q : QT} {n : Nat} {h : Hp} {a4 : Nat} {as0 : Nat} {as1 : Nat} {as2 : Nat} (hp : g.2.2.2.2 = true) (t4 : lay a4 = (0, 6, 2)) (ts0 : lay as0 = (0, 4, 4)) (ts1 : lay as1 = (0, 4, 4)) (ts2 : lay as2 = (0, 4, 4)) (H : CallV g m_X4_product d [.ref as2, .ref as1, .ref as0] n h (fun h1 => (W_X0_reckon g d av Q n 128 [some (.ref 0), none, none, none, some (.ref a4)] [] h1))) : W_X0_reckon g d av Q n 125 [some (.ref 0), none, none, none, some (.ref a4)] [.ref as0, .ref as1, .ref as2] h := by
  refine k_VV (As := [.ref as1, .ref as0]) (stk := []) hp cv_X0_97 dX0_reckon_125 rfl (Nat.le_of_ble_eq_true rfl) ts2 (H.mono (fun h1 H => ?_)) ⟨Nat.le_refl _, Nat.le_refl _⟩
  exact H
theorem s_X0_reckon_128 {g : GX} {d : Nat} {av : List Value} {Q : QT} {n : Nat} {h : Hp} {a4 : Nat} (hp : g.2.2.2.2 = true) (t4 : lay a4 = (0, 6, 2)) (H : CallI g m_X0_give d [.ref 0, .ref a4] n h (fun v1 h1 => ((v1 = 0 ∨ v1 = 1) ∧ Q (some (.int v1)) n h1))) : W_X0_reckon g d av Q n 128 [some (.ref 0), none, none, none, some (.ref a4)] [] h := by
  refine r_aload_n dX0_reckon_128 rfl rfl ?_
  refine r_aload dX0_reckon_129 rfl ?_
  refine k_VI (As := [.ref a4]) (stk := []) hp cv_X0_106 dX0_reckon_131 rfl (Nat.le_of_ble_eq_true rfl) ly_0 (H.mono (fun v1 h1 H => ?_)) ⟨Nat.le_refl _, Nat.le_refl _⟩
  exact r_zret dX0_reckon_134 rfl (nar01 H.1) (Nat.le_refl _) (Nat.le_refl _) H.2
abbrev W_X0_give (g : GX) (d : Nat) (av : List Value) (Q : QT) (n : Nat) (pc : Nat) (ls : LV) (stk : List Value) (h : Hp) : Prop := RJ g m_X0_give (d + 1) 0 0 av Q pc ls stk n h 0 0
theorem s_X0_give_0 {g : GX} {d : Nat} {av : List Value} {Q : QT} {n : Nat} {h : Hp} {a1 : Nat} (hp : g.2.2.2.2 = true) (t1 : lay a1 = (0, 6, 2)) (H : CallV g m_X0_reduce d [.ref 0] n h (fun h1 => (CallI g m_X0_fits d [.ref 39] n h1 (fun v2 h2 => (((v2 = (0 : Int32)) → (Q (some (.int (0 : Int32))) n h2)) ∧ ((¬ v2 = (0 : Int32)) → (CallI g m_X0_fits d [.ref 41] n h2 (fun v3 h3 => (((¬ v3 = (0 : Int32)) → (CallV g m_X4_copy d [.ref (a1 + 1), .ref 39] n h3 (fun h4 => (CallV g m_X4_copy d [.ref (a1 + 3), .ref 41] n h4 (fun h5 => (Q (some (.int (1 : Int32))) n h5)))))) ∧ ((v3 = (0 : Int32)) → (Q (some (.int (0 : Int32))) n h3))))))))))) : W_X0_give g d av Q n 0 [some (.ref 0), some (.ref a1)] [] h := by
  refine r_aload_n dX0_give_0 rfl rfl ?_
  refine k_VV (As := []) (stk := []) hp cv_X0_81 dX0_give_1 rfl (Nat.le_of_ble_eq_true rfl) ly_0 (H.mono (fun h1 H => ?_)) ⟨Nat.le_refl _, Nat.le_refl _⟩
  refine r_aload_n dX0_give_4 rfl rfl ?_
  refine m_getF (x := 39) hp fw_X0_31 dX0_give_5 rfl ly_0 (ff_0_1 ly_0) ?_
  refine k_SI (As := [.ref 39]) (stk := []) cs_X0_85 dX0_give_8 rfl (Nat.le_of_ble_eq_true rfl) (H.mono (fun v2 h2 H => ?_)) ⟨Nat.le_refl _, Nat.le_refl _⟩
  refine r_if_eq (tgt := 24) dX0_give_11 rfl (fun cH => ?_) (fun cH => ?_)
  · replace H := H.1 cH
    refine r_iconst (v := (0 : Int32)) dX0_give_24 rfl ?_
    exact r_zret dX0_give_25 rfl rfl (Nat.le_refl _) (Nat.le_refl _) H
  · replace H := H.2 cH
    refine r_aload_n dX0_give_14 rfl rfl ?_
    refine m_getF (x := 41) hp fw_X0_39 dX0_give_15 rfl ly_0 (ff_0_2 ly_0) ?_
    refine k_SI (As := [.ref 41]) (stk := []) cs_X0_85 dX0_give_18 rfl (Nat.le_of_ble_eq_true rfl) (H.mono (fun v3 h3 H => ?_)) ⟨Nat.le_refl _, Nat.le_refl _⟩
    refine r_if_ne (tgt := 26) dX0_give_21 rfl (fun cH => ?_) (fun cH => ?_)
    · replace H := H.1 cH
      refine r_aload_n dX0_give_26 rfl rfl ?_
      refine m_getF (x := (a1 + 1)) hp fw_X0_89 dX0_give_27 rfl t1 (ff_6_0 t1) ?_
      refine r_aload_n dX0_give_30 rfl rfl ?_
      refine m_getF (x := 39) hp fw_X0_31 dX0_give_31 rfl ly_0 (ff_0_1 ly_0) ?_
      refine k_VV (As := [.ref 39]) (stk := []) hp cv_X0_66 dX0_give_34 rfl (Nat.le_of_ble_eq_true rfl) (lf_6_0 t1) (H.mono (fun h4 H => ?_)) ⟨Nat.le_refl _, Nat.le_refl _⟩
      refine r_aload_n dX0_give_37 rfl rfl ?_
      refine m_getF (x := (a1 + 3)) hp fw_X0_94 dX0_give_38 rfl t1 (ff_6_1 t1) ?_
      refine r_aload_n dX0_give_41 rfl rfl ?_
      refine m_getF (x := 41) hp fw_X0_39 dX0_give_42 rfl ly_0 (ff_0_2 ly_0) ?_
      refine k_VV (As := [.ref 41]) (stk := []) hp cv_X0_66 dX0_give_45 rfl (Nat.le_of_ble_eq_true rfl) (lf_6_1 t1) (H.mono (fun h5 H => ?_)) ⟨Nat.le_refl _, Nat.le_refl _⟩
      refine r_iconst (v := (1 : Int32)) dX0_give_48 rfl ?_
      exact r_zret dX0_give_49 rfl rfl (Nat.le_refl _) (Nat.le_refl _) H
    · replace H := H.2 cH
      refine r_iconst (v := (0 : Int32)) dX0_give_24 rfl ?_
      exact r_zret dX0_give_25 rfl rfl (Nat.le_refl _) (Nat.le_refl _) H
abbrev W_X0_reduce (g : GX) (d : Nat) (av : List Value) (Q : QT) (n : Nat) (pc : Nat) (ls : LV) (stk : List Value) (h : Hp) : Prop := RJ g m_X0_reduce (d + 1) 0 0 av Q pc ls stk n h 0 0
theorem s_X0_reduce_0 {g : GX} {d : Nat} {av : List Value} {Q : QT} {n : Nat} {h : Hp}  (hp : g.2.2.2.2 = true)  (H : CallI g m_X4_isZero d [.ref 39] n h (fun v1 h1 => (((v1 = (0 : Int32)) → (CallV g m_X1_common d [.ref 1, .ref 39, .ref 41, .ref 43] n h1 (fun h2 => ((((1 : Int32) < (ri h2 43 2)) → (W_X0_reduce g d av Q n 60 [some (.ref 0), none, none] [] h2)) ∧ ((¬ (1 : Int32) < (ri h2 43 2)) → ((((ri h2 43 3) ≤ (1 : Int32)) → (W_X0_reduce g d av Q n 122 [some (.ref 0), none, none] [] h2)) ∧ ((¬ (ri h2 43 3) ≤ (1 : Int32)) → (W_X0_reduce g d av Q n 60 [some (.ref 0), none, none] [] h2)))))))) ∧ ((¬ v1 = (0 : Int32)) → (CallV g m_X4_set d [.ref 41, .int (1 : Int32)] n h1 (fun h3 => (Q none n h3))))))) : W_X0_reduce g d av Q n 0 [some (.ref 0), none, none] [] h := by
  refine r_aload_n dX0_reduce_0 rfl rfl ?_
  refine m_getF (x := 39) hp fw_X0_31 dX0_reduce_1 rfl ly_0 (ff_0_1 ly_0) ?_
  refine k_VI (As := []) (stk := []) hp cv_X0_35 dX0_reduce_4 rfl (Nat.le_of_ble_eq_true rfl) (lf_0_1 ly_0) (H.mono (fun v1 h1 H => ?_)) ⟨Nat.le_refl _, Nat.le_refl _⟩
  refine r_if_eq (tgt := 19) dX0_reduce_7 rfl (fun cH => ?_) (fun cH => ?_)
  · replace H := H.1 cH
    refine r_aload_n dX0_reduce_19 rfl rfl ?_
    refine m_getF (x := 1) hp fw_X0_46 dX0_reduce_20 rfl ly_0 (ff_0_0 ly_0) ?_
    refine r_aload_n dX0_reduce_23 rfl rfl ?_
    refine m_getF (x := 39) hp fw_X0_31 dX0_reduce_24 rfl ly_0 (ff_0_1 ly_0) ?_
    refine r_aload_n dX0_reduce_27 rfl rfl ?_
    refine m_getF (x := 41) hp fw_X0_39 dX0_reduce_28 rfl ly_0 (ff_0_2 ly_0) ?_
    refine r_aload_n dX0_reduce_31 rfl rfl ?_
    refine m_getF (x := 43) hp fw_X0_50 dX0_reduce_32 rfl ly_0 (ff_0_3 ly_0) ?_
    refine k_VV (As := [.ref 39, .ref 41, .ref 43]) (stk := []) hp cv_X0_53 dX0_reduce_35 rfl (Nat.le_of_ble_eq_true rfl) (lf_0_0 ly_0) (H.mono (fun h2 H => ?_)) ⟨Nat.le_refl _, Nat.le_refl _⟩
    refine r_aload_n dX0_reduce_38 rfl rfl ?_
    refine m_getF (x := 43) hp fw_X0_50 dX0_reduce_39 rfl ly_0 (ff_0_3 ly_0) ?_
    refine m_getI hp fw_X0_22 dX0_reduce_42 rfl (lf_0_3 ly_0) ?_
    refine r_iconst (v := (1 : Int32)) dX0_reduce_45 rfl ?_
    refine r_icmp_gt (tgt := 60) dX0_reduce_46 rfl (fun cH => ?_) (fun cH => ?_)
    · replace H := H.1 cH
      exact H
    · replace H := H.2 cH
      refine r_aload_n dX0_reduce_49 rfl rfl ?_
      refine m_getF (x := 43) hp fw_X0_50 dX0_reduce_50 rfl ly_0 (ff_0_3 ly_0) ?_
      refine m_getI hp fw_X0_28 dX0_reduce_53 rfl (lf_0_3 ly_0) ?_
      refine r_iconst (v := (1 : Int32)) dX0_reduce_56 rfl ?_
      refine r_icmp_le (tgt := 122) dX0_reduce_57 rfl (fun cH => ?_) (fun cH => ?_)
      · replace H := H.1 cH
        exact H
      · replace H := H.2 cH
        exact H
  · replace H := H.2 cH
    refine r_aload_n dX0_reduce_10 rfl rfl ?_
    refine m_getF (x := 41) hp fw_X0_39 dX0_reduce_11 rfl ly_0 (ff_0_2 ly_0) ?_
    refine r_iconst (v := (1 : Int32)) dX0_reduce_14 rfl ?_
    refine k_VV (As := [.int (1 : Int32)]) (stk := []) hp cv_X0_42 dX0_reduce_15 rfl (Nat.le_of_ble_eq_true rfl) (lf_0_2 ly_0) (H.mono (fun h3 H => ?_)) ⟨Nat.le_refl _, Nat.le_refl _⟩
    exact r_vret dX0_reduce_18 rfl (Nat.le_refl _) (Nat.le_refl _) H
theorem s_X0_reduce_60 {g : GX} {d : Nat} {av : List Value} {Q : QT} {n : Nat} {h : Hp}  (hp : g.2.2.2.2 = true)  (H : CallI g m_X1_divides d [.ref 1, .ref 43, .ref 39, .ref 45] n h (fun v1 h1 => (CallV g m_X4_copy d [.ref 39, .ref 45] n h1 (fun h2 => (CallI g m_X1_divides d [.ref 1, .ref 43, .ref 41, .ref 45] n h2 (fun v3 h3 => (CallV g m_X4_copy d [.ref 41, .ref 45] n h3 (fun h4 => (W_X0_reduce g d av Q n 122 [some (.ref 0), none, none] [] h4))))))))) : W_X0_reduce g d av Q n 60 [some (.ref 0), none, none] [] h := by
  refine r_aload_n dX0_reduce_60 rfl rfl ?_
  refine m_getF (x := 1) hp fw_X0_46 dX0_reduce_61 rfl ly_0 (ff_0_0 ly_0) ?_
  refine r_aload_n dX0_reduce_64 rfl rfl ?_
  refine m_getF (x := 43) hp fw_X0_50 dX0_reduce_65 rfl ly_0 (ff_0_3 ly_0) ?_
  refine r_aload_n dX0_reduce_68 rfl rfl ?_
  refine m_getF (x := 39) hp fw_X0_31 dX0_reduce_69 rfl ly_0 (ff_0_1 ly_0) ?_
  refine r_aload_n dX0_reduce_72 rfl rfl ?_
  refine m_getF (x := 45) hp fw_X0_59 dX0_reduce_73 rfl ly_0 (ff_0_4 ly_0) ?_
  refine k_VI (As := [.ref 43, .ref 39, .ref 45]) (stk := []) hp cv_X0_62 dX0_reduce_76 rfl (Nat.le_of_ble_eq_true rfl) (lf_0_0 ly_0) (H.mono (fun v1 h1 H => ?_)) ⟨Nat.le_refl _, Nat.le_refl _⟩
  refine r_istore_n (ls2 := [some (.ref 0), some (.int v1), none]) dX0_reduce_79 rfl (by decide) rfl ?_
  refine r_aload_n dX0_reduce_80 rfl rfl ?_
  refine m_getF (x := 39) hp fw_X0_31 dX0_reduce_81 rfl ly_0 (ff_0_1 ly_0) ?_
  refine r_aload_n dX0_reduce_84 rfl rfl ?_
  refine m_getF (x := 45) hp fw_X0_59 dX0_reduce_85 rfl ly_0 (ff_0_4 ly_0) ?_
  refine k_VV (As := [.ref 45]) (stk := []) hp cv_X0_66 dX0_reduce_88 rfl (Nat.le_of_ble_eq_true rfl) (lf_0_1 ly_0) (H.mono (fun h2 H => ?_)) ⟨Nat.le_refl _, Nat.le_refl _⟩
  refine r_aload_n dX0_reduce_91 rfl rfl ?_
  refine m_getF (x := 1) hp fw_X0_46 dX0_reduce_92 rfl ly_0 (ff_0_0 ly_0) ?_
  refine r_aload_n dX0_reduce_95 rfl rfl ?_
  refine m_getF (x := 43) hp fw_X0_50 dX0_reduce_96 rfl ly_0 (ff_0_3 ly_0) ?_
  refine r_aload_n dX0_reduce_99 rfl rfl ?_
  refine m_getF (x := 41) hp fw_X0_39 dX0_reduce_100 rfl ly_0 (ff_0_2 ly_0) ?_
  refine r_aload_n dX0_reduce_103 rfl rfl ?_
  refine m_getF (x := 45) hp fw_X0_59 dX0_reduce_104 rfl ly_0 (ff_0_4 ly_0) ?_
  refine k_VI (As := [.ref 43, .ref 41, .ref 45]) (stk := []) hp cv_X0_62 dX0_reduce_107 rfl (Nat.le_of_ble_eq_true rfl) (lf_0_0 ly_0) (H.mono (fun v3 h3 H => ?_)) ⟨Nat.le_refl _, Nat.le_refl _⟩
  refine r_istore_n (ls2 := [some (.ref 0), some (.int v1), some (.int v3)]) dX0_reduce_110 rfl (by decide) rfl ?_
  refine r_aload_n dX0_reduce_111 rfl rfl ?_
  refine m_getF (x := 41) hp fw_X0_39 dX0_reduce_112 rfl ly_0 (ff_0_2 ly_0) ?_
  refine r_aload_n dX0_reduce_115 rfl rfl ?_
  refine m_getF (x := 45) hp fw_X0_59 dX0_reduce_116 rfl ly_0 (ff_0_4 ly_0) ?_
  refine k_VV (As := [.ref 45]) (stk := []) hp cv_X0_66 dX0_reduce_119 rfl (Nat.le_of_ble_eq_true rfl) (lf_0_2 ly_0) (H.mono (fun h4 H => ?_)) ⟨Nat.le_refl _, Nat.le_refl _⟩
  refine r_prune [true, false, false] (ls2 := [some (.ref 0), none, none]) rfl ?_
  exact H
theorem s_X0_reduce_122 {g : GX} {d : Nat} {av : List Value} {Q : QT} {n : Nat} {h : Hp}  (hp : g.2.2.2.2 = true)  (H : CallI g m_X4_head d [.ref 41] n h (fun v1 h1 => (((v1 = (1 : Int32)) → (Q none n h1)) ∧ ((¬ v1 = (1 : Int32)) → (CallI g m_X0_inverse d [.int v1] n h1 (fun v2 h2 => (CallV g m_X4_scale d [.ref 39, .int v2] n h2 (fun h3 => (CallI g m_X0_inverse d [.int v1] n h3 (fun v4 h4 => (CallV g m_X4_scale d [.ref 41, .int v4] n h4 (fun h5 => (Q none n h5))))))))))))) : W_X0_reduce g d av Q n 122 [some (.ref 0), none, none] [] h := by
  refine r_aload_n dX0_reduce_122 rfl rfl ?_
  refine m_getF (x := 41) hp fw_X0_39 dX0_reduce_123 rfl ly_0 (ff_0_2 ly_0) ?_
  refine k_VI (As := []) (stk := []) hp cv_X0_70 dX0_reduce_126 rfl (Nat.le_of_ble_eq_true rfl) (lf_0_2 ly_0) (H.mono (fun v1 h1 H => ?_)) ⟨Nat.le_refl _, Nat.le_refl _⟩
  refine r_istore_n (ls2 := [some (.ref 0), some (.int v1), none]) dX0_reduce_129 rfl (by decide) rfl ?_
  refine r_iload_n dX0_reduce_130 rfl rfl ?_
  refine r_iconst (v := (1 : Int32)) dX0_reduce_131 rfl ?_
  refine r_icmp_eq (tgt := 157) dX0_reduce_132 rfl (fun cH => ?_) (fun cH => ?_)
  · replace H := H.1 cH
    exact r_vret dX0_reduce_157 rfl (Nat.le_refl _) (Nat.le_refl _) H
  · replace H := H.2 cH
    refine r_aload_n dX0_reduce_135 rfl rfl ?_
    refine m_getF (x := 39) hp fw_X0_31 dX0_reduce_136 rfl ly_0 (ff_0_1 ly_0) ?_
    refine r_iload_n dX0_reduce_139 rfl rfl ?_
    refine k_SI (As := [.int v1]) (stk := [.ref 39]) cs_X0_74 dX0_reduce_140 rfl (Nat.le_of_ble_eq_true rfl) (H.mono (fun v2 h2 H => ?_)) ⟨Nat.le_refl _, Nat.le_refl _⟩
    refine k_VV (As := [.int v2]) (stk := []) hp cv_X0_78 dX0_reduce_143 rfl (Nat.le_of_ble_eq_true rfl) (lf_0_1 ly_0) (H.mono (fun h3 H => ?_)) ⟨Nat.le_refl _, Nat.le_refl _⟩
    refine r_aload_n dX0_reduce_146 rfl rfl ?_
    refine m_getF (x := 41) hp fw_X0_39 dX0_reduce_147 rfl ly_0 (ff_0_2 ly_0) ?_
    refine r_iload_n dX0_reduce_150 rfl rfl ?_
    refine k_SI (As := [.int v1]) (stk := [.ref 41]) cs_X0_74 dX0_reduce_151 rfl (Nat.le_of_ble_eq_true rfl) (H.mono (fun v4 h4 H => ?_)) ⟨Nat.le_refl _, Nat.le_refl _⟩
    refine k_VV (As := [.int v4]) (stk := []) hp cv_X0_78 dX0_reduce_154 rfl (Nat.le_of_ble_eq_true rfl) (lf_0_2 ly_0) (H.mono (fun h5 H => ?_)) ⟨Nat.le_refl _, Nat.le_refl _⟩
    exact r_vret dX0_reduce_157 rfl (Nat.le_refl _) (Nat.le_refl _) H
abbrev W_X0_fits (g : GX) (d : Nat) (av : List Value) (Q : QT) (n : Nat) (pc : Nat) (ls : LV) (stk : List Value) (h : Hp) : Prop := RJ g m_X0_fits d 0 0 av Q pc ls stk n h 0 0
theorem s_X0_fits_0 {g : GX} {d : Nat} {av : List Value} {Q : QT} {n : Nat} {h : Hp} {a0 : Nat} (hp : g.2.2.2.2 = true) (t0 : lay a0 = (0, 4, 4)) (H : (((25 : Int32) < (ri h a0 2)) → (Q (some (.int (0 : Int32))) n h)) ∧ ((¬ (25 : Int32) < (ri h a0 2)) → ((((13 : Int32) < (ri h a0 3)) → (Q (some (.int (0 : Int32))) n h)) ∧ ((¬ (13 : Int32) < (ri h a0 3)) → (Q (some (.int (1 : Int32))) n h))))) : W_X0_fits g d av Q n 0 [some (.ref a0)] [] h := by
  refine r_aload_n dX0_fits_0 rfl rfl ?_
  refine m_getI hp fw_X0_22 dX0_fits_1 rfl t0 ?_
  refine r_bipush (v := (25 : Int32)) dX0_fits_4 rfl ?_
  refine r_icmp_gt (tgt := 22) dX0_fits_6 rfl (fun cH => ?_) (fun cH => ?_)
  · replace H := H.1 cH
    refine r_iconst (v := (0 : Int32)) dX0_fits_22 rfl ?_
    exact r_zret dX0_fits_23 rfl rfl (Nat.le_refl _) (Nat.le_refl _) H
  · replace H := H.2 cH
    refine r_aload_n dX0_fits_9 rfl rfl ?_
    refine m_getI hp fw_X0_28 dX0_fits_10 rfl t0 ?_
    refine r_bipush (v := (13 : Int32)) dX0_fits_13 rfl ?_
    refine r_icmp_gt (tgt := 22) dX0_fits_15 rfl (fun cH => ?_) (fun cH => ?_)
    · replace H := H.1 cH
      refine r_iconst (v := (0 : Int32)) dX0_fits_22 rfl ?_
      exact r_zret dX0_fits_23 rfl rfl (Nat.le_refl _) (Nat.le_refl _) H
    · replace H := H.2 cH
      refine r_iconst (v := (1 : Int32)) dX0_fits_18 rfl ?_
      refine r_goto (tgt := 23) dX0_fits_19 rfl ?_
      exact r_zret dX0_fits_23 rfl rfl (Nat.le_refl _) (Nat.le_refl _) H
abbrev W_X0_signedPower (g : GX) (d : Nat) (av : List Value) (Q : QT) (n : Nat) (pc : Nat) (ls : LV) (stk : List Value) (h : Hp) : Prop := RJ g m_X0_signedPower (d + 1) 0 0 av Q pc ls stk n h 0 0
theorem s_X0_signedPower_0 {g : GX} {d : Nat} {av : List Value} {Q : QT} {n : Nat} {h : Hp} {x0 : Int32} {x1 : Int32} (hp : g.2.2.2.2 = true)  (H : (((0 : Int32) ≤ x1) → (CallI g m_X0_power d [.int x0, .long (x1).toInt64] n h (fun v1 h1 => (Q (some (.int v1)) n h1)))) ∧ ((¬ (0 : Int32) ≤ x1) → (CallI g m_X0_power d [.int x0, .long ((-x1)).toInt64] n h (fun v2 h2 => (CallI g m_X0_inverse d [.int v2] n h2 (fun v3 h3 => (Q (some (.int v3)) n h3))))))) : W_X0_signedPower g d av Q n 0 [some (.int x0), some (.int x1)] [] h := by
  refine r_iload_n dX0_signedPower_0 rfl rfl ?_
  refine r_if_ge (tgt := 17) dX0_signedPower_1 rfl (fun cH => ?_) (fun cH => ?_)
  · replace H := H.1 cH
    refine r_iload_n dX0_signedPower_17 rfl rfl ?_
    refine r_iload_n dX0_signedPower_18 rfl rfl ?_
    refine r_i2l dX0_signedPower_19 ?_
    refine k_SI (As := [.int x0, .long (x1).toInt64]) (stk := []) cs_X0_12 dX0_signedPower_20 rfl (Nat.le_of_ble_eq_true rfl) (H.mono (fun v1 h1 H => ?_)) ⟨Nat.le_refl _, Nat.le_refl _⟩
    exact r_zret dX0_signedPower_23 rfl rfl (Nat.le_refl _) (Nat.le_refl _) H
  · replace H := H.2 cH
    refine r_iload_n dX0_signedPower_4 rfl rfl ?_
    refine r_iload_n dX0_signedPower_5 rfl rfl ?_
    refine r_ineg dX0_signedPower_6 ?_
    refine r_i2l dX0_signedPower_7 ?_
    refine k_SI (As := [.int x0, .long ((-x1)).toInt64]) (stk := []) cs_X0_12 dX0_signedPower_8 rfl (Nat.le_of_ble_eq_true rfl) (H.mono (fun v2 h2 H => ?_)) ⟨Nat.le_refl _, Nat.le_refl _⟩
    refine k_SI (As := [.int v2]) (stk := []) cs_X0_74 dX0_signedPower_11 rfl (Nat.le_of_ble_eq_true rfl) (H.mono (fun v3 h3 H => ?_)) ⟨Nat.le_refl _, Nat.le_refl _⟩
    refine r_goto (tgt := 23) dX0_signedPower_14 rfl ?_
    exact r_zret dX0_signedPower_23 rfl rfl (Nat.le_refl _) (Nat.le_refl _) H
abbrev W_X0_keep (g : GX) (d : Nat) (av : List Value) (Q : QT) (n : Nat) (pc : Nat) (ls : LV) (stk : List Value) (h : Hp) : Prop := RJ g m_X0_keep (d + 1) 0 0 av Q pc ls stk n h 0 0
theorem s_X0_keep_0 {g : GX} {d : Nat} {av : List Value} {Q : QT} {n : Nat} {h : Hp} {a1 : Nat} {x2 : Int32} (hp : g.2.2.2.2 = true) (t1 : lay a1 = (0, 5, 8)) (H : vp_in x2 12 ∧ ∀ r1, r1 = 1185 + 27 * (x2).toNatClampNeg → (CallV g m_X5_copy d [.ref (r1 + 1), .ref a1] n h (fun h2 => (vp_in x2 12 ∧ ∀ r3, r3 = 1185 + 27 * (x2).toNatClampNeg → (CallI g m_X5_isTerm d [.ref a1] n h2 (fun v4 h4 => (((v4 = (0 : Int32)) → (W_X0_keep g d av Q n 31 [some (.ref 0), none, some (.int x2)] [.int (1 : Int32), .ref r3] h4)) ∧ ((¬ v4 = (0 : Int32)) → (W_X0_keep g d av Q n 31 [some (.ref 0), none, some (.int x2)] [.int (2 : Int32), .ref r3] h4))))))))) : W_X0_keep g d av Q n 0 [some (.ref 0), some (.ref a1), some (.int x2)] [] h := by
  refine r_aload_n dX0_keep_0 rfl rfl ?_
  refine m_getF (x := 79) hp fw_X0_326 dX0_keep_1 rfl ly_0 (ff_0_20 ly_0) ?_
  refine r_iload_n dX0_keep_4 rfl rfl ?_
  obtain ⟨r1, er1⟩ : ∃ y, y = 1185 + 27 * (x2).toNatClampNeg := ⟨_, rfl⟩
  have hir1 := H.1
  replace H := H.2 r1 er1
  have tLr1 := la_79 hir1 er1
  refine m_aalF (x := r1) hp dX0_keep_5 (lf_0_20 ly_0) rfl rfl (lu_0_20 ly_0) hir1 (fa_79 hir1 er1) ?_
  refine m_getF (x := (r1 + 1)) hp fw_X0_512 dX0_keep_6 rfl tLr1 (ff_9_1 tLr1) ?_
  refine r_aload_n dX0_keep_9 rfl rfl ?_
  refine k_VV (As := [.ref a1]) (stk := []) hp cv_X0_158 dX0_keep_10 rfl (Nat.le_of_ble_eq_true rfl) (lf_9_1 tLr1) (H.mono (fun h2 H => ?_)) ⟨Nat.le_refl _, Nat.le_refl _⟩
  refine r_aload_n dX0_keep_13 rfl rfl ?_
  refine m_getF (x := 79) hp fw_X0_326 dX0_keep_14 rfl ly_0 (ff_0_20 ly_0) ?_
  refine r_iload_n dX0_keep_17 rfl rfl ?_
  obtain ⟨r3, er3⟩ : ∃ y, y = 1185 + 27 * (x2).toNatClampNeg := ⟨_, rfl⟩
  have hir3 := H.1
  replace H := H.2 r3 er3
  have tLr3 := la_79 hir3 er3
  refine m_aalF (x := r3) hp dX0_keep_18 (lf_0_20 ly_0) rfl rfl (lu_0_20 ly_0) hir3 (fa_79 hir3 er3) ?_
  refine r_aload_n dX0_keep_19 rfl rfl ?_
  refine k_VI (As := []) (stk := [.ref r3]) hp cv_X0_177 dX0_keep_20 rfl (Nat.le_of_ble_eq_true rfl) t1 (H.mono (fun v4 h4 H => ?_)) ⟨Nat.le_refl _, Nat.le_refl _⟩
  refine r_if_eq (tgt := 30) dX0_keep_23 rfl (fun cH => ?_) (fun cH => ?_)
  · replace H := H.1 cH
    refine r_iconst (v := (1 : Int32)) dX0_keep_30 rfl ?_
    refine r_prune [true, false, true] (ls2 := [some (.ref 0), none, some (.int x2)]) rfl ?_
    exact H
  · replace H := H.2 cH
    refine r_iconst (v := (2 : Int32)) dX0_keep_26 rfl ?_
    refine r_goto (tgt := 31) dX0_keep_27 rfl ?_
    refine r_prune [true, false, true] (ls2 := [some (.ref 0), none, some (.int x2)]) rfl ?_
    exact H
theorem s_X0_keep_31 {g : GX} {d : Nat} {av : List Value} {Q : QT} {n : Nat} {h : Hp} {x2 : Int32} {xs0 : Int32} {as1 : Nat} (hp : g.2.2.2.2 = true) (ts1 : lay as1 = (0, 9, 8)) (H : ∀ h1, h1 = wi h as1 0 xs0 → (vp_in x2 12 ∧ ∀ r2, r2 = 1185 + 27 * (x2).toNatClampNeg → (Q (some (.int (ri h1 r2 0))) n h1))) : W_X0_keep g d av Q n 31 [some (.ref 0), none, some (.int x2)] [.int xs0, .ref as1] h := by
  refine m_putI hp fw_X0_509 dX0_keep_31 rfl rfl ts1 (fun h1 eh1 => ?_)
  replace H := H h1 eh1
  refine r_aload_n dX0_keep_34 rfl rfl ?_
  refine m_getF (x := 79) hp fw_X0_326 dX0_keep_35 rfl ly_0 (ff_0_20 ly_0) ?_
  refine r_iload_n dX0_keep_38 rfl rfl ?_
  obtain ⟨r2, er2⟩ : ∃ y, y = 1185 + 27 * (x2).toNatClampNeg := ⟨_, rfl⟩
  have hir2 := H.1
  replace H := H.2 r2 er2
  have tLr2 := la_79 hir2 er2
  refine m_aalF (x := r2) hp dX0_keep_39 (lf_0_20 ly_0) rfl rfl (lu_0_20 ly_0) hir2 (fa_79 hir2 er2) ?_
  refine m_getI hp fw_X0_509 dX0_keep_40 rfl tLr2 ?_
  exact r_zret dX0_keep_43 rfl rfl (Nat.le_refl _) (Nat.le_refl _) H
abbrev W_X0_place (g : GX) (d : Nat) (av : List Value) (Q : QT) (n : Nat) (pc : Nat) (ls : LV) (stk : List Value) (h : Hp) : Prop := RJ g m_X0_place d 0 0 av Q pc ls stk n h 0 0
theorem s_X0_place_0 {g : GX} {d : Nat} {av : List Value} {Q : QT} {n : Nat} {h : Hp}  (hp : g.2.2.2.2 = true)  (H : Q (some (.int (ri h 0 17))) n h) : W_X0_place g d av Q n 0 [some (.ref 0)] [] h := by
  refine r_aload_n dX0_place_0 rfl rfl ?_
  refine m_getI hp fw_X0_321 dX0_place_1 rfl ly_0 ?_
  exact r_zret dX0_place_4 rfl rfl (Nat.le_refl _) (Nat.le_refl _) H
abbrev W_X0_write (g : GX) (d : Nat) (av : List Value) (Q : QT) (n : Nat) (pc : Nat) (ls : LV) (stk : List Value) (h : Hp) : Prop := RJ g m_X0_write (d + 1) 0 0 av Q pc ls stk n h 0 0
theorem s_X0_write_0 {g : GX} {d : Nat} {av : List Value} {Q : QT} {n : Nat} {h : Hp} {x1 : Int32} (hp : g.2.2.2.2 = true)  (H : CallI g m_X0_isSlot d [.int x1] n h (fun v1 h1 => (((¬ v1 = (0 : Int32)) → (CallI g m_X0_hasItem d [.ref 0, .int x1] n h1 (fun v2 h2 => (((¬ v2 = (0 : Int32)) → (vp_in x1 12 ∧ ∀ r3, r3 = 1185 + 27 * (x1).toNatClampNeg → (∀ h4, h4 = wi h2 0 23 (0 : Int32) → (CallI g m_X5_isTerm d [.ref (r3 + 1)] n h4 (fun v5 h5 => (((v5 = (0 : Int32)) → (W_X0_write g d av Q n 48 [some (.ref 0), none, some (.ref (r3 + 1)), none] [] h5)) ∧ ((¬ v5 = (0 : Int32)) → (CallV g m_X0_say d [.ref 0, .int (40 : Int32)] n h5 (fun h6 => (W_X0_write g d av Q n 48 [some (.ref 0), none, some (.ref (r3 + 1)), none] [] h6)))))))))) ∧ ((v2 = (0 : Int32)) → (Q (some (.int (-3 : Int32))) n h2)))))) ∧ ((v1 = (0 : Int32)) → (Q (some (.int (-1 : Int32))) n h1))))) : W_X0_write g d av Q n 0 [some (.ref 0), some (.int x1), none, none] [] h := by
  refine r_iload_n dX0_write_0 rfl rfl ?_
  refine k_SI (As := [.int x1]) (stk := []) cs_X0_519 dX0_write_1 rfl (Nat.le_of_ble_eq_true rfl) (H.mono (fun v1 h1 H => ?_)) ⟨Nat.le_refl _, Nat.le_refl _⟩
  refine r_if_ne (tgt := 9) dX0_write_4 rfl (fun cH => ?_) (fun cH => ?_)
  · replace H := H.1 cH
    refine r_aload_n dX0_write_9 rfl rfl ?_
    refine r_iload_n dX0_write_10 rfl rfl ?_
    refine k_VI (As := [.int x1]) (stk := []) hp cv_X0_546 dX0_write_11 rfl (Nat.le_of_ble_eq_true rfl) ly_0 (H.mono (fun v2 h2 H => ?_)) ⟨Nat.le_refl _, Nat.le_refl _⟩
    refine r_if_ne (tgt := 20) dX0_write_14 rfl (fun cH => ?_) (fun cH => ?_)
    · replace H := H.1 cH
      refine r_aload_n dX0_write_20 rfl rfl ?_
      refine m_getF (x := 79) hp fw_X0_326 dX0_write_21 rfl ly_0 (ff_0_20 ly_0) ?_
      refine r_iload_n dX0_write_24 rfl rfl ?_
      obtain ⟨r3, er3⟩ : ∃ y, y = 1185 + 27 * (x1).toNatClampNeg := ⟨_, rfl⟩
      have hir3 := H.1
      replace H := H.2 r3 er3
      have tLr3 := la_79 hir3 er3
      refine m_aalF (x := r3) hp dX0_write_25 (lf_0_20 ly_0) rfl rfl (lu_0_20 ly_0) hir3 (fa_79 hir3 er3) ?_
      refine m_getF (x := (r3 + 1)) hp fw_X0_512 dX0_write_26 rfl tLr3 (ff_9_1 tLr3) ?_
      refine r_astore_n (ls2 := [some (.ref 0), some (.int x1), some (.ref (r3 + 1)), none]) dX0_write_29 rfl (by decide) rfl ?_
      refine r_aload_n dX0_write_30 rfl rfl ?_
      refine r_iconst (v := (0 : Int32)) dX0_write_31 rfl ?_
      refine m_putI hp fw_X0_523 dX0_write_32 rfl rfl ly_0 (fun h4 eh4 => ?_)
      replace H := H h4 eh4
      refine r_aload_n dX0_write_35 rfl rfl ?_
      refine k_VI (As := []) (stk := []) hp cv_X0_177 dX0_write_36 rfl (Nat.le_of_ble_eq_true rfl) (lf_9_1 tLr3) (H.mono (fun v5 h5 H => ?_)) ⟨Nat.le_refl _, Nat.le_refl _⟩
      refine r_if_eq (tgt := 48) dX0_write_39 rfl (fun cH => ?_) (fun cH => ?_)
      · replace H := H.1 cH
        refine r_prune [true, false, true, false] (ls2 := [some (.ref 0), none, some (.ref (r3 + 1)), none]) rfl ?_
        exact H
      · replace H := H.2 cH
        refine r_aload_n dX0_write_42 rfl rfl ?_
        refine r_bipush (v := (40 : Int32)) dX0_write_43 rfl ?_
        refine k_VV (As := [.int (40 : Int32)]) (stk := []) hp cv_X0_526 dX0_write_45 rfl (Nat.le_of_ble_eq_true rfl) ly_0 (H.mono (fun h6 H => ?_)) ⟨Nat.le_refl _, Nat.le_refl _⟩
        refine r_prune [true, false, true, false] (ls2 := [some (.ref 0), none, some (.ref (r3 + 1)), none]) rfl ?_
        exact H
    · replace H := H.2 cH
      refine r_bipush (v := (-3 : Int32)) dX0_write_17 rfl ?_
      exact r_zret dX0_write_19 rfl rfl (Nat.le_refl _) (Nat.le_refl _) H
  · replace H := H.2 cH
    refine r_iconst (v := (-1 : Int32)) dX0_write_7 rfl ?_
    exact r_zret dX0_write_8 rfl rfl (Nat.le_refl _) (Nat.le_refl _) H
theorem s_X0_write_48 {g : GX} {d : Nat} {av : List Value} {Q : QT} {n : Nat} {h : Hp} {a2 : Nat} (hp : g.2.2.2.2 = true) (t2 : lay a2 = (0, 5, 8)) (H : CallV g m_X0_sayRatio d [.ref 0, .ref (a2 + 1)] n h (fun h1 => (CallI g m_X5_isTerm d [.ref a2] n h1 (fun v2 h2 => (((v2 = (0 : Int32)) → (W_X0_write g d av Q n 69 [some (.ref 0), none, some (.ref a2), none] [] h2)) ∧ ((¬ v2 = (0 : Int32)) → (CallV g m_X0_say d [.ref 0, .int (41 : Int32)] n h2 (fun h3 => (W_X0_write g d av Q n 69 [some (.ref 0), none, some (.ref a2), none] [] h3))))))))) : W_X0_write g d av Q n 48 [some (.ref 0), none, some (.ref a2), none] [] h := by
  refine r_aload_n dX0_write_48 rfl rfl ?_
  refine r_aload_n dX0_write_49 rfl rfl ?_
  refine m_getF (x := (a2 + 1)) hp fw_X0_110 dX0_write_50 rfl t2 (ff_5_0 t2) ?_
  refine k_VV (As := [.ref (a2 + 1)]) (stk := []) hp cv_X0_549 dX0_write_53 rfl (Nat.le_of_ble_eq_true rfl) ly_0 (H.mono (fun h1 H => ?_)) ⟨Nat.le_refl _, Nat.le_refl _⟩
  refine r_aload_n dX0_write_56 rfl rfl ?_
  refine k_VI (As := []) (stk := []) hp cv_X0_177 dX0_write_57 rfl (Nat.le_of_ble_eq_true rfl) t2 (H.mono (fun v2 h2 H => ?_)) ⟨Nat.le_refl _, Nat.le_refl _⟩
  refine r_if_eq (tgt := 69) dX0_write_60 rfl (fun cH => ?_) (fun cH => ?_)
  · replace H := H.1 cH
    exact H
  · replace H := H.2 cH
    refine r_aload_n dX0_write_63 rfl rfl ?_
    refine r_bipush (v := (41 : Int32)) dX0_write_64 rfl ?_
    refine k_VV (As := [.int (41 : Int32)]) (stk := []) hp cv_X0_526 dX0_write_66 rfl (Nat.le_of_ble_eq_true rfl) ly_0 (H.mono (fun h3 H => ?_)) ⟨Nat.le_refl _, Nat.le_refl _⟩
    exact H
theorem s_X0_write_69 {g : GX} {d : Nat} {av : List Value} {Q : QT} {n : Nat} {h : Hp} {a2 : Nat} (hp : g.2.2.2.2 = true) (t2 : lay a2 = (0, 5, 8)) (H : CallV g m_X0_sayBase d [.ref 0, .int (ri h a2 1), .int (110 : Int32)] n h (fun h1 => (CallV g m_X0_sayBase d [.ref 0, .int (ri h1 a2 2), .int (107 : Int32)] n h1 (fun h2 => (W_X0_write g d av Q n 91 [some (.ref 0), none, some (.ref a2), some (.int (0 : Int32))] [] h2))))) : W_X0_write g d av Q n 69 [some (.ref 0), none, some (.ref a2), none] [] h := by
  refine r_aload_n dX0_write_69 rfl rfl ?_
  refine r_aload_n dX0_write_70 rfl rfl ?_
  refine m_getI hp fw_X0_130 dX0_write_71 rfl t2 ?_
  refine r_bipush (v := (110 : Int32)) dX0_write_74 rfl ?_
  refine k_VV (As := [.int (ri h a2 1), .int (110 : Int32)]) (stk := []) hp cv_X0_553 dX0_write_76 rfl (Nat.le_of_ble_eq_true rfl) ly_0 (H.mono (fun h1 H => ?_)) ⟨Nat.le_refl _, Nat.le_refl _⟩
  refine r_aload_n dX0_write_79 rfl rfl ?_
  refine r_aload_n dX0_write_80 rfl rfl ?_
  refine m_getI hp fw_X0_133 dX0_write_81 rfl t2 ?_
  refine r_bipush (v := (107 : Int32)) dX0_write_84 rfl ?_
  refine k_VV (As := [.int (ri h1 a2 2), .int (107 : Int32)]) (stk := []) hp cv_X0_553 dX0_write_86 rfl (Nat.le_of_ble_eq_true rfl) ly_0 (H.mono (fun h2 H => ?_)) ⟨Nat.le_refl _, Nat.le_refl _⟩
  refine r_iconst (v := (0 : Int32)) dX0_write_89 rfl ?_
  refine r_istore_n (ls2 := [some (.ref 0), none, some (.ref a2), some (.int (0 : Int32))]) dX0_write_90 rfl (by decide) rfl ?_
  exact H
theorem s_X0_write_91 {g : GX} {d : Nat} {av : List Value} {Q : QT} {n : Nat} {h : Hp} {a2 : Nat} {x3 : Int32} (hp : g.2.2.2.2 = true) (t2 : lay a2 = (0, 5, 8)) (H : (((ri h a2 3) ≤ x3) → ((((ri h 0 23) ≤ (4000 : Int32)) → (¬ (0 : Int32) < 0 ∧ ¬ (0 : Int32) < 0 ∧ ¬ (ri h 0 23) < 0 ∧ ((0 : Int32)).toNatClampNeg + ((ri h 0 23)).toNatClampNeg ≤ 4000 ∧ ((0 : Int32)).toNatClampNeg + ((ri h 0 23)).toNatClampNeg ≤ 4000 ∧ (∀ i, i < ((ri h 0 23)).toNatClampNeg → fits .byte (.int (ri h 90 (((0 : Int32)).toNatClampNeg + i))) = true) ∧ ∀ h1, h1 = cpy h 90 ((0 : Int32)).toNatClampNeg 91 ((0 : Int32)).toNatClampNeg ((ri h 0 23)).toNatClampNeg → (∀ h2, h2 = wi h1 0 25 (ri h1 0 23) → (Q (some (.int (ri h2 0 25))) n h2)))) ∧ ((¬ (ri h 0 23) ≤ (4000 : Int32)) → (Q (some (.int (-2 : Int32))) n h)))) ∧ ((¬ (ri h a2 3) ≤ x3) → (CallV g m_X0_sayFactorial d [.ref 0, .ref a2, .int x3] n h (fun h3 => (W_X0_write g d av Q n 91 [some (.ref 0), none, some (.ref a2), some (.int (x3 + (1 : Int32)))] [] h3))))) : W_X0_write g d av Q n 91 [some (.ref 0), none, some (.ref a2), some (.int x3)] [] h := by
  refine r_iload_n dX0_write_91 rfl rfl ?_
  refine r_aload_n dX0_write_92 rfl rfl ?_
  refine m_getI hp fw_X0_136 dX0_write_93 rfl t2 ?_
  refine r_icmp_ge (tgt := 111) dX0_write_96 rfl (fun cH => ?_) (fun cH => ?_)
  · replace H := H.1 cH
    refine r_aload_n dX0_write_111 rfl rfl ?_
    refine m_getI hp fw_X0_523 dX0_write_112 rfl ly_0 ?_
    refine r_sipush (v := (4000 : Int32)) dX0_write_115 rfl ?_
    refine r_icmp_le (tgt := 124) dX0_write_118 rfl (fun cH => ?_) (fun cH => ?_)
    · replace H := H.1 cH
      refine r_aload_n dX0_write_124 rfl rfl ?_
      refine m_getF (x := 90) hp fw_X0_333 dX0_write_125 rfl ly_0 (ff_0_22 ly_0) ?_
      refine r_iconst (v := (0 : Int32)) dX0_write_128 rfl ?_
      refine r_aload_n dX0_write_129 rfl rfl ?_
      refine m_getF (x := 91) hp fw_X0_336 dX0_write_130 rfl ly_0 (ff_0_24 ly_0) ?_
      refine r_iconst (v := (0 : Int32)) dX0_write_133 rfl ?_
      refine r_aload_n dX0_write_134 rfl rfl ?_
      refine m_getI hp fw_X0_523 dX0_write_135 rfl ly_0 ?_
      obtain ⟨c1, c2, c3, c4, c5, hF, H⟩ := H
      refine m_copy hp ar_X0_560 dX0_write_138 rfl rfl (lf_0_22 ly_0) (lf_0_24 ly_0) c1 c2 c3 c4 c5 hF (Nat.le_of_ble_eq_true rfl) (Nat.le_add_left 1 d) (fun h1 eh1 => ?_)
      replace H := H h1 eh1
      refine r_aload_n dX0_write_141 rfl rfl ?_
      refine r_aload_n dX0_write_142 rfl rfl ?_
      refine m_getI hp fw_X0_523 dX0_write_143 rfl ly_0 ?_
      refine m_putI hp fw_X0_566 dX0_write_146 rfl rfl ly_0 (fun h2 eh2 => ?_)
      replace H := H h2 eh2
      refine r_aload_n dX0_write_149 rfl rfl ?_
      refine m_getI hp fw_X0_566 dX0_write_150 rfl ly_0 ?_
      exact r_zret dX0_write_153 rfl rfl (Nat.le_refl _) (Nat.le_refl _) H
    · replace H := H.2 cH
      refine r_bipush (v := (-2 : Int32)) dX0_write_121 rfl ?_
      exact r_zret dX0_write_123 rfl rfl (Nat.le_refl _) (Nat.le_refl _) H
  · replace H := H.2 cH
    refine r_aload_n dX0_write_99 rfl rfl ?_
    refine r_aload_n dX0_write_100 rfl rfl ?_
    refine r_iload_n dX0_write_101 rfl rfl ?_
    refine k_VV (As := [.ref a2, .int x3]) (stk := []) hp cv_X0_557 dX0_write_102 rfl (Nat.le_of_ble_eq_true rfl) ly_0 (H.mono (fun h3 H => ?_)) ⟨Nat.le_refl _, Nat.le_refl _⟩
    refine r_iinc (v := (x3 + (1 : Int32))) (ls2 := [some (.ref 0), none, some (.ref a2), some (.int (x3 + (1 : Int32)))]) dX0_write_105 rfl rfl (by decide) rfl ?_
    refine r_goto (tgt := 91) dX0_write_108 rfl ?_
    exact H
abbrev W_X0_hasItem (g : GX) (d : Nat) (av : List Value) (Q : QT) (n : Nat) (pc : Nat) (ls : LV) (stk : List Value) (h : Hp) : Prop := RJ g m_X0_hasItem d 0 0 av Q pc ls stk n h 0 0
theorem s_X0_hasItem_0 {g : GX} {d : Nat} {av : List Value} {Q : QT} {n : Nat} {h : Hp} {x1 : Int32} (hp : g.2.2.2.2 = true)  (H : vp_in x1 12 ∧ ∀ r1, r1 = 1185 + 27 * (x1).toNatClampNeg → ((((ri h r1 0) = (1 : Int32)) → (Q (some (.int (1 : Int32))) n h)) ∧ ((¬ (ri h r1 0) = (1 : Int32)) → (vp_in x1 12 ∧ ∀ r2, r2 = 1185 + 27 * (x1).toNatClampNeg → (((¬ (ri h r2 0) = (2 : Int32)) → (Q (some (.int (0 : Int32))) n h)) ∧ (((ri h r2 0) = (2 : Int32)) → (Q (some (.int (1 : Int32))) n h))))))) : W_X0_hasItem g d av Q n 0 [some (.ref 0), some (.int x1)] [] h := by
  refine r_aload_n dX0_hasItem_0 rfl rfl ?_
  refine m_getF (x := 79) hp fw_X0_326 dX0_hasItem_1 rfl ly_0 (ff_0_20 ly_0) ?_
  refine r_iload_n dX0_hasItem_4 rfl rfl ?_
  obtain ⟨r1, er1⟩ : ∃ y, y = 1185 + 27 * (x1).toNatClampNeg := ⟨_, rfl⟩
  have hir1 := H.1
  replace H := H.2 r1 er1
  have tLr1 := la_79 hir1 er1
  refine m_aalF (x := r1) hp dX0_hasItem_5 (lf_0_20 ly_0) rfl rfl (lu_0_20 ly_0) hir1 (fa_79 hir1 er1) ?_
  refine m_getI hp fw_X0_509 dX0_hasItem_6 rfl tLr1 ?_
  refine r_iconst (v := (1 : Int32)) dX0_hasItem_9 rfl ?_
  refine r_icmp_eq (tgt := 26) dX0_hasItem_10 rfl (fun cH => ?_) (fun cH => ?_)
  · replace H := H.1 cH
    refine r_iconst (v := (1 : Int32)) dX0_hasItem_26 rfl ?_
    refine r_goto (tgt := 31) dX0_hasItem_27 rfl ?_
    exact r_zret dX0_hasItem_31 rfl rfl (Nat.le_refl _) (Nat.le_refl _) H
  · replace H := H.2 cH
    refine r_aload_n dX0_hasItem_13 rfl rfl ?_
    refine m_getF (x := 79) hp fw_X0_326 dX0_hasItem_14 rfl ly_0 (ff_0_20 ly_0) ?_
    refine r_iload_n dX0_hasItem_17 rfl rfl ?_
    obtain ⟨r2, er2⟩ : ∃ y, y = 1185 + 27 * (x1).toNatClampNeg := ⟨_, rfl⟩
    have hir2 := H.1
    replace H := H.2 r2 er2
    have tLr2 := la_79 hir2 er2
    refine m_aalF (x := r2) hp dX0_hasItem_18 (lf_0_20 ly_0) rfl rfl (lu_0_20 ly_0) hir2 (fa_79 hir2 er2) ?_
    refine m_getI hp fw_X0_509 dX0_hasItem_19 rfl tLr2 ?_
    refine r_iconst (v := (2 : Int32)) dX0_hasItem_22 rfl ?_
    refine r_icmp_ne (tgt := 30) dX0_hasItem_23 rfl (fun cH => ?_) (fun cH => ?_)
    · replace H := H.1 cH
      refine r_iconst (v := (0 : Int32)) dX0_hasItem_30 rfl ?_
      exact r_zret dX0_hasItem_31 rfl rfl (Nat.le_refl _) (Nat.le_refl _) H
    · replace H := H.2 cH
      refine r_iconst (v := (1 : Int32)) dX0_hasItem_26 rfl ?_
      refine r_goto (tgt := 31) dX0_hasItem_27 rfl ?_
      exact r_zret dX0_hasItem_31 rfl rfl (Nat.le_refl _) (Nat.le_refl _) H
abbrev W_X0_say (g : GX) (d : Nat) (av : List Value) (Q : QT) (n : Nat) (pc : Nat) (ls : LV) (stk : List Value) (h : Hp) : Prop := RJ g m_X0_say d 0 0 av Q pc ls stk n h 0 0
theorem s_X0_say_0 {g : GX} {d : Nat} {av : List Value} {Q : QT} {n : Nat} {h : Hp} {x1 : Int32} (hp : g.2.2.2.2 = true)  (H : (((4000 : Int32) ≤ (ri h 0 23)) → (W_X0_say g d av Q n 21 [some (.ref 0), none] [] h)) ∧ ((¬ (4000 : Int32) ≤ (ri h 0 23)) → (vp_in (ri h 0 23) 4000 ∧ ∀ h1, h1 = wi h 90 ((ri h 0 23)).toNatClampNeg (x1).toInt8.toInt32 → (W_X0_say g d av Q n 21 [some (.ref 0), none] [] h1)))) : W_X0_say g d av Q n 0 [some (.ref 0), some (.int x1)] [] h := by
  refine r_aload_n dX0_say_0 rfl rfl ?_
  refine m_getI hp fw_X0_523 dX0_say_1 rfl ly_0 ?_
  refine r_sipush (v := (4000 : Int32)) dX0_say_4 rfl ?_
  refine r_icmp_ge (tgt := 21) dX0_say_7 rfl (fun cH => ?_) (fun cH => ?_)
  · replace H := H.1 cH
    refine r_prune [true, false] (ls2 := [some (.ref 0), none]) rfl ?_
    exact H
  · replace H := H.2 cH
    refine r_aload_n dX0_say_10 rfl rfl ?_
    refine m_getF (x := 90) hp fw_X0_333 dX0_say_11 rfl ly_0 (ff_0_22 ly_0) ?_
    refine r_aload_n dX0_say_14 rfl rfl ?_
    refine m_getI hp fw_X0_523 dX0_say_15 rfl ly_0 ?_
    refine r_iload_n dX0_say_18 rfl rfl ?_
    refine r_i2b dX0_say_19 ?_
    refine m_bast hp dX0_say_20 (lf_0_22 ly_0) H.1 (pk_nb _) (fun h1 eh1 => ?_)
    replace H := H.2 h1 eh1
    refine r_prune [true, false] (ls2 := [some (.ref 0), none]) rfl ?_
    exact H
theorem s_X0_say_21 {g : GX} {d : Nat} {av : List Value} {Q : QT} {n : Nat} {h : Hp}  (hp : g.2.2.2.2 = true)  (H : ∀ h1, h1 = wi h 0 23 ((ri h 0 23) + (1 : Int32)) → (Q none n h1)) : W_X0_say g d av Q n 21 [some (.ref 0), none] [] h := by
  refine r_aload_n dX0_say_21 rfl rfl ?_
  refine r_dup dX0_say_22 rfl ?_
  refine m_getI hp fw_X0_523 dX0_say_23 rfl ly_0 ?_
  refine r_iconst (v := (1 : Int32)) dX0_say_26 rfl ?_
  refine r_iadd dX0_say_27 ?_
  refine m_putI hp fw_X0_523 dX0_say_28 rfl rfl ly_0 (fun h1 eh1 => ?_)
  replace H := H h1 eh1
  exact r_vret dX0_say_31 rfl (Nat.le_refl _) (Nat.le_refl _) H
abbrev W_X0_sayRatio (g : GX) (d : Nat) (av : List Value) (Q : QT) (n : Nat) (pc : Nat) (ls : LV) (stk : List Value) (h : Hp) : Prop := RJ g m_X0_sayRatio (d + 1) 0 0 av Q pc ls stk n h 0 0
theorem s_X0_sayRatio_0 {g : GX} {d : Nat} {av : List Value} {Q : QT} {n : Nat} {h : Hp} {a1 : Nat} (hp : g.2.2.2.2 = true) (t1 : lay a1 = (0, 6, 2)) (H : CallI g m_X6_isPolynomial d [.ref a1] n h (fun v1 h1 => (((v1 = (0 : Int32)) → (CallV g m_X0_say d [.ref 0, .int (40 : Int32)] n h1 (fun h2 => (CallV g m_X0_sayDuo d [.ref 0, .ref (a1 + 1)] n h2 (fun h3 => (CallV g m_X0_say d [.ref 0, .int (41 : Int32)] n h3 (fun h4 => (CallV g m_X0_say d [.ref 0, .int (47 : Int32)] n h4 (fun h5 => (CallV g m_X0_say d [.ref 0, .int (40 : Int32)] n h5 (fun h6 => (CallV g m_X0_sayDuo d [.ref 0, .ref (a1 + 3)] n h6 (fun h7 => (CallV g m_X0_say d [.ref 0, .int (41 : Int32)] n h7 (fun h8 => (Q none n h8)))))))))))))))) ∧ ((¬ v1 = (0 : Int32)) → (CallV g m_X0_sayDuo d [.ref 0, .ref (a1 + 1)] n h1 (fun h9 => (Q none n h9))))))) : W_X0_sayRatio g d av Q n 0 [some (.ref 0), some (.ref a1)] [] h := by
  refine r_aload_n dX0_sayRatio_0 rfl rfl ?_
  refine k_VI (As := []) (stk := []) hp cv_X0_180 dX0_sayRatio_1 rfl (Nat.le_of_ble_eq_true rfl) t1 (H.mono (fun v1 h1 H => ?_)) ⟨Nat.le_refl _, Nat.le_refl _⟩
  refine r_if_eq (tgt := 16) dX0_sayRatio_4 rfl (fun cH => ?_) (fun cH => ?_)
  · replace H := H.1 cH
    refine r_aload_n dX0_sayRatio_16 rfl rfl ?_
    refine r_bipush (v := (40 : Int32)) dX0_sayRatio_17 rfl ?_
    refine k_VV (As := [.int (40 : Int32)]) (stk := []) hp cv_X0_526 dX0_sayRatio_19 rfl (Nat.le_of_ble_eq_true rfl) ly_0 (H.mono (fun h2 H => ?_)) ⟨Nat.le_refl _, Nat.le_refl _⟩
    refine r_aload_n dX0_sayRatio_22 rfl rfl ?_
    refine r_aload_n dX0_sayRatio_23 rfl rfl ?_
    refine m_getF (x := (a1 + 1)) hp fw_X0_89 dX0_sayRatio_24 rfl t1 (ff_6_0 t1) ?_
    refine k_VV (As := [.ref (a1 + 1)]) (stk := []) hp cv_X0_540 dX0_sayRatio_27 rfl (Nat.le_of_ble_eq_true rfl) ly_0 (H.mono (fun h3 H => ?_)) ⟨Nat.le_refl _, Nat.le_refl _⟩
    refine r_aload_n dX0_sayRatio_30 rfl rfl ?_
    refine r_bipush (v := (41 : Int32)) dX0_sayRatio_31 rfl ?_
    refine k_VV (As := [.int (41 : Int32)]) (stk := []) hp cv_X0_526 dX0_sayRatio_33 rfl (Nat.le_of_ble_eq_true rfl) ly_0 (H.mono (fun h4 H => ?_)) ⟨Nat.le_refl _, Nat.le_refl _⟩
    refine r_aload_n dX0_sayRatio_36 rfl rfl ?_
    refine r_bipush (v := (47 : Int32)) dX0_sayRatio_37 rfl ?_
    refine k_VV (As := [.int (47 : Int32)]) (stk := []) hp cv_X0_526 dX0_sayRatio_39 rfl (Nat.le_of_ble_eq_true rfl) ly_0 (H.mono (fun h5 H => ?_)) ⟨Nat.le_refl _, Nat.le_refl _⟩
    refine r_aload_n dX0_sayRatio_42 rfl rfl ?_
    refine r_bipush (v := (40 : Int32)) dX0_sayRatio_43 rfl ?_
    refine k_VV (As := [.int (40 : Int32)]) (stk := []) hp cv_X0_526 dX0_sayRatio_45 rfl (Nat.le_of_ble_eq_true rfl) ly_0 (H.mono (fun h6 H => ?_)) ⟨Nat.le_refl _, Nat.le_refl _⟩
    refine r_aload_n dX0_sayRatio_48 rfl rfl ?_
    refine r_aload_n dX0_sayRatio_49 rfl rfl ?_
    refine m_getF (x := (a1 + 3)) hp fw_X0_94 dX0_sayRatio_50 rfl t1 (ff_6_1 t1) ?_
    refine k_VV (As := [.ref (a1 + 3)]) (stk := []) hp cv_X0_540 dX0_sayRatio_53 rfl (Nat.le_of_ble_eq_true rfl) ly_0 (H.mono (fun h7 H => ?_)) ⟨Nat.le_refl _, Nat.le_refl _⟩
    refine r_aload_n dX0_sayRatio_56 rfl rfl ?_
    refine r_bipush (v := (41 : Int32)) dX0_sayRatio_57 rfl ?_
    refine k_VV (As := [.int (41 : Int32)]) (stk := []) hp cv_X0_526 dX0_sayRatio_59 rfl (Nat.le_of_ble_eq_true rfl) ly_0 (H.mono (fun h8 H => ?_)) ⟨Nat.le_refl _, Nat.le_refl _⟩
    exact r_vret dX0_sayRatio_62 rfl (Nat.le_refl _) (Nat.le_refl _) H
  · replace H := H.2 cH
    refine r_aload_n dX0_sayRatio_7 rfl rfl ?_
    refine r_aload_n dX0_sayRatio_8 rfl rfl ?_
    refine m_getF (x := (a1 + 1)) hp fw_X0_89 dX0_sayRatio_9 rfl t1 (ff_6_0 t1) ?_
    refine k_VV (As := [.ref (a1 + 1)]) (stk := []) hp cv_X0_540 dX0_sayRatio_12 rfl (Nat.le_of_ble_eq_true rfl) ly_0 (H.mono (fun h9 H => ?_)) ⟨Nat.le_refl _, Nat.le_refl _⟩
    exact r_vret dX0_sayRatio_15 rfl (Nat.le_refl _) (Nat.le_refl _) H
abbrev W_X0_sayDuo (g : GX) (d : Nat) (av : List Value) (Q : QT) (n : Nat) (pc : Nat) (ls : LV) (stk : List Value) (h : Hp) : Prop := RJ g m_X0_sayDuo (d + 1) 0 0 av Q pc ls stk n h 0 0
theorem s_X0_sayDuo_0 {g : GX} {d : Nat} {av : List Value} {Q : QT} {n : Nat} {h : Hp} {a1 : Nat} (hp : g.2.2.2.2 = true) (t1 : lay a1 = (0, 4, 4)) (H : W_X0_sayDuo g d av Q n 9 [some (.ref 0), some (.ref a1), some (.int (1 : Int32)), some (.int ((ri h a1 3) - (1 : Int32))), none] [] h) : W_X0_sayDuo g d av Q n 0 [some (.ref 0), some (.ref a1), none, none, none] [] h := by
  refine r_iconst (v := (1 : Int32)) dX0_sayDuo_0 rfl ?_
  refine r_istore_n (ls2 := [some (.ref 0), some (.ref a1), some (.int (1 : Int32)), none, none]) dX0_sayDuo_1 rfl (by decide) rfl ?_
  refine r_aload_n dX0_sayDuo_2 rfl rfl ?_
  refine m_getI hp fw_X0_28 dX0_sayDuo_3 rfl t1 ?_
  refine r_iconst (v := (1 : Int32)) dX0_sayDuo_6 rfl ?_
  refine r_isub dX0_sayDuo_7 ?_
  refine r_istore_n (ls2 := [some (.ref 0), some (.ref a1), some (.int (1 : Int32)), some (.int ((ri h a1 3) - (1 : Int32))), none]) dX0_sayDuo_8 rfl (by decide) rfl ?_
  exact H
theorem s_X0_sayDuo_9 {g : GX} {d : Nat} {av : List Value} {Q : QT} {n : Nat} {h : Hp} {a1 : Nat} {x2 : Int32} {x3 : Int32} (hp : g.2.2.2.2 = true) (t1 : lay a1 = (0, 4, 4)) (H : ((x3 < (0 : Int32)) → (((x2 = (0 : Int32)) → (Q none n h)) ∧ ((¬ x2 = (0 : Int32)) → (CallV g m_X0_say d [.ref 0, .int (48 : Int32)] n h (fun h1 => (Q none n h1)))))) ∧ ((¬ x3 < (0 : Int32)) → (W_X0_sayDuo g d av Q n 21 [some (.ref 0), some (.ref a1), some (.int x2), some (.int x3), some (.int ((ri h a1 2) - (1 : Int32)))] [] h))) : W_X0_sayDuo g d av Q n 9 [some (.ref 0), some (.ref a1), some (.int x2), some (.int x3), none] [] h := by
  refine r_iload_n dX0_sayDuo_9 rfl rfl ?_
  refine r_if_lt (tgt := 65) dX0_sayDuo_10 rfl (fun cH => ?_) (fun cH => ?_)
  · replace H := H.1 cH
    refine r_iload_n dX0_sayDuo_65 rfl rfl ?_
    refine r_if_eq (tgt := 75) dX0_sayDuo_66 rfl (fun cH => ?_) (fun cH => ?_)
    · replace H := H.1 cH
      exact r_vret dX0_sayDuo_75 rfl (Nat.le_refl _) (Nat.le_refl _) H
    · replace H := H.2 cH
      refine r_aload_n dX0_sayDuo_69 rfl rfl ?_
      refine r_bipush (v := (48 : Int32)) dX0_sayDuo_70 rfl ?_
      refine k_VV (As := [.int (48 : Int32)]) (stk := []) hp cv_X0_526 dX0_sayDuo_72 rfl (Nat.le_of_ble_eq_true rfl) ly_0 (H.mono (fun h1 H => ?_)) ⟨Nat.le_refl _, Nat.le_refl _⟩
      exact r_vret dX0_sayDuo_75 rfl (Nat.le_refl _) (Nat.le_refl _) H
  · replace H := H.2 cH
    refine r_aload_n dX0_sayDuo_13 rfl rfl ?_
    refine m_getI hp fw_X0_22 dX0_sayDuo_14 rfl t1 ?_
    refine r_iconst (v := (1 : Int32)) dX0_sayDuo_17 rfl ?_
    refine r_isub dX0_sayDuo_18 ?_
    refine r_istore (ls2 := [some (.ref 0), some (.ref a1), some (.int x2), some (.int x3), some (.int ((ri h a1 2) - (1 : Int32)))]) dX0_sayDuo_19 (by decide) rfl ?_
    exact H
theorem s_X0_sayDuo_21 {g : GX} {d : Nat} {av : List Value} {Q : QT} {n : Nat} {h : Hp} {a1 : Nat} {x2 : Int32} {x3 : Int32} {x4 : Int32} (hp : g.2.2.2.2 = true) (t1 : lay a1 = (0, 4, 4)) (H : ((x4 < (0 : Int32)) → (W_X0_sayDuo g d av Q n 9 [some (.ref 0), some (.ref a1), some (.int x2), some (.int (x3 + (-1 : Int32))), none] [] h)) ∧ ((¬ x4 < (0 : Int32)) → (CallI g m_X4_get d [.ref a1, .int x4, .int x3] n h (fun v1 h1 => (((v1 = (0 : Int32)) → (W_X0_sayDuo g d av Q n 53 [some (.ref 0), some (.ref a1), some (.int x2), some (.int x3), some (.int x4)] [] h1)) ∧ ((¬ v1 = (0 : Int32)) → (CallI g m_X4_get d [.ref a1, .int x4, .int x3] n h1 (fun v2 h2 => (CallV g m_X0_sayPart d [.ref 0, .int v2, .int x4, .int x3, .int x2] n h2 (fun h3 => (W_X0_sayDuo g d av Q n 53 [some (.ref 0), some (.ref a1), some (.int (0 : Int32)), some (.int x3), some (.int x4)] [] h3))))))))))) : W_X0_sayDuo g d av Q n 21 [some (.ref 0), some (.ref a1), some (.int x2), some (.int x3), some (.int x4)] [] h := by
  refine r_iload dX0_sayDuo_21 rfl ?_
  refine r_if_lt (tgt := 59) dX0_sayDuo_23 rfl (fun cH => ?_) (fun cH => ?_)
  · replace H := H.1 cH
    refine r_iinc (v := (x3 + (-1 : Int32))) (ls2 := [some (.ref 0), some (.ref a1), some (.int x2), some (.int (x3 + (-1 : Int32))), some (.int x4)]) dX0_sayDuo_59 rfl rfl (by decide) rfl ?_
    refine r_goto (tgt := 9) dX0_sayDuo_62 rfl ?_
    refine r_prune [true, true, true, true, false] (ls2 := [some (.ref 0), some (.ref a1), some (.int x2), some (.int (x3 + (-1 : Int32))), none]) rfl ?_
    exact H
  · replace H := H.2 cH
    refine r_aload_n dX0_sayDuo_26 rfl rfl ?_
    refine r_iload dX0_sayDuo_27 rfl ?_
    refine r_iload_n dX0_sayDuo_29 rfl rfl ?_
    refine k_VI (As := [.int x4, .int x3]) (stk := []) hp cv_X0_183 dX0_sayDuo_30 rfl (Nat.le_of_ble_eq_true rfl) t1 (H.mono (fun v1 h1 H => ?_)) ⟨Nat.le_refl _, Nat.le_refl _⟩
    refine r_if_eq (tgt := 53) dX0_sayDuo_33 rfl (fun cH => ?_) (fun cH => ?_)
    · replace H := H.1 cH
      exact H
    · replace H := H.2 cH
      refine r_aload_n dX0_sayDuo_36 rfl rfl ?_
      refine r_aload_n dX0_sayDuo_37 rfl rfl ?_
      refine r_iload dX0_sayDuo_38 rfl ?_
      refine r_iload_n dX0_sayDuo_40 rfl rfl ?_
      refine k_VI (As := [.int x4, .int x3]) (stk := [.ref 0]) hp cv_X0_183 dX0_sayDuo_41 rfl (Nat.le_of_ble_eq_true rfl) t1 (H.mono (fun v2 h2 H => ?_)) ⟨Nat.le_refl _, Nat.le_refl _⟩
      refine r_iload dX0_sayDuo_44 rfl ?_
      refine r_iload_n dX0_sayDuo_46 rfl rfl ?_
      refine r_iload_n dX0_sayDuo_47 rfl rfl ?_
      refine k_VV (As := [.int v2, .int x4, .int x3, .int x2]) (stk := []) hp cv_X0_536 dX0_sayDuo_48 rfl (Nat.le_of_ble_eq_true rfl) ly_0 (H.mono (fun h3 H => ?_)) ⟨Nat.le_refl _, Nat.le_refl _⟩
      refine r_iconst (v := (0 : Int32)) dX0_sayDuo_51 rfl ?_
      refine r_istore_n (ls2 := [some (.ref 0), some (.ref a1), some (.int (0 : Int32)), some (.int x3), some (.int x4)]) dX0_sayDuo_52 rfl (by decide) rfl ?_
      exact H
theorem s_X0_sayDuo_53 {g : GX} {d : Nat} {av : List Value} {Q : QT} {n : Nat} {h : Hp} {a1 : Nat} {x2 : Int32} {x3 : Int32} {x4 : Int32} (hp : g.2.2.2.2 = true) (t1 : lay a1 = (0, 4, 4)) (H : W_X0_sayDuo g d av Q n 21 [some (.ref 0), some (.ref a1), some (.int x2), some (.int x3), some (.int (x4 + (-1 : Int32)))] [] h) : W_X0_sayDuo g d av Q n 53 [some (.ref 0), some (.ref a1), some (.int x2), some (.int x3), some (.int x4)] [] h := by
  refine r_iinc (v := (x4 + (-1 : Int32))) (ls2 := [some (.ref 0), some (.ref a1), some (.int x2), some (.int x3), some (.int (x4 + (-1 : Int32)))]) dX0_sayDuo_53 rfl rfl (by decide) rfl ?_
  refine r_goto (tgt := 21) dX0_sayDuo_56 rfl ?_
  exact H
abbrev W_X0_sayPart (g : GX) (d : Nat) (av : List Value) (Q : QT) (n : Nat) (pc : Nat) (ls : LV) (stk : List Value) (h : Hp) : Prop := RJ g m_X0_sayPart (d + 1) 0 0 av Q pc ls stk n h 0 0
theorem s_X0_sayPart_0 {g : GX} {d : Nat} {av : List Value} {Q : QT} {n : Nat} {h : Hp} {x1 : Int32} {x2 : Int32} {x3 : Int32} {x4 : Int32} (hp : g.2.2.2.2 = true)  (H : CallI g m_X0_small d [.int x1] n h (fun v1 h1 => ((((0 : Int32) ≤ v1) → (((¬ x4 = (0 : Int32)) → (W_X0_sayPart g d av Q n 31 [some (.ref 0), none, some (.int x2), some (.int x3), none, some (.int v1), none] [] h1)) ∧ ((x4 = (0 : Int32)) → (CallV g m_X0_say d [.ref 0, .int (43 : Int32)] n h1 (fun h2 => (W_X0_sayPart g d av Q n 31 [some (.ref 0), none, some (.int x2), some (.int x3), none, some (.int v1), none] [] h2)))))) ∧ ((¬ (0 : Int32) ≤ v1) → (CallV g m_X0_say d [.ref 0, .int (45 : Int32)] n h1 (fun h3 => (W_X0_sayPart g d av Q n 31 [some (.ref 0), none, some (.int x2), some (.int x3), none, some (.int v1), none] [] h3))))))) : W_X0_sayPart g d av Q n 0 [some (.ref 0), some (.int x1), some (.int x2), some (.int x3), some (.int x4), none, none] [] h := by
  refine r_iload_n dX0_sayPart_0 rfl rfl ?_
  refine k_SI (As := [.int x1]) (stk := []) cs_X0_186 dX0_sayPart_1 rfl (Nat.le_of_ble_eq_true rfl) (H.mono (fun v1 h1 H => ?_)) ⟨Nat.le_refl _, Nat.le_refl _⟩
  refine r_istore (ls2 := [some (.ref 0), some (.int x1), some (.int x2), some (.int x3), some (.int x4), some (.int v1), none]) dX0_sayPart_4 (by decide) rfl ?_
  refine r_iload dX0_sayPart_6 rfl ?_
  refine r_if_ge (tgt := 20) dX0_sayPart_8 rfl (fun cH => ?_) (fun cH => ?_)
  · replace H := H.1 cH
    refine r_iload dX0_sayPart_20 rfl ?_
    refine r_if_ne (tgt := 31) dX0_sayPart_22 rfl (fun cH => ?_) (fun cH => ?_)
    · replace H := H.1 cH
      refine r_prune [true, false, true, true, false, true, false] (ls2 := [some (.ref 0), none, some (.int x2), some (.int x3), none, some (.int v1), none]) rfl ?_
      exact H
    · replace H := H.2 cH
      refine r_aload_n dX0_sayPart_25 rfl rfl ?_
      refine r_bipush (v := (43 : Int32)) dX0_sayPart_26 rfl ?_
      refine k_VV (As := [.int (43 : Int32)]) (stk := []) hp cv_X0_526 dX0_sayPart_28 rfl (Nat.le_of_ble_eq_true rfl) ly_0 (H.mono (fun h2 H => ?_)) ⟨Nat.le_refl _, Nat.le_refl _⟩
      refine r_prune [true, false, true, true, false, true, false] (ls2 := [some (.ref 0), none, some (.int x2), some (.int x3), none, some (.int v1), none]) rfl ?_
      exact H
  · replace H := H.2 cH
    refine r_aload_n dX0_sayPart_11 rfl rfl ?_
    refine r_bipush (v := (45 : Int32)) dX0_sayPart_12 rfl ?_
    refine k_VV (As := [.int (45 : Int32)]) (stk := []) hp cv_X0_526 dX0_sayPart_14 rfl (Nat.le_of_ble_eq_true rfl) ly_0 (H.mono (fun h3 H => ?_)) ⟨Nat.le_refl _, Nat.le_refl _⟩
    refine r_goto (tgt := 31) dX0_sayPart_17 rfl ?_
    refine r_prune [true, false, true, true, false, true, false] (ls2 := [some (.ref 0), none, some (.int x2), some (.int x3), none, some (.int v1), none]) rfl ?_
    exact H
theorem s_X0_sayPart_31 {g : GX} {d : Nat} {av : List Value} {Q : QT} {n : Nat} {h : Hp} {x2 : Int32} {x3 : Int32} {x5 : Int32} (hp : g.2.2.2.2 = true)  (H : CallI g m_J3_abs d [.int x5] n h (fun v1 h1 => (((¬ v1 = (1 : Int32)) → (W_X0_sayPart g d av Q n 52 [some (.ref 0), none, some (.int x2), some (.int x3), none, some (.int v1), none] [] h1)) ∧ ((v1 = (1 : Int32)) → (((¬ x2 = (0 : Int32)) → (W_X0_sayPart g d av Q n 56 [some (.ref 0), none, some (.int x2), some (.int x3), none, some (.int v1), none] [] h1)) ∧ ((x2 = (0 : Int32)) → (((¬ x3 = (0 : Int32)) → (W_X0_sayPart g d av Q n 56 [some (.ref 0), none, some (.int x2), some (.int x3), none, some (.int v1), none] [] h1)) ∧ ((x3 = (0 : Int32)) → (W_X0_sayPart g d av Q n 52 [some (.ref 0), none, some (.int x2), some (.int x3), none, some (.int v1), none] [] h1))))))))) : W_X0_sayPart g d av Q n 31 [some (.ref 0), none, some (.int x2), some (.int x3), none, some (.int x5), none] [] h := by
  refine r_iload dX0_sayPart_31 rfl ?_
  refine k_SI (As := [.int x5]) (stk := []) cs_X0_166 dX0_sayPart_33 rfl (Nat.le_of_ble_eq_true rfl) (H.mono (fun v1 h1 H => ?_)) ⟨Nat.le_refl _, Nat.le_refl _⟩
  refine r_istore (ls2 := [some (.ref 0), none, some (.int x2), some (.int x3), none, some (.int v1), none]) dX0_sayPart_36 (by decide) rfl ?_
  refine r_iload dX0_sayPart_38 rfl ?_
  refine r_iconst (v := (1 : Int32)) dX0_sayPart_40 rfl ?_
  refine r_icmp_ne (tgt := 52) dX0_sayPart_41 rfl (fun cH => ?_) (fun cH => ?_)
  · replace H := H.1 cH
    exact H
  · replace H := H.2 cH
    refine r_iload_n dX0_sayPart_44 rfl rfl ?_
    refine r_if_ne (tgt := 56) dX0_sayPart_45 rfl (fun cH => ?_) (fun cH => ?_)
    · replace H := H.1 cH
      exact H
    · replace H := H.2 cH
      refine r_iload_n dX0_sayPart_48 rfl rfl ?_
      refine r_if_ne (tgt := 56) dX0_sayPart_49 rfl (fun cH => ?_) (fun cH => ?_)
      · replace H := H.1 cH
        exact H
      · replace H := H.2 cH
        exact H
theorem s_X0_sayPart_52 {g : GX} {d : Nat} {av : List Value} {Q : QT} {n : Nat} {h : Hp} {x2 : Int32} {x3 : Int32} {x5 : Int32} (hp : g.2.2.2.2 = true)  (H : W_X0_sayPart g d av Q n 57 [some (.ref 0), none, some (.int x2), some (.int x3), none, some (.int x5), none] [.int (1 : Int32)] h) : W_X0_sayPart g d av Q n 52 [some (.ref 0), none, some (.int x2), some (.int x3), none, some (.int x5), none] [] h := by
  refine r_iconst (v := (1 : Int32)) dX0_sayPart_52 rfl ?_
  refine r_goto (tgt := 57) dX0_sayPart_53 rfl ?_
  exact H
theorem s_X0_sayPart_56 {g : GX} {d : Nat} {av : List Value} {Q : QT} {n : Nat} {h : Hp} {x2 : Int32} {x3 : Int32} {x5 : Int32} (hp : g.2.2.2.2 = true)  (H : W_X0_sayPart g d av Q n 57 [some (.ref 0), none, some (.int x2), some (.int x3), none, some (.int x5), none] [.int (0 : Int32)] h) : W_X0_sayPart g d av Q n 56 [some (.ref 0), none, some (.int x2), some (.int x3), none, some (.int x5), none] [] h := by
  refine r_iconst (v := (0 : Int32)) dX0_sayPart_56 rfl ?_
  exact H
theorem s_X0_sayPart_57 {g : GX} {d : Nat} {av : List Value} {Q : QT} {n : Nat} {h : Hp} {x2 : Int32} {x3 : Int32} {x5 : Int32} {xs0 : Int32} (hp : g.2.2.2.2 = true)  (H : ((xs0 = (0 : Int32)) → (W_X0_sayPart g d av Q n 70 [some (.ref 0), none, some (.int x2), some (.int x3), none, none, some (.int xs0)] [] h)) ∧ ((¬ xs0 = (0 : Int32)) → (CallV g m_X0_sayNumber d [.ref 0, .int x5] n h (fun h1 => (W_X0_sayPart g d av Q n 70 [some (.ref 0), none, some (.int x2), some (.int x3), none, none, some (.int xs0)] [] h1))))) : W_X0_sayPart g d av Q n 57 [some (.ref 0), none, some (.int x2), some (.int x3), none, some (.int x5), none] [.int xs0] h := by
  refine r_istore (ls2 := [some (.ref 0), none, some (.int x2), some (.int x3), none, some (.int x5), some (.int xs0)]) dX0_sayPart_57 (by decide) rfl ?_
  refine r_iload dX0_sayPart_59 rfl ?_
  refine r_if_eq (tgt := 70) dX0_sayPart_61 rfl (fun cH => ?_) (fun cH => ?_)
  · replace H := H.1 cH
    refine r_prune [true, false, true, true, false, false, true] (ls2 := [some (.ref 0), none, some (.int x2), some (.int x3), none, none, some (.int xs0)]) rfl ?_
    exact H
  · replace H := H.2 cH
    refine r_aload_n dX0_sayPart_64 rfl rfl ?_
    refine r_iload dX0_sayPart_65 rfl ?_
    refine k_VV (As := [.int x5]) (stk := []) hp cv_X0_529 dX0_sayPart_67 rfl (Nat.le_of_ble_eq_true rfl) ly_0 (H.mono (fun h1 H => ?_)) ⟨Nat.le_refl _, Nat.le_refl _⟩
    refine r_prune [true, false, true, true, false, false, true] (ls2 := [some (.ref 0), none, some (.int x2), some (.int x3), none, none, some (.int xs0)]) rfl ?_
    exact H
theorem s_X0_sayPart_70 {g : GX} {d : Nat} {av : List Value} {Q : QT} {n : Nat} {h : Hp} {x2 : Int32} {x3 : Int32} {x6 : Int32} (hp : g.2.2.2.2 = true)  (H : ((x2 ≤ (0 : Int32)) → (W_X0_sayPart g d av Q n 92 [some (.ref 0), none, some (.int x2), some (.int x3), none, none, some (.int x6)] [] h)) ∧ ((¬ x2 ≤ (0 : Int32)) → (((x6 = (0 : Int32)) → (W_X0_sayPart g d av Q n 85 [some (.ref 0), none, some (.int x2), some (.int x3), none, none, some (.int x6)] [] h)) ∧ ((¬ x6 = (0 : Int32)) → (CallV g m_X0_say d [.ref 0, .int (42 : Int32)] n h (fun h1 => (W_X0_sayPart g d av Q n 85 [some (.ref 0), none, some (.int x2), some (.int x3), none, none, some (.int x6)] [] h1))))))) : W_X0_sayPart g d av Q n 70 [some (.ref 0), none, some (.int x2), some (.int x3), none, none, some (.int x6)] [] h := by
  refine r_iload_n dX0_sayPart_70 rfl rfl ?_
  refine r_if_le (tgt := 92) dX0_sayPart_71 rfl (fun cH => ?_) (fun cH => ?_)
  · replace H := H.1 cH
    exact H
  · replace H := H.2 cH
    refine r_iload dX0_sayPart_74 rfl ?_
    refine r_if_eq (tgt := 85) dX0_sayPart_76 rfl (fun cH => ?_) (fun cH => ?_)
    · replace H := H.1 cH
      exact H
    · replace H := H.2 cH
      refine r_aload_n dX0_sayPart_79 rfl rfl ?_
      refine r_bipush (v := (42 : Int32)) dX0_sayPart_80 rfl ?_
      refine k_VV (As := [.int (42 : Int32)]) (stk := []) hp cv_X0_526 dX0_sayPart_82 rfl (Nat.le_of_ble_eq_true rfl) ly_0 (H.mono (fun h1 H => ?_)) ⟨Nat.le_refl _, Nat.le_refl _⟩
      exact H
theorem s_X0_sayPart_85 {g : GX} {d : Nat} {av : List Value} {Q : QT} {n : Nat} {h : Hp} {x2 : Int32} {x3 : Int32} {x6 : Int32} (hp : g.2.2.2.2 = true)  (H : CallV g m_X0_sayPower d [.ref 0, .int (110 : Int32), .int x2] n h (fun h1 => (W_X0_sayPart g d av Q n 92 [some (.ref 0), none, some (.int x2), some (.int x3), none, none, some (.int x6)] [] h1))) : W_X0_sayPart g d av Q n 85 [some (.ref 0), none, some (.int x2), some (.int x3), none, none, some (.int x6)] [] h := by
  refine r_aload_n dX0_sayPart_85 rfl rfl ?_
  refine r_bipush (v := (110 : Int32)) dX0_sayPart_86 rfl ?_
  refine r_iload_n dX0_sayPart_88 rfl rfl ?_
  refine k_VV (As := [.int (110 : Int32), .int x2]) (stk := []) hp cv_X0_532 dX0_sayPart_89 rfl (Nat.le_of_ble_eq_true rfl) ly_0 (H.mono (fun h1 H => ?_)) ⟨Nat.le_refl _, Nat.le_refl _⟩
  exact H
theorem s_X0_sayPart_92 {g : GX} {d : Nat} {av : List Value} {Q : QT} {n : Nat} {h : Hp} {x2 : Int32} {x3 : Int32} {x6 : Int32} (hp : g.2.2.2.2 = true)  (H : ((x3 ≤ (0 : Int32)) → (Q none n h)) ∧ ((¬ x3 ≤ (0 : Int32)) → (((¬ x6 = (0 : Int32)) → (W_X0_sayPart g d av Q n 105 [some (.ref 0), none, none, some (.int x3), none, none, none] [] h)) ∧ ((x6 = (0 : Int32)) → (((x2 ≤ (0 : Int32)) → (W_X0_sayPart g d av Q n 111 [some (.ref 0), none, none, some (.int x3), none, none, none] [] h)) ∧ ((¬ x2 ≤ (0 : Int32)) → (W_X0_sayPart g d av Q n 105 [some (.ref 0), none, none, some (.int x3), none, none, none] [] h))))))) : W_X0_sayPart g d av Q n 92 [some (.ref 0), none, some (.int x2), some (.int x3), none, none, some (.int x6)] [] h := by
  refine r_iload_n dX0_sayPart_92 rfl rfl ?_
  refine r_if_le (tgt := 118) dX0_sayPart_93 rfl (fun cH => ?_) (fun cH => ?_)
  · replace H := H.1 cH
    exact r_vret dX0_sayPart_118 rfl (Nat.le_refl _) (Nat.le_refl _) H
  · replace H := H.2 cH
    refine r_iload dX0_sayPart_96 rfl ?_
    refine r_if_ne (tgt := 105) dX0_sayPart_98 rfl (fun cH => ?_) (fun cH => ?_)
    · replace H := H.1 cH
      refine r_prune [true, false, false, true, false, false, false] (ls2 := [some (.ref 0), none, none, some (.int x3), none, none, none]) rfl ?_
      exact H
    · replace H := H.2 cH
      refine r_iload_n dX0_sayPart_101 rfl rfl ?_
      refine r_if_le (tgt := 111) dX0_sayPart_102 rfl (fun cH => ?_) (fun cH => ?_)
      · replace H := H.1 cH
        refine r_prune [true, false, false, true, false, false, false] (ls2 := [some (.ref 0), none, none, some (.int x3), none, none, none]) rfl ?_
        exact H
      · replace H := H.2 cH
        refine r_prune [true, false, false, true, false, false, false] (ls2 := [some (.ref 0), none, none, some (.int x3), none, none, none]) rfl ?_
        exact H
theorem s_X0_sayPart_105 {g : GX} {d : Nat} {av : List Value} {Q : QT} {n : Nat} {h : Hp} {x3 : Int32} (hp : g.2.2.2.2 = true)  (H : CallV g m_X0_say d [.ref 0, .int (42 : Int32)] n h (fun h1 => (W_X0_sayPart g d av Q n 111 [some (.ref 0), none, none, some (.int x3), none, none, none] [] h1))) : W_X0_sayPart g d av Q n 105 [some (.ref 0), none, none, some (.int x3), none, none, none] [] h := by
  refine r_aload_n dX0_sayPart_105 rfl rfl ?_
  refine r_bipush (v := (42 : Int32)) dX0_sayPart_106 rfl ?_
  refine k_VV (As := [.int (42 : Int32)]) (stk := []) hp cv_X0_526 dX0_sayPart_108 rfl (Nat.le_of_ble_eq_true rfl) ly_0 (H.mono (fun h1 H => ?_)) ⟨Nat.le_refl _, Nat.le_refl _⟩
  exact H
theorem s_X0_sayPart_111 {g : GX} {d : Nat} {av : List Value} {Q : QT} {n : Nat} {h : Hp} {x3 : Int32} (hp : g.2.2.2.2 = true)  (H : CallV g m_X0_sayPower d [.ref 0, .int (107 : Int32), .int x3] n h (fun h1 => (Q none n h1))) : W_X0_sayPart g d av Q n 111 [some (.ref 0), none, none, some (.int x3), none, none, none] [] h := by
  refine r_aload_n dX0_sayPart_111 rfl rfl ?_
  refine r_bipush (v := (107 : Int32)) dX0_sayPart_112 rfl ?_
  refine r_iload_n dX0_sayPart_114 rfl rfl ?_
  refine k_VV (As := [.int (107 : Int32), .int x3]) (stk := []) hp cv_X0_532 dX0_sayPart_115 rfl (Nat.le_of_ble_eq_true rfl) ly_0 (H.mono (fun h1 H => ?_)) ⟨Nat.le_refl _, Nat.le_refl _⟩
  exact r_vret dX0_sayPart_118 rfl (Nat.le_refl _) (Nat.le_refl _) H
abbrev W_X0_sayNumber (g : GX) (d : Nat) (av : List Value) (Q : QT) (n : Nat) (pc : Nat) (ls : LV) (stk : List Value) (h : Hp) : Prop := RJ g m_X0_sayNumber (d + 1) 0 0 av Q pc ls stk n h 0 0
theorem s_X0_sayNumber_0 {g : GX} {d : Nat} {av : List Value} {Q : QT} {n : Nat} {h : Hp} {x1 : Int32} (hp : g.2.2.2.2 = true)  (H : W_X0_sayNumber g d av Q n 2 [some (.ref 0), some (.int x1), some (.int (1 : Int32))] [] h) : W_X0_sayNumber g d av Q n 0 [some (.ref 0), some (.int x1), none] [] h := by
  refine r_iconst (v := (1 : Int32)) dX0_sayNumber_0 rfl ?_
  refine r_istore_n (ls2 := [some (.ref 0), some (.int x1), some (.int (1 : Int32))]) dX0_sayNumber_1 rfl (by decide) rfl ?_
  exact H
theorem s_X0_sayNumber_2 {g : GX} {d : Nat} {av : List Value} {Q : QT} {n : Nat} {h : Hp} {x1 : Int32} {x2 : Int32} (hp : g.2.2.2.2 = true)  (H : (¬ x2 = 0) ∧ ((((x1 / x2) < (10 : Int32)) → (W_X0_sayNumber g d av Q n 18 [some (.ref 0), some (.int x1), some (.int x2)] [] h)) ∧ ((¬ (x1 / x2) < (10 : Int32)) → (W_X0_sayNumber g d av Q n 2 [some (.ref 0), some (.int x1), some (.int (x2 * (10 : Int32)))] [] h)))) : W_X0_sayNumber g d av Q n 2 [some (.ref 0), some (.int x1), some (.int x2)] [] h := by
  refine r_iload_n dX0_sayNumber_2 rfl rfl ?_
  refine r_iload_n dX0_sayNumber_3 rfl rfl ?_
  refine r_idiv dX0_sayNumber_4 H.1 ?_
  replace H := H.2
  refine r_bipush (v := (10 : Int32)) dX0_sayNumber_5 rfl ?_
  refine r_icmp_lt (tgt := 18) dX0_sayNumber_7 rfl (fun cH => ?_) (fun cH => ?_)
  · replace H := H.1 cH
    exact H
  · replace H := H.2 cH
    refine r_iload_n dX0_sayNumber_10 rfl rfl ?_
    refine r_bipush (v := (10 : Int32)) dX0_sayNumber_11 rfl ?_
    refine r_imul dX0_sayNumber_13 ?_
    refine r_istore_n (ls2 := [some (.ref 0), some (.int x1), some (.int (x2 * (10 : Int32)))]) dX0_sayNumber_14 rfl (by decide) rfl ?_
    refine r_goto (tgt := 2) dX0_sayNumber_15 rfl ?_
    exact H
theorem s_X0_sayNumber_18 {g : GX} {d : Nat} {av : List Value} {Q : QT} {n : Nat} {h : Hp} {x1 : Int32} {x2 : Int32} (hp : g.2.2.2.2 = true)  (H : ((x2 ≤ (0 : Int32)) → (Q none n h)) ∧ ((¬ x2 ≤ (0 : Int32)) → ((¬ x2 = 0) ∧ (CallV g m_X0_say d [.ref 0, .int ((48 : Int32) + ((x1 / x2) - (x1 / x2) / (10 : Int32) * (10 : Int32)))] n h (fun h1 => (W_X0_sayNumber g d av Q n 18 [some (.ref 0), some (.int x1), some (.int (x2 / (10 : Int32)))] [] h1)))))) : W_X0_sayNumber g d av Q n 18 [some (.ref 0), some (.int x1), some (.int x2)] [] h := by
  refine r_iload_n dX0_sayNumber_18 rfl rfl ?_
  refine r_if_le (tgt := 43) dX0_sayNumber_19 rfl (fun cH => ?_) (fun cH => ?_)
  · replace H := H.1 cH
    exact r_vret dX0_sayNumber_43 rfl (Nat.le_refl _) (Nat.le_refl _) H
  · replace H := H.2 cH
    refine r_aload_n dX0_sayNumber_22 rfl rfl ?_
    refine r_bipush (v := (48 : Int32)) dX0_sayNumber_23 rfl ?_
    refine r_iload_n dX0_sayNumber_25 rfl rfl ?_
    refine r_iload_n dX0_sayNumber_26 rfl rfl ?_
    refine r_idiv dX0_sayNumber_27 H.1 ?_
    replace H := H.2
    refine r_bipush (v := (10 : Int32)) dX0_sayNumber_28 rfl ?_
    refine r_irem dX0_sayNumber_30 (by decide) ?_
    refine r_iadd dX0_sayNumber_31 ?_
    refine k_VV (As := [.int ((48 : Int32) + ((x1 / x2) - (x1 / x2) / (10 : Int32) * (10 : Int32)))]) (stk := []) hp cv_X0_526 dX0_sayNumber_32 rfl (Nat.le_of_ble_eq_true rfl) ly_0 (H.mono (fun h1 H => ?_)) ⟨Nat.le_refl _, Nat.le_refl _⟩
    refine r_iload_n dX0_sayNumber_35 rfl rfl ?_
    refine r_bipush (v := (10 : Int32)) dX0_sayNumber_36 rfl ?_
    refine r_idiv dX0_sayNumber_38 (by decide) ?_
    refine r_istore_n (ls2 := [some (.ref 0), some (.int x1), some (.int (x2 / (10 : Int32)))]) dX0_sayNumber_39 rfl (by decide) rfl ?_
    refine r_goto (tgt := 18) dX0_sayNumber_40 rfl ?_
    exact H
abbrev W_X0_sayPower (g : GX) (d : Nat) (av : List Value) (Q : QT) (n : Nat) (pc : Nat) (ls : LV) (stk : List Value) (h : Hp) : Prop := RJ g m_X0_sayPower (d + 1) 0 0 av Q pc ls stk n h 0 0
theorem s_X0_sayPower_0 {g : GX} {d : Nat} {av : List Value} {Q : QT} {n : Nat} {h : Hp} {x1 : Int32} {x2 : Int32} (hp : g.2.2.2.2 = true)  (H : CallV g m_X0_say d [.ref 0, .int x1] n h (fun h1 => (((x2 ≤ (1 : Int32)) → (Q none n h1)) ∧ ((¬ x2 ≤ (1 : Int32)) → (CallV g m_X0_say d [.ref 0, .int (94 : Int32)] n h1 (fun h2 => (CallV g m_X0_sayNumber d [.ref 0, .int x2] n h2 (fun h3 => (Q none n h3))))))))) : W_X0_sayPower g d av Q n 0 [some (.ref 0), some (.int x1), some (.int x2)] [] h := by
  refine r_aload_n dX0_sayPower_0 rfl rfl ?_
  refine r_iload_n dX0_sayPower_1 rfl rfl ?_
  refine k_VV (As := [.int x1]) (stk := []) hp cv_X0_526 dX0_sayPower_2 rfl (Nat.le_of_ble_eq_true rfl) ly_0 (H.mono (fun h1 H => ?_)) ⟨Nat.le_refl _, Nat.le_refl _⟩
  refine r_iload_n dX0_sayPower_5 rfl rfl ?_
  refine r_iconst (v := (1 : Int32)) dX0_sayPower_6 rfl ?_
  refine r_icmp_le (tgt := 21) dX0_sayPower_7 rfl (fun cH => ?_) (fun cH => ?_)
  · replace H := H.1 cH
    exact r_vret dX0_sayPower_21 rfl (Nat.le_refl _) (Nat.le_refl _) H
  · replace H := H.2 cH
    refine r_aload_n dX0_sayPower_10 rfl rfl ?_
    refine r_bipush (v := (94 : Int32)) dX0_sayPower_11 rfl ?_
    refine k_VV (As := [.int (94 : Int32)]) (stk := []) hp cv_X0_526 dX0_sayPower_13 rfl (Nat.le_of_ble_eq_true rfl) ly_0 (H.mono (fun h2 H => ?_)) ⟨Nat.le_refl _, Nat.le_refl _⟩
    refine r_aload_n dX0_sayPower_16 rfl rfl ?_
    refine r_iload_n dX0_sayPower_17 rfl rfl ?_
    refine k_VV (As := [.int x2]) (stk := []) hp cv_X0_529 dX0_sayPower_18 rfl (Nat.le_of_ble_eq_true rfl) ly_0 (H.mono (fun h3 H => ?_)) ⟨Nat.le_refl _, Nat.le_refl _⟩
    exact r_vret dX0_sayPower_21 rfl (Nat.le_refl _) (Nat.le_refl _) H
abbrev W_X0_sayBase (g : GX) (d : Nat) (av : List Value) (Q : QT) (n : Nat) (pc : Nat) (ls : LV) (stk : List Value) (h : Hp) : Prop := RJ g m_X0_sayBase (d + 1) 0 0 av Q pc ls stk n h 0 0
theorem s_X0_sayBase_0 {g : GX} {d : Nat} {av : List Value} {Q : QT} {n : Nat} {h : Hp} {x1 : Int32} {x2 : Int32} (hp : g.2.2.2.2 = true)  (H : ((x1 = (1 : Int32)) → (Q none n h)) ∧ ((¬ x1 = (1 : Int32)) → (CallV g m_X0_say d [.ref 0, .int (42 : Int32)] n h (fun h1 => (CallV g m_X0_sayNumber d [.ref 0, .int x1] n h1 (fun h2 => (CallV g m_X0_say d [.ref 0, .int (94 : Int32)] n h2 (fun h3 => (CallV g m_X0_say d [.ref 0, .int x2] n h3 (fun h4 => (Q none n h4))))))))))) : W_X0_sayBase g d av Q n 0 [some (.ref 0), some (.int x1), some (.int x2)] [] h := by
  refine r_iload_n dX0_sayBase_0 rfl rfl ?_
  refine r_iconst (v := (1 : Int32)) dX0_sayBase_1 rfl ?_
  refine r_icmp_eq (tgt := 27) dX0_sayBase_2 rfl (fun cH => ?_) (fun cH => ?_)
  · replace H := H.1 cH
    exact r_vret dX0_sayBase_27 rfl (Nat.le_refl _) (Nat.le_refl _) H
  · replace H := H.2 cH
    refine r_aload_n dX0_sayBase_5 rfl rfl ?_
    refine r_bipush (v := (42 : Int32)) dX0_sayBase_6 rfl ?_
    refine k_VV (As := [.int (42 : Int32)]) (stk := []) hp cv_X0_526 dX0_sayBase_8 rfl (Nat.le_of_ble_eq_true rfl) ly_0 (H.mono (fun h1 H => ?_)) ⟨Nat.le_refl _, Nat.le_refl _⟩
    refine r_aload_n dX0_sayBase_11 rfl rfl ?_
    refine r_iload_n dX0_sayBase_12 rfl rfl ?_
    refine k_VV (As := [.int x1]) (stk := []) hp cv_X0_529 dX0_sayBase_13 rfl (Nat.le_of_ble_eq_true rfl) ly_0 (H.mono (fun h2 H => ?_)) ⟨Nat.le_refl _, Nat.le_refl _⟩
    refine r_aload_n dX0_sayBase_16 rfl rfl ?_
    refine r_bipush (v := (94 : Int32)) dX0_sayBase_17 rfl ?_
    refine k_VV (As := [.int (94 : Int32)]) (stk := []) hp cv_X0_526 dX0_sayBase_19 rfl (Nat.le_of_ble_eq_true rfl) ly_0 (H.mono (fun h3 H => ?_)) ⟨Nat.le_refl _, Nat.le_refl _⟩
    refine r_aload_n dX0_sayBase_22 rfl rfl ?_
    refine r_iload_n dX0_sayBase_23 rfl rfl ?_
    refine k_VV (As := [.int x2]) (stk := []) hp cv_X0_526 dX0_sayBase_24 rfl (Nat.le_of_ble_eq_true rfl) ly_0 (H.mono (fun h4 H => ?_)) ⟨Nat.le_refl _, Nat.le_refl _⟩
    exact r_vret dX0_sayBase_27 rfl (Nat.le_refl _) (Nat.le_refl _) H
abbrev W_X0_sayFactorial (g : GX) (d : Nat) (av : List Value) (Q : QT) (n : Nat) (pc : Nat) (ls : LV) (stk : List Value) (h : Hp) : Prop := RJ g m_X0_sayFactorial (d + 1) 0 0 av Q pc ls stk n h 0 0
theorem s_X0_sayFactorial_0 {g : GX} {d : Nat} {av : List Value} {Q : QT} {n : Nat} {h : Hp} {a1 : Nat} {x2 : Int32} (hp : g.2.2.2.2 = true) (t1 : lay a1 = (0, 5, 8)) (H : vp_in x2 60 ∧ ((((ri h (a1 + 9) (x2).toNatClampNeg) ≤ (0 : Int32)) → (W_X0_sayFactorial g d av Q n 17 [some (.ref 0), some (.ref a1), some (.int x2), none] [.int (47 : Int32), .ref 0] h)) ∧ ((¬ (ri h (a1 + 9) (x2).toNatClampNeg) ≤ (0 : Int32)) → (W_X0_sayFactorial g d av Q n 17 [some (.ref 0), some (.ref a1), some (.int x2), none] [.int (42 : Int32), .ref 0] h)))) : W_X0_sayFactorial g d av Q n 0 [some (.ref 0), some (.ref a1), some (.int x2), none] [] h := by
  refine r_aload_n dX0_sayFactorial_0 rfl rfl ?_
  refine r_aload_n dX0_sayFactorial_1 rfl rfl ?_
  refine m_getF (x := (a1 + 9)) hp fw_X0_149 dX0_sayFactorial_2 rfl t1 (ff_5_7 t1) ?_
  refine r_iload_n dX0_sayFactorial_5 rfl rfl ?_
  refine m_iald hp dX0_sayFactorial_6 (lf_5_7 t1) H.1 ?_
  replace H := H.2
  refine r_if_le (tgt := 15) dX0_sayFactorial_7 rfl (fun cH => ?_) (fun cH => ?_)
  · replace H := H.1 cH
    refine r_bipush (v := (47 : Int32)) dX0_sayFactorial_15 rfl ?_
    exact H
  · replace H := H.2 cH
    refine r_bipush (v := (42 : Int32)) dX0_sayFactorial_10 rfl ?_
    refine r_goto (tgt := 17) dX0_sayFactorial_12 rfl ?_
    exact H
theorem s_X0_sayFactorial_17 {g : GX} {d : Nat} {av : List Value} {Q : QT} {n : Nat} {h : Hp} {a1 : Nat} {x2 : Int32} {xs0 : Int32} {as1 : Nat} (hp : g.2.2.2.2 = true) (t1 : lay a1 = (0, 5, 8)) (ts1 : lay as1 = (0, 0, 80)) (H : CallV g m_X0_say d [.ref as1, .int xs0] n h (fun h1 => (CallV g m_X0_say d [.ref 0, .int (40 : Int32)] n h1 (fun h2 => (vp_in x2 60 ∧ ((((ri h2 (a1 + 7) (x2).toNatClampNeg) = (0 : Int32)) → (W_X0_sayFactorial g d av Q n 55 [some (.ref 0), some (.ref a1), some (.int x2), some (.int (1 : Int32))] [] h2)) ∧ ((¬ (ri h2 (a1 + 7) (x2).toNatClampNeg) = (0 : Int32)) → (vp_in x2 60 ∧ (CallI g m_X0_rest d [.int (ri h2 (a1 + 7) (x2).toNatClampNeg)] n h2 (fun v3 h3 => (CallV g m_X0_sayPart d [.ref 0, .int v3, .int (0 : Int32), .int (1 : Int32), .int (1 : Int32)] n h3 (fun h4 => (W_X0_sayFactorial g d av Q n 55 [some (.ref 0), some (.ref a1), some (.int x2), some (.int (0 : Int32))] [] h4))))))))))))) : W_X0_sayFactorial g d av Q n 17 [some (.ref 0), some (.ref a1), some (.int x2), none] [.int xs0, .ref as1] h := by
  refine k_VV (As := [.int xs0]) (stk := []) hp cv_X0_526 dX0_sayFactorial_17 rfl (Nat.le_of_ble_eq_true rfl) ts1 (H.mono (fun h1 H => ?_)) ⟨Nat.le_refl _, Nat.le_refl _⟩
  refine r_aload_n dX0_sayFactorial_20 rfl rfl ?_
  refine r_bipush (v := (40 : Int32)) dX0_sayFactorial_21 rfl ?_
  refine k_VV (As := [.int (40 : Int32)]) (stk := []) hp cv_X0_526 dX0_sayFactorial_23 rfl (Nat.le_of_ble_eq_true rfl) ly_0 (H.mono (fun h2 H => ?_)) ⟨Nat.le_refl _, Nat.le_refl _⟩
  refine r_iconst (v := (1 : Int32)) dX0_sayFactorial_26 rfl ?_
  refine r_istore_n (ls2 := [some (.ref 0), some (.ref a1), some (.int x2), some (.int (1 : Int32))]) dX0_sayFactorial_27 rfl (by decide) rfl ?_
  refine r_aload_n dX0_sayFactorial_28 rfl rfl ?_
  refine m_getF (x := (a1 + 7)) hp fw_X0_143 dX0_sayFactorial_29 rfl t1 (ff_5_5 t1) ?_
  refine r_iload_n dX0_sayFactorial_32 rfl rfl ?_
  refine m_iald hp dX0_sayFactorial_33 (lf_5_5 t1) H.1 ?_
  replace H := H.2
  refine r_if_eq (tgt := 55) dX0_sayFactorial_34 rfl (fun cH => ?_) (fun cH => ?_)
  · replace H := H.1 cH
    exact H
  · replace H := H.2 cH
    refine r_aload_n dX0_sayFactorial_37 rfl rfl ?_
    refine r_aload_n dX0_sayFactorial_38 rfl rfl ?_
    refine m_getF (x := (a1 + 7)) hp fw_X0_143 dX0_sayFactorial_39 rfl t1 (ff_5_5 t1) ?_
    refine r_iload_n dX0_sayFactorial_42 rfl rfl ?_
    refine m_iald hp dX0_sayFactorial_43 (lf_5_5 t1) H.1 ?_
    replace H := H.2
    refine k_SI (As := [.int (ri h2 (a1 + 7) (x2).toNatClampNeg)]) (stk := [.ref 0]) cs_X0_543 dX0_sayFactorial_44 rfl (Nat.le_of_ble_eq_true rfl) (H.mono (fun v3 h3 H => ?_)) ⟨Nat.le_refl _, Nat.le_refl _⟩
    refine r_iconst (v := (0 : Int32)) dX0_sayFactorial_47 rfl ?_
    refine r_iconst (v := (1 : Int32)) dX0_sayFactorial_48 rfl ?_
    refine r_iconst (v := (1 : Int32)) dX0_sayFactorial_49 rfl ?_
    refine k_VV (As := [.int v3, .int (0 : Int32), .int (1 : Int32), .int (1 : Int32)]) (stk := []) hp cv_X0_536 dX0_sayFactorial_50 rfl (Nat.le_of_ble_eq_true rfl) ly_0 (H.mono (fun h4 H => ?_)) ⟨Nat.le_refl _, Nat.le_refl _⟩
    refine r_iconst (v := (0 : Int32)) dX0_sayFactorial_53 rfl ?_
    refine r_istore_n (ls2 := [some (.ref 0), some (.ref a1), some (.int x2), some (.int (0 : Int32))]) dX0_sayFactorial_54 rfl (by decide) rfl ?_
    exact H
theorem s_X0_sayFactorial_55 {g : GX} {d : Nat} {av : List Value} {Q : QT} {n : Nat} {h : Hp} {a1 : Nat} {x2 : Int32} {x3 : Int32} (hp : g.2.2.2.2 = true) (t1 : lay a1 = (0, 5, 8)) (H : vp_in x2 60 ∧ ((((ri h (a1 + 6) (x2).toNatClampNeg) = (0 : Int32)) → (W_X0_sayFactorial g d av Q n 80 [some (.ref 0), some (.ref a1), some (.int x2), none] [] h)) ∧ ((¬ (ri h (a1 + 6) (x2).toNatClampNeg) = (0 : Int32)) → (vp_in x2 60 ∧ (CallI g m_X0_rest d [.int (ri h (a1 + 6) (x2).toNatClampNeg)] n h (fun v1 h1 => (CallV g m_X0_sayPart d [.ref 0, .int v1, .int (1 : Int32), .int (0 : Int32), .int x3] n h1 (fun h2 => (W_X0_sayFactorial g d av Q n 80 [some (.ref 0), some (.ref a1), some (.int x2), none] [] h2))))))))) : W_X0_sayFactorial g d av Q n 55 [some (.ref 0), some (.ref a1), some (.int x2), some (.int x3)] [] h := by
  refine r_aload_n dX0_sayFactorial_55 rfl rfl ?_
  refine m_getF (x := (a1 + 6)) hp fw_X0_139 dX0_sayFactorial_56 rfl t1 (ff_5_4 t1) ?_
  refine r_iload_n dX0_sayFactorial_59 rfl rfl ?_
  refine m_iald hp dX0_sayFactorial_60 (lf_5_4 t1) H.1 ?_
  replace H := H.2
  refine r_if_eq (tgt := 80) dX0_sayFactorial_61 rfl (fun cH => ?_) (fun cH => ?_)
  · replace H := H.1 cH
    refine r_prune [true, true, true, false] (ls2 := [some (.ref 0), some (.ref a1), some (.int x2), none]) rfl ?_
    exact H
  · replace H := H.2 cH
    refine r_aload_n dX0_sayFactorial_64 rfl rfl ?_
    refine r_aload_n dX0_sayFactorial_65 rfl rfl ?_
    refine m_getF (x := (a1 + 6)) hp fw_X0_139 dX0_sayFactorial_66 rfl t1 (ff_5_4 t1) ?_
    refine r_iload_n dX0_sayFactorial_69 rfl rfl ?_
    refine m_iald hp dX0_sayFactorial_70 (lf_5_4 t1) H.1 ?_
    replace H := H.2
    refine k_SI (As := [.int (ri h (a1 + 6) (x2).toNatClampNeg)]) (stk := [.ref 0]) cs_X0_543 dX0_sayFactorial_71 rfl (Nat.le_of_ble_eq_true rfl) (H.mono (fun v1 h1 H => ?_)) ⟨Nat.le_refl _, Nat.le_refl _⟩
    refine r_iconst (v := (1 : Int32)) dX0_sayFactorial_74 rfl ?_
    refine r_iconst (v := (0 : Int32)) dX0_sayFactorial_75 rfl ?_
    refine r_iload_n dX0_sayFactorial_76 rfl rfl ?_
    refine k_VV (As := [.int v1, .int (1 : Int32), .int (0 : Int32), .int x3]) (stk := []) hp cv_X0_536 dX0_sayFactorial_77 rfl (Nat.le_of_ble_eq_true rfl) ly_0 (H.mono (fun h2 H => ?_)) ⟨Nat.le_refl _, Nat.le_refl _⟩
    refine r_prune [true, true, true, false] (ls2 := [some (.ref 0), some (.ref a1), some (.int x2), none]) rfl ?_
    exact H
theorem s_X0_sayFactorial_80 {g : GX} {d : Nat} {av : List Value} {Q : QT} {n : Nat} {h : Hp} {a1 : Nat} {x2 : Int32} (hp : g.2.2.2.2 = true) (t1 : lay a1 = (0, 5, 8)) (H : vp_in x2 60 ∧ ((((ri h (a1 + 8) (x2).toNatClampNeg) = (0 : Int32)) → (W_X0_sayFactorial g d av Q n 105 [some (.ref 0), some (.ref a1), some (.int x2), none] [] h)) ∧ ((¬ (ri h (a1 + 8) (x2).toNatClampNeg) = (0 : Int32)) → (vp_in x2 60 ∧ (CallI g m_X0_rest d [.int (ri h (a1 + 8) (x2).toNatClampNeg)] n h (fun v1 h1 => (CallV g m_X0_sayPart d [.ref 0, .int v1, .int (0 : Int32), .int (0 : Int32), .int (0 : Int32)] n h1 (fun h2 => (W_X0_sayFactorial g d av Q n 105 [some (.ref 0), some (.ref a1), some (.int x2), none] [] h2))))))))) : W_X0_sayFactorial g d av Q n 80 [some (.ref 0), some (.ref a1), some (.int x2), none] [] h := by
  refine r_aload_n dX0_sayFactorial_80 rfl rfl ?_
  refine m_getF (x := (a1 + 8)) hp fw_X0_146 dX0_sayFactorial_81 rfl t1 (ff_5_6 t1) ?_
  refine r_iload_n dX0_sayFactorial_84 rfl rfl ?_
  refine m_iald hp dX0_sayFactorial_85 (lf_5_6 t1) H.1 ?_
  replace H := H.2
  refine r_if_eq (tgt := 105) dX0_sayFactorial_86 rfl (fun cH => ?_) (fun cH => ?_)
  · replace H := H.1 cH
    exact H
  · replace H := H.2 cH
    refine r_aload_n dX0_sayFactorial_89 rfl rfl ?_
    refine r_aload_n dX0_sayFactorial_90 rfl rfl ?_
    refine m_getF (x := (a1 + 8)) hp fw_X0_146 dX0_sayFactorial_91 rfl t1 (ff_5_6 t1) ?_
    refine r_iload_n dX0_sayFactorial_94 rfl rfl ?_
    refine m_iald hp dX0_sayFactorial_95 (lf_5_6 t1) H.1 ?_
    replace H := H.2
    refine k_SI (As := [.int (ri h (a1 + 8) (x2).toNatClampNeg)]) (stk := [.ref 0]) cs_X0_543 dX0_sayFactorial_96 rfl (Nat.le_of_ble_eq_true rfl) (H.mono (fun v1 h1 H => ?_)) ⟨Nat.le_refl _, Nat.le_refl _⟩
    refine r_iconst (v := (0 : Int32)) dX0_sayFactorial_99 rfl ?_
    refine r_iconst (v := (0 : Int32)) dX0_sayFactorial_100 rfl ?_
    refine r_iconst (v := (0 : Int32)) dX0_sayFactorial_101 rfl ?_
    refine k_VV (As := [.int v1, .int (0 : Int32), .int (0 : Int32), .int (0 : Int32)]) (stk := []) hp cv_X0_536 dX0_sayFactorial_102 rfl (Nat.le_of_ble_eq_true rfl) ly_0 (H.mono (fun h2 H => ?_)) ⟨Nat.le_refl _, Nat.le_refl _⟩
    exact H
theorem s_X0_sayFactorial_105 {g : GX} {d : Nat} {av : List Value} {Q : QT} {n : Nat} {h : Hp} {a1 : Nat} {x2 : Int32} (hp : g.2.2.2.2 = true) (t1 : lay a1 = (0, 5, 8)) (H : CallV g m_X0_say d [.ref 0, .int (41 : Int32)] n h (fun h1 => (CallV g m_X0_say d [.ref 0, .int (33 : Int32)] n h1 (fun h2 => (vp_in x2 60 ∧ (CallI g m_J3_abs d [.int (ri h2 (a1 + 9) (x2).toNatClampNeg)] n h2 (fun v3 h3 => (((v3 ≤ (1 : Int32)) → (Q none n h3)) ∧ ((¬ v3 ≤ (1 : Int32)) → (CallV g m_X0_say d [.ref 0, .int (94 : Int32)] n h3 (fun h4 => (vp_in x2 60 ∧ (CallI g m_J3_abs d [.int (ri h4 (a1 + 9) (x2).toNatClampNeg)] n h4 (fun v5 h5 => (CallV g m_X0_sayNumber d [.ref 0, .int v5] n h5 (fun h6 => (Q none n h6))))))))))))))))) : W_X0_sayFactorial g d av Q n 105 [some (.ref 0), some (.ref a1), some (.int x2), none] [] h := by
  refine r_aload_n dX0_sayFactorial_105 rfl rfl ?_
  refine r_bipush (v := (41 : Int32)) dX0_sayFactorial_106 rfl ?_
  refine k_VV (As := [.int (41 : Int32)]) (stk := []) hp cv_X0_526 dX0_sayFactorial_108 rfl (Nat.le_of_ble_eq_true rfl) ly_0 (H.mono (fun h1 H => ?_)) ⟨Nat.le_refl _, Nat.le_refl _⟩
  refine r_aload_n dX0_sayFactorial_111 rfl rfl ?_
  refine r_bipush (v := (33 : Int32)) dX0_sayFactorial_112 rfl ?_
  refine k_VV (As := [.int (33 : Int32)]) (stk := []) hp cv_X0_526 dX0_sayFactorial_114 rfl (Nat.le_of_ble_eq_true rfl) ly_0 (H.mono (fun h2 H => ?_)) ⟨Nat.le_refl _, Nat.le_refl _⟩
  refine r_aload_n dX0_sayFactorial_117 rfl rfl ?_
  refine m_getF (x := (a1 + 9)) hp fw_X0_149 dX0_sayFactorial_118 rfl t1 (ff_5_7 t1) ?_
  refine r_iload_n dX0_sayFactorial_121 rfl rfl ?_
  refine m_iald hp dX0_sayFactorial_122 (lf_5_7 t1) H.1 ?_
  replace H := H.2
  refine k_SI (As := [.int (ri h2 (a1 + 9) (x2).toNatClampNeg)]) (stk := []) cs_X0_166 dX0_sayFactorial_123 rfl (Nat.le_of_ble_eq_true rfl) (H.mono (fun v3 h3 H => ?_)) ⟨Nat.le_refl _, Nat.le_refl _⟩
  refine r_iconst (v := (1 : Int32)) dX0_sayFactorial_126 rfl ?_
  refine r_icmp_le (tgt := 149) dX0_sayFactorial_127 rfl (fun cH => ?_) (fun cH => ?_)
  · replace H := H.1 cH
    exact r_vret dX0_sayFactorial_149 rfl (Nat.le_refl _) (Nat.le_refl _) H
  · replace H := H.2 cH
    refine r_aload_n dX0_sayFactorial_130 rfl rfl ?_
    refine r_bipush (v := (94 : Int32)) dX0_sayFactorial_131 rfl ?_
    refine k_VV (As := [.int (94 : Int32)]) (stk := []) hp cv_X0_526 dX0_sayFactorial_133 rfl (Nat.le_of_ble_eq_true rfl) ly_0 (H.mono (fun h4 H => ?_)) ⟨Nat.le_refl _, Nat.le_refl _⟩
    refine r_aload_n dX0_sayFactorial_136 rfl rfl ?_
    refine r_aload_n dX0_sayFactorial_137 rfl rfl ?_
    refine m_getF (x := (a1 + 9)) hp fw_X0_149 dX0_sayFactorial_138 rfl t1 (ff_5_7 t1) ?_
    refine r_iload_n dX0_sayFactorial_141 rfl rfl ?_
    refine m_iald hp dX0_sayFactorial_142 (lf_5_7 t1) H.1 ?_
    replace H := H.2
    refine k_SI (As := [.int (ri h4 (a1 + 9) (x2).toNatClampNeg)]) (stk := [.ref 0]) cs_X0_166 dX0_sayFactorial_143 rfl (Nat.le_of_ble_eq_true rfl) (H.mono (fun v5 h5 H => ?_)) ⟨Nat.le_refl _, Nat.le_refl _⟩
    refine k_VV (As := [.int v5]) (stk := []) hp cv_X0_529 dX0_sayFactorial_146 rfl (Nat.le_of_ble_eq_true rfl) ly_0 (H.mono (fun h6 H => ?_)) ⟨Nat.le_refl _, Nat.le_refl _⟩
    exact r_vret dX0_sayFactorial_149 rfl (Nat.le_refl _) (Nat.le_refl _) H
abbrev W_X0_written (g : GX) (d : Nat) (av : List Value) (Q : QT) (n : Nat) (pc : Nat) (ls : LV) (stk : List Value) (h : Hp) : Prop := RJ g m_X0_written d 0 0 av Q pc ls stk n h 0 0
theorem s_X0_written_0 {g : GX} {d : Nat} {av : List Value} {Q : QT} {n : Nat} {h : Hp} {x1 : Int32} (hp : g.2.2.2.2 = true)  (H : ((x1 < (0 : Int32)) → (Q (some (.int (-1 : Int32))) n h)) ∧ ((¬ x1 < (0 : Int32)) → ((((ri h 0 25) ≤ x1) → (Q (some (.int (-1 : Int32))) n h)) ∧ ((¬ (ri h 0 25) ≤ x1) → (vp_in x1 4000 ∧ (Q (some (.int (ri h 91 (x1).toNatClampNeg))) n h)))))) : W_X0_written g d av Q n 0 [some (.ref 0), some (.int x1)] [] h := by
  refine r_iload_n dX0_written_0 rfl rfl ?_
  refine r_if_lt (tgt := 21) dX0_written_1 rfl (fun cH => ?_) (fun cH => ?_)
  · replace H := H.1 cH
    refine r_iconst (v := (-1 : Int32)) dX0_written_21 rfl ?_
    exact r_zret dX0_written_22 rfl rfl (Nat.le_refl _) (Nat.le_refl _) H
  · replace H := H.2 cH
    refine r_iload_n dX0_written_4 rfl rfl ?_
    refine r_aload_n dX0_written_5 rfl rfl ?_
    refine m_getI hp fw_X0_566 dX0_written_6 rfl ly_0 ?_
    refine r_icmp_ge (tgt := 21) dX0_written_9 rfl (fun cH => ?_) (fun cH => ?_)
    · replace H := H.1 cH
      refine r_iconst (v := (-1 : Int32)) dX0_written_21 rfl ?_
      exact r_zret dX0_written_22 rfl rfl (Nat.le_refl _) (Nat.le_refl _) H
    · replace H := H.2 cH
      refine r_aload_n dX0_written_12 rfl rfl ?_
      refine m_getF (x := 91) hp fw_X0_336 dX0_written_13 rfl ly_0 (ff_0_24 ly_0) ?_
      refine r_iload_n dX0_written_16 rfl rfl ?_
      refine m_bald hp dX0_written_17 (lf_0_24 ly_0) H.1 ?_
      replace H := H.2
      refine r_goto (tgt := 22) dX0_written_18 rfl ?_
      exact r_zret dX0_written_22 rfl rfl (Nat.le_refl _) (Nat.le_refl _) H
abbrev W_X0_again (g : GX) (d : Nat) (av : List Value) (Q : QT) (n : Nat) (pc : Nat) (ls : LV) (stk : List Value) (h : Hp) : Prop := RJ g m_X0_again (d + 1) 0 0 av Q pc ls stk n h 0 0
theorem s_X0_again_0 {g : GX} {d : Nat} {av : List Value} {Q : QT} {n : Nat} {h : Hp}  (hp : g.2.2.2.2 = true)  (H : (((ri h 0 25) ≤ (400 : Int32)) → (¬ (0 : Int32) < 0 ∧ ¬ (0 : Int32) < 0 ∧ ¬ (ri h 0 25) < 0 ∧ ((0 : Int32)).toNatClampNeg + ((ri h 0 25)).toNatClampNeg ≤ 4000 ∧ ((0 : Int32)).toNatClampNeg + ((ri h 0 25)).toNatClampNeg ≤ 400 ∧ (∀ i, i < ((ri h 0 25)).toNatClampNeg → fits .byte (.int (ri h 91 (((0 : Int32)).toNatClampNeg + i))) = true) ∧ ∀ h1, h1 = cpy h 91 ((0 : Int32)).toNatClampNeg 77 ((0 : Int32)).toNatClampNeg ((ri h 0 25)).toNatClampNeg → (∀ h2, h2 = wi h1 0 12 (ri h1 0 25) → (Q (some (.int (ri h2 0 12))) n h2)))) ∧ ((¬ (ri h 0 25) ≤ (400 : Int32)) → (Q (some (.int (-2 : Int32))) n h))) : W_X0_again g d av Q n 0 [some (.ref 0)] [] h := by
  refine r_aload_n dX0_again_0 rfl rfl ?_
  refine m_getI hp fw_X0_566 dX0_again_1 rfl ly_0 ?_
  refine r_sipush (v := (400 : Int32)) dX0_again_4 rfl ?_
  refine r_icmp_le (tgt := 13) dX0_again_7 rfl (fun cH => ?_) (fun cH => ?_)
  · replace H := H.1 cH
    refine r_aload_n dX0_again_13 rfl rfl ?_
    refine m_getF (x := 91) hp fw_X0_336 dX0_again_14 rfl ly_0 (ff_0_24 ly_0) ?_
    refine r_iconst (v := (0 : Int32)) dX0_again_17 rfl ?_
    refine r_aload_n dX0_again_18 rfl rfl ?_
    refine m_getF (x := 77) hp fw_X0_207 dX0_again_19 rfl ly_0 (ff_0_11 ly_0) ?_
    refine r_iconst (v := (0 : Int32)) dX0_again_22 rfl ?_
    refine r_aload_n dX0_again_23 rfl rfl ?_
    refine m_getI hp fw_X0_566 dX0_again_24 rfl ly_0 ?_
    obtain ⟨c1, c2, c3, c4, c5, hF, H⟩ := H
    refine m_copy hp ar_X0_560 dX0_again_27 rfl rfl (lf_0_24 ly_0) (lf_0_11 ly_0) c1 c2 c3 c4 c5 hF (Nat.le_of_ble_eq_true rfl) (Nat.le_add_left 1 d) (fun h1 eh1 => ?_)
    replace H := H h1 eh1
    refine r_aload_n dX0_again_30 rfl rfl ?_
    refine r_aload_n dX0_again_31 rfl rfl ?_
    refine m_getI hp fw_X0_566 dX0_again_32 rfl ly_0 ?_
    refine m_putI hp fw_X0_204 dX0_again_35 rfl rfl ly_0 (fun h2 eh2 => ?_)
    replace H := H h2 eh2
    refine r_aload_n dX0_again_38 rfl rfl ?_
    refine m_getI hp fw_X0_204 dX0_again_39 rfl ly_0 ?_
    exact r_zret dX0_again_42 rfl rfl (Nat.le_refl _) (Nat.le_refl _) H
  · replace H := H.2 cH
    refine r_bipush (v := (-2 : Int32)) dX0_again_10 rfl ?_
    exact r_zret dX0_again_12 rfl rfl (Nat.le_refl _) (Nat.le_refl _) H
abbrev W_X0_kind (g : GX) (d : Nat) (av : List Value) (Q : QT) (n : Nat) (pc : Nat) (ls : LV) (stk : List Value) (h : Hp) : Prop := RJ g m_X0_kind (d + 1) 0 0 av Q pc ls stk n h 0 0
theorem s_X0_kind_0 {g : GX} {d : Nat} {av : List Value} {Q : QT} {n : Nat} {h : Hp} {x1 : Int32} (hp : g.2.2.2.2 = true)  (H : CallI g m_X0_isSlot d [.int x1] n h (fun v1 h1 => (((v1 = (0 : Int32)) → (Q (some (.int (-1 : Int32))) n h1)) ∧ ((¬ v1 = (0 : Int32)) → (vp_in x1 12 ∧ ∀ r2, r2 = 1185 + 27 * (x1).toNatClampNeg → (Q (some (.int (ri h1 r2 0))) n h1)))))) : W_X0_kind g d av Q n 0 [some (.ref 0), some (.int x1)] [] h := by
  refine r_iload_n dX0_kind_0 rfl rfl ?_
  refine k_SI (As := [.int x1]) (stk := []) cs_X0_519 dX0_kind_1 rfl (Nat.le_of_ble_eq_true rfl) (H.mono (fun v1 h1 H => ?_)) ⟨Nat.le_refl _, Nat.le_refl _⟩
  refine r_if_eq (tgt := 19) dX0_kind_4 rfl (fun cH => ?_) (fun cH => ?_)
  · replace H := H.1 cH
    refine r_iconst (v := (-1 : Int32)) dX0_kind_19 rfl ?_
    exact r_zret dX0_kind_20 rfl rfl (Nat.le_refl _) (Nat.le_refl _) H
  · replace H := H.2 cH
    refine r_aload_n dX0_kind_7 rfl rfl ?_
    refine m_getF (x := 79) hp fw_X0_326 dX0_kind_8 rfl ly_0 (ff_0_20 ly_0) ?_
    refine r_iload_n dX0_kind_11 rfl rfl ?_
    obtain ⟨r2, er2⟩ : ∃ y, y = 1185 + 27 * (x1).toNatClampNeg := ⟨_, rfl⟩
    have hir2 := H.1
    replace H := H.2 r2 er2
    have tLr2 := la_79 hir2 er2
    refine m_aalF (x := r2) hp dX0_kind_12 (lf_0_20 ly_0) rfl rfl (lu_0_20 ly_0) hir2 (fa_79 hir2 er2) ?_
    refine m_getI hp fw_X0_509 dX0_kind_13 rfl tLr2 ?_
    refine r_goto (tgt := 20) dX0_kind_16 rfl ?_
    exact r_zret dX0_kind_20 rfl rfl (Nat.le_refl _) (Nat.le_refl _) H
abbrev W_X0_drop (g : GX) (d : Nat) (av : List Value) (Q : QT) (n : Nat) (pc : Nat) (ls : LV) (stk : List Value) (h : Hp) : Prop := RJ g m_X0_drop (d + 1) 0 0 av Q pc ls stk n h 0 0
theorem s_X0_drop_0 {g : GX} {d : Nat} {av : List Value} {Q : QT} {n : Nat} {h : Hp} {x1 : Int32} (hp : g.2.2.2.2 = true)  (H : CallI g m_X0_isSlot d [.int x1] n h (fun v1 h1 => (((¬ v1 = (0 : Int32)) → (vp_in x1 12 ∧ ∀ r2, r2 = 1185 + 27 * (x1).toNatClampNeg → (vp_in x1 12 ∧ ∀ r3, r3 = 1185 + 27 * (x1).toNatClampNeg → (∀ h4, h4 = wi h1 r3 0 (0 : Int32) → (Q (some (.int (ri h1 r2 0))) n h4))))) ∧ ((v1 = (0 : Int32)) → (Q (some (.int (-1 : Int32))) n h1))))) : W_X0_drop g d av Q n 0 [some (.ref 0), some (.int x1), none] [] h := by
  refine r_iload_n dX0_drop_0 rfl rfl ?_
  refine k_SI (As := [.int x1]) (stk := []) cs_X0_519 dX0_drop_1 rfl (Nat.le_of_ble_eq_true rfl) (H.mono (fun v1 h1 H => ?_)) ⟨Nat.le_refl _, Nat.le_refl _⟩
  refine r_if_ne (tgt := 9) dX0_drop_4 rfl (fun cH => ?_) (fun cH => ?_)
  · replace H := H.1 cH
    refine r_aload_n dX0_drop_9 rfl rfl ?_
    refine m_getF (x := 79) hp fw_X0_326 dX0_drop_10 rfl ly_0 (ff_0_20 ly_0) ?_
    refine r_iload_n dX0_drop_13 rfl rfl ?_
    obtain ⟨r2, er2⟩ : ∃ y, y = 1185 + 27 * (x1).toNatClampNeg := ⟨_, rfl⟩
    have hir2 := H.1
    replace H := H.2 r2 er2
    have tLr2 := la_79 hir2 er2
    refine m_aalF (x := r2) hp dX0_drop_14 (lf_0_20 ly_0) rfl rfl (lu_0_20 ly_0) hir2 (fa_79 hir2 er2) ?_
    refine m_getI hp fw_X0_509 dX0_drop_15 rfl tLr2 ?_
    refine r_istore_n (ls2 := [some (.ref 0), some (.int x1), some (.int (ri h1 r2 0))]) dX0_drop_18 rfl (by decide) rfl ?_
    refine r_aload_n dX0_drop_19 rfl rfl ?_
    refine m_getF (x := 79) hp fw_X0_326 dX0_drop_20 rfl ly_0 (ff_0_20 ly_0) ?_
    refine r_iload_n dX0_drop_23 rfl rfl ?_
    obtain ⟨r3, er3⟩ : ∃ y, y = 1185 + 27 * (x1).toNatClampNeg := ⟨_, rfl⟩
    have hir3 := H.1
    replace H := H.2 r3 er3
    have tLr3 := la_79 hir3 er3
    refine m_aalF (x := r3) hp dX0_drop_24 (lf_0_20 ly_0) rfl rfl (lu_0_20 ly_0) hir3 (fa_79 hir3 er3) ?_
    refine r_iconst (v := (0 : Int32)) dX0_drop_25 rfl ?_
    refine m_putI hp fw_X0_509 dX0_drop_26 rfl rfl tLr3 (fun h4 eh4 => ?_)
    replace H := H h4 eh4
    refine r_iload_n dX0_drop_29 rfl rfl ?_
    exact r_zret dX0_drop_30 rfl rfl (Nat.le_refl _) (Nat.le_refl _) H
  · replace H := H.2 cH
    refine r_iconst (v := (-1 : Int32)) dX0_drop_7 rfl ?_
    exact r_zret dX0_drop_8 rfl rfl (Nat.le_refl _) (Nat.le_refl _) H
abbrev W_X0_degree (g : GX) (d : Nat) (av : List Value) (Q : QT) (n : Nat) (pc : Nat) (ls : LV) (stk : List Value) (h : Hp) : Prop := RJ g m_X0_degree (d + 1) 0 0 av Q pc ls stk n h 0 0
theorem s_X0_degree_0 {g : GX} {d : Nat} {av : List Value} {Q : QT} {n : Nat} {h : Hp} {x1 : Int32} {x2 : Int32} {x3 : Int32} (hp : g.2.2.2.2 = true)  (H : CallI g m_X0_isSlot d [.int x1] n h (fun v1 h1 => (((¬ v1 = (0 : Int32)) → (CallI g m_X0_hasItem d [.ref 0, .int x1] n h1 (fun v2 h2 => (((¬ v2 = (0 : Int32)) → (W_X0_degree g d av Q n 33 [some (.ref 0), some (.int x1), some (.int x2), some (.int x3), none] [] h2)) ∧ ((v2 = (0 : Int32)) → (vp_in x1 12 ∧ ∀ r3, r3 = 1185 + 27 * (x1).toNatClampNeg → ((((ri h2 r3 0) = (3 : Int32)) → (W_X0_degree g d av Q n 33 [some (.ref 0), some (.int x1), some (.int x2), some (.int x3), none] [] h2)) ∧ ((¬ (ri h2 r3 0) = (3 : Int32)) → (Q (some (.int (-3 : Int32))) n h2))))))))) ∧ ((v1 = (0 : Int32)) → (Q (some (.int (-1 : Int32))) n h1))))) : W_X0_degree g d av Q n 0 [some (.ref 0), some (.int x1), some (.int x2), some (.int x3), none] [] h := by
  refine r_iload_n dX0_degree_0 rfl rfl ?_
  refine k_SI (As := [.int x1]) (stk := []) cs_X0_519 dX0_degree_1 rfl (Nat.le_of_ble_eq_true rfl) (H.mono (fun v1 h1 H => ?_)) ⟨Nat.le_refl _, Nat.le_refl _⟩
  refine r_if_ne (tgt := 9) dX0_degree_4 rfl (fun cH => ?_) (fun cH => ?_)
  · replace H := H.1 cH
    refine r_aload_n dX0_degree_9 rfl rfl ?_
    refine r_iload_n dX0_degree_10 rfl rfl ?_
    refine k_VI (As := [.int x1]) (stk := []) hp cv_X0_546 dX0_degree_11 rfl (Nat.le_of_ble_eq_true rfl) ly_0 (H.mono (fun v2 h2 H => ?_)) ⟨Nat.le_refl _, Nat.le_refl _⟩
    refine r_if_ne (tgt := 33) dX0_degree_14 rfl (fun cH => ?_) (fun cH => ?_)
    · replace H := H.1 cH
      exact H
    · replace H := H.2 cH
      refine r_aload_n dX0_degree_17 rfl rfl ?_
      refine m_getF (x := 79) hp fw_X0_326 dX0_degree_18 rfl ly_0 (ff_0_20 ly_0) ?_
      refine r_iload_n dX0_degree_21 rfl rfl ?_
      obtain ⟨r3, er3⟩ : ∃ y, y = 1185 + 27 * (x1).toNatClampNeg := ⟨_, rfl⟩
      have hir3 := H.1
      replace H := H.2 r3 er3
      have tLr3 := la_79 hir3 er3
      refine m_aalF (x := r3) hp dX0_degree_22 (lf_0_20 ly_0) rfl rfl (lu_0_20 ly_0) hir3 (fa_79 hir3 er3) ?_
      refine m_getI hp fw_X0_509 dX0_degree_23 rfl tLr3 ?_
      refine r_iconst (v := (3 : Int32)) dX0_degree_26 rfl ?_
      refine r_icmp_eq (tgt := 33) dX0_degree_27 rfl (fun cH => ?_) (fun cH => ?_)
      · replace H := H.1 cH
        exact H
      · replace H := H.2 cH
        refine r_bipush (v := (-3 : Int32)) dX0_degree_30 rfl ?_
        exact r_zret dX0_degree_32 rfl rfl (Nat.le_refl _) (Nat.le_refl _) H
  · replace H := H.2 cH
    refine r_iconst (v := (-1 : Int32)) dX0_degree_7 rfl ?_
    exact r_zret dX0_degree_8 rfl rfl (Nat.le_refl _) (Nat.le_refl _) H
theorem s_X0_degree_33 {g : GX} {d : Nat} {av : List Value} {Q : QT} {n : Nat} {h : Hp} {x1 : Int32} {x2 : Int32} {x3 : Int32} (hp : g.2.2.2.2 = true)  (H : CallI g m_X0_within d [.int x2, .int (0 : Int32), .int (1 : Int32)] n h (fun v1 h1 => (((v1 = (0 : Int32)) → (Q (some (.int (-1 : Int32))) n h1)) ∧ ((¬ v1 = (0 : Int32)) → (CallI g m_X0_within d [.int x3, .int (0 : Int32), .int (1 : Int32)] n h1 (fun v2 h2 => (((¬ v2 = (0 : Int32)) → (((¬ x2 = (0 : Int32)) → (vp_in x1 12 ∧ ∀ r3, r3 = 1185 + 27 * (x1).toNatClampNeg → (W_X0_degree g d av Q n 90 [none, none, none, some (.int x3), none] [.ref (r3 + 5)] h2))) ∧ ((x2 = (0 : Int32)) → (vp_in x1 12 ∧ ∀ r4, r4 = 1185 + 27 * (x1).toNatClampNeg → (W_X0_degree g d av Q n 90 [none, none, none, some (.int x3), none] [.ref (r4 + 3)] h2))))) ∧ ((v2 = (0 : Int32)) → (Q (some (.int (-1 : Int32))) n h2))))))))) : W_X0_degree g d av Q n 33 [some (.ref 0), some (.int x1), some (.int x2), some (.int x3), none] [] h := by
  refine r_iload_n dX0_degree_33 rfl rfl ?_
  refine r_iconst (v := (0 : Int32)) dX0_degree_34 rfl ?_
  refine r_iconst (v := (1 : Int32)) dX0_degree_35 rfl ?_
  refine k_SI (As := [.int x2, .int (0 : Int32), .int (1 : Int32)]) (stk := []) cs_X0_173 dX0_degree_36 rfl (Nat.le_of_ble_eq_true rfl) (H.mono (fun v1 h1 H => ?_)) ⟨Nat.le_refl _, Nat.le_refl _⟩
  refine r_if_eq (tgt := 51) dX0_degree_39 rfl (fun cH => ?_) (fun cH => ?_)
  · replace H := H.1 cH
    refine r_iconst (v := (-1 : Int32)) dX0_degree_51 rfl ?_
    exact r_zret dX0_degree_52 rfl rfl (Nat.le_refl _) (Nat.le_refl _) H
  · replace H := H.2 cH
    refine r_iload_n dX0_degree_42 rfl rfl ?_
    refine r_iconst (v := (0 : Int32)) dX0_degree_43 rfl ?_
    refine r_iconst (v := (1 : Int32)) dX0_degree_44 rfl ?_
    refine k_SI (As := [.int x3, .int (0 : Int32), .int (1 : Int32)]) (stk := []) cs_X0_173 dX0_degree_45 rfl (Nat.le_of_ble_eq_true rfl) (H.mono (fun v2 h2 H => ?_)) ⟨Nat.le_refl _, Nat.le_refl _⟩
    refine r_if_ne (tgt := 53) dX0_degree_48 rfl (fun cH => ?_) (fun cH => ?_)
    · replace H := H.1 cH
      refine r_iload_n dX0_degree_53 rfl rfl ?_
      refine r_if_ne (tgt := 75) dX0_degree_54 rfl (fun cH => ?_) (fun cH => ?_)
      · replace H := H.1 cH
        refine r_aload_n dX0_degree_75 rfl rfl ?_
        refine m_getF (x := 79) hp fw_X0_326 dX0_degree_76 rfl ly_0 (ff_0_20 ly_0) ?_
        refine r_iload_n dX0_degree_79 rfl rfl ?_
        obtain ⟨r3, er3⟩ : ∃ y, y = 1185 + 27 * (x1).toNatClampNeg := ⟨_, rfl⟩
        have hir3 := H.1
        replace H := H.2 r3 er3
        have tLr3 := la_79 hir3 er3
        refine m_aalF (x := r3) hp dX0_degree_80 (lf_0_20 ly_0) rfl rfl (lu_0_20 ly_0) hir3 (fa_79 hir3 er3) ?_
        refine m_getF (x := (r3 + 1)) hp fw_X0_512 dX0_degree_81 rfl tLr3 (ff_9_1 tLr3) ?_
        refine m_getF (x := (r3 + 2)) hp fw_X0_110 dX0_degree_84 rfl (lf_9_1 tLr3) (ff_5_0 (lf_9_1 tLr3)) ?_
        refine m_getF (x := (r3 + 5)) hp fw_X0_94 dX0_degree_87 rfl (lf_5_0 (lf_9_1 tLr3)) (ff_6_1 (lf_5_0 (lf_9_1 tLr3))) ?_
        refine r_prune [false, false, false, true, false] (ls2 := [none, none, none, some (.int x3), none]) rfl ?_
        exact H
      · replace H := H.2 cH
        refine r_aload_n dX0_degree_57 rfl rfl ?_
        refine m_getF (x := 79) hp fw_X0_326 dX0_degree_58 rfl ly_0 (ff_0_20 ly_0) ?_
        refine r_iload_n dX0_degree_61 rfl rfl ?_
        obtain ⟨r4, er4⟩ : ∃ y, y = 1185 + 27 * (x1).toNatClampNeg := ⟨_, rfl⟩
        have hir4 := H.1
        replace H := H.2 r4 er4
        have tLr4 := la_79 hir4 er4
        refine m_aalF (x := r4) hp dX0_degree_62 (lf_0_20 ly_0) rfl rfl (lu_0_20 ly_0) hir4 (fa_79 hir4 er4) ?_
        refine m_getF (x := (r4 + 1)) hp fw_X0_512 dX0_degree_63 rfl tLr4 (ff_9_1 tLr4) ?_
        refine m_getF (x := (r4 + 2)) hp fw_X0_110 dX0_degree_66 rfl (lf_9_1 tLr4) (ff_5_0 (lf_9_1 tLr4)) ?_
        refine m_getF (x := (r4 + 3)) hp fw_X0_89 dX0_degree_69 rfl (lf_5_0 (lf_9_1 tLr4)) (ff_6_0 (lf_5_0 (lf_9_1 tLr4))) ?_
        refine r_goto (tgt := 90) dX0_degree_72 rfl ?_
        refine r_prune [false, false, false, true, false] (ls2 := [none, none, none, some (.int x3), none]) rfl ?_
        exact H
    · replace H := H.2 cH
      refine r_iconst (v := (-1 : Int32)) dX0_degree_51 rfl ?_
      exact r_zret dX0_degree_52 rfl rfl (Nat.le_refl _) (Nat.le_refl _) H
theorem s_X0_degree_90 {g : GX} {d : Nat} {av : List Value} {Q : QT} {n : Nat} {h : Hp} {x3 : Int32} {as0 : Nat} (hp : g.2.2.2.2 = true) (ts0 : lay as0 = (0, 4, 4)) (H : ((¬ x3 = (0 : Int32)) → (CallI g m_X4_degreeK d [.ref as0] n h (fun v1 h1 => (Q (some (.int v1)) n h1)))) ∧ ((x3 = (0 : Int32)) → (CallI g m_X4_degreeN d [.ref as0] n h (fun v2 h2 => (Q (some (.int v2)) n h2))))) : W_X0_degree g d av Q n 90 [none, none, none, some (.int x3), none] [.ref as0] h := by
  refine r_astore (ls2 := [none, none, none, some (.int x3), some (.ref as0)]) dX0_degree_90 (by decide) rfl ?_
  refine r_iload_n dX0_degree_92 rfl rfl ?_
  refine r_if_ne (tgt := 104) dX0_degree_93 rfl (fun cH => ?_) (fun cH => ?_)
  · replace H := H.1 cH
    refine r_aload dX0_degree_104 rfl ?_
    refine k_VI (As := []) (stk := []) hp cv_X0_572 dX0_degree_106 rfl (Nat.le_of_ble_eq_true rfl) ts0 (H.mono (fun v1 h1 H => ?_)) ⟨Nat.le_refl _, Nat.le_refl _⟩
    exact r_zret dX0_degree_109 rfl rfl (Nat.le_refl _) (Nat.le_refl _) H
  · replace H := H.2 cH
    refine r_aload dX0_degree_96 rfl ?_
    refine k_VI (As := []) (stk := []) hp cv_X0_569 dX0_degree_98 rfl (Nat.le_of_ble_eq_true rfl) ts0 (H.mono (fun v2 h2 H => ?_)) ⟨Nat.le_refl _, Nat.le_refl _⟩
    refine r_goto (tgt := 109) dX0_degree_101 rfl ?_
    exact r_zret dX0_degree_109 rfl rfl (Nat.le_refl _) (Nat.le_refl _) H
abbrev W_X0_number (g : GX) (d : Nat) (av : List Value) (Q : QT) (n : Nat) (pc : Nat) (ls : LV) (stk : List Value) (h : Hp) : Prop := RJ g m_X0_number (d + 1) 0 0 av Q pc ls stk n h 0 0
theorem s_X0_number_0 {g : GX} {d : Nat} {av : List Value} {Q : QT} {n : Nat} {h : Hp} {x1 : Int32} {x2 : Int32} {x3 : Int32} {x4 : Int32} (hp : g.2.2.2.2 = true)  (H : CallI g m_X0_isSlot d [.int x1] n h (fun v1 h1 => (((¬ v1 = (0 : Int32)) → (vp_in x1 12 ∧ ∀ r2, r2 = 1185 + 27 * (x1).toNatClampNeg → ((((ri h1 r2 0) = (0 : Int32)) → (Q (some (.int (-3 : Int32))) n h1)) ∧ ((¬ (ri h1 r2 0) = (0 : Int32)) → (((¬ (ri h1 r2 0) = (4 : Int32)) → (W_X0_number g d av Q n 46 [none, none, some (.int x2), some (.int x3), some (.int x4), some (.ref r2)] [] h1)) ∧ (((ri h1 r2 0) = (4 : Int32)) → (CallI g m_X0_within d [.int x2, .int (0 : Int32), .int (1 : Int32)] n h1 (fun v3 h3 => (((v3 = (0 : Int32)) → (W_X0_number g d av Q n 46 [none, none, some (.int x2), some (.int x3), some (.int x4), some (.ref r2)] [] h3)) ∧ ((¬ v3 = (0 : Int32)) → (Q (some (.int (-3 : Int32))) n h3))))))))))) ∧ ((v1 = (0 : Int32)) → (Q (some (.int (-1 : Int32))) n h1))))) : W_X0_number g d av Q n 0 [some (.ref 0), some (.int x1), some (.int x2), some (.int x3), some (.int x4), none] [] h := by
  refine r_iload_n dX0_number_0 rfl rfl ?_
  refine k_SI (As := [.int x1]) (stk := []) cs_X0_519 dX0_number_1 rfl (Nat.le_of_ble_eq_true rfl) (H.mono (fun v1 h1 H => ?_)) ⟨Nat.le_refl _, Nat.le_refl _⟩
  refine r_if_ne (tgt := 9) dX0_number_4 rfl (fun cH => ?_) (fun cH => ?_)
  · replace H := H.1 cH
    refine r_aload_n dX0_number_9 rfl rfl ?_
    refine m_getF (x := 79) hp fw_X0_326 dX0_number_10 rfl ly_0 (ff_0_20 ly_0) ?_
    refine r_iload_n dX0_number_13 rfl rfl ?_
    obtain ⟨r2, er2⟩ : ∃ y, y = 1185 + 27 * (x1).toNatClampNeg := ⟨_, rfl⟩
    have hir2 := H.1
    replace H := H.2 r2 er2
    have tLr2 := la_79 hir2 er2
    refine m_aalF (x := r2) hp dX0_number_14 (lf_0_20 ly_0) rfl rfl (lu_0_20 ly_0) hir2 (fa_79 hir2 er2) ?_
    refine r_astore (ls2 := [some (.ref 0), some (.int x1), some (.int x2), some (.int x3), some (.int x4), some (.ref r2)]) dX0_number_15 (by decide) rfl ?_
    refine r_aload dX0_number_17 rfl ?_
    refine m_getI hp fw_X0_509 dX0_number_19 rfl tLr2 ?_
    refine r_if_eq (tgt := 43) dX0_number_22 rfl (fun cH => ?_) (fun cH => ?_)
    · replace H := H.1 cH
      refine r_bipush (v := (-3 : Int32)) dX0_number_43 rfl ?_
      exact r_zret dX0_number_45 rfl rfl (Nat.le_refl _) (Nat.le_refl _) H
    · replace H := H.2 cH
      refine r_aload dX0_number_25 rfl ?_
      refine m_getI hp fw_X0_509 dX0_number_27 rfl tLr2 ?_
      refine r_iconst (v := (4 : Int32)) dX0_number_30 rfl ?_
      refine r_icmp_ne (tgt := 46) dX0_number_31 rfl (fun cH => ?_) (fun cH => ?_)
      · replace H := H.1 cH
        refine r_prune [false, false, true, true, true, true] (ls2 := [none, none, some (.int x2), some (.int x3), some (.int x4), some (.ref r2)]) rfl ?_
        exact H
      · replace H := H.2 cH
        refine r_iload_n dX0_number_34 rfl rfl ?_
        refine r_iconst (v := (0 : Int32)) dX0_number_35 rfl ?_
        refine r_iconst (v := (1 : Int32)) dX0_number_36 rfl ?_
        refine k_SI (As := [.int x2, .int (0 : Int32), .int (1 : Int32)]) (stk := []) cs_X0_173 dX0_number_37 rfl (Nat.le_of_ble_eq_true rfl) (H.mono (fun v3 h3 H => ?_)) ⟨Nat.le_refl _, Nat.le_refl _⟩
        refine r_if_eq (tgt := 46) dX0_number_40 rfl (fun cH => ?_) (fun cH => ?_)
        · replace H := H.1 cH
          refine r_prune [false, false, true, true, true, true] (ls2 := [none, none, some (.int x2), some (.int x3), some (.int x4), some (.ref r2)]) rfl ?_
          exact H
        · replace H := H.2 cH
          refine r_bipush (v := (-3 : Int32)) dX0_number_43 rfl ?_
          exact r_zret dX0_number_45 rfl rfl (Nat.le_refl _) (Nat.le_refl _) H
  · replace H := H.2 cH
    refine r_iconst (v := (-1 : Int32)) dX0_number_7 rfl ?_
    exact r_zret dX0_number_8 rfl rfl (Nat.le_refl _) (Nat.le_refl _) H
theorem s_X0_number_46 {g : GX} {d : Nat} {av : List Value} {Q : QT} {n : Nat} {h : Hp} {x2 : Int32} {x3 : Int32} {x4 : Int32} {a5 : Nat} (hp : g.2.2.2.2 = true) (t5 : lay a5 = (0, 9, 8)) (H : CallI g m_X0_within d [.int x2, .int (0 : Int32), .int (1 : Int32)] n h (fun v1 h1 => (((v1 = (0 : Int32)) → ((((3 : Int32) ≤ (ri h1 a5 0)) → (CallI g m_X0_within d [.int x2, .int (2 : Int32), .int ((2 : Int32) + (ri h1 a5 3))] n h1 (fun v2 h2 => (((¬ v2 = (0 : Int32)) → (((¬ x4 = (0 : Int32)) → (Q (some (.int (0 : Int32))) n h2)) ∧ ((x4 = (0 : Int32)) → (vp_in (x2 - (2 : Int32)) 7 ∧ ∀ r3, r3 = (a5 + 13) + 2 * ((x2 - (2 : Int32))).toNatClampNeg → (CallI g m_X3_get d [.ref r3, .int x3] n h2 (fun v4 h4 => (Q (some (.int v4)) n h4))))))) ∧ ((v2 = (0 : Int32)) → (Q (some (.int (-1 : Int32))) n h2)))))) ∧ ((¬ (3 : Int32) ≤ (ri h1 a5 0)) → ((((0 : Int32) ≤ x2) → (Q (some (.int (-3 : Int32))) n h1)) ∧ ((¬ (0 : Int32) ≤ x2) → (Q (some (.int (-1 : Int32))) n h1)))))) ∧ ((¬ v1 = (0 : Int32)) → (((¬ x2 = (0 : Int32)) → (W_X0_number g d av Q n 84 [none, none, none, some (.int x3), some (.int x4), none] [.ref (a5 + 5)] h1)) ∧ ((x2 = (0 : Int32)) → (W_X0_number g d av Q n 84 [none, none, none, some (.int x3), some (.int x4), none] [.ref (a5 + 3)] h1))))))) : W_X0_number g d av Q n 46 [none, none, some (.int x2), some (.int x3), some (.int x4), some (.ref a5)] [] h := by
  refine r_iload_n dX0_number_46 rfl rfl ?_
  refine r_iconst (v := (0 : Int32)) dX0_number_47 rfl ?_
  refine r_iconst (v := (1 : Int32)) dX0_number_48 rfl ?_
  refine k_SI (As := [.int x2, .int (0 : Int32), .int (1 : Int32)]) (stk := []) cs_X0_173 dX0_number_49 rfl (Nat.le_of_ble_eq_true rfl) (H.mono (fun v1 h1 H => ?_)) ⟨Nat.le_refl _, Nat.le_refl _⟩
  refine r_if_eq (tgt := 91) dX0_number_52 rfl (fun cH => ?_) (fun cH => ?_)
  · replace H := H.1 cH
    refine r_aload dX0_number_91 rfl ?_
    refine m_getI hp fw_X0_509 dX0_number_93 rfl t5 ?_
    refine r_iconst (v := (3 : Int32)) dX0_number_96 rfl ?_
    refine r_icmp_ge (tgt := 111) dX0_number_97 rfl (fun cH => ?_) (fun cH => ?_)
    · replace H := H.1 cH
      refine r_iload_n dX0_number_111 rfl rfl ?_
      refine r_iconst (v := (2 : Int32)) dX0_number_112 rfl ?_
      refine r_iconst (v := (2 : Int32)) dX0_number_113 rfl ?_
      refine r_aload dX0_number_114 rfl ?_
      refine m_getI hp fw_X0_575 dX0_number_116 rfl t5 ?_
      refine r_iadd dX0_number_119 ?_
      refine k_SI (As := [.int x2, .int (2 : Int32), .int ((2 : Int32) + (ri h1 a5 3))]) (stk := []) cs_X0_173 dX0_number_120 rfl (Nat.le_of_ble_eq_true rfl) (H.mono (fun v2 h2 H => ?_)) ⟨Nat.le_refl _, Nat.le_refl _⟩
      refine r_if_ne (tgt := 128) dX0_number_123 rfl (fun cH => ?_) (fun cH => ?_)
      · replace H := H.1 cH
        refine r_iload dX0_number_128 rfl ?_
        refine r_if_ne (tgt := 149) dX0_number_130 rfl (fun cH => ?_) (fun cH => ?_)
        · replace H := H.1 cH
          refine r_iconst (v := (0 : Int32)) dX0_number_149 rfl ?_
          exact r_zret dX0_number_150 rfl rfl (Nat.le_refl _) (Nat.le_refl _) H
        · replace H := H.2 cH
          refine r_aload dX0_number_133 rfl ?_
          refine m_getF (x := (a5 + 11)) hp fw_X0_578 dX0_number_135 rfl t5 (ff_9_2 t5) ?_
          refine r_iload_n dX0_number_138 rfl rfl ?_
          refine r_iconst (v := (2 : Int32)) dX0_number_139 rfl ?_
          refine r_isub dX0_number_140 ?_
          obtain ⟨r3, er3⟩ : ∃ y, y = (a5 + 13) + 2 * ((x2 - (2 : Int32))).toNatClampNeg := ⟨_, rfl⟩
          have hir3 := H.1
          replace H := H.2 r3 er3
          have tLr3 := le_9 t5 hir3 er3
          refine m_aalF (x := r3) hp dX0_number_141 (lf_9_2 t5) rfl rfl (lu_9_2 t5) hir3 (fe_9 t5 hir3 er3) ?_
          refine r_iload_n dX0_number_142 rfl rfl ?_
          refine k_VI (As := [.int x3]) (stk := []) hp cv_X0_580 dX0_number_143 rfl (Nat.le_of_ble_eq_true rfl) tLr3 (H.mono (fun v4 h4 H => ?_)) ⟨Nat.le_refl _, Nat.le_refl _⟩
          refine r_goto (tgt := 150) dX0_number_146 rfl ?_
          exact r_zret dX0_number_150 rfl rfl (Nat.le_refl _) (Nat.le_refl _) H
      · replace H := H.2 cH
        refine r_iconst (v := (-1 : Int32)) dX0_number_126 rfl ?_
        exact r_zret dX0_number_127 rfl rfl (Nat.le_refl _) (Nat.le_refl _) H
    · replace H := H.2 cH
      refine r_iload_n dX0_number_100 rfl rfl ?_
      refine r_if_ge (tgt := 108) dX0_number_101 rfl (fun cH => ?_) (fun cH => ?_)
      · replace H := H.1 cH
        refine r_bipush (v := (-3 : Int32)) dX0_number_108 rfl ?_
        exact r_zret dX0_number_110 rfl rfl (Nat.le_refl _) (Nat.le_refl _) H
      · replace H := H.2 cH
        refine r_iconst (v := (-1 : Int32)) dX0_number_104 rfl ?_
        refine r_goto (tgt := 110) dX0_number_105 rfl ?_
        exact r_zret dX0_number_110 rfl rfl (Nat.le_refl _) (Nat.le_refl _) H
  · replace H := H.2 cH
    refine r_iload_n dX0_number_55 rfl rfl ?_
    refine r_if_ne (tgt := 73) dX0_number_56 rfl (fun cH => ?_) (fun cH => ?_)
    · replace H := H.1 cH
      refine r_aload dX0_number_73 rfl ?_
      refine m_getF (x := (a5 + 1)) hp fw_X0_512 dX0_number_75 rfl t5 (ff_9_1 t5) ?_
      refine m_getF (x := (a5 + 2)) hp fw_X0_110 dX0_number_78 rfl (lf_9_1 t5) (ff_5_0 (lf_9_1 t5)) ?_
      refine m_getF (x := (a5 + 5)) hp fw_X0_94 dX0_number_81 rfl (lf_5_0 (lf_9_1 t5)) (ff_6_1 (lf_5_0 (lf_9_1 t5))) ?_
      refine r_prune [false, false, false, true, true, false] (ls2 := [none, none, none, some (.int x3), some (.int x4), none]) rfl ?_
      exact H
    · replace H := H.2 cH
      refine r_aload dX0_number_59 rfl ?_
      refine m_getF (x := (a5 + 1)) hp fw_X0_512 dX0_number_61 rfl t5 (ff_9_1 t5) ?_
      refine m_getF (x := (a5 + 2)) hp fw_X0_110 dX0_number_64 rfl (lf_9_1 t5) (ff_5_0 (lf_9_1 t5)) ?_
      refine m_getF (x := (a5 + 3)) hp fw_X0_89 dX0_number_67 rfl (lf_5_0 (lf_9_1 t5)) (ff_6_0 (lf_5_0 (lf_9_1 t5))) ?_
      refine r_goto (tgt := 84) dX0_number_70 rfl ?_
      refine r_prune [false, false, false, true, true, false] (ls2 := [none, none, none, some (.int x3), some (.int x4), none]) rfl ?_
      exact H
theorem s_X0_number_84 {g : GX} {d : Nat} {av : List Value} {Q : QT} {n : Nat} {h : Hp} {x3 : Int32} {x4 : Int32} {as0 : Nat} (hp : g.2.2.2.2 = true) (ts0 : lay as0 = (0, 4, 4)) (H : CallI g m_X4_get d [.ref as0, .int x3, .int x4] n h (fun v1 h1 => (Q (some (.int v1)) n h1))) : W_X0_number g d av Q n 84 [none, none, none, some (.int x3), some (.int x4), none] [.ref as0] h := by
  refine r_iload_n dX0_number_84 rfl rfl ?_
  refine r_iload dX0_number_85 rfl ?_
  refine k_VI (As := [.int x3, .int x4]) (stk := []) hp cv_X0_183 dX0_number_87 rfl (Nat.le_of_ble_eq_true rfl) ts0 (H.mono (fun v1 h1 H => ?_)) ⟨Nat.le_refl _, Nat.le_refl _⟩
  exact r_zret dX0_number_90 rfl rfl (Nat.le_refl _) (Nat.le_refl _) H
abbrev W_X0_told (g : GX) (d : Nat) (av : List Value) (Q : QT) (n : Nat) (pc : Nat) (ls : LV) (stk : List Value) (h : Hp) : Prop := RJ g m_X0_told (d + 1) 0 0 av Q pc ls stk n h 0 0
theorem s_X0_told_0 {g : GX} {d : Nat} {av : List Value} {Q : QT} {n : Nat} {h : Hp} {x1 : Int32} {x2 : Int32} (hp : g.2.2.2.2 = true)  (H : CallI g m_X0_isSlot d [.int x1] n h (fun v1 h1 => (((¬ v1 = (0 : Int32)) → (vp_in x1 12 ∧ ∀ r2, r2 = 1185 + 27 * (x1).toNatClampNeg → (((x2).toInt = 0 → ((((ri h1 r2 0) = (2 : Int32)) → (Q (some (.int (ri h1 (r2 + 1) 1))) n h1)) ∧ ((¬ (ri h1 r2 0) = (2 : Int32)) → (Q (some (.int (-3 : Int32))) n h1)))) ∧ ((x2).toInt = 1 → ((((ri h1 r2 0) = (2 : Int32)) → (Q (some (.int (ri h1 (r2 + 1) 2))) n h1)) ∧ ((¬ (ri h1 r2 0) = (2 : Int32)) → (Q (some (.int (-3 : Int32))) n h1)))) ∧ ((x2).toInt = 2 → ((((ri h1 r2 0) = (2 : Int32)) → (Q (some (.int (ri h1 (r2 + 1) 3))) n h1)) ∧ ((¬ (ri h1 r2 0) = (2 : Int32)) → (Q (some (.int (-3 : Int32))) n h1)))) ∧ ((x2).toInt = 3 → ((((3 : Int32) ≤ (ri h1 r2 0)) → (Q (some (.int (ri h1 r2 3))) n h1)) ∧ ((¬ (3 : Int32) ≤ (ri h1 r2 0)) → (Q (some (.int (-3 : Int32))) n h1)))) ∧ ((x2).toInt = 4 → ((((ri h1 r2 0) = (4 : Int32)) → (Q (some (.int (ri h1 r2 4))) n h1)) ∧ ((¬ (ri h1 r2 0) = (4 : Int32)) → (Q (some (.int (-3 : Int32))) n h1)))) ∧ (((x2).toInt < 0 ∨ 4 < (x2).toInt) → (Q (some (.int (-1 : Int32))) n h1))))) ∧ ((v1 = (0 : Int32)) → (Q (some (.int (-1 : Int32))) n h1))))) : W_X0_told g d av Q n 0 [some (.ref 0), some (.int x1), some (.int x2), none] [] h := by
  refine r_iload_n dX0_told_0 rfl rfl ?_
  refine k_SI (As := [.int x1]) (stk := []) cs_X0_519 dX0_told_1 rfl (Nat.le_of_ble_eq_true rfl) (H.mono (fun v1 h1 H => ?_)) ⟨Nat.le_refl _, Nat.le_refl _⟩
  refine r_if_ne (tgt := 9) dX0_told_4 rfl (fun cH => ?_) (fun cH => ?_)
  · replace H := H.1 cH
    refine r_aload_n dX0_told_9 rfl rfl ?_
    refine m_getF (x := 79) hp fw_X0_326 dX0_told_10 rfl ly_0 (ff_0_20 ly_0) ?_
    refine r_iload_n dX0_told_13 rfl rfl ?_
    obtain ⟨r2, er2⟩ : ∃ y, y = 1185 + 27 * (x1).toNatClampNeg := ⟨_, rfl⟩
    have hir2 := H.1
    replace H := H.2 r2 er2
    have tLr2 := la_79 hir2 er2
    refine m_aalF (x := r2) hp dX0_told_14 (lf_0_20 ly_0) rfl rfl (lu_0_20 ly_0) hir2 (fa_79 hir2 er2) ?_
    refine r_astore_n (ls2 := [some (.ref 0), some (.int x1), some (.int x2), some (.ref r2)]) dX0_told_15 rfl (by decide) rfl ?_
    refine r_iload_n dX0_told_16 rfl rfl ?_
    by_cases c0 : (x2).toInt = 0
    · replace H := H.1 c0
      refine r_tableIn (tgt := 52) dX0_told_17 (by omega) (by omega) (by rw [c0]; rfl) rfl ?_
      refine r_aload_n dX0_told_52 rfl rfl ?_
      refine m_getI hp fw_X0_509 dX0_told_53 rfl tLr2 ?_
      refine r_iconst (v := (2 : Int32)) dX0_told_56 rfl ?_
      refine r_icmp_eq (tgt := 65) dX0_told_57 rfl (fun cH => ?_) (fun cH => ?_)
      · replace H := H.1 cH
        refine r_aload_n dX0_told_65 rfl rfl ?_
        refine m_getF (x := (r2 + 1)) hp fw_X0_512 dX0_told_66 rfl tLr2 (ff_9_1 tLr2) ?_
        refine m_getI hp fw_X0_130 dX0_told_69 rfl (lf_9_1 tLr2) ?_
        exact r_zret dX0_told_72 rfl rfl (Nat.le_refl _) (Nat.le_refl _) H
      · replace H := H.2 cH
        refine r_bipush (v := (-3 : Int32)) dX0_told_60 rfl ?_
        refine r_goto (tgt := 72) dX0_told_62 rfl ?_
        exact r_zret dX0_told_72 rfl rfl (Nat.le_refl _) (Nat.le_refl _) H
    by_cases c1 : (x2).toInt = 1
    · replace H := H.2.1 c1
      refine r_tableIn (tgt := 73) dX0_told_17 (by omega) (by omega) (by rw [c1]; rfl) rfl ?_
      refine r_aload_n dX0_told_73 rfl rfl ?_
      refine m_getI hp fw_X0_509 dX0_told_74 rfl tLr2 ?_
      refine r_iconst (v := (2 : Int32)) dX0_told_77 rfl ?_
      refine r_icmp_eq (tgt := 86) dX0_told_78 rfl (fun cH => ?_) (fun cH => ?_)
      · replace H := H.1 cH
        refine r_aload_n dX0_told_86 rfl rfl ?_
        refine m_getF (x := (r2 + 1)) hp fw_X0_512 dX0_told_87 rfl tLr2 (ff_9_1 tLr2) ?_
        refine m_getI hp fw_X0_133 dX0_told_90 rfl (lf_9_1 tLr2) ?_
        exact r_zret dX0_told_93 rfl rfl (Nat.le_refl _) (Nat.le_refl _) H
      · replace H := H.2 cH
        refine r_bipush (v := (-3 : Int32)) dX0_told_81 rfl ?_
        refine r_goto (tgt := 93) dX0_told_83 rfl ?_
        exact r_zret dX0_told_93 rfl rfl (Nat.le_refl _) (Nat.le_refl _) H
    by_cases c2 : (x2).toInt = 2
    · replace H := H.2.2.1 c2
      refine r_tableIn (tgt := 94) dX0_told_17 (by omega) (by omega) (by rw [c2]; rfl) rfl ?_
      refine r_aload_n dX0_told_94 rfl rfl ?_
      refine m_getI hp fw_X0_509 dX0_told_95 rfl tLr2 ?_
      refine r_iconst (v := (2 : Int32)) dX0_told_98 rfl ?_
      refine r_icmp_eq (tgt := 107) dX0_told_99 rfl (fun cH => ?_) (fun cH => ?_)
      · replace H := H.1 cH
        refine r_aload_n dX0_told_107 rfl rfl ?_
        refine m_getF (x := (r2 + 1)) hp fw_X0_512 dX0_told_108 rfl tLr2 (ff_9_1 tLr2) ?_
        refine m_getI hp fw_X0_136 dX0_told_111 rfl (lf_9_1 tLr2) ?_
        exact r_zret dX0_told_114 rfl rfl (Nat.le_refl _) (Nat.le_refl _) H
      · replace H := H.2 cH
        refine r_bipush (v := (-3 : Int32)) dX0_told_102 rfl ?_
        refine r_goto (tgt := 114) dX0_told_104 rfl ?_
        exact r_zret dX0_told_114 rfl rfl (Nat.le_refl _) (Nat.le_refl _) H
    by_cases c3 : (x2).toInt = 3
    · replace H := H.2.2.2.1 c3
      refine r_tableIn (tgt := 115) dX0_told_17 (by omega) (by omega) (by rw [c3]; rfl) rfl ?_
      refine r_aload_n dX0_told_115 rfl rfl ?_
      refine m_getI hp fw_X0_509 dX0_told_116 rfl tLr2 ?_
      refine r_iconst (v := (3 : Int32)) dX0_told_119 rfl ?_
      refine r_icmp_ge (tgt := 128) dX0_told_120 rfl (fun cH => ?_) (fun cH => ?_)
      · replace H := H.1 cH
        refine r_aload_n dX0_told_128 rfl rfl ?_
        refine m_getI hp fw_X0_575 dX0_told_129 rfl tLr2 ?_
        exact r_zret dX0_told_132 rfl rfl (Nat.le_refl _) (Nat.le_refl _) H
      · replace H := H.2 cH
        refine r_bipush (v := (-3 : Int32)) dX0_told_123 rfl ?_
        refine r_goto (tgt := 132) dX0_told_125 rfl ?_
        exact r_zret dX0_told_132 rfl rfl (Nat.le_refl _) (Nat.le_refl _) H
    by_cases c4 : (x2).toInt = 4
    · replace H := H.2.2.2.2.1 c4
      refine r_tableIn (tgt := 133) dX0_told_17 (by omega) (by omega) (by rw [c4]; rfl) rfl ?_
      refine r_aload_n dX0_told_133 rfl rfl ?_
      refine m_getI hp fw_X0_509 dX0_told_134 rfl tLr2 ?_
      refine r_iconst (v := (4 : Int32)) dX0_told_137 rfl ?_
      refine r_icmp_eq (tgt := 146) dX0_told_138 rfl (fun cH => ?_) (fun cH => ?_)
      · replace H := H.1 cH
        refine r_aload_n dX0_told_146 rfl rfl ?_
        refine m_getI hp fw_X0_582 dX0_told_147 rfl tLr2 ?_
        exact r_zret dX0_told_150 rfl rfl (Nat.le_refl _) (Nat.le_refl _) H
      · replace H := H.2 cH
        refine r_bipush (v := (-3 : Int32)) dX0_told_141 rfl ?_
        refine r_goto (tgt := 150) dX0_told_143 rfl ?_
        exact r_zret dX0_told_150 rfl rfl (Nat.le_refl _) (Nat.le_refl _) H
    have cD : (x2).toInt < 0 ∨ 4 < (x2).toInt := by omega
    replace H := H.2.2.2.2.2 cD
    refine r_tableOut (tgt := 151) dX0_told_17 cD rfl ?_
    refine r_iconst (v := (-1 : Int32)) dX0_told_151 rfl ?_
    exact r_zret dX0_told_152 rfl rfl (Nat.le_refl _) (Nat.le_refl _) H
  · replace H := H.2 cH
    refine r_iconst (v := (-1 : Int32)) dX0_told_7 rfl ?_
    exact r_zret dX0_told_8 rfl rfl (Nat.le_refl _) (Nat.le_refl _) H
