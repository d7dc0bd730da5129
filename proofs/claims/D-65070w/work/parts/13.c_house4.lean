set_option maxRecDepth 100000
theorem dX0_addRoot_0 : decode cX0_addRoot 0 = .ok (.aload_n 0, 1) := by decide +kernel
theorem dX0_addRoot_1 : decode cX0_addRoot 1 = .ok (.getfield 493, 3) := by decide +kernel
theorem dX0_addRoot_4 : decode cX0_addRoot 4 = .ok (.getfield 636, 3) := by decide +kernel
theorem dX0_addRoot_7 : decode cX0_addRoot 7 = .ok (.iconst 1, 1) := by decide +kernel
theorem dX0_addRoot_8 : decode cX0_addRoot 8 = .ok (.if_icmp .le 73, 3) := by decide +kernel
theorem dX0_addRoot_11 : decode cX0_addRoot 11 = .ok (.aload_n 0, 1) := by decide +kernel
theorem dX0_addRoot_12 : decode cX0_addRoot 12 = .ok (.getfield 493, 3) := by decide +kernel
theorem dX0_addRoot_15 : decode cX0_addRoot 15 = .ok (.iload_n 1, 1) := by decide +kernel
theorem dX0_addRoot_16 : decode cX0_addRoot 16 = .ok (.invokevirtual 765, 3) := by decide +kernel
theorem dX0_addRoot_19 : decode cX0_addRoot 19 = .ok (.ifCond .ne 62, 3) := by decide +kernel
theorem dX0_addRoot_22 : decode cX0_addRoot 22 = .ok (.aload_n 0, 1) := by decide +kernel
theorem dX0_addRoot_23 : decode cX0_addRoot 23 = .ok (.getfield 490, 3) := by decide +kernel
theorem dX0_addRoot_26 : decode cX0_addRoot 26 = .ok (.aload_n 0, 1) := by decide +kernel
theorem dX0_addRoot_27 : decode cX0_addRoot 27 = .ok (.dup, 1) := by decide +kernel
theorem dX0_addRoot_28 : decode cX0_addRoot 28 = .ok (.getfield 873, 3) := by decide +kernel
theorem dX0_addRoot_31 : decode cX0_addRoot 31 = .ok (.dup_x1, 1) := by decide +kernel
theorem dX0_addRoot_32 : decode cX0_addRoot 32 = .ok (.iconst 1, 1) := by decide +kernel
theorem dX0_addRoot_33 : decode cX0_addRoot 33 = .ok (.iadd, 1) := by decide +kernel
theorem dX0_addRoot_34 : decode cX0_addRoot 34 = .ok (.putfield 873, 3) := by decide +kernel
theorem dX0_addRoot_37 : decode cX0_addRoot 37 = .ok (.iload_n 1, 1) := by decide +kernel
theorem dX0_addRoot_38 : decode cX0_addRoot 38 = .ok (.iastore, 1) := by decide +kernel
theorem dX0_addRoot_39 : decode cX0_addRoot 39 = .ok (.aload_n 0, 1) := by decide +kernel
theorem dX0_addRoot_40 : decode cX0_addRoot 40 = .ok (.getfield 361, 3) := by decide +kernel
theorem dX0_addRoot_43 : decode cX0_addRoot 43 = .ok (.iconst 0, 1) := by decide +kernel
theorem dX0_addRoot_44 : decode cX0_addRoot 44 = .ok (.iload_n 1, 1) := by decide +kernel
theorem dX0_addRoot_45 : decode cX0_addRoot 45 = .ok (.invokestatic 784, 3) := by decide +kernel
theorem dX0_addRoot_48 : decode cX0_addRoot 48 = .ok (.invokevirtual 734, 3) := by decide +kernel
theorem dX0_addRoot_51 : decode cX0_addRoot 51 = .ok (.aload_n 0, 1) := by decide +kernel
theorem dX0_addRoot_52 : decode cX0_addRoot 52 = .ok (.getfield 361, 3) := by decide +kernel
theorem dX0_addRoot_55 : decode cX0_addRoot 55 = .ok (.iconst 1, 1) := by decide +kernel
theorem dX0_addRoot_56 : decode cX0_addRoot 56 = .ok (.iconst 1, 1) := by decide +kernel
theorem dX0_addRoot_57 : decode cX0_addRoot 57 = .ok (.invokevirtual 774, 3) := by decide +kernel
theorem dX0_addRoot_60 : decode cX0_addRoot 60 = .ok (.aload_n 0, 1) := by decide +kernel
theorem dX0_addRoot_61 : decode cX0_addRoot 61 = .ok (.getfield 46, 3) := by decide +kernel
theorem dX0_addRoot_64 : decode cX0_addRoot 64 = .ok (.getfield 642, 3) := by decide +kernel
theorem dX0_addRoot_67 : decode cX0_addRoot 67 = .ok (.aload_n 0, 1) := by decide +kernel
theorem dX0_addRoot_68 : decode cX0_addRoot 68 = .ok (.getfield 493, 3) := by decide +kernel
theorem dX0_addRoot_71 : decode cX0_addRoot 71 = .ok (.aload_n 0, 1) := by decide +kernel
theorem dX0_addRoot_72 : decode cX0_addRoot 72 = .ok (.getfield 361, 3) := by decide +kernel
theorem dX0_addRoot_75 : decode cX0_addRoot 75 = .ok (.invokevirtual 718, 3) := by decide +kernel
theorem dX0_addRoot_78 : decode cX0_addRoot 78 = .ok (.goto (-78), 3) := by decide +kernel
theorem dX0_addRoot_81 : decode cX0_addRoot 81 = .ok (.return_, 1) := by decide +kernel
theorem dX0_sortRoots_0 : decode cX0_sortRoots 0 = .ok (.iconst 1, 1) := by decide +kernel
theorem dX0_sortRoots_1 : decode cX0_sortRoots 1 = .ok (.istore_n 1, 1) := by decide +kernel
theorem dX0_sortRoots_2 : decode cX0_sortRoots 2 = .ok (.iload_n 1, 1) := by decide +kernel
theorem dX0_sortRoots_3 : decode cX0_sortRoots 3 = .ok (.aload_n 0, 1) := by decide +kernel
theorem dX0_sortRoots_4 : decode cX0_sortRoots 4 = .ok (.getfield 873, 3) := by decide +kernel
theorem dX0_sortRoots_7 : decode cX0_sortRoots 7 = .ok (.if_icmp .ge 61, 3) := by decide +kernel
theorem dX0_sortRoots_10 : decode cX0_sortRoots 10 = .ok (.aload_n 0, 1) := by decide +kernel
theorem dX0_sortRoots_11 : decode cX0_sortRoots 11 = .ok (.getfield 490, 3) := by decide +kernel
theorem dX0_sortRoots_14 : decode cX0_sortRoots 14 = .ok (.iload_n 1, 1) := by decide +kernel
theorem dX0_sortRoots_15 : decode cX0_sortRoots 15 = .ok (.iaload, 1) := by decide +kernel
theorem dX0_sortRoots_16 : decode cX0_sortRoots 16 = .ok (.istore_n 2, 1) := by decide +kernel
theorem dX0_sortRoots_17 : decode cX0_sortRoots 17 = .ok (.iload_n 1, 1) := by decide +kernel
theorem dX0_sortRoots_18 : decode cX0_sortRoots 18 = .ok (.istore_n 3, 1) := by decide +kernel
theorem dX0_sortRoots_19 : decode cX0_sortRoots 19 = .ok (.iload_n 3, 1) := by decide +kernel
theorem dX0_sortRoots_20 : decode cX0_sortRoots 20 = .ok (.ifCond .le 35, 3) := by decide +kernel
theorem dX0_sortRoots_23 : decode cX0_sortRoots 23 = .ok (.aload_n 0, 1) := by decide +kernel
theorem dX0_sortRoots_24 : decode cX0_sortRoots 24 = .ok (.getfield 490, 3) := by decide +kernel
theorem dX0_sortRoots_27 : decode cX0_sortRoots 27 = .ok (.iload_n 3, 1) := by decide +kernel
theorem dX0_sortRoots_28 : decode cX0_sortRoots 28 = .ok (.iconst 1, 1) := by decide +kernel
theorem dX0_sortRoots_29 : decode cX0_sortRoots 29 = .ok (.isub, 1) := by decide +kernel
theorem dX0_sortRoots_30 : decode cX0_sortRoots 30 = .ok (.iaload, 1) := by decide +kernel
theorem dX0_sortRoots_31 : decode cX0_sortRoots 31 = .ok (.iload_n 2, 1) := by decide +kernel
theorem dX0_sortRoots_32 : decode cX0_sortRoots 32 = .ok (.if_icmp .le 23, 3) := by decide +kernel
theorem dX0_sortRoots_35 : decode cX0_sortRoots 35 = .ok (.aload_n 0, 1) := by decide +kernel
theorem dX0_sortRoots_36 : decode cX0_sortRoots 36 = .ok (.getfield 490, 3) := by decide +kernel
theorem dX0_sortRoots_39 : decode cX0_sortRoots 39 = .ok (.iload_n 3, 1) := by decide +kernel
theorem dX0_sortRoots_40 : decode cX0_sortRoots 40 = .ok (.aload_n 0, 1) := by decide +kernel
theorem dX0_sortRoots_41 : decode cX0_sortRoots 41 = .ok (.getfield 490, 3) := by decide +kernel
theorem dX0_sortRoots_44 : decode cX0_sortRoots 44 = .ok (.iload_n 3, 1) := by decide +kernel
theorem dX0_sortRoots_45 : decode cX0_sortRoots 45 = .ok (.iconst 1, 1) := by decide +kernel
theorem dX0_sortRoots_46 : decode cX0_sortRoots 46 = .ok (.isub, 1) := by decide +kernel
theorem dX0_sortRoots_47 : decode cX0_sortRoots 47 = .ok (.iaload, 1) := by decide +kernel
theorem dX0_sortRoots_48 : decode cX0_sortRoots 48 = .ok (.iastore, 1) := by decide +kernel
theorem dX0_sortRoots_49 : decode cX0_sortRoots 49 = .ok (.iinc 3 (-1), 3) := by decide +kernel
theorem dX0_sortRoots_52 : decode cX0_sortRoots 52 = .ok (.goto (-33), 3) := by decide +kernel
theorem dX0_sortRoots_55 : decode cX0_sortRoots 55 = .ok (.aload_n 0, 1) := by decide +kernel
theorem dX0_sortRoots_56 : decode cX0_sortRoots 56 = .ok (.getfield 490, 3) := by decide +kernel
theorem dX0_sortRoots_59 : decode cX0_sortRoots 59 = .ok (.iload_n 3, 1) := by decide +kernel
theorem dX0_sortRoots_60 : decode cX0_sortRoots 60 = .ok (.iload_n 2, 1) := by decide +kernel
theorem dX0_sortRoots_61 : decode cX0_sortRoots 61 = .ok (.iastore, 1) := by decide +kernel
theorem dX0_sortRoots_62 : decode cX0_sortRoots 62 = .ok (.iinc 1 1, 3) := by decide +kernel
theorem dX0_sortRoots_65 : decode cX0_sortRoots 65 = .ok (.goto (-63), 3) := by decide +kernel
theorem dX0_sortRoots_68 : decode cX0_sortRoots 68 = .ok (.return_, 1) := by decide +kernel
theorem dX0_root_0 : decode cX0_root 0 = .ok (.iload_n 1, 1) := by decide +kernel
theorem dX0_root_1 : decode cX0_root 1 = .ok (.ifCond .lt 20, 3) := by decide +kernel
theorem dX0_root_4 : decode cX0_root 4 = .ok (.iload_n 1, 1) := by decide +kernel
theorem dX0_root_5 : decode cX0_root 5 = .ok (.aload_n 0, 1) := by decide +kernel
theorem dX0_root_6 : decode cX0_root 6 = .ok (.getfield 873, 3) := by decide +kernel
theorem dX0_root_9 : decode cX0_root 9 = .ok (.if_icmp .ge 12, 3) := by decide +kernel
theorem dX0_root_12 : decode cX0_root 12 = .ok (.aload_n 0, 1) := by decide +kernel
theorem dX0_root_13 : decode cX0_root 13 = .ok (.getfield 490, 3) := by decide +kernel
theorem dX0_root_16 : decode cX0_root 16 = .ok (.iload_n 1, 1) := by decide +kernel
theorem dX0_root_17 : decode cX0_root 17 = .ok (.iaload, 1) := by decide +kernel
theorem dX0_root_18 : decode cX0_root 18 = .ok (.goto 4, 3) := by decide +kernel
theorem dX0_root_21 : decode cX0_root 21 = .ok (.iconst (-1), 1) := by decide +kernel
theorem dX0_root_22 : decode cX0_root 22 = .ok (.ireturn, 1) := by decide +kernel
theorem dX0_solve_0 : decode cX0_solve 0 = .ok (.iload_n 1, 1) := by decide +kernel
theorem dX0_solve_1 : decode cX0_solve 1 = .ok (.invokestatic 519, 3) := by decide +kernel
theorem dX0_solve_4 : decode cX0_solve 4 = .ok (.ifCond .eq 10, 3) := by decide +kernel
theorem dX0_solve_7 : decode cX0_solve 7 = .ok (.iload_n 2, 1) := by decide +kernel
theorem dX0_solve_8 : decode cX0_solve 8 = .ok (.invokestatic 519, 3) := by decide +kernel
theorem dX0_solve_11 : decode cX0_solve 11 = .ok (.ifCond .ne 5, 3) := by decide +kernel
theorem dX0_solve_14 : decode cX0_solve 14 = .ok (.iconst (-1), 1) := by decide +kernel
theorem dX0_solve_15 : decode cX0_solve 15 = .ok (.ireturn, 1) := by decide +kernel
theorem dX0_solve_16 : decode cX0_solve 16 = .ok (.aload_n 0, 1) := by decide +kernel
theorem dX0_solve_17 : decode cX0_solve 17 = .ok (.getfield 326, 3) := by decide +kernel
theorem dX0_solve_20 : decode cX0_solve 20 = .ok (.iload_n 1, 1) := by decide +kernel
theorem dX0_solve_21 : decode cX0_solve 21 = .ok (.aaload, 1) := by decide +kernel
theorem dX0_solve_22 : decode cX0_solve 22 = .ok (.astore_n 3, 1) := by decide +kernel
theorem dX0_solve_23 : decode cX0_solve 23 = .ok (.aload_n 3, 1) := by decide +kernel
theorem dX0_solve_24 : decode cX0_solve 24 = .ok (.getfield 509, 3) := by decide +kernel
theorem dX0_solve_27 : decode cX0_solve 27 = .ok (.iconst 3, 1) := by decide +kernel
theorem dX0_solve_28 : decode cX0_solve 28 = .ok (.if_icmp .ge 6, 3) := by decide +kernel
theorem dX0_solve_31 : decode cX0_solve 31 = .ok (.bipush (-3), 2) := by decide +kernel
theorem dX0_solve_33 : decode cX0_solve 33 = .ok (.ireturn, 1) := by decide +kernel
theorem dX0_solve_34 : decode cX0_solve 34 = .ok (.aload_n 3, 1) := by decide +kernel
theorem dX0_solve_35 : decode cX0_solve 35 = .ok (.getfield 575, 3) := by decide +kernel
theorem dX0_solve_38 : decode cX0_solve 38 = .ok (.iconst 1, 1) := by decide +kernel
theorem dX0_solve_39 : decode cX0_solve 39 = .ok (.if_icmp .ne 27, 3) := by decide +kernel
theorem dX0_solve_42 : decode cX0_solve 42 = .ok (.aload_n 3, 1) := by decide +kernel
theorem dX0_solve_43 : decode cX0_solve 43 = .ok (.getfield 578, 3) := by decide +kernel
theorem dX0_solve_46 : decode cX0_solve 46 = .ok (.iconst 0, 1) := by decide +kernel
theorem dX0_solve_47 : decode cX0_solve 47 = .ok (.aaload, 1) := by decide +kernel
theorem dX0_solve_48 : decode cX0_solve 48 = .ok (.invokevirtual 692, 3) := by decide +kernel
theorem dX0_solve_51 : decode cX0_solve 51 = .ok (.ifCond .ne 15, 3) := by decide +kernel
theorem dX0_solve_54 : decode cX0_solve 54 = .ok (.aload_n 3, 1) := by decide +kernel
theorem dX0_solve_55 : decode cX0_solve 55 = .ok (.getfield 578, 3) := by decide +kernel
theorem dX0_solve_58 : decode cX0_solve 58 = .ok (.iconst 1, 1) := by decide +kernel
theorem dX0_solve_59 : decode cX0_solve 59 = .ok (.aaload, 1) := by decide +kernel
theorem dX0_solve_60 : decode cX0_solve 60 = .ok (.invokevirtual 692, 3) := by decide +kernel
theorem dX0_solve_63 : decode cX0_solve 63 = .ok (.ifCond .eq 5, 3) := by decide +kernel
theorem dX0_solve_66 : decode cX0_solve 66 = .ok (.iconst (-1), 1) := by decide +kernel
theorem dX0_solve_67 : decode cX0_solve 67 = .ok (.ireturn, 1) := by decide +kernel
theorem dX0_solve_68 : decode cX0_solve 68 = .ok (.aload_n 0, 1) := by decide +kernel
theorem dX0_solve_69 : decode cX0_solve 69 = .ok (.getfield 330, 3) := by decide +kernel
theorem dX0_solve_72 : decode cX0_solve 72 = .ok (.iconst 1, 1) := by decide +kernel
theorem dX0_solve_73 : decode cX0_solve 73 = .ok (.invokevirtual 129, 3) := by decide +kernel
theorem dX0_solve_76 : decode cX0_solve 76 = .ok (.aload_n 0, 1) := by decide +kernel
theorem dX0_solve_77 : decode cX0_solve 77 = .ok (.getfield 330, 3) := by decide +kernel
theorem dX0_solve_80 : decode cX0_solve 80 = .ok (.iconst 0, 1) := by decide +kernel
theorem dX0_solve_81 : decode cX0_solve 81 = .ok (.aload_n 3, 1) := by decide +kernel
theorem dX0_solve_82 : decode cX0_solve 82 = .ok (.getfield 578, 3) := by decide +kernel
theorem dX0_solve_85 : decode cX0_solve 85 = .ok (.iconst 0, 1) := by decide +kernel
theorem dX0_solve_86 : decode cX0_solve 86 = .ok (.aaload, 1) := by decide +kernel
theorem dX0_solve_87 : decode cX0_solve 87 = .ok (.invokevirtual 693, 3) := by decide +kernel
theorem dX0_solve_90 : decode cX0_solve 90 = .ok (.aload_n 3, 1) := by decide +kernel
theorem dX0_solve_91 : decode cX0_solve 91 = .ok (.getfield 578, 3) := by decide +kernel
theorem dX0_solve_94 : decode cX0_solve 94 = .ok (.iconst 1, 1) := by decide +kernel
theorem dX0_solve_95 : decode cX0_solve 95 = .ok (.aaload, 1) := by decide +kernel
theorem dX0_solve_96 : decode cX0_solve 96 = .ok (.invokevirtual 693, 3) := by decide +kernel
theorem dX0_solve_99 : decode cX0_solve 99 = .ok (.invokestatic 74, 3) := by decide +kernel
theorem dX0_solve_102 : decode cX0_solve 102 = .ok (.invokestatic 6, 3) := by decide +kernel
theorem dX0_solve_105 : decode cX0_solve 105 = .ok (.invokestatic 784, 3) := by decide +kernel
theorem dX0_solve_108 : decode cX0_solve 108 = .ok (.putfield 130, 3) := by decide +kernel
theorem dX0_solve_111 : decode cX0_solve 111 = .ok (.aload_n 0, 1) := by decide +kernel
theorem dX0_solve_112 : decode cX0_solve 112 = .ok (.aload_n 3, 1) := by decide +kernel
theorem dX0_solve_113 : decode cX0_solve 113 = .ok (.getfield 578, 3) := by decide +kernel
theorem dX0_solve_116 : decode cX0_solve 116 = .ok (.iconst 0, 1) := by decide +kernel
theorem dX0_solve_117 : decode cX0_solve 117 = .ok (.aaload, 1) := by decide +kernel
theorem dX0_solve_118 : decode cX0_solve 118 = .ok (.iconst 1, 1) := by decide +kernel
theorem dX0_solve_119 : decode cX0_solve 119 = .ok (.invokevirtual 895, 3) := by decide +kernel
theorem dX0_solve_122 : decode cX0_solve 122 = .ok (.ifCond .eq 21, 3) := by decide +kernel
theorem dX0_solve_125 : decode cX0_solve 125 = .ok (.aload_n 0, 1) := by decide +kernel
theorem dX0_solve_126 : decode cX0_solve 126 = .ok (.aload_n 3, 1) := by decide +kernel
theorem dX0_solve_127 : decode cX0_solve 127 = .ok (.getfield 578, 3) := by decide +kernel
theorem dX0_solve_130 : decode cX0_solve 130 = .ok (.iconst 1, 1) := by decide +kernel
theorem dX0_solve_131 : decode cX0_solve 131 = .ok (.aaload, 1) := by decide +kernel
theorem dX0_solve_132 : decode cX0_solve 132 = .ok (.iconst (-1), 1) := by decide +kernel
theorem dX0_solve_133 : decode cX0_solve 133 = .ok (.invokevirtual 895, 3) := by decide +kernel
theorem dX0_solve_136 : decode cX0_solve 136 = .ok (.ifCond .eq 7, 3) := by decide +kernel
theorem dX0_solve_139 : decode cX0_solve 139 = .ok (.iconst 1, 1) := by decide +kernel
theorem dX0_solve_140 : decode cX0_solve 140 = .ok (.goto 4, 3) := by decide +kernel
theorem dX0_solve_143 : decode cX0_solve 143 = .ok (.iconst 0, 1) := by decide +kernel
theorem dX0_solve_144 : decode cX0_solve 144 = .ok (.istore 4, 2) := by decide +kernel
theorem dX0_solve_146 : decode cX0_solve 146 = .ok (.iload 4, 2) := by decide +kernel
theorem dX0_solve_148 : decode cX0_solve 148 = .ok (.ifCond .eq 27, 3) := by decide +kernel
theorem dX0_solve_151 : decode cX0_solve 151 = .ok (.aload_n 0, 1) := by decide +kernel
theorem dX0_solve_152 : decode cX0_solve 152 = .ok (.getfield 330, 3) := by decide +kernel
theorem dX0_solve_155 : decode cX0_solve 155 = .ok (.invokevirtual 155, 3) := by decide +kernel
theorem dX0_solve_158 : decode cX0_solve 158 = .ok (.bipush 12, 2) := by decide +kernel
theorem dX0_solve_160 : decode cX0_solve 160 = .ok (.if_icmp .gt 15, 3) := by decide +kernel
theorem dX0_solve_163 : decode cX0_solve 163 = .ok (.aload_n 0, 1) := by decide +kernel
theorem dX0_solve_164 : decode cX0_solve 164 = .ok (.aload_n 0, 1) := by decide +kernel
theorem dX0_solve_165 : decode cX0_solve 165 = .ok (.getfield 330, 3) := by decide +kernel
theorem dX0_solve_168 : decode cX0_solve 168 = .ok (.iload_n 2, 1) := by decide +kernel
theorem dX0_solve_169 : decode cX0_solve 169 = .ok (.invokevirtual 515, 3) := by decide +kernel
theorem dX0_solve_172 : decode cX0_solve 172 = .ok (.goto 4, 3) := by decide +kernel
theorem dX0_solve_175 : decode cX0_solve 175 = .ok (.iconst (-1), 1) := by decide +kernel
theorem dX0_solve_176 : decode cX0_solve 176 = .ok (.ireturn, 1) := by decide +kernel
theorem dX0_takeLines_0 : decode cX0_takeLines 0 = .ok (.aload_n 0, 1) := by decide +kernel
theorem dX0_takeLines_1 : decode cX0_takeLines 1 = .ok (.getfield 493, 3) := by decide +kernel
theorem dX0_takeLines_4 : decode cX0_takeLines 4 = .ok (.aload_n 1, 1) := by decide +kernel
theorem dX0_takeLines_5 : decode cX0_takeLines 5 = .ok (.invokevirtual 686, 3) := by decide +kernel
theorem dX0_takeLines_8 : decode cX0_takeLines 8 = .ok (.bipush (-49), 2) := by decide +kernel
theorem dX0_takeLines_10 : decode cX0_takeLines 10 = .ok (.istore_n 3, 1) := by decide +kernel
theorem dX0_takeLines_11 : decode cX0_takeLines 11 = .ok (.iload_n 3, 1) := by decide +kernel
theorem dX0_takeLines_12 : decode cX0_takeLines 12 = .ok (.bipush 51, 2) := by decide +kernel
theorem dX0_takeLines_14 : decode cX0_takeLines 14 = .ok (.if_icmp .gt 89, 3) := by decide +kernel
theorem dX0_takeLines_17 : decode cX0_takeLines 17 = .ok (.aload_n 0, 1) := by decide +kernel
theorem dX0_takeLines_18 : decode cX0_takeLines 18 = .ok (.getfield 493, 3) := by decide +kernel
theorem dX0_takeLines_21 : decode cX0_takeLines 21 = .ok (.getfield 636, 3) := by decide +kernel
theorem dX0_takeLines_24 : decode cX0_takeLines 24 = .ok (.iconst 1, 1) := by decide +kernel
theorem dX0_takeLines_25 : decode cX0_takeLines 25 = .ok (.if_icmp .le 72, 3) := by decide +kernel
theorem dX0_takeLines_28 : decode cX0_takeLines 28 = .ok (.aload_n 0, 1) := by decide +kernel
theorem dX0_takeLines_29 : decode cX0_takeLines 29 = .ok (.getfield 493, 3) := by decide +kernel
theorem dX0_takeLines_32 : decode cX0_takeLines 32 = .ok (.iload_n 3, 1) := by decide +kernel
theorem dX0_takeLines_33 : decode cX0_takeLines 33 = .ok (.ineg, 1) := by decide +kernel
theorem dX0_takeLines_34 : decode cX0_takeLines 34 = .ok (.invokestatic 543, 3) := by decide +kernel
theorem dX0_takeLines_37 : decode cX0_takeLines 37 = .ok (.invokevirtual 765, 3) := by decide +kernel
theorem dX0_takeLines_40 : decode cX0_takeLines 40 = .ok (.ifCond .ne 57, 3) := by decide +kernel
theorem dX0_takeLines_43 : decode cX0_takeLines 43 = .ok (.aload_n 0, 1) := by decide +kernel
theorem dX0_takeLines_44 : decode cX0_takeLines 44 = .ok (.getfield 330, 3) := by decide +kernel
theorem dX0_takeLines_47 : decode cX0_takeLines 47 = .ok (.iconst 1, 1) := by decide +kernel
theorem dX0_takeLines_48 : decode cX0_takeLines 48 = .ok (.iconst 0, 1) := by decide +kernel
theorem dX0_takeLines_49 : decode cX0_takeLines 49 = .ok (.iload_n 3, 1) := by decide +kernel
theorem dX0_takeLines_50 : decode cX0_takeLines 50 = .ok (.iconst 1, 1) := by decide +kernel
theorem dX0_takeLines_51 : decode cX0_takeLines 51 = .ok (.isub, 1) := by decide +kernel
theorem dX0_takeLines_52 : decode cX0_takeLines 52 = .ok (.iload_n 2, 1) := by decide +kernel
theorem dX0_takeLines_53 : decode cX0_takeLines 53 = .ok (.invokevirtual 152, 3) := by decide +kernel
theorem dX0_takeLines_56 : decode cX0_takeLines 56 = .ok (.aload_n 0, 1) := by decide +kernel
theorem dX0_takeLines_57 : decode cX0_takeLines 57 = .ok (.getfield 361, 3) := by decide +kernel
theorem dX0_takeLines_60 : decode cX0_takeLines 60 = .ok (.iload_n 3, 1) := by decide +kernel
theorem dX0_takeLines_61 : decode cX0_takeLines 61 = .ok (.invokestatic 543, 3) := by decide +kernel
theorem dX0_takeLines_64 : decode cX0_takeLines 64 = .ok (.invokevirtual 734, 3) := by decide +kernel
theorem dX0_takeLines_67 : decode cX0_takeLines 67 = .ok (.aload_n 0, 1) := by decide +kernel
theorem dX0_takeLines_68 : decode cX0_takeLines 68 = .ok (.getfield 361, 3) := by decide +kernel
theorem dX0_takeLines_71 : decode cX0_takeLines 71 = .ok (.iconst 1, 1) := by decide +kernel
theorem dX0_takeLines_72 : decode cX0_takeLines 72 = .ok (.iconst 1, 1) := by decide +kernel
theorem dX0_takeLines_73 : decode cX0_takeLines 73 = .ok (.invokevirtual 774, 3) := by decide +kernel
theorem dX0_takeLines_76 : decode cX0_takeLines 76 = .ok (.aload_n 0, 1) := by decide +kernel
theorem dX0_takeLines_77 : decode cX0_takeLines 77 = .ok (.getfield 46, 3) := by decide +kernel
theorem dX0_takeLines_80 : decode cX0_takeLines 80 = .ok (.getfield 642, 3) := by decide +kernel
theorem dX0_takeLines_83 : decode cX0_takeLines 83 = .ok (.aload_n 0, 1) := by decide +kernel
theorem dX0_takeLines_84 : decode cX0_takeLines 84 = .ok (.getfield 493, 3) := by decide +kernel
theorem dX0_takeLines_87 : decode cX0_takeLines 87 = .ok (.aload_n 0, 1) := by decide +kernel
theorem dX0_takeLines_88 : decode cX0_takeLines 88 = .ok (.getfield 361, 3) := by decide +kernel
theorem dX0_takeLines_91 : decode cX0_takeLines 91 = .ok (.invokevirtual 718, 3) := by decide +kernel
theorem dX0_takeLines_94 : decode cX0_takeLines 94 = .ok (.goto (-77), 3) := by decide +kernel
theorem dX0_takeLines_97 : decode cX0_takeLines 97 = .ok (.iinc 3 1, 3) := by decide +kernel
theorem dX0_takeLines_100 : decode cX0_takeLines 100 = .ok (.goto (-89), 3) := by decide +kernel
theorem dX0_takeLines_103 : decode cX0_takeLines 103 = .ok (.aload_n 0, 1) := by decide +kernel
theorem dX0_takeLines_104 : decode cX0_takeLines 104 = .ok (.getfield 493, 3) := by decide +kernel
theorem dX0_takeLines_107 : decode cX0_takeLines 107 = .ok (.getfield 636, 3) := by decide +kernel
theorem dX0_takeLines_110 : decode cX0_takeLines 110 = .ok (.iconst 1, 1) := by decide +kernel
theorem dX0_takeLines_111 : decode cX0_takeLines 111 = .ok (.if_icmp .ne 7, 3) := by decide +kernel
theorem dX0_takeLines_114 : decode cX0_takeLines 114 = .ok (.iconst 1, 1) := by decide +kernel
theorem dX0_takeLines_115 : decode cX0_takeLines 115 = .ok (.goto 4, 3) := by decide +kernel
theorem dX0_takeLines_118 : decode cX0_takeLines 118 = .ok (.iconst 0, 1) := by decide +kernel
theorem dX0_takeLines_119 : decode cX0_takeLines 119 = .ok (.ireturn, 1) := by decide +kernel
theorem dX0_work_0 : decode cX0_work 0 = .ok (.iload_n 2, 1) := by decide +kernel
theorem dX0_work_1 : decode cX0_work 1 = .ok (.invokestatic 519, 3) := by decide +kernel
theorem dX0_work_4 : decode cX0_work 4 = .ok (.ifCond .eq 18, 3) := by decide +kernel
theorem dX0_work_7 : decode cX0_work 7 = .ok (.iload_n 3, 1) := by decide +kernel
theorem dX0_work_8 : decode cX0_work 8 = .ok (.invokestatic 519, 3) := by decide +kernel
theorem dX0_work_11 : decode cX0_work 11 = .ok (.ifCond .eq 11, 3) := by decide +kernel
theorem dX0_work_14 : decode cX0_work 14 = .ok (.iload 4, 2) := by decide +kernel
theorem dX0_work_16 : decode cX0_work 16 = .ok (.invokestatic 519, 3) := by decide +kernel
theorem dX0_work_19 : decode cX0_work 19 = .ok (.ifCond .ne 5, 3) := by decide +kernel
theorem dX0_work_22 : decode cX0_work 22 = .ok (.iconst (-1), 1) := by decide +kernel
theorem dX0_work_23 : decode cX0_work 23 = .ok (.ireturn, 1) := by decide +kernel
theorem dX0_work_24 : decode cX0_work 24 = .ok (.aload_n 0, 1) := by decide +kernel
theorem dX0_work_25 : decode cX0_work 25 = .ok (.iload_n 2, 1) := by decide +kernel
theorem dX0_work_26 : decode cX0_work 26 = .ok (.invokevirtual 546, 3) := by decide +kernel
theorem dX0_work_29 : decode cX0_work 29 = .ok (.ifCond .eq 11, 3) := by decide +kernel
theorem dX0_work_32 : decode cX0_work 32 = .ok (.aload_n 0, 1) := by decide +kernel
theorem dX0_work_33 : decode cX0_work 33 = .ok (.iload_n 3, 1) := by decide +kernel
theorem dX0_work_34 : decode cX0_work 34 = .ok (.invokevirtual 546, 3) := by decide +kernel
theorem dX0_work_37 : decode cX0_work 37 = .ok (.ifCond .ne 6, 3) := by decide +kernel
theorem dX0_work_40 : decode cX0_work 40 = .ok (.bipush (-3), 2) := by decide +kernel
theorem dX0_work_42 : decode cX0_work 42 = .ok (.ireturn, 1) := by decide +kernel
theorem dX0_work_43 : decode cX0_work 43 = .ok (.aload_n 0, 1) := by decide +kernel
theorem dX0_work_44 : decode cX0_work 44 = .ok (.getfield 326, 3) := by decide +kernel
theorem dX0_work_47 : decode cX0_work 47 = .ok (.iload_n 2, 1) := by decide +kernel
theorem dX0_work_48 : decode cX0_work 48 = .ok (.aaload, 1) := by decide +kernel
theorem dX0_work_49 : decode cX0_work 49 = .ok (.getfield 512, 3) := by decide +kernel
theorem dX0_work_52 : decode cX0_work 52 = .ok (.astore 5, 2) := by decide +kernel
theorem dX0_work_54 : decode cX0_work 54 = .ok (.aload_n 0, 1) := by decide +kernel
theorem dX0_work_55 : decode cX0_work 55 = .ok (.getfield 326, 3) := by decide +kernel
theorem dX0_work_58 : decode cX0_work 58 = .ok (.iload_n 3, 1) := by decide +kernel
theorem dX0_work_59 : decode cX0_work 59 = .ok (.aaload, 1) := by decide +kernel
theorem dX0_work_60 : decode cX0_work 60 = .ok (.getfield 512, 3) := by decide +kernel
theorem dX0_work_63 : decode cX0_work 63 = .ok (.astore 6, 2) := by decide +kernel
theorem dX0_work_65 : decode cX0_work 65 = .ok (.iload_n 1, 1) := by decide +kernel
theorem dX0_work_66 : decode cX0_work 66 = .ok (.ifCond .eq 8, 3) := by decide +kernel
theorem dX0_work_69 : decode cX0_work 69 = .ok (.iload_n 1, 1) := by decide +kernel
theorem dX0_work_70 : decode cX0_work 70 = .ok (.iconst 1, 1) := by decide +kernel
theorem dX0_work_71 : decode cX0_work 71 = .ok (.if_icmp .ne 7, 3) := by decide +kernel
theorem dX0_work_74 : decode cX0_work 74 = .ok (.iconst 1, 1) := by decide +kernel
theorem dX0_work_75 : decode cX0_work 75 = .ok (.goto 4, 3) := by decide +kernel
theorem dX0_work_78 : decode cX0_work 78 = .ok (.iconst 0, 1) := by decide +kernel
theorem dX0_work_79 : decode cX0_work 79 = .ok (.istore 7, 2) := by decide +kernel
theorem dX0_work_81 : decode cX0_work 81 = .ok (.iload_n 1, 1) := by decide +kernel
theorem dX0_work_82 : decode cX0_work 82 = .ok (.iconst 4, 1) := by decide +kernel
theorem dX0_work_83 : decode cX0_work 83 = .ok (.bipush 6, 2) := by decide +kernel
theorem dX0_work_85 : decode cX0_work 85 = .ok (.invokestatic 173, 3) := by decide +kernel
theorem dX0_work_88 : decode cX0_work 88 = .ok (.istore 8, 2) := by decide +kernel
theorem dX0_work_90 : decode cX0_work 90 = .ok (.iload 7, 2) := by decide +kernel
theorem dX0_work_92 : decode cX0_work 92 = .ok (.ifCond .eq 19, 3) := by decide +kernel
theorem dX0_work_95 : decode cX0_work 95 = .ok (.aload 5, 2) := by decide +kernel
theorem dX0_work_97 : decode cX0_work 97 = .ok (.invokevirtual 177, 3) := by decide +kernel
theorem dX0_work_100 : decode cX0_work 100 = .ok (.ifCond .ne 32, 3) := by decide +kernel
theorem dX0_work_103 : decode cX0_work 103 = .ok (.aload 6, 2) := by decide +kernel
theorem dX0_work_105 : decode cX0_work 105 = .ok (.invokevirtual 177, 3) := by decide +kernel
theorem dX0_work_108 : decode cX0_work 108 = .ok (.ifCond .ne 24, 3) := by decide +kernel
theorem dX0_work_111 : decode cX0_work 111 = .ok (.iload 8, 2) := by decide +kernel
theorem dX0_work_113 : decode cX0_work 113 = .ok (.ifCond .eq 22, 3) := by decide +kernel
theorem dX0_work_116 : decode cX0_work 116 = .ok (.aload 5, 2) := by decide +kernel
theorem dX0_work_118 : decode cX0_work 118 = .ok (.invokestatic 899, 3) := by decide +kernel
theorem dX0_work_121 : decode cX0_work 121 = .ok (.ifCond .eq 11, 3) := by decide +kernel
theorem dX0_work_124 : decode cX0_work 124 = .ok (.aload 6, 2) := by decide +kernel
theorem dX0_work_126 : decode cX0_work 126 = .ok (.invokestatic 899, 3) := by decide +kernel
theorem dX0_work_129 : decode cX0_work 129 = .ok (.ifCond .ne 6, 3) := by decide +kernel
theorem dX0_work_132 : decode cX0_work 132 = .ok (.bipush (-3), 2) := by decide +kernel
theorem dX0_work_134 : decode cX0_work 134 = .ok (.ireturn, 1) := by decide +kernel
theorem dX0_work_135 : decode cX0_work 135 = .ok (.iload_n 1, 1) := by decide +kernel
theorem dX0_work_136 : decode cX0_work 136 = .ok (.iconst 0, 1) := by decide +kernel
theorem dX0_work_137 : decode cX0_work 137 = .ok (.bipush 6, 2) := by decide +kernel
theorem dX0_work_139 : decode cX0_work 139 = .ok (.invokestatic 173, 3) := by decide +kernel
theorem dX0_work_142 : decode cX0_work 142 = .ok (.ifCond .eq 19, 3) := by decide +kernel
theorem dX0_work_145 : decode cX0_work 145 = .ok (.iload_n 1, 1) := by decide +kernel
theorem dX0_work_146 : decode cX0_work 146 = .ok (.iconst 3, 1) := by decide +kernel
theorem dX0_work_147 : decode cX0_work 147 = .ok (.if_icmp .ne 16, 3) := by decide +kernel
theorem dX0_work_150 : decode cX0_work 150 = .ok (.aload 6, 2) := by decide +kernel
theorem dX0_work_152 : decode cX0_work 152 = .ok (.getfield 110, 3) := by decide +kernel
theorem dX0_work_155 : decode cX0_work 155 = .ok (.invokevirtual 128, 3) := by decide +kernel
theorem dX0_work_158 : decode cX0_work 158 = .ok (.ifCond .eq 5, 3) := by decide +kernel
theorem dX0_work_161 : decode cX0_work 161 = .ok (.iconst (-1), 1) := by decide +kernel
theorem dX0_work_162 : decode cX0_work 162 = .ok (.ireturn, 1) := by decide +kernel
theorem dX0_work_163 : decode cX0_work 163 = .ok (.aload_n 0, 1) := by decide +kernel
theorem dX0_work_164 : decode cX0_work 164 = .ok (.getfield 330, 3) := by decide +kernel
theorem dX0_work_167 : decode cX0_work 167 = .ok (.invokevirtual 301, 3) := by decide +kernel
theorem dX0_work_170 : decode cX0_work 170 = .ok (.iload 7, 2) := by decide +kernel
theorem dX0_work_172 : decode cX0_work 172 = .ok (.ifCond .eq 30, 3) := by decide +kernel
theorem dX0_work_175 : decode cX0_work 175 = .ok (.aload_n 0, 1) := by decide +kernel
theorem dX0_work_176 : decode cX0_work 176 = .ok (.iload_n 1, 1) := by decide +kernel
theorem dX0_work_177 : decode cX0_work 177 = .ok (.aload 5, 2) := by decide +kernel
theorem dX0_work_179 : decode cX0_work 179 = .ok (.getfield 110, 3) := by decide +kernel
theorem dX0_work_182 : decode cX0_work 182 = .ok (.aload 6, 2) := by decide +kernel
theorem dX0_work_184 : decode cX0_work 184 = .ok (.getfield 110, 3) := by decide +kernel
theorem dX0_work_187 : decode cX0_work 187 = .ok (.aload_n 0, 1) := by decide +kernel
theorem dX0_work_188 : decode cX0_work 188 = .ok (.getfield 330, 3) := by decide +kernel
theorem dX0_work_191 : decode cX0_work 191 = .ok (.getfield 110, 3) := by decide +kernel
theorem dX0_work_194 : decode cX0_work 194 = .ok (.invokevirtual 120, 3) := by decide +kernel
theorem dX0_work_197 : decode cX0_work 197 = .ok (.istore 9, 2) := by decide +kernel
theorem dX0_work_199 : decode cX0_work 199 = .ok (.goto 124, 3) := by decide +kernel
theorem dX0_work_202 : decode cX0_work 202 = .ok (.iload 8, 2) := by decide +kernel
theorem dX0_work_204 : decode cX0_work 204 = .ok (.ifCond .ne 30, 3) := by decide +kernel
theorem dX0_work_207 : decode cX0_work 207 = .ok (.aload_n 0, 1) := by decide +kernel
theorem dX0_work_208 : decode cX0_work 208 = .ok (.aload 5, 2) := by decide +kernel
theorem dX0_work_210 : decode cX0_work 210 = .ok (.aload 6, 2) := by decide +kernel
theorem dX0_work_212 : decode cX0_work 212 = .ok (.iload_n 1, 1) := by decide +kernel
theorem dX0_work_213 : decode cX0_work 213 = .ok (.iconst 3, 1) := by decide +kernel
theorem dX0_work_214 : decode cX0_work 214 = .ok (.if_icmp .ne 7, 3) := by decide +kernel
theorem dX0_work_217 : decode cX0_work 217 = .ok (.iconst 1, 1) := by decide +kernel
theorem dX0_work_218 : decode cX0_work 218 = .ok (.goto 4, 3) := by decide +kernel
theorem dX0_work_221 : decode cX0_work 221 = .ok (.iconst 0, 1) := by decide +kernel
theorem dX0_work_222 : decode cX0_work 222 = .ok (.aload_n 0, 1) := by decide +kernel
theorem dX0_work_223 : decode cX0_work 223 = .ok (.getfield 330, 3) := by decide +kernel
theorem dX0_work_226 : decode cX0_work 226 = .ok (.invokevirtual 169, 3) := by decide +kernel
theorem dX0_work_229 : decode cX0_work 229 = .ok (.istore 9, 2) := by decide +kernel
theorem dX0_work_231 : decode cX0_work 231 = .ok (.goto 92, 3) := by decide +kernel
theorem dX0_work_234 : decode cX0_work 234 = .ok (.iload_n 1, 1) := by decide +kernel
theorem dX0_work_235 : decode cX0_work 235 = .ok (.iconst 4, 1) := by decide +kernel
theorem dX0_work_236 : decode cX0_work 236 = .ok (.if_icmp .ne 54, 3) := by decide +kernel
theorem dX0_work_239 : decode cX0_work 239 = .ok (.aload_n 0, 1) := by decide +kernel
theorem dX0_work_240 : decode cX0_work 240 = .ok (.getfield 46, 3) := by decide +kernel
theorem dX0_work_243 : decode cX0_work 243 = .ok (.aload 5, 2) := by decide +kernel
theorem dX0_work_245 : decode cX0_work 245 = .ok (.getfield 110, 3) := by decide +kernel
theorem dX0_work_248 : decode cX0_work 248 = .ok (.getfield 89, 3) := by decide +kernel
theorem dX0_work_251 : decode cX0_work 251 = .ok (.aload 6, 2) := by decide +kernel
theorem dX0_work_253 : decode cX0_work 253 = .ok (.getfield 110, 3) := by decide +kernel
theorem dX0_work_256 : decode cX0_work 256 = .ok (.getfield 89, 3) := by decide +kernel
theorem dX0_work_259 : decode cX0_work 259 = .ok (.aload_n 0, 1) := by decide +kernel
theorem dX0_work_260 : decode cX0_work 260 = .ok (.getfield 31, 3) := by decide +kernel
theorem dX0_work_263 : decode cX0_work 263 = .ok (.invokevirtual 53, 3) := by decide +kernel
theorem dX0_work_266 : decode cX0_work 266 = .ok (.aload_n 0, 1) := by decide +kernel
theorem dX0_work_267 : decode cX0_work 267 = .ok (.getfield 39, 3) := by decide +kernel
theorem dX0_work_270 : decode cX0_work 270 = .ok (.iconst 1, 1) := by decide +kernel
theorem dX0_work_271 : decode cX0_work 271 = .ok (.invokevirtual 42, 3) := by decide +kernel
theorem dX0_work_274 : decode cX0_work 274 = .ok (.aload_n 0, 1) := by decide +kernel
theorem dX0_work_275 : decode cX0_work 275 = .ok (.aload_n 0, 1) := by decide +kernel
theorem dX0_work_276 : decode cX0_work 276 = .ok (.getfield 330, 3) := by decide +kernel
theorem dX0_work_279 : decode cX0_work 279 = .ok (.getfield 110, 3) := by decide +kernel
theorem dX0_work_282 : decode cX0_work 282 = .ok (.invokevirtual 106, 3) := by decide +kernel
theorem dX0_work_285 : decode cX0_work 285 = .ok (.istore 9, 2) := by decide +kernel
theorem dX0_work_287 : decode cX0_work 287 = .ok (.goto 36, 3) := by decide +kernel
theorem dX0_work_290 : decode cX0_work 290 = .ok (.aload_n 0, 1) := by decide +kernel
theorem dX0_work_291 : decode cX0_work 291 = .ok (.aload 5, 2) := by decide +kernel
theorem dX0_work_293 : decode cX0_work 293 = .ok (.getfield 110, 3) := by decide +kernel
theorem dX0_work_296 : decode cX0_work 296 = .ok (.getfield 89, 3) := by decide +kernel
theorem dX0_work_299 : decode cX0_work 299 = .ok (.aload 6, 2) := by decide +kernel
theorem dX0_work_301 : decode cX0_work 301 = .ok (.getfield 110, 3) := by decide +kernel
theorem dX0_work_304 : decode cX0_work 304 = .ok (.getfield 89, 3) := by decide +kernel
theorem dX0_work_307 : decode cX0_work 307 = .ok (.iload_n 1, 1) := by decide +kernel
theorem dX0_work_308 : decode cX0_work 308 = .ok (.bipush 6, 2) := by decide +kernel
theorem dX0_work_310 : decode cX0_work 310 = .ok (.if_icmp .ne 7, 3) := by decide +kernel
theorem dX0_work_313 : decode cX0_work 313 = .ok (.iconst 1, 1) := by decide +kernel
theorem dX0_work_314 : decode cX0_work 314 = .ok (.goto 4, 3) := by decide +kernel
theorem dX0_work_317 : decode cX0_work 317 = .ok (.iconst 0, 1) := by decide +kernel
theorem dX0_work_318 : decode cX0_work 318 = .ok (.invokevirtual 902, 3) := by decide +kernel
theorem dX0_work_321 : decode cX0_work 321 = .ok (.istore 9, 2) := by decide +kernel
theorem dX0_work_323 : decode cX0_work 323 = .ok (.iload 9, 2) := by decide +kernel
theorem dX0_work_325 : decode cX0_work 325 = .ok (.ifCond .eq 16, 3) := by decide +kernel
theorem dX0_work_328 : decode cX0_work 328 = .ok (.aload_n 0, 1) := by decide +kernel
theorem dX0_work_329 : decode cX0_work 329 = .ok (.aload_n 0, 1) := by decide +kernel
theorem dX0_work_330 : decode cX0_work 330 = .ok (.getfield 330, 3) := by decide +kernel
theorem dX0_work_333 : decode cX0_work 333 = .ok (.iload 4, 2) := by decide +kernel
theorem dX0_work_335 : decode cX0_work 335 = .ok (.invokevirtual 515, 3) := by decide +kernel
theorem dX0_work_338 : decode cX0_work 338 = .ok (.goto 5, 3) := by decide +kernel
theorem dX0_work_341 : decode cX0_work 341 = .ok (.bipush (-2), 2) := by decide +kernel
theorem dX0_work_343 : decode cX0_work 343 = .ok (.ireturn, 1) := by decide +kernel
theorem dX0_isPlainPolynomial_0 : decode cX0_isPlainPolynomial 0 = .ok (.aload_n 0, 1) := by decide +kernel
theorem dX0_isPlainPolynomial_1 : decode cX0_isPlainPolynomial 1 = .ok (.invokevirtual 177, 3) := by decide +kernel
theorem dX0_isPlainPolynomial_4 : decode cX0_isPlainPolynomial 4 = .ok (.ifCond .ne 17, 3) := by decide +kernel
theorem dX0_isPlainPolynomial_7 : decode cX0_isPlainPolynomial 7 = .ok (.aload_n 0, 1) := by decide +kernel
theorem dX0_isPlainPolynomial_8 : decode cX0_isPlainPolynomial 8 = .ok (.getfield 110, 3) := by decide +kernel
theorem dX0_isPlainPolynomial_11 : decode cX0_isPlainPolynomial 11 = .ok (.invokevirtual 180, 3) := by decide +kernel
theorem dX0_isPlainPolynomial_14 : decode cX0_isPlainPolynomial 14 = .ok (.ifCond .eq 7, 3) := by decide +kernel
theorem dX0_isPlainPolynomial_17 : decode cX0_isPlainPolynomial 17 = .ok (.iconst 1, 1) := by decide +kernel
theorem dX0_isPlainPolynomial_18 : decode cX0_isPlainPolynomial 18 = .ok (.goto 4, 3) := by decide +kernel
theorem dX0_isPlainPolynomial_21 : decode cX0_isPlainPolynomial 21 = .ok (.iconst 0, 1) := by decide +kernel
theorem dX0_isPlainPolynomial_22 : decode cX0_isPlainPolynomial 22 = .ok (.ireturn, 1) := by decide +kernel
theorem dX0_resultant_0 : decode cX0_resultant 0 = .ok (.aload_n 1, 1) := by decide +kernel
theorem dX0_resultant_1 : decode cX0_resultant 1 = .ok (.invokevirtual 35, 3) := by decide +kernel
theorem dX0_resultant_4 : decode cX0_resultant 4 = .ok (.ifCond .ne 10, 3) := by decide +kernel
theorem dX0_resultant_7 : decode cX0_resultant 7 = .ok (.aload_n 2, 1) := by decide +kernel
theorem dX0_resultant_8 : decode cX0_resultant 8 = .ok (.invokevirtual 35, 3) := by decide +kernel
theorem dX0_resultant_11 : decode cX0_resultant 11 = .ok (.ifCond .eq 13, 3) := by decide +kernel
theorem dX0_resultant_14 : decode cX0_resultant 14 = .ok (.aload_n 0, 1) := by decide +kernel
theorem dX0_resultant_15 : decode cX0_resultant 15 = .ok (.getfield 330, 3) := by decide +kernel
theorem dX0_resultant_18 : decode cX0_resultant 18 = .ok (.iconst 0, 1) := by decide +kernel
theorem dX0_resultant_19 : decode cX0_resultant 19 = .ok (.invokevirtual 129, 3) := by decide +kernel
theorem dX0_resultant_22 : decode cX0_resultant 22 = .ok (.iconst 1, 1) := by decide +kernel
theorem dX0_resultant_23 : decode cX0_resultant 23 = .ok (.ireturn, 1) := by decide +kernel
theorem dX0_resultant_24 : decode cX0_resultant 24 = .ok (.iload_n 3, 1) := by decide +kernel
theorem dX0_resultant_25 : decode cX0_resultant 25 = .ok (.ifCond .eq 22, 3) := by decide +kernel
theorem dX0_resultant_28 : decode cX0_resultant 28 = .ok (.aload_n 0, 1) := by decide +kernel
theorem dX0_resultant_29 : decode cX0_resultant 29 = .ok (.getfield 342, 3) := by decide +kernel
theorem dX0_resultant_32 : decode cX0_resultant 32 = .ok (.aload_n 1, 1) := by decide +kernel
theorem dX0_resultant_33 : decode cX0_resultant 33 = .ok (.invokevirtual 906, 3) := by decide +kernel
theorem dX0_resultant_36 : decode cX0_resultant 36 = .ok (.aload_n 0, 1) := by decide +kernel
theorem dX0_resultant_37 : decode cX0_resultant 37 = .ok (.getfield 345, 3) := by decide +kernel
theorem dX0_resultant_40 : decode cX0_resultant 40 = .ok (.aload_n 2, 1) := by decide +kernel
theorem dX0_resultant_41 : decode cX0_resultant 41 = .ok (.invokevirtual 906, 3) := by decide +kernel
theorem dX0_resultant_44 : decode cX0_resultant 44 = .ok (.goto 19, 3) := by decide +kernel
theorem dX0_resultant_47 : decode cX0_resultant 47 = .ok (.aload_n 0, 1) := by decide +kernel
theorem dX0_resultant_48 : decode cX0_resultant 48 = .ok (.getfield 342, 3) := by decide +kernel
theorem dX0_resultant_51 : decode cX0_resultant 51 = .ok (.aload_n 1, 1) := by decide +kernel
theorem dX0_resultant_52 : decode cX0_resultant 52 = .ok (.invokevirtual 66, 3) := by decide +kernel
theorem dX0_resultant_55 : decode cX0_resultant 55 = .ok (.aload_n 0, 1) := by decide +kernel
theorem dX0_resultant_56 : decode cX0_resultant 56 = .ok (.getfield 345, 3) := by decide +kernel
theorem dX0_resultant_59 : decode cX0_resultant 59 = .ok (.aload_n 2, 1) := by decide +kernel
theorem dX0_resultant_60 : decode cX0_resultant 60 = .ok (.invokevirtual 66, 3) := by decide +kernel
theorem dX0_resultant_63 : decode cX0_resultant 63 = .ok (.aload_n 0, 1) := by decide +kernel
theorem dX0_resultant_64 : decode cX0_resultant 64 = .ok (.getfield 342, 3) := by decide +kernel
theorem dX0_resultant_67 : decode cX0_resultant 67 = .ok (.invokevirtual 572, 3) := by decide +kernel
theorem dX0_resultant_70 : decode cX0_resultant 70 = .ok (.istore 4, 2) := by decide +kernel
theorem dX0_resultant_72 : decode cX0_resultant 72 = .ok (.aload_n 0, 1) := by decide +kernel
theorem dX0_resultant_73 : decode cX0_resultant 73 = .ok (.getfield 345, 3) := by decide +kernel
theorem dX0_resultant_76 : decode cX0_resultant 76 = .ok (.invokevirtual 572, 3) := by decide +kernel
theorem dX0_resultant_79 : decode cX0_resultant 79 = .ok (.istore 5, 2) := by decide +kernel
theorem dX0_resultant_81 : decode cX0_resultant 81 = .ok (.aload_n 0, 1) := by decide +kernel
theorem dX0_resultant_82 : decode cX0_resultant 82 = .ok (.getfield 342, 3) := by decide +kernel
theorem dX0_resultant_85 : decode cX0_resultant 85 = .ok (.invokevirtual 569, 3) := by decide +kernel
theorem dX0_resultant_88 : decode cX0_resultant 88 = .ok (.iload 5, 2) := by decide +kernel
theorem dX0_resultant_90 : decode cX0_resultant 90 = .ok (.imul, 1) := by decide +kernel
theorem dX0_resultant_91 : decode cX0_resultant 91 = .ok (.aload_n 0, 1) := by decide +kernel
theorem dX0_resultant_92 : decode cX0_resultant 92 = .ok (.getfield 345, 3) := by decide +kernel
theorem dX0_resultant_95 : decode cX0_resultant 95 = .ok (.invokevirtual 569, 3) := by decide +kernel
theorem dX0_resultant_98 : decode cX0_resultant 98 = .ok (.iload 4, 2) := by decide +kernel
theorem dX0_resultant_100 : decode cX0_resultant 100 = .ok (.imul, 1) := by decide +kernel
theorem dX0_resultant_101 : decode cX0_resultant 101 = .ok (.iadd, 1) := by decide +kernel
theorem dX0_resultant_102 : decode cX0_resultant 102 = .ok (.iconst 1, 1) := by decide +kernel
theorem dX0_resultant_103 : decode cX0_resultant 103 = .ok (.iadd, 1) := by decide +kernel
theorem dX0_resultant_104 : decode cX0_resultant 104 = .ok (.istore 6, 2) := by decide +kernel
theorem dX0_resultant_106 : decode cX0_resultant 106 = .ok (.iconst 0, 1) := by decide +kernel
theorem dX0_resultant_107 : decode cX0_resultant 107 = .ok (.istore 7, 2) := by decide +kernel
theorem dX0_resultant_109 : decode cX0_resultant 109 = .ok (.iconst 0, 1) := by decide +kernel
theorem dX0_resultant_110 : decode cX0_resultant 110 = .ok (.istore 8, 2) := by decide +kernel
theorem dX0_resultant_112 : decode cX0_resultant 112 = .ok (.iload 7, 2) := by decide +kernel
theorem dX0_resultant_114 : decode cX0_resultant 114 = .ok (.iload 6, 2) := by decide +kernel
theorem dX0_resultant_116 : decode cX0_resultant 116 = .ok (.if_icmp .ge 86, 3) := by decide +kernel
theorem dX0_resultant_119 : decode cX0_resultant 119 = .ok (.aload_n 0, 1) := by decide +kernel
theorem dX0_resultant_120 : decode cX0_resultant 120 = .ok (.getfield 342, 3) := by decide +kernel
theorem dX0_resultant_123 : decode cX0_resultant 123 = .ok (.iload 8, 2) := by decide +kernel
theorem dX0_resultant_125 : decode cX0_resultant 125 = .ok (.aload_n 0, 1) := by decide +kernel
theorem dX0_resultant_126 : decode cX0_resultant 126 = .ok (.getfield 361, 3) := by decide +kernel
theorem dX0_resultant_129 : decode cX0_resultant 129 = .ok (.invokevirtual 632, 3) := by decide +kernel
theorem dX0_resultant_132 : decode cX0_resultant 132 = .ok (.aload_n 0, 1) := by decide +kernel
theorem dX0_resultant_133 : decode cX0_resultant 133 = .ok (.getfield 345, 3) := by decide +kernel
theorem dX0_resultant_136 : decode cX0_resultant 136 = .ok (.iload 8, 2) := by decide +kernel
theorem dX0_resultant_138 : decode cX0_resultant 138 = .ok (.aload_n 0, 1) := by decide +kernel
theorem dX0_resultant_139 : decode cX0_resultant 139 = .ok (.getfield 365, 3) := by decide +kernel
theorem dX0_resultant_142 : decode cX0_resultant 142 = .ok (.invokevirtual 632, 3) := by decide +kernel
theorem dX0_resultant_145 : decode cX0_resultant 145 = .ok (.aload_n 0, 1) := by decide +kernel
theorem dX0_resultant_146 : decode cX0_resultant 146 = .ok (.getfield 361, 3) := by decide +kernel
theorem dX0_resultant_149 : decode cX0_resultant 149 = .ok (.getfield 636, 3) := by decide +kernel
theorem dX0_resultant_152 : decode cX0_resultant 152 = .ok (.iload 4, 2) := by decide +kernel
theorem dX0_resultant_154 : decode cX0_resultant 154 = .ok (.iconst 1, 1) := by decide +kernel
theorem dX0_resultant_155 : decode cX0_resultant 155 = .ok (.iadd, 1) := by decide +kernel
theorem dX0_resultant_156 : decode cX0_resultant 156 = .ok (.if_icmp .ne 40, 3) := by decide +kernel
theorem dX0_resultant_159 : decode cX0_resultant 159 = .ok (.aload_n 0, 1) := by decide +kernel
theorem dX0_resultant_160 : decode cX0_resultant 160 = .ok (.getfield 365, 3) := by decide +kernel
theorem dX0_resultant_163 : decode cX0_resultant 163 = .ok (.getfield 636, 3) := by decide +kernel
theorem dX0_resultant_166 : decode cX0_resultant 166 = .ok (.iload 5, 2) := by decide +kernel
theorem dX0_resultant_168 : decode cX0_resultant 168 = .ok (.iconst 1, 1) := by decide +kernel
theorem dX0_resultant_169 : decode cX0_resultant 169 = .ok (.iadd, 1) := by decide +kernel
theorem dX0_resultant_170 : decode cX0_resultant 170 = .ok (.if_icmp .ne 26, 3) := by decide +kernel
theorem dX0_resultant_173 : decode cX0_resultant 173 = .ok (.aload_n 0, 1) := by decide +kernel
theorem dX0_resultant_174 : decode cX0_resultant 174 = .ok (.getfield 502, 3) := by decide +kernel
theorem dX0_resultant_177 : decode cX0_resultant 177 = .ok (.iload 7, 2) := by decide +kernel
theorem dX0_resultant_179 : decode cX0_resultant 179 = .ok (.iload 8, 2) := by decide +kernel
theorem dX0_resultant_181 : decode cX0_resultant 181 = .ok (.iastore, 1) := by decide +kernel
theorem dX0_resultant_182 : decode cX0_resultant 182 = .ok (.aload_n 0, 1) := by decide +kernel
theorem dX0_resultant_183 : decode cX0_resultant 183 = .ok (.getfield 505, 3) := by decide +kernel
theorem dX0_resultant_186 : decode cX0_resultant 186 = .ok (.iload 7, 2) := by decide +kernel
theorem dX0_resultant_188 : decode cX0_resultant 188 = .ok (.aload_n 0, 1) := by decide +kernel
theorem dX0_resultant_189 : decode cX0_resultant 189 = .ok (.invokevirtual 909, 3) := by decide +kernel
theorem dX0_resultant_192 : decode cX0_resultant 192 = .ok (.iastore, 1) := by decide +kernel
theorem dX0_resultant_193 : decode cX0_resultant 193 = .ok (.iinc 7 1, 3) := by decide +kernel
theorem dX0_resultant_196 : decode cX0_resultant 196 = .ok (.iinc 8 1, 3) := by decide +kernel
theorem dX0_resultant_199 : decode cX0_resultant 199 = .ok (.goto (-87), 3) := by decide +kernel
theorem dX0_resultant_202 : decode cX0_resultant 202 = .ok (.aload_n 0, 1) := by decide +kernel
theorem dX0_resultant_203 : decode cX0_resultant 203 = .ok (.getfield 46, 3) := by decide +kernel
theorem dX0_resultant_206 : decode cX0_resultant 206 = .ok (.aload_n 0, 1) := by decide +kernel
theorem dX0_resultant_207 : decode cX0_resultant 207 = .ok (.getfield 502, 3) := by decide +kernel
theorem dX0_resultant_210 : decode cX0_resultant 210 = .ok (.aload_n 0, 1) := by decide +kernel
theorem dX0_resultant_211 : decode cX0_resultant 211 = .ok (.getfield 505, 3) := by decide +kernel
theorem dX0_resultant_214 : decode cX0_resultant 214 = .ok (.iload 7, 2) := by decide +kernel
theorem dX0_resultant_216 : decode cX0_resultant 216 = .ok (.aload_n 0, 1) := by decide +kernel
theorem dX0_resultant_217 : decode cX0_resultant 217 = .ok (.getfield 411, 3) := by decide +kernel
theorem dX0_resultant_220 : decode cX0_resultant 220 = .ok (.invokevirtual 912, 3) := by decide +kernel
theorem dX0_resultant_223 : decode cX0_resultant 223 = .ok (.aload_n 0, 1) := by decide +kernel
theorem dX0_resultant_224 : decode cX0_resultant 224 = .ok (.getfield 411, 3) := by decide +kernel
theorem dX0_resultant_227 : decode cX0_resultant 227 = .ok (.getfield 636, 3) := by decide +kernel
theorem dX0_resultant_230 : decode cX0_resultant 230 = .ok (.iload_n 3, 1) := by decide +kernel
theorem dX0_resultant_231 : decode cX0_resultant 231 = .ok (.ifCond .eq 8, 3) := by decide +kernel
theorem dX0_resultant_234 : decode cX0_resultant 234 = .ok (.bipush 12, 2) := by decide +kernel
theorem dX0_resultant_236 : decode cX0_resultant 236 = .ok (.goto 5, 3) := by decide +kernel
theorem dX0_resultant_239 : decode cX0_resultant 239 = .ok (.bipush 24, 2) := by decide +kernel
theorem dX0_resultant_241 : decode cX0_resultant 241 = .ok (.iconst 1, 1) := by decide +kernel
theorem dX0_resultant_242 : decode cX0_resultant 242 = .ok (.iadd, 1) := by decide +kernel
theorem dX0_resultant_243 : decode cX0_resultant 243 = .ok (.if_icmp .le 5, 3) := by decide +kernel
theorem dX0_resultant_246 : decode cX0_resultant 246 = .ok (.iconst 0, 1) := by decide +kernel
theorem dX0_resultant_247 : decode cX0_resultant 247 = .ok (.ireturn, 1) := by decide +kernel
theorem dX0_resultant_248 : decode cX0_resultant 248 = .ok (.aload_n 0, 1) := by decide +kernel
theorem dX0_resultant_249 : decode cX0_resultant 249 = .ok (.getfield 330, 3) := by decide +kernel
theorem dX0_resultant_252 : decode cX0_resultant 252 = .ok (.invokevirtual 301, 3) := by decide +kernel
theorem dX0_resultant_255 : decode cX0_resultant 255 = .ok (.aload_n 0, 1) := by decide +kernel
theorem dX0_resultant_256 : decode cX0_resultant 256 = .ok (.getfield 330, 3) := by decide +kernel
theorem dX0_resultant_259 : decode cX0_resultant 259 = .ok (.getfield 110, 3) := by decide +kernel
theorem dX0_resultant_262 : decode cX0_resultant 262 = .ok (.getfield 94, 3) := by decide +kernel
theorem dX0_resultant_265 : decode cX0_resultant 265 = .ok (.iconst 1, 1) := by decide +kernel
theorem dX0_resultant_266 : decode cX0_resultant 266 = .ok (.invokevirtual 42, 3) := by decide +kernel
theorem dX0_resultant_269 : decode cX0_resultant 269 = .ok (.aload_n 0, 1) := by decide +kernel
theorem dX0_resultant_270 : decode cX0_resultant 270 = .ok (.getfield 330, 3) := by decide +kernel
theorem dX0_resultant_273 : decode cX0_resultant 273 = .ok (.getfield 110, 3) := by decide +kernel
theorem dX0_resultant_276 : decode cX0_resultant 276 = .ok (.getfield 89, 3) := by decide +kernel
theorem dX0_resultant_279 : decode cX0_resultant 279 = .ok (.iload_n 3, 1) := by decide +kernel
theorem dX0_resultant_280 : decode cX0_resultant 280 = .ok (.ifCond .eq 7, 3) := by decide +kernel
theorem dX0_resultant_283 : decode cX0_resultant 283 = .ok (.iconst 1, 1) := by decide +kernel
theorem dX0_resultant_284 : decode cX0_resultant 284 = .ok (.goto 10, 3) := by decide +kernel
theorem dX0_resultant_287 : decode cX0_resultant 287 = .ok (.aload_n 0, 1) := by decide +kernel
theorem dX0_resultant_288 : decode cX0_resultant 288 = .ok (.getfield 411, 3) := by decide +kernel
theorem dX0_resultant_291 : decode cX0_resultant 291 = .ok (.getfield 636, 3) := by decide +kernel
theorem dX0_resultant_294 : decode cX0_resultant 294 = .ok (.iload_n 3, 1) := by decide +kernel
theorem dX0_resultant_295 : decode cX0_resultant 295 = .ok (.ifCond .eq 13, 3) := by decide +kernel
theorem dX0_resultant_298 : decode cX0_resultant 298 = .ok (.aload_n 0, 1) := by decide +kernel
theorem dX0_resultant_299 : decode cX0_resultant 299 = .ok (.getfield 411, 3) := by decide +kernel
theorem dX0_resultant_302 : decode cX0_resultant 302 = .ok (.getfield 636, 3) := by decide +kernel
theorem dX0_resultant_305 : decode cX0_resultant 305 = .ok (.goto 4, 3) := by decide +kernel
theorem dX0_resultant_308 : decode cX0_resultant 308 = .ok (.iconst 1, 1) := by decide +kernel
theorem dX0_resultant_309 : decode cX0_resultant 309 = .ok (.invokevirtual 304, 3) := by decide +kernel
theorem dX0_resultant_312 : decode cX0_resultant 312 = .ok (.iconst 0, 1) := by decide +kernel
theorem dX0_resultant_313 : decode cX0_resultant 313 = .ok (.istore 8, 2) := by decide +kernel
theorem dX0_resultant_315 : decode cX0_resultant 315 = .ok (.iload 8, 2) := by decide +kernel
theorem dX0_resultant_317 : decode cX0_resultant 317 = .ok (.aload_n 0, 1) := by decide +kernel
theorem dX0_resultant_318 : decode cX0_resultant 318 = .ok (.getfield 411, 3) := by decide +kernel
theorem dX0_resultant_321 : decode cX0_resultant 321 = .ok (.getfield 636, 3) := by decide +kernel
theorem dX0_resultant_324 : decode cX0_resultant 324 = .ok (.if_icmp .ge 47, 3) := by decide +kernel
theorem dX0_resultant_327 : decode cX0_resultant 327 = .ok (.aload_n 0, 1) := by decide +kernel
theorem dX0_resultant_328 : decode cX0_resultant 328 = .ok (.getfield 330, 3) := by decide +kernel
theorem dX0_resultant_331 : decode cX0_resultant 331 = .ok (.getfield 110, 3) := by decide +kernel
theorem dX0_resultant_334 : decode cX0_resultant 334 = .ok (.getfield 89, 3) := by decide +kernel
theorem dX0_resultant_337 : decode cX0_resultant 337 = .ok (.getfield 288, 3) := by decide +kernel
theorem dX0_resultant_340 : decode cX0_resultant 340 = .ok (.iload_n 3, 1) := by decide +kernel
theorem dX0_resultant_341 : decode cX0_resultant 341 = .ok (.ifCond .eq 11, 3) := by decide +kernel
theorem dX0_resultant_344 : decode cX0_resultant 344 = .ok (.iload 8, 2) := by decide +kernel
theorem dX0_resultant_346 : decode cX0_resultant 346 = .ok (.bipush 25, 2) := by decide +kernel
theorem dX0_resultant_348 : decode cX0_resultant 348 = .ok (.imul, 1) := by decide +kernel
theorem dX0_resultant_349 : decode cX0_resultant 349 = .ok (.goto 5, 3) := by decide +kernel
theorem dX0_resultant_352 : decode cX0_resultant 352 = .ok (.iload 8, 2) := by decide +kernel
theorem dX0_resultant_354 : decode cX0_resultant 354 = .ok (.aload_n 0, 1) := by decide +kernel
theorem dX0_resultant_355 : decode cX0_resultant 355 = .ok (.getfield 411, 3) := by decide +kernel
theorem dX0_resultant_358 : decode cX0_resultant 358 = .ok (.getfield 889, 3) := by decide +kernel
theorem dX0_resultant_361 : decode cX0_resultant 361 = .ok (.iload 8, 2) := by decide +kernel
theorem dX0_resultant_363 : decode cX0_resultant 363 = .ok (.iaload, 1) := by decide +kernel
theorem dX0_resultant_364 : decode cX0_resultant 364 = .ok (.iastore, 1) := by decide +kernel
theorem dX0_resultant_365 : decode cX0_resultant 365 = .ok (.iinc 8 1, 3) := by decide +kernel
theorem dX0_resultant_368 : decode cX0_resultant 368 = .ok (.goto (-53), 3) := by decide +kernel
theorem dX0_resultant_371 : decode cX0_resultant 371 = .ok (.aload_n 0, 1) := by decide +kernel
theorem dX0_resultant_372 : decode cX0_resultant 372 = .ok (.getfield 330, 3) := by decide +kernel
theorem dX0_resultant_375 : decode cX0_resultant 375 = .ok (.getfield 110, 3) := by decide +kernel
theorem dX0_resultant_378 : decode cX0_resultant 378 = .ok (.getfield 89, 3) := by decide +kernel
theorem dX0_resultant_381 : decode cX0_resultant 381 = .ok (.invokevirtual 611, 3) := by decide +kernel
theorem dX0_resultant_384 : decode cX0_resultant 384 = .ok (.iconst 1, 1) := by decide +kernel
theorem dX0_resultant_385 : decode cX0_resultant 385 = .ok (.ireturn, 1) := by decide +kernel
theorem dX0_resultantOf_0 : decode cX0_resultantOf 0 = .ok (.iconst 1, 1) := by decide +kernel
theorem dX0_resultantOf_1 : decode cX0_resultantOf 1 = .ok (.istore_n 1, 1) := by decide +kernel
theorem dX0_resultantOf_2 : decode cX0_resultantOf 2 = .ok (.aload_n 0, 1) := by decide +kernel
theorem dX0_resultantOf_3 : decode cX0_resultantOf 3 = .ok (.getfield 365, 3) := by decide +kernel
theorem dX0_resultantOf_6 : decode cX0_resultantOf 6 = .ok (.getfield 636, 3) := by decide +kernel
theorem dX0_resultantOf_9 : decode cX0_resultantOf 9 = .ok (.iconst 1, 1) := by decide +kernel
theorem dX0_resultantOf_10 : decode cX0_resultantOf 10 = .ok (.if_icmp .le 128, 3) := by decide +kernel
theorem dX0_resultantOf_13 : decode cX0_resultantOf 13 = .ok (.aload_n 0, 1) := by decide +kernel
theorem dX0_resultantOf_14 : decode cX0_resultantOf 14 = .ok (.getfield 361, 3) := by decide +kernel
theorem dX0_resultantOf_17 : decode cX0_resultantOf 17 = .ok (.invokevirtual 826, 3) := by decide +kernel
theorem dX0_resultantOf_20 : decode cX0_resultantOf 20 = .ok (.istore_n 2, 1) := by decide +kernel
theorem dX0_resultantOf_21 : decode cX0_resultantOf 21 = .ok (.aload_n 0, 1) := by decide +kernel
theorem dX0_resultantOf_22 : decode cX0_resultantOf 22 = .ok (.getfield 365, 3) := by decide +kernel
theorem dX0_resultantOf_25 : decode cX0_resultantOf 25 = .ok (.invokevirtual 826, 3) := by decide +kernel
theorem dX0_resultantOf_28 : decode cX0_resultantOf 28 = .ok (.istore_n 3, 1) := by decide +kernel
theorem dX0_resultantOf_29 : decode cX0_resultantOf 29 = .ok (.aload_n 0, 1) := by decide +kernel
theorem dX0_resultantOf_30 : decode cX0_resultantOf 30 = .ok (.getfield 361, 3) := by decide +kernel
theorem dX0_resultantOf_33 : decode cX0_resultantOf 33 = .ok (.aload_n 0, 1) := by decide +kernel
theorem dX0_resultantOf_34 : decode cX0_resultantOf 34 = .ok (.getfield 365, 3) := by decide +kernel
theorem dX0_resultantOf_37 : decode cX0_resultantOf 37 = .ok (.aconst_null, 1) := by decide +kernel
theorem dX0_resultantOf_38 : decode cX0_resultantOf 38 = .ok (.invokevirtual 867, 3) := by decide +kernel
theorem dX0_resultantOf_41 : decode cX0_resultantOf 41 = .ok (.aload_n 0, 1) := by decide +kernel
theorem dX0_resultantOf_42 : decode cX0_resultantOf 42 = .ok (.getfield 361, 3) := by decide +kernel
theorem dX0_resultantOf_45 : decode cX0_resultantOf 45 = .ok (.invokevirtual 692, 3) := by decide +kernel
theorem dX0_resultantOf_48 : decode cX0_resultantOf 48 = .ok (.ifCond .eq 5, 3) := by decide +kernel
theorem dX0_resultantOf_51 : decode cX0_resultantOf 51 = .ok (.iconst 0, 1) := by decide +kernel
theorem dX0_resultantOf_52 : decode cX0_resultantOf 52 = .ok (.ireturn, 1) := by decide +kernel
theorem dX0_resultantOf_53 : decode cX0_resultantOf 53 = .ok (.iload_n 1, 1) := by decide +kernel
theorem dX0_resultantOf_54 : decode cX0_resultantOf 54 = .ok (.aload_n 0, 1) := by decide +kernel
theorem dX0_resultantOf_55 : decode cX0_resultantOf 55 = .ok (.getfield 365, 3) := by decide +kernel
theorem dX0_resultantOf_58 : decode cX0_resultantOf 58 = .ok (.invokevirtual 693, 3) := by decide +kernel
theorem dX0_resultantOf_61 : decode cX0_resultantOf 61 = .ok (.iload_n 2, 1) := by decide +kernel
theorem dX0_resultantOf_62 : decode cX0_resultantOf 62 = .ok (.aload_n 0, 1) := by decide +kernel
theorem dX0_resultantOf_63 : decode cX0_resultantOf 63 = .ok (.getfield 361, 3) := by decide +kernel
theorem dX0_resultantOf_66 : decode cX0_resultantOf 66 = .ok (.invokevirtual 826, 3) := by decide +kernel
theorem dX0_resultantOf_69 : decode cX0_resultantOf 69 = .ok (.isub, 1) := by decide +kernel
theorem dX0_resultantOf_70 : decode cX0_resultantOf 70 = .ok (.i2l, 1) := by decide +kernel
theorem dX0_resultantOf_71 : decode cX0_resultantOf 71 = .ok (.invokestatic 12, 3) := by decide +kernel
theorem dX0_resultantOf_74 : decode cX0_resultantOf 74 = .ok (.invokestatic 6, 3) := by decide +kernel
theorem dX0_resultantOf_77 : decode cX0_resultantOf 77 = .ok (.istore_n 1, 1) := by decide +kernel
theorem dX0_resultantOf_78 : decode cX0_resultantOf 78 = .ok (.iload_n 2, 1) := by decide +kernel
theorem dX0_resultantOf_79 : decode cX0_resultantOf 79 = .ok (.iconst 2, 1) := by decide +kernel
theorem dX0_resultantOf_80 : decode cX0_resultantOf 80 = .ok (.irem, 1) := by decide +kernel
theorem dX0_resultantOf_81 : decode cX0_resultantOf 81 = .ok (.iconst 1, 1) := by decide +kernel
theorem dX0_resultantOf_82 : decode cX0_resultantOf 82 = .ok (.if_icmp .ne 18, 3) := by decide +kernel
theorem dX0_resultantOf_85 : decode cX0_resultantOf 85 = .ok (.iload_n 3, 1) := by decide +kernel
theorem dX0_resultantOf_86 : decode cX0_resultantOf 86 = .ok (.iconst 2, 1) := by decide +kernel
theorem dX0_resultantOf_87 : decode cX0_resultantOf 87 = .ok (.irem, 1) := by decide +kernel
theorem dX0_resultantOf_88 : decode cX0_resultantOf 88 = .ok (.iconst 1, 1) := by decide +kernel
theorem dX0_resultantOf_89 : decode cX0_resultantOf 89 = .ok (.if_icmp .ne 11, 3) := by decide +kernel
theorem dX0_resultantOf_92 : decode cX0_resultantOf 92 = .ok (.iconst 0, 1) := by decide +kernel
theorem dX0_resultantOf_93 : decode cX0_resultantOf 93 = .ok (.iload_n 1, 1) := by decide +kernel
theorem dX0_resultantOf_94 : decode cX0_resultantOf 94 = .ok (.invokestatic 784, 3) := by decide +kernel
theorem dX0_resultantOf_97 : decode cX0_resultantOf 97 = .ok (.goto 4, 3) := by decide +kernel
theorem dX0_resultantOf_100 : decode cX0_resultantOf 100 = .ok (.iload_n 1, 1) := by decide +kernel
theorem dX0_resultantOf_101 : decode cX0_resultantOf 101 = .ok (.istore_n 1, 1) := by decide +kernel
theorem dX0_resultantOf_102 : decode cX0_resultantOf 102 = .ok (.aload_n 0, 1) := by decide +kernel
theorem dX0_resultantOf_103 : decode cX0_resultantOf 103 = .ok (.getfield 406, 3) := by decide +kernel
theorem dX0_resultantOf_106 : decode cX0_resultantOf 106 = .ok (.aload_n 0, 1) := by decide +kernel
theorem dX0_resultantOf_107 : decode cX0_resultantOf 107 = .ok (.getfield 361, 3) := by decide +kernel
theorem dX0_resultantOf_110 : decode cX0_resultantOf 110 = .ok (.invokevirtual 686, 3) := by decide +kernel
theorem dX0_resultantOf_113 : decode cX0_resultantOf 113 = .ok (.aload_n 0, 1) := by decide +kernel
theorem dX0_resultantOf_114 : decode cX0_resultantOf 114 = .ok (.getfield 361, 3) := by decide +kernel
theorem dX0_resultantOf_117 : decode cX0_resultantOf 117 = .ok (.aload_n 0, 1) := by decide +kernel
theorem dX0_resultantOf_118 : decode cX0_resultantOf 118 = .ok (.getfield 365, 3) := by decide +kernel
theorem dX0_resultantOf_121 : decode cX0_resultantOf 121 = .ok (.invokevirtual 686, 3) := by decide +kernel
theorem dX0_resultantOf_124 : decode cX0_resultantOf 124 = .ok (.aload_n 0, 1) := by decide +kernel
theorem dX0_resultantOf_125 : decode cX0_resultantOf 125 = .ok (.getfield 365, 3) := by decide +kernel
theorem dX0_resultantOf_128 : decode cX0_resultantOf 128 = .ok (.aload_n 0, 1) := by decide +kernel
theorem dX0_resultantOf_129 : decode cX0_resultantOf 129 = .ok (.getfield 406, 3) := by decide +kernel
theorem dX0_resultantOf_132 : decode cX0_resultantOf 132 = .ok (.invokevirtual 686, 3) := by decide +kernel
theorem dX0_resultantOf_135 : decode cX0_resultantOf 135 = .ok (.goto (-133), 3) := by decide +kernel
theorem dX0_resultantOf_138 : decode cX0_resultantOf 138 = .ok (.iload_n 1, 1) := by decide +kernel
theorem dX0_resultantOf_139 : decode cX0_resultantOf 139 = .ok (.aload_n 0, 1) := by decide +kernel
theorem dX0_resultantOf_140 : decode cX0_resultantOf 140 = .ok (.getfield 365, 3) := by decide +kernel
theorem dX0_resultantOf_143 : decode cX0_resultantOf 143 = .ok (.invokevirtual 693, 3) := by decide +kernel
theorem dX0_resultantOf_146 : decode cX0_resultantOf 146 = .ok (.aload_n 0, 1) := by decide +kernel
theorem dX0_resultantOf_147 : decode cX0_resultantOf 147 = .ok (.getfield 361, 3) := by decide +kernel
theorem dX0_resultantOf_150 : decode cX0_resultantOf 150 = .ok (.invokevirtual 826, 3) := by decide +kernel
theorem dX0_resultantOf_153 : decode cX0_resultantOf 153 = .ok (.i2l, 1) := by decide +kernel
theorem dX0_resultantOf_154 : decode cX0_resultantOf 154 = .ok (.invokestatic 12, 3) := by decide +kernel
theorem dX0_resultantOf_157 : decode cX0_resultantOf 157 = .ok (.invokestatic 6, 3) := by decide +kernel
theorem dX0_resultantOf_160 : decode cX0_resultantOf 160 = .ok (.ireturn, 1) := by decide +kernel
theorem dX0_change_0 : decode cX0_change 0 = .ok (.iload_n 2, 1) := by decide +kernel
theorem dX0_change_1 : decode cX0_change 1 = .ok (.invokestatic 519, 3) := by decide +kernel
theorem dX0_change_4 : decode cX0_change 4 = .ok (.ifCond .eq 11, 3) := by decide +kernel
theorem dX0_change_7 : decode cX0_change 7 = .ok (.iload 4, 2) := by decide +kernel
theorem dX0_change_9 : decode cX0_change 9 = .ok (.invokestatic 519, 3) := by decide +kernel
theorem dX0_change_12 : decode cX0_change 12 = .ok (.ifCond .ne 5, 3) := by decide +kernel
theorem dX0_change_15 : decode cX0_change 15 = .ok (.iconst (-1), 1) := by decide +kernel
theorem dX0_change_16 : decode cX0_change 16 = .ok (.ireturn, 1) := by decide +kernel
theorem dX0_change_17 : decode cX0_change 17 = .ok (.iload_n 1, 1) := by decide +kernel
theorem dX0_change_18 : decode cX0_change 18 = .ok (.bipush 10, 2) := by decide +kernel
theorem dX0_change_20 : decode cX0_change 20 = .ok (.if_icmp .ne 25, 3) := by decide +kernel
theorem dX0_change_23 : decode cX0_change 23 = .ok (.aload_n 0, 1) := by decide +kernel
theorem dX0_change_24 : decode cX0_change 24 = .ok (.getfield 330, 3) := by decide +kernel
theorem dX0_change_27 : decode cX0_change 27 = .ok (.iload_n 3, 1) := by decide +kernel
theorem dX0_change_28 : decode cX0_change 28 = .ok (.invokestatic 543, 3) := by decide +kernel
theorem dX0_change_31 : decode cX0_change 31 = .ok (.invokevirtual 129, 3) := by decide +kernel
theorem dX0_change_34 : decode cX0_change 34 = .ok (.aload_n 0, 1) := by decide +kernel
theorem dX0_change_35 : decode cX0_change 35 = .ok (.aload_n 0, 1) := by decide +kernel
theorem dX0_change_36 : decode cX0_change 36 = .ok (.getfield 330, 3) := by decide +kernel
theorem dX0_change_39 : decode cX0_change 39 = .ok (.iload 4, 2) := by decide +kernel
theorem dX0_change_41 : decode cX0_change 41 = .ok (.invokevirtual 515, 3) := by decide +kernel
theorem dX0_change_44 : decode cX0_change 44 = .ok (.ireturn, 1) := by decide +kernel
theorem dX0_change_45 : decode cX0_change 45 = .ok (.aload_n 0, 1) := by decide +kernel
theorem dX0_change_46 : decode cX0_change 46 = .ok (.getfield 326, 3) := by decide +kernel
theorem dX0_change_49 : decode cX0_change 49 = .ok (.iload_n 2, 1) := by decide +kernel
theorem dX0_change_50 : decode cX0_change 50 = .ok (.aaload, 1) := by decide +kernel
theorem dX0_change_51 : decode cX0_change 51 = .ok (.getfield 509, 3) := by decide +kernel
theorem dX0_change_54 : decode cX0_change 54 = .ok (.istore 5, 2) := by decide +kernel
theorem dX0_change_56 : decode cX0_change 56 = .ok (.iload_n 1, 1) := by decide +kernel
theorem dX0_change_57 : decode cX0_change 57 = .ok (.ifCond .eq 20, 3) := by decide +kernel
theorem dX0_change_60 : decode cX0_change 60 = .ok (.iload_n 1, 1) := by decide +kernel
theorem dX0_change_61 : decode cX0_change 61 = .ok (.iconst 1, 1) := by decide +kernel
theorem dX0_change_62 : decode cX0_change 62 = .ok (.if_icmp .eq 15, 3) := by decide +kernel
theorem dX0_change_65 : decode cX0_change 65 = .ok (.iload_n 1, 1) := by decide +kernel
theorem dX0_change_66 : decode cX0_change 66 = .ok (.bipush 9, 2) := by decide +kernel
theorem dX0_change_68 : decode cX0_change 68 = .ok (.if_icmp .eq 9, 3) := by decide +kernel
theorem dX0_change_71 : decode cX0_change 71 = .ok (.iload_n 1, 1) := by decide +kernel
theorem dX0_change_72 : decode cX0_change 72 = .ok (.bipush 11, 2) := by decide +kernel
theorem dX0_change_74 : decode cX0_change 74 = .ok (.if_icmp .ne 7, 3) := by decide +kernel
theorem dX0_change_77 : decode cX0_change 77 = .ok (.iconst 1, 1) := by decide +kernel
theorem dX0_change_78 : decode cX0_change 78 = .ok (.goto 4, 3) := by decide +kernel
theorem dX0_change_81 : decode cX0_change 81 = .ok (.iconst 0, 1) := by decide +kernel
theorem dX0_change_82 : decode cX0_change 82 = .ok (.istore 6, 2) := by decide +kernel
theorem dX0_change_84 : decode cX0_change 84 = .ok (.aload_n 0, 1) := by decide +kernel
theorem dX0_change_85 : decode cX0_change 85 = .ok (.iload_n 2, 1) := by decide +kernel
theorem dX0_change_86 : decode cX0_change 86 = .ok (.invokevirtual 546, 3) := by decide +kernel
theorem dX0_change_89 : decode cX0_change 89 = .ok (.ifCond .eq 31, 3) := by decide +kernel
theorem dX0_change_92 : decode cX0_change 92 = .ok (.iload 5, 2) := by decide +kernel
theorem dX0_change_94 : decode cX0_change 94 = .ok (.iconst 2, 1) := by decide +kernel
theorem dX0_change_95 : decode cX0_change 95 = .ok (.if_icmp .ne 13, 3) := by decide +kernel
theorem dX0_change_98 : decode cX0_change 98 = .ok (.iload_n 1, 1) := by decide +kernel
theorem dX0_change_99 : decode cX0_change 99 = .ok (.iconst 2, 1) := by decide +kernel
theorem dX0_change_100 : decode cX0_change 100 = .ok (.bipush 8, 2) := by decide +kernel
theorem dX0_change_102 : decode cX0_change 102 = .ok (.invokestatic 173, 3) := by decide +kernel
theorem dX0_change_105 : decode cX0_change 105 = .ok (.ifCond .ne 15, 3) := by decide +kernel
theorem dX0_change_108 : decode cX0_change 108 = .ok (.iload 5, 2) := by decide +kernel
theorem dX0_change_110 : decode cX0_change 110 = .ok (.iconst 1, 1) := by decide +kernel
theorem dX0_change_111 : decode cX0_change 111 = .ok (.if_icmp .ne 12, 3) := by decide +kernel
theorem dX0_change_114 : decode cX0_change 114 = .ok (.iload_n 1, 1) := by decide +kernel
theorem dX0_change_115 : decode cX0_change 115 = .ok (.bipush 11, 2) := by decide +kernel
theorem dX0_change_117 : decode cX0_change 117 = .ok (.if_icmp .ne 6, 3) := by decide +kernel
theorem dX0_change_120 : decode cX0_change 120 = .ok (.bipush (-3), 2) := by decide +kernel
theorem dX0_change_122 : decode cX0_change 122 = .ok (.ireturn, 1) := by decide +kernel
theorem dX0_change_123 : decode cX0_change 123 = .ok (.aload_n 0, 1) := by decide +kernel
theorem dX0_change_124 : decode cX0_change 124 = .ok (.getfield 326, 3) := by decide +kernel
theorem dX0_change_127 : decode cX0_change 127 = .ok (.iload_n 2, 1) := by decide +kernel
theorem dX0_change_128 : decode cX0_change 128 = .ok (.aaload, 1) := by decide +kernel
theorem dX0_change_129 : decode cX0_change 129 = .ok (.getfield 512, 3) := by decide +kernel
theorem dX0_change_132 : decode cX0_change 132 = .ok (.astore 7, 2) := by decide +kernel
theorem dX0_change_134 : decode cX0_change 134 = .ok (.iload_n 1, 1) := by decide +kernel
theorem dX0_change_135 : decode cX0_change 135 = .ok (.iconst 0, 1) := by decide +kernel
theorem dX0_change_136 : decode cX0_change 136 = .ok (.bipush 11, 2) := by decide +kernel
theorem dX0_change_138 : decode cX0_change 138 = .ok (.invokestatic 173, 3) := by decide +kernel
theorem dX0_change_141 : decode cX0_change 141 = .ok (.ifCond .eq 14, 3) := by decide +kernel
theorem dX0_change_144 : decode cX0_change 144 = .ok (.iload 5, 2) := by decide +kernel
theorem dX0_change_146 : decode cX0_change 146 = .ok (.iconst 2, 1) := by decide +kernel
theorem dX0_change_147 : decode cX0_change 147 = .ok (.if_icmp .ne 10, 3) := by decide +kernel
theorem dX0_change_150 : decode cX0_change 150 = .ok (.iload 6, 2) := by decide +kernel
theorem dX0_change_152 : decode cX0_change 152 = .ok (.ifCond .ne 5, 3) := by decide +kernel
theorem dX0_change_155 : decode cX0_change 155 = .ok (.iconst (-1), 1) := by decide +kernel
theorem dX0_change_156 : decode cX0_change 156 = .ok (.ireturn, 1) := by decide +kernel
theorem dX0_change_157 : decode cX0_change 157 = .ok (.iload_n 1, 1) := by decide +kernel
theorem dX0_change_158 : decode cX0_change 158 = .ok (.bipush 9, 2) := by decide +kernel
theorem dX0_change_160 : decode cX0_change 160 = .ok (.if_icmp .ne 61, 3) := by decide +kernel
theorem dX0_change_163 : decode cX0_change 163 = .ok (.iload_n 3, 1) := by decide +kernel
theorem dX0_change_164 : decode cX0_change 164 = .ok (.bipush (-12), 2) := by decide +kernel
theorem dX0_change_166 : decode cX0_change 166 = .ok (.bipush 12, 2) := by decide +kernel
theorem dX0_change_168 : decode cX0_change 168 = .ok (.invokestatic 173, 3) := by decide +kernel
theorem dX0_change_171 : decode cX0_change 171 = .ok (.ifCond .eq 18, 3) := by decide +kernel
theorem dX0_change_174 : decode cX0_change 174 = .ok (.iload_n 3, 1) := by decide +kernel
theorem dX0_change_175 : decode cX0_change 175 = .ok (.ifCond .ge 16, 3) := by decide +kernel
theorem dX0_change_178 : decode cX0_change 178 = .ok (.aload 7, 2) := by decide +kernel
theorem dX0_change_180 : decode cX0_change 180 = .ok (.getfield 110, 3) := by decide +kernel
theorem dX0_change_183 : decode cX0_change 183 = .ok (.invokevirtual 128, 3) := by decide +kernel
theorem dX0_change_186 : decode cX0_change 186 = .ok (.ifCond .eq 5, 3) := by decide +kernel
theorem dX0_change_189 : decode cX0_change 189 = .ok (.iconst (-1), 1) := by decide +kernel
theorem dX0_change_190 : decode cX0_change 190 = .ok (.ireturn, 1) := by decide +kernel
theorem dX0_change_191 : decode cX0_change 191 = .ok (.aload_n 0, 1) := by decide +kernel
theorem dX0_change_192 : decode cX0_change 192 = .ok (.aload 7, 2) := by decide +kernel
theorem dX0_change_194 : decode cX0_change 194 = .ok (.iload_n 3, 1) := by decide +kernel
theorem dX0_change_195 : decode cX0_change 195 = .ok (.aload_n 0, 1) := by decide +kernel
theorem dX0_change_196 : decode cX0_change 196 = .ok (.getfield 330, 3) := by decide +kernel
theorem dX0_change_199 : decode cX0_change 199 = .ok (.invokevirtual 284, 3) := by decide +kernel
theorem dX0_change_202 : decode cX0_change 202 = .ok (.ifCond .eq 16, 3) := by decide +kernel
theorem dX0_change_205 : decode cX0_change 205 = .ok (.aload_n 0, 1) := by decide +kernel
theorem dX0_change_206 : decode cX0_change 206 = .ok (.aload_n 0, 1) := by decide +kernel
theorem dX0_change_207 : decode cX0_change 207 = .ok (.getfield 330, 3) := by decide +kernel
theorem dX0_change_210 : decode cX0_change 210 = .ok (.iload 4, 2) := by decide +kernel
theorem dX0_change_212 : decode cX0_change 212 = .ok (.invokevirtual 515, 3) := by decide +kernel
theorem dX0_change_215 : decode cX0_change 215 = .ok (.goto 5, 3) := by decide +kernel
theorem dX0_change_218 : decode cX0_change 218 = .ok (.bipush (-2), 2) := by decide +kernel
theorem dX0_change_220 : decode cX0_change 220 = .ok (.ireturn, 1) := by decide +kernel
theorem dX0_change_221 : decode cX0_change 221 = .ok (.iload_n 1, 1) := by decide +kernel
theorem dX0_change_222 : decode cX0_change 222 = .ok (.bipush 11, 2) := by decide +kernel
theorem dX0_change_224 : decode cX0_change 224 = .ok (.if_icmp .ne 36, 3) := by decide +kernel
theorem dX0_change_227 : decode cX0_change 227 = .ok (.aload_n 0, 1) := by decide +kernel
theorem dX0_change_228 : decode cX0_change 228 = .ok (.getfield 330, 3) := by decide +kernel
theorem dX0_change_231 : decode cX0_change 231 = .ok (.invokevirtual 301, 3) := by decide +kernel
theorem dX0_change_234 : decode cX0_change 234 = .ok (.aload_n 0, 1) := by decide +kernel
theorem dX0_change_235 : decode cX0_change 235 = .ok (.getfield 330, 3) := by decide +kernel
theorem dX0_change_238 : decode cX0_change 238 = .ok (.getfield 110, 3) := by decide +kernel
theorem dX0_change_241 : decode cX0_change 241 = .ok (.aload 7, 2) := by decide +kernel
theorem dX0_change_243 : decode cX0_change 243 = .ok (.getfield 110, 3) := by decide +kernel
theorem dX0_change_246 : decode cX0_change 246 = .ok (.invokevirtual 760, 3) := by decide +kernel
theorem dX0_change_249 : decode cX0_change 249 = .ok (.aload_n 0, 1) := by decide +kernel
theorem dX0_change_250 : decode cX0_change 250 = .ok (.aload_n 0, 1) := by decide +kernel
theorem dX0_change_251 : decode cX0_change 251 = .ok (.getfield 330, 3) := by decide +kernel
theorem dX0_change_254 : decode cX0_change 254 = .ok (.iload 4, 2) := by decide +kernel
theorem dX0_change_256 : decode cX0_change 256 = .ok (.invokevirtual 515, 3) := by decide +kernel
theorem dX0_change_259 : decode cX0_change 259 = .ok (.ireturn, 1) := by decide +kernel
theorem dX0_change_260 : decode cX0_change 260 = .ok (.iload 5, 2) := by decide +kernel
theorem dX0_change_262 : decode cX0_change 262 = .ok (.iconst 2, 1) := by decide +kernel
theorem dX0_change_263 : decode cX0_change 263 = .ok (.if_icmp .ne 42, 3) := by decide +kernel
theorem dX0_change_266 : decode cX0_change 266 = .ok (.aload_n 0, 1) := by decide +kernel
theorem dX0_change_267 : decode cX0_change 267 = .ok (.aload 7, 2) := by decide +kernel
theorem dX0_change_269 : decode cX0_change 269 = .ok (.iload_n 1, 1) := by decide +kernel
theorem dX0_change_270 : decode cX0_change 270 = .ok (.iconst 1, 1) := by decide +kernel
theorem dX0_change_271 : decode cX0_change 271 = .ok (.if_icmp .ne 7, 3) := by decide +kernel
theorem dX0_change_274 : decode cX0_change 274 = .ok (.iconst 1, 1) := by decide +kernel
theorem dX0_change_275 : decode cX0_change 275 = .ok (.goto 4, 3) := by decide +kernel
theorem dX0_change_278 : decode cX0_change 278 = .ok (.iconst 0, 1) := by decide +kernel
theorem dX0_change_279 : decode cX0_change 279 = .ok (.iload_n 3, 1) := by decide +kernel
theorem dX0_change_280 : decode cX0_change 280 = .ok (.invokestatic 543, 3) := by decide +kernel
theorem dX0_change_283 : decode cX0_change 283 = .ok (.invokevirtual 935, 3) := by decide +kernel
theorem dX0_change_286 : decode cX0_change 286 = .ok (.ifCond .eq 16, 3) := by decide +kernel
theorem dX0_change_289 : decode cX0_change 289 = .ok (.aload_n 0, 1) := by decide +kernel
theorem dX0_change_290 : decode cX0_change 290 = .ok (.aload_n 0, 1) := by decide +kernel
theorem dX0_change_291 : decode cX0_change 291 = .ok (.getfield 330, 3) := by decide +kernel
theorem dX0_change_294 : decode cX0_change 294 = .ok (.iload 4, 2) := by decide +kernel
theorem dX0_change_296 : decode cX0_change 296 = .ok (.invokevirtual 515, 3) := by decide +kernel
theorem dX0_change_299 : decode cX0_change 299 = .ok (.goto 5, 3) := by decide +kernel
theorem dX0_change_302 : decode cX0_change 302 = .ok (.bipush (-2), 2) := by decide +kernel
theorem dX0_change_304 : decode cX0_change 304 = .ok (.ireturn, 1) := by decide +kernel
theorem dX0_change_305 : decode cX0_change 305 = .ok (.aload_n 0, 1) := by decide +kernel
theorem dX0_change_306 : decode cX0_change 306 = .ok (.iload_n 1, 1) := by decide +kernel
theorem dX0_change_307 : decode cX0_change 307 = .ok (.aload 7, 2) := by decide +kernel
theorem dX0_change_309 : decode cX0_change 309 = .ok (.getfield 110, 3) := by decide +kernel
theorem dX0_change_312 : decode cX0_change 312 = .ok (.iload_n 3, 1) := by decide +kernel
theorem dX0_change_313 : decode cX0_change 313 = .ok (.invokestatic 543, 3) := by decide +kernel
theorem dX0_change_316 : decode cX0_change 316 = .ok (.invokevirtual 931, 3) := by decide +kernel
theorem dX0_change_319 : decode cX0_change 319 = .ok (.ifCond .ne 5, 3) := by decide +kernel
theorem dX0_change_322 : decode cX0_change 322 = .ok (.iconst (-1), 1) := by decide +kernel
theorem dX0_change_323 : decode cX0_change 323 = .ok (.ireturn, 1) := by decide +kernel
theorem dX0_change_324 : decode cX0_change 324 = .ok (.aload_n 0, 1) := by decide +kernel
theorem dX0_change_325 : decode cX0_change 325 = .ok (.aload_n 0, 1) := by decide +kernel
theorem dX0_change_326 : decode cX0_change 326 = .ok (.getfield 330, 3) := by decide +kernel
theorem dX0_change_329 : decode cX0_change 329 = .ok (.getfield 110, 3) := by decide +kernel
theorem dX0_change_332 : decode cX0_change 332 = .ok (.invokevirtual 106, 3) := by decide +kernel
theorem dX0_change_335 : decode cX0_change 335 = .ok (.ifCond .eq 12, 3) := by decide +kernel
theorem dX0_change_338 : decode cX0_change 338 = .ok (.aload_n 0, 1) := by decide +kernel
theorem dX0_change_339 : decode cX0_change 339 = .ok (.iload 4, 2) := by decide +kernel
theorem dX0_change_341 : decode cX0_change 341 = .ok (.invokevirtual 628, 3) := by decide +kernel
theorem dX0_change_344 : decode cX0_change 344 = .ok (.goto 5, 3) := by decide +kernel
theorem dX0_change_347 : decode cX0_change 347 = .ok (.bipush (-2), 2) := by decide +kernel
theorem dX0_change_349 : decode cX0_change 349 = .ok (.ireturn, 1) := by decide +kernel
theorem dX0_moveTerm_0 : decode cX0_moveTerm 0 = .ok (.iload_n 3, 1) := by decide +kernel
theorem dX0_moveTerm_1 : decode cX0_moveTerm 1 = .ok (.invokestatic 186, 3) := by decide +kernel
theorem dX0_moveTerm_4 : decode cX0_moveTerm 4 = .ok (.i2l, 1) := by decide +kernel
theorem dX0_moveTerm_5 : decode cX0_moveTerm 5 = .ok (.lstore 4, 2) := by decide +kernel
theorem dX0_moveTerm_7 : decode cX0_moveTerm 7 = .ok (.iconst 0, 1) := by decide +kernel
theorem dX0_moveTerm_8 : decode cX0_moveTerm 8 = .ok (.istore 6, 2) := by decide +kernel
theorem dX0_moveTerm_10 : decode cX0_moveTerm 10 = .ok (.iload 6, 2) := by decide +kernel
theorem dX0_moveTerm_12 : decode cX0_moveTerm 12 = .ok (.aload_n 1, 1) := by decide +kernel
theorem dX0_moveTerm_13 : decode cX0_moveTerm 13 = .ok (.getfield 136, 3) := by decide +kernel
theorem dX0_moveTerm_16 : decode cX0_moveTerm 16 = .ok (.if_icmp .ge 65, 3) := by decide +kernel
theorem dX0_moveTerm_19 : decode cX0_moveTerm 19 = .ok (.aload_n 1, 1) := by decide +kernel
theorem dX0_moveTerm_20 : decode cX0_moveTerm 20 = .ok (.getfield 146, 3) := by decide +kernel
theorem dX0_moveTerm_23 : decode cX0_moveTerm 23 = .ok (.iload 6, 2) := by decide +kernel
theorem dX0_moveTerm_25 : decode cX0_moveTerm 25 = .ok (.iaload, 1) := by decide +kernel
theorem dX0_moveTerm_26 : decode cX0_moveTerm 26 = .ok (.i2l, 1) := by decide +kernel
theorem dX0_moveTerm_27 : decode cX0_moveTerm 27 = .ok (.lload 4, 2) := by decide +kernel
theorem dX0_moveTerm_29 : decode cX0_moveTerm 29 = .ok (.iload_n 2, 1) := by decide +kernel
theorem dX0_moveTerm_30 : decode cX0_moveTerm 30 = .ok (.ifCond .eq 13, 3) := by decide +kernel
theorem dX0_moveTerm_33 : decode cX0_moveTerm 33 = .ok (.aload_n 1, 1) := by decide +kernel
theorem dX0_moveTerm_34 : decode cX0_moveTerm 34 = .ok (.getfield 143, 3) := by decide +kernel
theorem dX0_moveTerm_37 : decode cX0_moveTerm 37 = .ok (.iload 6, 2) := by decide +kernel
theorem dX0_moveTerm_39 : decode cX0_moveTerm 39 = .ok (.iaload, 1) := by decide +kernel
theorem dX0_moveTerm_40 : decode cX0_moveTerm 40 = .ok (.goto 10, 3) := by decide +kernel
theorem dX0_moveTerm_43 : decode cX0_moveTerm 43 = .ok (.aload_n 1, 1) := by decide +kernel
theorem dX0_moveTerm_44 : decode cX0_moveTerm 44 = .ok (.getfield 139, 3) := by decide +kernel
theorem dX0_moveTerm_47 : decode cX0_moveTerm 47 = .ok (.iload 6, 2) := by decide +kernel
theorem dX0_moveTerm_49 : decode cX0_moveTerm 49 = .ok (.iaload, 1) := by decide +kernel
theorem dX0_moveTerm_50 : decode cX0_moveTerm 50 = .ok (.i2l, 1) := by decide +kernel
theorem dX0_moveTerm_51 : decode cX0_moveTerm 51 = .ok (.lmul, 1) := by decide +kernel
theorem dX0_moveTerm_52 : decode cX0_moveTerm 52 = .ok (.ladd, 1) := by decide +kernel
theorem dX0_moveTerm_53 : decode cX0_moveTerm 53 = .ok (.lstore 7, 2) := by decide +kernel
theorem dX0_moveTerm_55 : decode cX0_moveTerm 55 = .ok (.lload 7, 2) := by decide +kernel
theorem dX0_moveTerm_57 : decode cX0_moveTerm 57 = .ok (.ldc2_w 927, 3) := by decide +kernel
theorem dX0_moveTerm_60 : decode cX0_moveTerm 60 = .ok (.lcmp, 1) := by decide +kernel
theorem dX0_moveTerm_61 : decode cX0_moveTerm 61 = .ok (.ifCond .lt 12, 3) := by decide +kernel
theorem dX0_moveTerm_64 : decode cX0_moveTerm 64 = .ok (.lload 7, 2) := by decide +kernel
theorem dX0_moveTerm_66 : decode cX0_moveTerm 66 = .ok (.ldc2_w 929, 3) := by decide +kernel
theorem dX0_moveTerm_69 : decode cX0_moveTerm 69 = .ok (.lcmp, 1) := by decide +kernel
theorem dX0_moveTerm_70 : decode cX0_moveTerm 70 = .ok (.ifCond .le 5, 3) := by decide +kernel
theorem dX0_moveTerm_73 : decode cX0_moveTerm 73 = .ok (.iconst 0, 1) := by decide +kernel
theorem dX0_moveTerm_74 : decode cX0_moveTerm 74 = .ok (.ireturn, 1) := by decide +kernel
theorem dX0_moveTerm_75 : decode cX0_moveTerm 75 = .ok (.iinc 6 1, 3) := by decide +kernel
theorem dX0_moveTerm_78 : decode cX0_moveTerm 78 = .ok (.goto (-68), 3) := by decide +kernel
theorem dX0_moveTerm_81 : decode cX0_moveTerm 81 = .ok (.aload_n 0, 1) := by decide +kernel
theorem dX0_moveTerm_82 : decode cX0_moveTerm 82 = .ok (.iload_n 2, 1) := by decide +kernel
theorem dX0_moveTerm_83 : decode cX0_moveTerm 83 = .ok (.ifCond .eq 7, 3) := by decide +kernel
theorem dX0_moveTerm_86 : decode cX0_moveTerm 86 = .ok (.iconst 1, 1) := by decide +kernel
theorem dX0_moveTerm_87 : decode cX0_moveTerm 87 = .ok (.goto 4, 3) := by decide +kernel
theorem dX0_moveTerm_90 : decode cX0_moveTerm 90 = .ok (.iconst 0, 1) := by decide +kernel
theorem dX0_moveTerm_91 : decode cX0_moveTerm 91 = .ok (.aload_n 1, 1) := by decide +kernel
theorem dX0_moveTerm_92 : decode cX0_moveTerm 92 = .ok (.getfield 110, 3) := by decide +kernel
theorem dX0_moveTerm_95 : decode cX0_moveTerm 95 = .ok (.iload_n 3, 1) := by decide +kernel
theorem dX0_moveTerm_96 : decode cX0_moveTerm 96 = .ok (.invokevirtual 931, 3) := by decide +kernel
theorem dX0_moveTerm_99 : decode cX0_moveTerm 99 = .ok (.istore 6, 2) := by decide +kernel
theorem dX0_moveTerm_101 : decode cX0_moveTerm 101 = .ok (.aload_n 0, 1) := by decide +kernel
theorem dX0_moveTerm_102 : decode cX0_moveTerm 102 = .ok (.getfield 31, 3) := by decide +kernel
theorem dX0_moveTerm_105 : decode cX0_moveTerm 105 = .ok (.lload 4, 2) := by decide +kernel
theorem dX0_moveTerm_107 : decode cX0_moveTerm 107 = .ok (.lconst 0, 1) := by decide +kernel
theorem dX0_moveTerm_108 : decode cX0_moveTerm 108 = .ok (.lcmp, 1) := by decide +kernel
theorem dX0_moveTerm_109 : decode cX0_moveTerm 109 = .ok (.ifCond .ge 30, 3) := by decide +kernel
theorem dX0_moveTerm_112 : decode cX0_moveTerm 112 = .ok (.iload_n 2, 1) := by decide +kernel
theorem dX0_moveTerm_113 : decode cX0_moveTerm 113 = .ok (.ifCond .eq 10, 3) := by decide +kernel
theorem dX0_moveTerm_116 : decode cX0_moveTerm 116 = .ok (.aload_n 1, 1) := by decide +kernel
theorem dX0_moveTerm_117 : decode cX0_moveTerm 117 = .ok (.getfield 133, 3) := by decide +kernel
theorem dX0_moveTerm_120 : decode cX0_moveTerm 120 = .ok (.goto 7, 3) := by decide +kernel
theorem dX0_moveTerm_123 : decode cX0_moveTerm 123 = .ok (.aload_n 1, 1) := by decide +kernel
theorem dX0_moveTerm_124 : decode cX0_moveTerm 124 = .ok (.getfield 130, 3) := by decide +kernel
theorem dX0_moveTerm_127 : decode cX0_moveTerm 127 = .ok (.lload 4, 2) := by decide +kernel
theorem dX0_moveTerm_129 : decode cX0_moveTerm 129 = .ok (.lneg, 1) := by decide +kernel
theorem dX0_moveTerm_130 : decode cX0_moveTerm 130 = .ok (.invokestatic 12, 3) := by decide +kernel
theorem dX0_moveTerm_133 : decode cX0_moveTerm 133 = .ok (.invokestatic 74, 3) := by decide +kernel
theorem dX0_moveTerm_136 : decode cX0_moveTerm 136 = .ok (.goto 23, 3) := by decide +kernel
theorem dX0_moveTerm_139 : decode cX0_moveTerm 139 = .ok (.iload_n 2, 1) := by decide +kernel
theorem dX0_moveTerm_140 : decode cX0_moveTerm 140 = .ok (.ifCond .eq 10, 3) := by decide +kernel
theorem dX0_moveTerm_143 : decode cX0_moveTerm 143 = .ok (.aload_n 1, 1) := by decide +kernel
theorem dX0_moveTerm_144 : decode cX0_moveTerm 144 = .ok (.getfield 133, 3) := by decide +kernel
theorem dX0_moveTerm_147 : decode cX0_moveTerm 147 = .ok (.goto 7, 3) := by decide +kernel
theorem dX0_moveTerm_150 : decode cX0_moveTerm 150 = .ok (.aload_n 1, 1) := by decide +kernel
theorem dX0_moveTerm_151 : decode cX0_moveTerm 151 = .ok (.getfield 130, 3) := by decide +kernel
theorem dX0_moveTerm_154 : decode cX0_moveTerm 154 = .ok (.lload 4, 2) := by decide +kernel
theorem dX0_moveTerm_156 : decode cX0_moveTerm 156 = .ok (.invokestatic 12, 3) := by decide +kernel
theorem dX0_moveTerm_159 : decode cX0_moveTerm 159 = .ok (.invokevirtual 78, 3) := by decide +kernel
theorem dX0_moveTerm_162 : decode cX0_moveTerm 162 = .ok (.aload_n 0, 1) := by decide +kernel
theorem dX0_moveTerm_163 : decode cX0_moveTerm 163 = .ok (.aload_n 0, 1) := by decide +kernel
theorem dX0_moveTerm_164 : decode cX0_moveTerm 164 = .ok (.getfield 330, 3) := by decide +kernel
theorem dX0_moveTerm_167 : decode cX0_moveTerm 167 = .ok (.getfield 110, 3) := by decide +kernel
theorem dX0_moveTerm_170 : decode cX0_moveTerm 170 = .ok (.invokevirtual 106, 3) := by decide +kernel
theorem dX0_moveTerm_173 : decode cX0_moveTerm 173 = .ok (.ifCond .ne 5, 3) := by decide +kernel
theorem dX0_moveTerm_176 : decode cX0_moveTerm 176 = .ok (.iconst 0, 1) := by decide +kernel
theorem dX0_moveTerm_177 : decode cX0_moveTerm 177 = .ok (.ireturn, 1) := by decide +kernel
theorem dX0_moveTerm_178 : decode cX0_moveTerm 178 = .ok (.aload_n 0, 1) := by decide +kernel
theorem dX0_moveTerm_179 : decode cX0_moveTerm 179 = .ok (.getfield 330, 3) := by decide +kernel
theorem dX0_moveTerm_182 : decode cX0_moveTerm 182 = .ok (.aload_n 1, 1) := by decide +kernel
theorem dX0_moveTerm_183 : decode cX0_moveTerm 183 = .ok (.invokevirtual 124, 3) := by decide +kernel
theorem dX0_moveTerm_186 : decode cX0_moveTerm 186 = .ok (.iconst 0, 1) := by decide +kernel
theorem dX0_moveTerm_187 : decode cX0_moveTerm 187 = .ok (.istore 7, 2) := by decide +kernel
theorem dX0_moveTerm_189 : decode cX0_moveTerm 189 = .ok (.iload 7, 2) := by decide +kernel
theorem dX0_moveTerm_191 : decode cX0_moveTerm 191 = .ok (.aload_n 1, 1) := by decide +kernel
theorem dX0_moveTerm_192 : decode cX0_moveTerm 192 = .ok (.getfield 136, 3) := by decide +kernel
theorem dX0_moveTerm_195 : decode cX0_moveTerm 195 = .ok (.if_icmp .ge 48, 3) := by decide +kernel
theorem dX0_moveTerm_198 : decode cX0_moveTerm 198 = .ok (.aload_n 0, 1) := by decide +kernel
theorem dX0_moveTerm_199 : decode cX0_moveTerm 199 = .ok (.getfield 330, 3) := by decide +kernel
theorem dX0_moveTerm_202 : decode cX0_moveTerm 202 = .ok (.getfield 146, 3) := by decide +kernel
theorem dX0_moveTerm_205 : decode cX0_moveTerm 205 = .ok (.iload 7, 2) := by decide +kernel
theorem dX0_moveTerm_207 : decode cX0_moveTerm 207 = .ok (.dup2, 1) := by decide +kernel
theorem dX0_moveTerm_208 : decode cX0_moveTerm 208 = .ok (.iaload, 1) := by decide +kernel
theorem dX0_moveTerm_209 : decode cX0_moveTerm 209 = .ok (.lload 4, 2) := by decide +kernel
theorem dX0_moveTerm_211 : decode cX0_moveTerm 211 = .ok (.iload_n 2, 1) := by decide +kernel
theorem dX0_moveTerm_212 : decode cX0_moveTerm 212 = .ok (.ifCond .eq 13, 3) := by decide +kernel
theorem dX0_moveTerm_215 : decode cX0_moveTerm 215 = .ok (.aload_n 1, 1) := by decide +kernel
theorem dX0_moveTerm_216 : decode cX0_moveTerm 216 = .ok (.getfield 143, 3) := by decide +kernel
theorem dX0_moveTerm_219 : decode cX0_moveTerm 219 = .ok (.iload 7, 2) := by decide +kernel
theorem dX0_moveTerm_221 : decode cX0_moveTerm 221 = .ok (.iaload, 1) := by decide +kernel
theorem dX0_moveTerm_222 : decode cX0_moveTerm 222 = .ok (.goto 10, 3) := by decide +kernel
theorem dX0_moveTerm_225 : decode cX0_moveTerm 225 = .ok (.aload_n 1, 1) := by decide +kernel
theorem dX0_moveTerm_226 : decode cX0_moveTerm 226 = .ok (.getfield 139, 3) := by decide +kernel
theorem dX0_moveTerm_229 : decode cX0_moveTerm 229 = .ok (.iload 7, 2) := by decide +kernel
theorem dX0_moveTerm_231 : decode cX0_moveTerm 231 = .ok (.iaload, 1) := by decide +kernel
theorem dX0_moveTerm_232 : decode cX0_moveTerm 232 = .ok (.i2l, 1) := by decide +kernel
theorem dX0_moveTerm_233 : decode cX0_moveTerm 233 = .ok (.lmul, 1) := by decide +kernel
theorem dX0_moveTerm_234 : decode cX0_moveTerm 234 = .ok (.l2i, 1) := by decide +kernel
theorem dX0_moveTerm_235 : decode cX0_moveTerm 235 = .ok (.iadd, 1) := by decide +kernel
theorem dX0_moveTerm_236 : decode cX0_moveTerm 236 = .ok (.iastore, 1) := by decide +kernel
theorem dX0_moveTerm_237 : decode cX0_moveTerm 237 = .ok (.iinc 7 1, 3) := by decide +kernel
theorem dX0_moveTerm_240 : decode cX0_moveTerm 240 = .ok (.goto (-51), 3) := by decide +kernel
theorem dX0_moveTerm_243 : decode cX0_moveTerm 243 = .ok (.iconst 1, 1) := by decide +kernel
theorem dX0_moveTerm_244 : decode cX0_moveTerm 244 = .ok (.ireturn, 1) := by decide +kernel
theorem dX0_layChange_0 : decode cX0_layChange 0 = .ok (.aload_n 0, 1) := by decide +kernel
theorem dX0_layChange_1 : decode cX0_layChange 1 = .ok (.getfield 31, 3) := by decide +kernel
theorem dX0_layChange_4 : decode cX0_layChange 4 = .ok (.aload_n 2, 1) := by decide +kernel
theorem dX0_layChange_5 : decode cX0_layChange 5 = .ok (.getfield 89, 3) := by decide +kernel
theorem dX0_layChange_8 : decode cX0_layChange 8 = .ok (.invokevirtual 66, 3) := by decide +kernel
theorem dX0_layChange_11 : decode cX0_layChange 11 = .ok (.aload_n 0, 1) := by decide +kernel
theorem dX0_layChange_12 : decode cX0_layChange 12 = .ok (.getfield 39, 3) := by decide +kernel
theorem dX0_layChange_15 : decode cX0_layChange 15 = .ok (.aload_n 2, 1) := by decide +kernel
theorem dX0_layChange_16 : decode cX0_layChange 16 = .ok (.getfield 94, 3) := by decide +kernel
theorem dX0_layChange_19 : decode cX0_layChange 19 = .ok (.invokevirtual 66, 3) := by decide +kernel
theorem dX0_layChange_22 : decode cX0_layChange 22 = .ok (.iload_n 1, 1) := by decide +kernel
theorem dX0_layChange_23 : decode cX0_layChange 23 = .ok (.tableswitch 282 0 7 #[45, 64, 83, 112, 141, 141, 246, 271], 45) := by decide +kernel
theorem dX0_layChange_68 : decode cX0_layChange 68 = .ok (.aload_n 0, 1) := by decide +kernel
theorem dX0_layChange_69 : decode cX0_layChange 69 = .ok (.getfield 31, 3) := by decide +kernel
theorem dX0_layChange_72 : decode cX0_layChange 72 = .ok (.iload_n 3, 1) := by decide +kernel
theorem dX0_layChange_73 : decode cX0_layChange 73 = .ok (.invokevirtual 614, 3) := by decide +kernel
theorem dX0_layChange_76 : decode cX0_layChange 76 = .ok (.aload_n 0, 1) := by decide +kernel
theorem dX0_layChange_77 : decode cX0_layChange 77 = .ok (.getfield 39, 3) := by decide +kernel
theorem dX0_layChange_80 : decode cX0_layChange 80 = .ok (.iload_n 3, 1) := by decide +kernel
theorem dX0_layChange_81 : decode cX0_layChange 81 = .ok (.invokevirtual 614, 3) := by decide +kernel
theorem dX0_layChange_84 : decode cX0_layChange 84 = .ok (.goto 240, 3) := by decide +kernel
theorem dX0_layChange_87 : decode cX0_layChange 87 = .ok (.aload_n 0, 1) := by decide +kernel
theorem dX0_layChange_88 : decode cX0_layChange 88 = .ok (.getfield 31, 3) := by decide +kernel
theorem dX0_layChange_91 : decode cX0_layChange 91 = .ok (.iload_n 3, 1) := by decide +kernel
theorem dX0_layChange_92 : decode cX0_layChange 92 = .ok (.invokevirtual 617, 3) := by decide +kernel
theorem dX0_layChange_95 : decode cX0_layChange 95 = .ok (.aload_n 0, 1) := by decide +kernel
theorem dX0_layChange_96 : decode cX0_layChange 96 = .ok (.getfield 39, 3) := by decide +kernel
theorem dX0_layChange_99 : decode cX0_layChange 99 = .ok (.iload_n 3, 1) := by decide +kernel
theorem dX0_layChange_100 : decode cX0_layChange 100 = .ok (.invokevirtual 617, 3) := by decide +kernel
theorem dX0_layChange_103 : decode cX0_layChange 103 = .ok (.goto 221, 3) := by decide +kernel
theorem dX0_layChange_106 : decode cX0_layChange 106 = .ok (.aload_n 0, 1) := by decide +kernel
theorem dX0_layChange_107 : decode cX0_layChange 107 = .ok (.aload_n 2, 1) := by decide +kernel
theorem dX0_layChange_108 : decode cX0_layChange 108 = .ok (.getfield 89, 3) := by decide +kernel
theorem dX0_layChange_111 : decode cX0_layChange 111 = .ok (.iload_n 3, 1) := by decide +kernel
theorem dX0_layChange_112 : decode cX0_layChange 112 = .ok (.aload_n 0, 1) := by decide +kernel
theorem dX0_layChange_113 : decode cX0_layChange 113 = .ok (.getfield 31, 3) := by decide +kernel
theorem dX0_layChange_116 : decode cX0_layChange 116 = .ok (.invokevirtual 916, 3) := by decide +kernel
theorem dX0_layChange_119 : decode cX0_layChange 119 = .ok (.aload_n 0, 1) := by decide +kernel
theorem dX0_layChange_120 : decode cX0_layChange 120 = .ok (.aload_n 2, 1) := by decide +kernel
theorem dX0_layChange_121 : decode cX0_layChange 121 = .ok (.getfield 94, 3) := by decide +kernel
theorem dX0_layChange_124 : decode cX0_layChange 124 = .ok (.iload_n 3, 1) := by decide +kernel
theorem dX0_layChange_125 : decode cX0_layChange 125 = .ok (.aload_n 0, 1) := by decide +kernel
theorem dX0_layChange_126 : decode cX0_layChange 126 = .ok (.getfield 39, 3) := by decide +kernel
theorem dX0_layChange_129 : decode cX0_layChange 129 = .ok (.invokevirtual 916, 3) := by decide +kernel
theorem dX0_layChange_132 : decode cX0_layChange 132 = .ok (.goto 192, 3) := by decide +kernel
theorem dX0_layChange_135 : decode cX0_layChange 135 = .ok (.aload_n 0, 1) := by decide +kernel
theorem dX0_layChange_136 : decode cX0_layChange 136 = .ok (.aload_n 2, 1) := by decide +kernel
theorem dX0_layChange_137 : decode cX0_layChange 137 = .ok (.getfield 89, 3) := by decide +kernel
theorem dX0_layChange_140 : decode cX0_layChange 140 = .ok (.iload_n 3, 1) := by decide +kernel
theorem dX0_layChange_141 : decode cX0_layChange 141 = .ok (.aload_n 0, 1) := by decide +kernel
theorem dX0_layChange_142 : decode cX0_layChange 142 = .ok (.getfield 31, 3) := by decide +kernel
theorem dX0_layChange_145 : decode cX0_layChange 145 = .ok (.invokevirtual 920, 3) := by decide +kernel
theorem dX0_layChange_148 : decode cX0_layChange 148 = .ok (.aload_n 0, 1) := by decide +kernel
theorem dX0_layChange_149 : decode cX0_layChange 149 = .ok (.aload_n 2, 1) := by decide +kernel
theorem dX0_layChange_150 : decode cX0_layChange 150 = .ok (.getfield 94, 3) := by decide +kernel
theorem dX0_layChange_153 : decode cX0_layChange 153 = .ok (.iload_n 3, 1) := by decide +kernel
theorem dX0_layChange_154 : decode cX0_layChange 154 = .ok (.aload_n 0, 1) := by decide +kernel
theorem dX0_layChange_155 : decode cX0_layChange 155 = .ok (.getfield 39, 3) := by decide +kernel
theorem dX0_layChange_158 : decode cX0_layChange 158 = .ok (.invokevirtual 920, 3) := by decide +kernel
theorem dX0_layChange_161 : decode cX0_layChange 161 = .ok (.goto 163, 3) := by decide +kernel
theorem dX0_layChange_164 : decode cX0_layChange 164 = .ok (.aload_n 0, 1) := by decide +kernel
theorem dX0_layChange_165 : decode cX0_layChange 165 = .ok (.aload_n 2, 1) := by decide +kernel
theorem dX0_layChange_166 : decode cX0_layChange 166 = .ok (.getfield 89, 3) := by decide +kernel
theorem dX0_layChange_169 : decode cX0_layChange 169 = .ok (.iload_n 1, 1) := by decide +kernel
theorem dX0_layChange_170 : decode cX0_layChange 170 = .ok (.iconst 4, 1) := by decide +kernel
theorem dX0_layChange_171 : decode cX0_layChange 171 = .ok (.if_icmp .ne 7, 3) := by decide +kernel
theorem dX0_layChange_174 : decode cX0_layChange 174 = .ok (.iconst 1, 1) := by decide +kernel
theorem dX0_layChange_175 : decode cX0_layChange 175 = .ok (.goto 4, 3) := by decide +kernel
theorem dX0_layChange_178 : decode cX0_layChange 178 = .ok (.iconst 0, 1) := by decide +kernel
theorem dX0_layChange_179 : decode cX0_layChange 179 = .ok (.aload_n 0, 1) := by decide +kernel
theorem dX0_layChange_180 : decode cX0_layChange 180 = .ok (.getfield 59, 3) := by decide +kernel
theorem dX0_layChange_183 : decode cX0_layChange 183 = .ok (.invokevirtual 923, 3) := by decide +kernel
theorem dX0_layChange_186 : decode cX0_layChange 186 = .ok (.aload_n 0, 1) := by decide +kernel
theorem dX0_layChange_187 : decode cX0_layChange 187 = .ok (.getfield 31, 3) := by decide +kernel
theorem dX0_layChange_190 : decode cX0_layChange 190 = .ok (.aload_n 0, 1) := by decide +kernel
theorem dX0_layChange_191 : decode cX0_layChange 191 = .ok (.getfield 59, 3) := by decide +kernel
theorem dX0_layChange_194 : decode cX0_layChange 194 = .ok (.aload_n 2, 1) := by decide +kernel
theorem dX0_layChange_195 : decode cX0_layChange 195 = .ok (.getfield 94, 3) := by decide +kernel
theorem dX0_layChange_198 : decode cX0_layChange 198 = .ok (.invokevirtual 97, 3) := by decide +kernel
theorem dX0_layChange_201 : decode cX0_layChange 201 = .ok (.aload_n 0, 1) := by decide +kernel
theorem dX0_layChange_202 : decode cX0_layChange 202 = .ok (.aload_n 2, 1) := by decide +kernel
theorem dX0_layChange_203 : decode cX0_layChange 203 = .ok (.getfield 94, 3) := by decide +kernel
theorem dX0_layChange_206 : decode cX0_layChange 206 = .ok (.iload_n 1, 1) := by decide +kernel
theorem dX0_layChange_207 : decode cX0_layChange 207 = .ok (.iconst 4, 1) := by decide +kernel
theorem dX0_layChange_208 : decode cX0_layChange 208 = .ok (.if_icmp .ne 7, 3) := by decide +kernel
theorem dX0_layChange_211 : decode cX0_layChange 211 = .ok (.iconst 1, 1) := by decide +kernel
theorem dX0_layChange_212 : decode cX0_layChange 212 = .ok (.goto 4, 3) := by decide +kernel
theorem dX0_layChange_215 : decode cX0_layChange 215 = .ok (.iconst 0, 1) := by decide +kernel
theorem dX0_layChange_216 : decode cX0_layChange 216 = .ok (.aload_n 0, 1) := by decide +kernel
theorem dX0_layChange_217 : decode cX0_layChange 217 = .ok (.getfield 59, 3) := by decide +kernel
theorem dX0_layChange_220 : decode cX0_layChange 220 = .ok (.invokevirtual 923, 3) := by decide +kernel
theorem dX0_layChange_223 : decode cX0_layChange 223 = .ok (.aload_n 0, 1) := by decide +kernel
theorem dX0_layChange_224 : decode cX0_layChange 224 = .ok (.getfield 50, 3) := by decide +kernel
theorem dX0_layChange_227 : decode cX0_layChange 227 = .ok (.aload_n 0, 1) := by decide +kernel
theorem dX0_layChange_228 : decode cX0_layChange 228 = .ok (.getfield 59, 3) := by decide +kernel
theorem dX0_layChange_231 : decode cX0_layChange 231 = .ok (.aload_n 2, 1) := by decide +kernel
theorem dX0_layChange_232 : decode cX0_layChange 232 = .ok (.getfield 89, 3) := by decide +kernel
theorem dX0_layChange_235 : decode cX0_layChange 235 = .ok (.invokevirtual 97, 3) := by decide +kernel
theorem dX0_layChange_238 : decode cX0_layChange 238 = .ok (.aload_n 0, 1) := by decide +kernel
theorem dX0_layChange_239 : decode cX0_layChange 239 = .ok (.getfield 31, 3) := by decide +kernel
theorem dX0_layChange_242 : decode cX0_layChange 242 = .ok (.aload_n 0, 1) := by decide +kernel
theorem dX0_layChange_243 : decode cX0_layChange 243 = .ok (.getfield 50, 3) := by decide +kernel
theorem dX0_layChange_246 : decode cX0_layChange 246 = .ok (.ldc 101, 2) := by decide +kernel
theorem dX0_layChange_248 : decode cX0_layChange 248 = .ok (.invokevirtual 102, 3) := by decide +kernel
theorem dX0_layChange_251 : decode cX0_layChange 251 = .ok (.aload_n 0, 1) := by decide +kernel
theorem dX0_layChange_252 : decode cX0_layChange 252 = .ok (.getfield 39, 3) := by decide +kernel
theorem dX0_layChange_255 : decode cX0_layChange 255 = .ok (.aload_n 2, 1) := by decide +kernel
theorem dX0_layChange_256 : decode cX0_layChange 256 = .ok (.getfield 94, 3) := by decide +kernel
theorem dX0_layChange_259 : decode cX0_layChange 259 = .ok (.aload_n 2, 1) := by decide +kernel
theorem dX0_layChange_260 : decode cX0_layChange 260 = .ok (.getfield 94, 3) := by decide +kernel
theorem dX0_layChange_263 : decode cX0_layChange 263 = .ok (.invokevirtual 97, 3) := by decide +kernel
theorem dX0_layChange_266 : decode cX0_layChange 266 = .ok (.goto 58, 3) := by decide +kernel
theorem dX0_layChange_269 : decode cX0_layChange 269 = .ok (.aload_n 0, 1) := by decide +kernel
theorem dX0_layChange_270 : decode cX0_layChange 270 = .ok (.getfield 31, 3) := by decide +kernel
theorem dX0_layChange_273 : decode cX0_layChange 273 = .ok (.aload_n 2, 1) := by decide +kernel
theorem dX0_layChange_274 : decode cX0_layChange 274 = .ok (.getfield 89, 3) := by decide +kernel
theorem dX0_layChange_277 : decode cX0_layChange 277 = .ok (.invokevirtual 906, 3) := by decide +kernel
theorem dX0_layChange_280 : decode cX0_layChange 280 = .ok (.aload_n 0, 1) := by decide +kernel
theorem dX0_layChange_281 : decode cX0_layChange 281 = .ok (.getfield 39, 3) := by decide +kernel
theorem dX0_layChange_284 : decode cX0_layChange 284 = .ok (.aload_n 2, 1) := by decide +kernel
theorem dX0_layChange_285 : decode cX0_layChange 285 = .ok (.getfield 94, 3) := by decide +kernel
theorem dX0_layChange_288 : decode cX0_layChange 288 = .ok (.invokevirtual 906, 3) := by decide +kernel
theorem dX0_layChange_291 : decode cX0_layChange 291 = .ok (.goto 33, 3) := by decide +kernel
theorem dX0_layChange_294 : decode cX0_layChange 294 = .ok (.aload_n 0, 1) := by decide +kernel
theorem dX0_layChange_295 : decode cX0_layChange 295 = .ok (.getfield 39, 3) := by decide +kernel
theorem dX0_layChange_298 : decode cX0_layChange 298 = .ok (.iconst 1, 1) := by decide +kernel
theorem dX0_layChange_299 : decode cX0_layChange 299 = .ok (.invokevirtual 42, 3) := by decide +kernel
theorem dX0_layChange_302 : decode cX0_layChange 302 = .ok (.goto 22, 3) := by decide +kernel
theorem dX0_layChange_305 : decode cX0_layChange 305 = .ok (.aload_n 0, 1) := by decide +kernel
theorem dX0_layChange_306 : decode cX0_layChange 306 = .ok (.getfield 31, 3) := by decide +kernel
theorem dX0_layChange_309 : decode cX0_layChange 309 = .ok (.aload_n 2, 1) := by decide +kernel
theorem dX0_layChange_310 : decode cX0_layChange 310 = .ok (.getfield 94, 3) := by decide +kernel
theorem dX0_layChange_313 : decode cX0_layChange 313 = .ok (.invokevirtual 66, 3) := by decide +kernel
theorem dX0_layChange_316 : decode cX0_layChange 316 = .ok (.aload_n 0, 1) := by decide +kernel
theorem dX0_layChange_317 : decode cX0_layChange 317 = .ok (.getfield 39, 3) := by decide +kernel
theorem dX0_layChange_320 : decode cX0_layChange 320 = .ok (.iconst 1, 1) := by decide +kernel
theorem dX0_layChange_321 : decode cX0_layChange 321 = .ok (.invokevirtual 42, 3) := by decide +kernel
theorem dX0_layChange_324 : decode cX0_layChange 324 = .ok (.aload_n 0, 1) := by decide +kernel
theorem dX0_layChange_325 : decode cX0_layChange 325 = .ok (.getfield 39, 3) := by decide +kernel
theorem dX0_layChange_328 : decode cX0_layChange 328 = .ok (.invokevirtual 35, 3) := by decide +kernel
theorem dX0_layChange_331 : decode cX0_layChange 331 = .ok (.ifCond .ne 7, 3) := by decide +kernel
theorem dX0_layChange_334 : decode cX0_layChange 334 = .ok (.iconst 1, 1) := by decide +kernel
theorem dX0_layChange_335 : decode cX0_layChange 335 = .ok (.goto 4, 3) := by decide +kernel
theorem dX0_layChange_338 : decode cX0_layChange 338 = .ok (.iconst 0, 1) := by decide +kernel
theorem dX0_layChange_339 : decode cX0_layChange 339 = .ok (.ireturn, 1) := by decide +kernel
theorem dX0_putN_0 : decode cX0_putN 0 = .ok (.aload_n 1, 1) := by decide +kernel
theorem dX0_putN_1 : decode cX0_putN 1 = .ok (.iload_n 2, 1) := by decide +kernel
theorem dX0_putN_2 : decode cX0_putN 2 = .ok (.aload_n 0, 1) := by decide +kernel
theorem dX0_putN_3 : decode cX0_putN 3 = .ok (.getfield 361, 3) := by decide +kernel
theorem dX0_putN_6 : decode cX0_putN 6 = .ok (.invokevirtual 632, 3) := by decide +kernel
theorem dX0_putN_9 : decode cX0_putN 9 = .ok (.aload_n 3, 1) := by decide +kernel
theorem dX0_putN_10 : decode cX0_putN 10 = .ok (.iconst 1, 1) := by decide +kernel
theorem dX0_putN_11 : decode cX0_putN 11 = .ok (.aload_n 1, 1) := by decide +kernel
theorem dX0_putN_12 : decode cX0_putN 12 = .ok (.getfield 28, 3) := by decide +kernel
theorem dX0_putN_15 : decode cX0_putN 15 = .ok (.invokevirtual 304, 3) := by decide +kernel
theorem dX0_putN_18 : decode cX0_putN 18 = .ok (.iconst 0, 1) := by decide +kernel
theorem dX0_putN_19 : decode cX0_putN 19 = .ok (.istore 4, 2) := by decide +kernel
theorem dX0_putN_21 : decode cX0_putN 21 = .ok (.iload 4, 2) := by decide +kernel
theorem dX0_putN_23 : decode cX0_putN 23 = .ok (.aload_n 1, 1) := by decide +kernel
theorem dX0_putN_24 : decode cX0_putN 24 = .ok (.getfield 28, 3) := by decide +kernel
theorem dX0_putN_27 : decode cX0_putN 27 = .ok (.if_icmp .ge 30, 3) := by decide +kernel
theorem dX0_putN_30 : decode cX0_putN 30 = .ok (.aload_n 3, 1) := by decide +kernel
theorem dX0_putN_31 : decode cX0_putN 31 = .ok (.getfield 288, 3) := by decide +kernel
theorem dX0_putN_34 : decode cX0_putN 34 = .ok (.iload 4, 2) := by decide +kernel
theorem dX0_putN_36 : decode cX0_putN 36 = .ok (.aload_n 3, 1) := by decide +kernel
theorem dX0_putN_37 : decode cX0_putN 37 = .ok (.getfield 608, 3) := by decide +kernel
theorem dX0_putN_40 : decode cX0_putN 40 = .ok (.imul, 1) := by decide +kernel
theorem dX0_putN_41 : decode cX0_putN 41 = .ok (.aload_n 0, 1) := by decide +kernel
theorem dX0_putN_42 : decode cX0_putN 42 = .ok (.getfield 361, 3) := by decide +kernel
theorem dX0_putN_45 : decode cX0_putN 45 = .ok (.iload 4, 2) := by decide +kernel
theorem dX0_putN_47 : decode cX0_putN 47 = .ok (.invokevirtual 580, 3) := by decide +kernel
theorem dX0_putN_50 : decode cX0_putN 50 = .ok (.iastore, 1) := by decide +kernel
theorem dX0_putN_51 : decode cX0_putN 51 = .ok (.iinc 4 1, 3) := by decide +kernel
theorem dX0_putN_54 : decode cX0_putN 54 = .ok (.goto (-33), 3) := by decide +kernel
theorem dX0_putN_57 : decode cX0_putN 57 = .ok (.aload_n 3, 1) := by decide +kernel
theorem dX0_putN_58 : decode cX0_putN 58 = .ok (.invokevirtual 611, 3) := by decide +kernel
theorem dX0_putN_61 : decode cX0_putN 61 = .ok (.return_, 1) := by decide +kernel
theorem dX0_putK_0 : decode cX0_putK 0 = .ok (.aload_n 0, 1) := by decide +kernel
theorem dX0_putK_1 : decode cX0_putK 1 = .ok (.getfield 411, 3) := by decide +kernel
theorem dX0_putK_4 : decode cX0_putK 4 = .ok (.invokevirtual 709, 3) := by decide +kernel
theorem dX0_putK_7 : decode cX0_putK 7 = .ok (.aload_n 1, 1) := by decide +kernel
theorem dX0_putK_8 : decode cX0_putK 8 = .ok (.getfield 28, 3) := by decide +kernel
theorem dX0_putK_11 : decode cX0_putK 11 = .ok (.iconst 1, 1) := by decide +kernel
theorem dX0_putK_12 : decode cX0_putK 12 = .ok (.isub, 1) := by decide +kernel
theorem dX0_putK_13 : decode cX0_putK 13 = .ok (.istore 4, 2) := by decide +kernel
theorem dX0_putK_15 : decode cX0_putK 15 = .ok (.iload 4, 2) := by decide +kernel
theorem dX0_putK_17 : decode cX0_putK 17 = .ok (.ifCond .lt 40, 3) := by decide +kernel
theorem dX0_putK_20 : decode cX0_putK 20 = .ok (.aload_n 0, 1) := by decide +kernel
theorem dX0_putK_21 : decode cX0_putK 21 = .ok (.getfield 411, 3) := by decide +kernel
theorem dX0_putK_24 : decode cX0_putK 24 = .ok (.iload_n 2, 1) := by decide +kernel
theorem dX0_putK_25 : decode cX0_putK 25 = .ok (.invokevirtual 697, 3) := by decide +kernel
theorem dX0_putK_28 : decode cX0_putK 28 = .ok (.aload_n 1, 1) := by decide +kernel
theorem dX0_putK_29 : decode cX0_putK 29 = .ok (.iload 4, 2) := by decide +kernel
theorem dX0_putK_31 : decode cX0_putK 31 = .ok (.aload_n 0, 1) := by decide +kernel
theorem dX0_putK_32 : decode cX0_putK 32 = .ok (.getfield 361, 3) := by decide +kernel
theorem dX0_putK_35 : decode cX0_putK 35 = .ok (.invokevirtual 661, 3) := by decide +kernel
theorem dX0_putK_38 : decode cX0_putK 38 = .ok (.aload_n 0, 1) := by decide +kernel
theorem dX0_putK_39 : decode cX0_putK 39 = .ok (.getfield 411, 3) := by decide +kernel
theorem dX0_putK_42 : decode cX0_putK 42 = .ok (.aload_n 0, 1) := by decide +kernel
theorem dX0_putK_43 : decode cX0_putK 43 = .ok (.getfield 361, 3) := by decide +kernel
theorem dX0_putK_46 : decode cX0_putK 46 = .ok (.iconst 1, 1) := by decide +kernel
theorem dX0_putK_47 : decode cX0_putK 47 = .ok (.iconst 0, 1) := by decide +kernel
theorem dX0_putK_48 : decode cX0_putK 48 = .ok (.invokevirtual 689, 3) := by decide +kernel
theorem dX0_putK_51 : decode cX0_putK 51 = .ok (.iinc 4 (-1), 3) := by decide +kernel
theorem dX0_putK_54 : decode cX0_putK 54 = .ok (.goto (-39), 3) := by decide +kernel
theorem dX0_putK_57 : decode cX0_putK 57 = .ok (.aload_n 3, 1) := by decide +kernel
theorem dX0_putK_58 : decode cX0_putK 58 = .ok (.aload_n 0, 1) := by decide +kernel
theorem dX0_putK_59 : decode cX0_putK 59 = .ok (.getfield 411, 3) := by decide +kernel
theorem dX0_putK_62 : decode cX0_putK 62 = .ok (.getfield 636, 3) := by decide +kernel
theorem dX0_putK_65 : decode cX0_putK 65 = .ok (.iconst 1, 1) := by decide +kernel
theorem dX0_putK_66 : decode cX0_putK 66 = .ok (.invokevirtual 304, 3) := by decide +kernel
theorem dX0_putK_69 : decode cX0_putK 69 = .ok (.aload_n 3, 1) := by decide +kernel
theorem dX0_putK_70 : decode cX0_putK 70 = .ok (.iconst 0, 1) := by decide +kernel
theorem dX0_putK_71 : decode cX0_putK 71 = .ok (.aload_n 0, 1) := by decide +kernel
theorem dX0_putK_72 : decode cX0_putK 72 = .ok (.getfield 411, 3) := by decide +kernel
theorem dX0_putK_75 : decode cX0_putK 75 = .ok (.invokevirtual 664, 3) := by decide +kernel
theorem dX0_putK_78 : decode cX0_putK 78 = .ok (.aload_n 3, 1) := by decide +kernel
theorem dX0_putK_79 : decode cX0_putK 79 = .ok (.invokevirtual 611, 3) := by decide +kernel
theorem dX0_putK_82 : decode cX0_putK 82 = .ok (.return_, 1) := by decide +kernel
theorem dX0_derive_0 : decode cX0_derive 0 = .ok (.aload_n 3, 1) := by decide +kernel
theorem dX0_derive_1 : decode cX0_derive 1 = .ok (.aload_n 1, 1) := by decide +kernel
theorem dX0_derive_2 : decode cX0_derive 2 = .ok (.getfield 22, 3) := by decide +kernel
theorem dX0_derive_5 : decode cX0_derive 5 = .ok (.aload_n 1, 1) := by decide +kernel
theorem dX0_derive_6 : decode cX0_derive 6 = .ok (.getfield 28, 3) := by decide +kernel
theorem dX0_derive_9 : decode cX0_derive 9 = .ok (.invokevirtual 304, 3) := by decide +kernel
theorem dX0_derive_12 : decode cX0_derive 12 = .ok (.iconst 0, 1) := by decide +kernel
theorem dX0_derive_13 : decode cX0_derive 13 = .ok (.istore 4, 2) := by decide +kernel
theorem dX0_derive_15 : decode cX0_derive 15 = .ok (.iload 4, 2) := by decide +kernel
theorem dX0_derive_17 : decode cX0_derive 17 = .ok (.aload_n 1, 1) := by decide +kernel
theorem dX0_derive_18 : decode cX0_derive 18 = .ok (.getfield 28, 3) := by decide +kernel
theorem dX0_derive_21 : decode cX0_derive 21 = .ok (.if_icmp .ge 106, 3) := by decide +kernel
theorem dX0_derive_24 : decode cX0_derive 24 = .ok (.iconst 0, 1) := by decide +kernel
theorem dX0_derive_25 : decode cX0_derive 25 = .ok (.istore 5, 2) := by decide +kernel
theorem dX0_derive_27 : decode cX0_derive 27 = .ok (.iload 5, 2) := by decide +kernel
theorem dX0_derive_29 : decode cX0_derive 29 = .ok (.aload_n 1, 1) := by decide +kernel
theorem dX0_derive_30 : decode cX0_derive 30 = .ok (.getfield 22, 3) := by decide +kernel
theorem dX0_derive_33 : decode cX0_derive 33 = .ok (.if_icmp .ge 88, 3) := by decide +kernel
theorem dX0_derive_36 : decode cX0_derive 36 = .ok (.aload_n 1, 1) := by decide +kernel
theorem dX0_derive_37 : decode cX0_derive 37 = .ok (.iload 5, 2) := by decide +kernel
theorem dX0_derive_39 : decode cX0_derive 39 = .ok (.iload 4, 2) := by decide +kernel
theorem dX0_derive_41 : decode cX0_derive 41 = .ok (.invokevirtual 183, 3) := by decide +kernel
theorem dX0_derive_44 : decode cX0_derive 44 = .ok (.istore 6, 2) := by decide +kernel
theorem dX0_derive_46 : decode cX0_derive 46 = .ok (.iload_n 2, 1) := by decide +kernel
theorem dX0_derive_47 : decode cX0_derive 47 = .ok (.ifCond .eq 35, 3) := by decide +kernel
theorem dX0_derive_50 : decode cX0_derive 50 = .ok (.iload 5, 2) := by decide +kernel
theorem dX0_derive_52 : decode cX0_derive 52 = .ok (.ifCond .le 30, 3) := by decide +kernel
theorem dX0_derive_55 : decode cX0_derive 55 = .ok (.aload_n 3, 1) := by decide +kernel
theorem dX0_derive_56 : decode cX0_derive 56 = .ok (.getfield 288, 3) := by decide +kernel
theorem dX0_derive_59 : decode cX0_derive 59 = .ok (.iload 4, 2) := by decide +kernel
theorem dX0_derive_61 : decode cX0_derive 61 = .ok (.aload_n 3, 1) := by decide +kernel
theorem dX0_derive_62 : decode cX0_derive 62 = .ok (.getfield 608, 3) := by decide +kernel
theorem dX0_derive_65 : decode cX0_derive 65 = .ok (.imul, 1) := by decide +kernel
theorem dX0_derive_66 : decode cX0_derive 66 = .ok (.iload 5, 2) := by decide +kernel
theorem dX0_derive_68 : decode cX0_derive 68 = .ok (.iadd, 1) := by decide +kernel
theorem dX0_derive_69 : decode cX0_derive 69 = .ok (.iconst 1, 1) := by decide +kernel
theorem dX0_derive_70 : decode cX0_derive 70 = .ok (.isub, 1) := by decide +kernel
theorem dX0_derive_71 : decode cX0_derive 71 = .ok (.iload 6, 2) := by decide +kernel
theorem dX0_derive_73 : decode cX0_derive 73 = .ok (.iload 5, 2) := by decide +kernel
theorem dX0_derive_75 : decode cX0_derive 75 = .ok (.invokestatic 6, 3) := by decide +kernel
theorem dX0_derive_78 : decode cX0_derive 78 = .ok (.iastore, 1) := by decide +kernel
theorem dX0_derive_79 : decode cX0_derive 79 = .ok (.goto 36, 3) := by decide +kernel
theorem dX0_derive_82 : decode cX0_derive 82 = .ok (.iload_n 2, 1) := by decide +kernel
theorem dX0_derive_83 : decode cX0_derive 83 = .ok (.ifCond .ne 32, 3) := by decide +kernel
theorem dX0_derive_86 : decode cX0_derive 86 = .ok (.iload 4, 2) := by decide +kernel
theorem dX0_derive_88 : decode cX0_derive 88 = .ok (.ifCond .le 27, 3) := by decide +kernel
theorem dX0_derive_91 : decode cX0_derive 91 = .ok (.aload_n 3, 1) := by decide +kernel
theorem dX0_derive_92 : decode cX0_derive 92 = .ok (.getfield 288, 3) := by decide +kernel
theorem dX0_derive_95 : decode cX0_derive 95 = .ok (.iload 4, 2) := by decide +kernel
theorem dX0_derive_97 : decode cX0_derive 97 = .ok (.iconst 1, 1) := by decide +kernel
theorem dX0_derive_98 : decode cX0_derive 98 = .ok (.isub, 1) := by decide +kernel
theorem dX0_derive_99 : decode cX0_derive 99 = .ok (.aload_n 3, 1) := by decide +kernel
theorem dX0_derive_100 : decode cX0_derive 100 = .ok (.getfield 608, 3) := by decide +kernel
theorem dX0_derive_103 : decode cX0_derive 103 = .ok (.imul, 1) := by decide +kernel
theorem dX0_derive_104 : decode cX0_derive 104 = .ok (.iload 5, 2) := by decide +kernel
theorem dX0_derive_106 : decode cX0_derive 106 = .ok (.iadd, 1) := by decide +kernel
theorem dX0_derive_107 : decode cX0_derive 107 = .ok (.iload 6, 2) := by decide +kernel
theorem dX0_derive_109 : decode cX0_derive 109 = .ok (.iload 4, 2) := by decide +kernel
theorem dX0_derive_111 : decode cX0_derive 111 = .ok (.invokestatic 6, 3) := by decide +kernel
theorem dX0_derive_114 : decode cX0_derive 114 = .ok (.iastore, 1) := by decide +kernel
theorem dX0_derive_115 : decode cX0_derive 115 = .ok (.iinc 5 1, 3) := by decide +kernel
theorem dX0_derive_118 : decode cX0_derive 118 = .ok (.goto (-91), 3) := by decide +kernel
theorem dX0_derive_121 : decode cX0_derive 121 = .ok (.iinc 4 1, 3) := by decide +kernel
theorem dX0_derive_124 : decode cX0_derive 124 = .ok (.goto (-109), 3) := by decide +kernel
theorem dX0_derive_127 : decode cX0_derive 127 = .ok (.aload_n 3, 1) := by decide +kernel
theorem dX0_derive_128 : decode cX0_derive 128 = .ok (.invokevirtual 611, 3) := by decide +kernel
theorem dX0_derive_131 : decode cX0_derive 131 = .ok (.return_, 1) := by decide +kernel
theorem dX0_count_0 : decode cX0_count 0 = .ok (.iconst 0, 1) := by decide +kernel
theorem dX0_count_1 : decode cX0_count 1 = .ok (.istore_n 2, 1) := by decide +kernel
theorem dX0_count_2 : decode cX0_count 2 = .ok (.iconst 0, 1) := by decide +kernel
theorem dX0_count_3 : decode cX0_count 3 = .ok (.istore_n 3, 1) := by decide +kernel
theorem dX0_count_4 : decode cX0_count 4 = .ok (.iconst 0, 1) := by decide +kernel
theorem dX0_count_5 : decode cX0_count 5 = .ok (.istore 4, 2) := by decide +kernel
theorem dX0_count_7 : decode cX0_count 7 = .ok (.iload 4, 2) := by decide +kernel
theorem dX0_count_9 : decode cX0_count 9 = .ok (.bipush 12, 2) := by decide +kernel
theorem dX0_count_11 : decode cX0_count 11 = .ok (.if_icmp .ge 52, 3) := by decide +kernel
theorem dX0_count_14 : decode cX0_count 14 = .ok (.iload_n 2, 1) := by decide +kernel
theorem dX0_count_15 : decode cX0_count 15 = .ok (.aload_n 0, 1) := by decide +kernel
theorem dX0_count_16 : decode cX0_count 16 = .ok (.getfield 326, 3) := by decide +kernel
theorem dX0_count_19 : decode cX0_count 19 = .ok (.iload 4, 2) := by decide +kernel
theorem dX0_count_21 : decode cX0_count 21 = .ok (.aaload, 1) := by decide +kernel
theorem dX0_count_22 : decode cX0_count 22 = .ok (.getfield 509, 3) := by decide +kernel
theorem dX0_count_25 : decode cX0_count 25 = .ok (.ifCond .le 7, 3) := by decide +kernel
theorem dX0_count_28 : decode cX0_count 28 = .ok (.iconst 1, 1) := by decide +kernel
theorem dX0_count_29 : decode cX0_count 29 = .ok (.goto 4, 3) := by decide +kernel
theorem dX0_count_32 : decode cX0_count 32 = .ok (.iconst 0, 1) := by decide +kernel
theorem dX0_count_33 : decode cX0_count 33 = .ok (.iadd, 1) := by decide +kernel
theorem dX0_count_34 : decode cX0_count 34 = .ok (.istore_n 2, 1) := by decide +kernel
theorem dX0_count_35 : decode cX0_count 35 = .ok (.iload_n 3, 1) := by decide +kernel
theorem dX0_count_36 : decode cX0_count 36 = .ok (.aload_n 0, 1) := by decide +kernel
theorem dX0_count_37 : decode cX0_count 37 = .ok (.getfield 326, 3) := by decide +kernel
theorem dX0_count_40 : decode cX0_count 40 = .ok (.iload 4, 2) := by decide +kernel
theorem dX0_count_42 : decode cX0_count 42 = .ok (.aaload, 1) := by decide +kernel
theorem dX0_count_43 : decode cX0_count 43 = .ok (.getfield 509, 3) := by decide +kernel
theorem dX0_count_46 : decode cX0_count 46 = .ok (.iconst 3, 1) := by decide +kernel
theorem dX0_count_47 : decode cX0_count 47 = .ok (.if_icmp .ne 7, 3) := by decide +kernel
theorem dX0_count_50 : decode cX0_count 50 = .ok (.iconst 1, 1) := by decide +kernel
theorem dX0_count_51 : decode cX0_count 51 = .ok (.goto 4, 3) := by decide +kernel
theorem dX0_count_54 : decode cX0_count 54 = .ok (.iconst 0, 1) := by decide +kernel
theorem dX0_count_55 : decode cX0_count 55 = .ok (.iadd, 1) := by decide +kernel
theorem dX0_count_56 : decode cX0_count 56 = .ok (.istore_n 3, 1) := by decide +kernel
theorem dX0_count_57 : decode cX0_count 57 = .ok (.iinc 4 1, 3) := by decide +kernel
theorem dX0_count_60 : decode cX0_count 60 = .ok (.goto (-53), 3) := by decide +kernel
theorem dX0_count_63 : decode cX0_count 63 = .ok (.iload_n 1, 1) := by decide +kernel
theorem dX0_count_64 : decode cX0_count 64 = .ok (.tableswitch 64 0 5 #[40, 45, 50, 55, 60, 62], 40) := by decide +kernel
theorem dX0_count_104 : decode cX0_count 104 = .ok (.aload_n 0, 1) := by decide +kernel
theorem dX0_count_105 : decode cX0_count 105 = .ok (.getfield 204, 3) := by decide +kernel
theorem dX0_count_108 : decode cX0_count 108 = .ok (.ireturn, 1) := by decide +kernel
theorem dX0_count_109 : decode cX0_count 109 = .ok (.aload_n 0, 1) := by decide +kernel
theorem dX0_count_110 : decode cX0_count 110 = .ok (.getfield 566, 3) := by decide +kernel
theorem dX0_count_113 : decode cX0_count 113 = .ok (.ireturn, 1) := by decide +kernel
theorem dX0_count_114 : decode cX0_count 114 = .ok (.aload_n 0, 1) := by decide +kernel
theorem dX0_count_115 : decode cX0_count 115 = .ok (.getfield 854, 3) := by decide +kernel
theorem dX0_count_118 : decode cX0_count 118 = .ok (.ireturn, 1) := by decide +kernel
theorem dX0_count_119 : decode cX0_count 119 = .ok (.aload_n 0, 1) := by decide +kernel
theorem dX0_count_120 : decode cX0_count 120 = .ok (.getfield 873, 3) := by decide +kernel
theorem dX0_count_123 : decode cX0_count 123 = .ok (.ireturn, 1) := by decide +kernel
theorem dX0_count_124 : decode cX0_count 124 = .ok (.iload_n 2, 1) := by decide +kernel
theorem dX0_count_125 : decode cX0_count 125 = .ok (.ireturn, 1) := by decide +kernel
theorem dX0_count_126 : decode cX0_count 126 = .ok (.iload_n 3, 1) := by decide +kernel
theorem dX0_count_127 : decode cX0_count 127 = .ok (.ireturn, 1) := by decide +kernel
theorem dX0_count_128 : decode cX0_count 128 = .ok (.iconst (-1), 1) := by decide +kernel
theorem dX0_count_129 : decode cX0_count 129 = .ok (.ireturn, 1) := by decide +kernel
abbrev W_X0_addRoot (g : GX) (d : Nat) (av : List Value) (Q : QT) (n : Nat) (pc : Nat) (ls : LV) (stk : List Value) (h : Hp) : Prop := RJ g m_X0_addRoot (d + 1) 0 0 av Q pc ls stk n h 0 0
theorem s_X0_addRoot_0 {g : GX} {d : Nat} {av : List Value} {Q : QT} {n : Nat} {h : Hp} {x1 : Int32} (hp : g.2.2.2.2 = true)  (H : (((ri h 1178 1) ≤ (1 : Int32)) → (Q none n h)) ∧ ((¬ (ri h 1178 1) ≤ (1 : Int32)) → (CallI g m_X3_value d [.ref 1178, .int x1] n h (fun v1 h1 => (((¬ v1 = (0 : Int32)) → (Q none n h1)) ∧ ((v1 = (0 : Int32)) → (∀ h2, h2 = wi h1 0 73 ((ri h1 0 73) + (1 : Int32)) → (vp_in (ri h1 0 73) 24 ∧ ∀ h3, h3 = wi h2 1177 ((ri h1 0 73)).toNatClampNeg x1 → (CallI g m_X0_less d [.int (0 : Int32), .int x1] n h3 (fun v4 h4 => (CallV g m_X3_set d [.ref 103, .int v4] n h4 (fun h5 => (CallV g m_X3_put d [.ref 103, .int (1 : Int32), .int (1 : Int32)] n h5 (fun h6 => (CallV g m_X2_divideExactly d [.ref 2, .ref 1178, .ref 103] n h6 (fun h7 => (W_X0_addRoot g d av Q n 0 [some (.ref 0), some (.int x1)] [] h7))))))))))))))))) : W_X0_addRoot g d av Q n 0 [some (.ref 0), some (.int x1)] [] h := by
  refine r_aload_n dX0_addRoot_0 rfl rfl ?_
  refine m_getF (x := 1178) hp fw_X0_493 dX0_addRoot_1 rfl ly_0 (ff_0_74 ly_0) ?_
  refine m_getI hp fw_X0_636 dX0_addRoot_4 rfl (lf_0_74 ly_0) ?_
  refine r_iconst (v := (1 : Int32)) dX0_addRoot_7 rfl ?_
  refine r_icmp_le (tgt := 81) dX0_addRoot_8 rfl (fun cH => ?_) (fun cH => ?_)
  · replace H := H.1 cH
    exact r_vret dX0_addRoot_81 rfl (Nat.le_refl _) (Nat.le_refl _) H
  · replace H := H.2 cH
    refine r_aload_n dX0_addRoot_11 rfl rfl ?_
    refine m_getF (x := 1178) hp fw_X0_493 dX0_addRoot_12 rfl ly_0 (ff_0_74 ly_0) ?_
    refine r_iload_n dX0_addRoot_15 rfl rfl ?_
    refine k_VI (As := [.int x1]) (stk := []) hp cv_X0_765 dX0_addRoot_16 rfl (Nat.le_of_ble_eq_true rfl) (lf_0_74 ly_0) (H.mono (fun v1 h1 H => ?_)) ⟨Nat.le_refl _, Nat.le_refl _⟩
    refine r_if_ne (tgt := 81) dX0_addRoot_19 rfl (fun cH => ?_) (fun cH => ?_)
    · replace H := H.1 cH
      exact r_vret dX0_addRoot_81 rfl (Nat.le_refl _) (Nat.le_refl _) H
    · replace H := H.2 cH
      refine r_aload_n dX0_addRoot_22 rfl rfl ?_
      refine m_getF (x := 1177) hp fw_X0_490 dX0_addRoot_23 rfl ly_0 (ff_0_72 ly_0) ?_
      refine r_aload_n dX0_addRoot_26 rfl rfl ?_
      refine r_dup dX0_addRoot_27 rfl ?_
      refine m_getI hp fw_X0_873 dX0_addRoot_28 rfl ly_0 ?_
      refine r_dup_x1 dX0_addRoot_31 rfl rfl ?_
      refine r_iconst (v := (1 : Int32)) dX0_addRoot_32 rfl ?_
      refine r_iadd dX0_addRoot_33 ?_
      refine m_putI hp fw_X0_873 dX0_addRoot_34 rfl rfl ly_0 (fun h2 eh2 => ?_)
      replace H := H h2 eh2
      refine r_iload_n dX0_addRoot_37 rfl rfl ?_
      refine m_iast hp dX0_addRoot_38 (lf_0_72 ly_0) H.1 (fun h3 eh3 => ?_)
      replace H := H.2 h3 eh3
      refine r_aload_n dX0_addRoot_39 rfl rfl ?_
      refine m_getF (x := 103) hp fw_X0_361 dX0_addRoot_40 rfl ly_0 (ff_0_32 ly_0) ?_
      refine r_iconst (v := (0 : Int32)) dX0_addRoot_43 rfl ?_
      refine r_iload_n dX0_addRoot_44 rfl rfl ?_
      refine k_SI (As := [.int (0 : Int32), .int x1]) (stk := [.ref 103]) cs_X0_784 dX0_addRoot_45 rfl (Nat.le_of_ble_eq_true rfl) (H.mono (fun v4 h4 H => ?_)) ⟨Nat.le_refl _, Nat.le_refl _⟩
      refine k_VV (As := [.int v4]) (stk := []) hp cv_X0_734 dX0_addRoot_48 rfl (Nat.le_of_ble_eq_true rfl) (lf_0_32 ly_0) (H.mono (fun h5 H => ?_)) ⟨Nat.le_refl _, Nat.le_refl _⟩
      refine r_aload_n dX0_addRoot_51 rfl rfl ?_
      refine m_getF (x := 103) hp fw_X0_361 dX0_addRoot_52 rfl ly_0 (ff_0_32 ly_0) ?_
      refine r_iconst (v := (1 : Int32)) dX0_addRoot_55 rfl ?_
      refine r_iconst (v := (1 : Int32)) dX0_addRoot_56 rfl ?_
      refine k_VV (As := [.int (1 : Int32), .int (1 : Int32)]) (stk := []) hp cv_X0_774 dX0_addRoot_57 rfl (Nat.le_of_ble_eq_true rfl) (lf_0_32 ly_0) (H.mono (fun h6 H => ?_)) ⟨Nat.le_refl _, Nat.le_refl _⟩
      refine r_aload_n dX0_addRoot_60 rfl rfl ?_
      refine m_getF (x := 1) hp fw_X0_46 dX0_addRoot_61 rfl ly_0 (ff_0_0 ly_0) ?_
      refine m_getF (x := 2) hp fw_X0_642 dX0_addRoot_64 rfl (lf_0_0 ly_0) (ff_1_0 (lf_0_0 ly_0)) ?_
      refine r_aload_n dX0_addRoot_67 rfl rfl ?_
      refine m_getF (x := 1178) hp fw_X0_493 dX0_addRoot_68 rfl ly_0 (ff_0_74 ly_0) ?_
      refine r_aload_n dX0_addRoot_71 rfl rfl ?_
      refine m_getF (x := 103) hp fw_X0_361 dX0_addRoot_72 rfl ly_0 (ff_0_32 ly_0) ?_
      refine k_VV (As := [.ref 1178, .ref 103]) (stk := []) hp cv_X0_718 dX0_addRoot_75 rfl (Nat.le_of_ble_eq_true rfl) (lf_1_0 (lf_0_0 ly_0)) (H.mono (fun h7 H => ?_)) ⟨Nat.le_refl _, Nat.le_refl _⟩
      refine r_goto (tgt := 0) dX0_addRoot_78 rfl ?_
      exact H
abbrev W_X0_sortRoots (g : GX) (d : Nat) (av : List Value) (Q : QT) (n : Nat) (pc : Nat) (ls : LV) (stk : List Value) (h : Hp) : Prop := RJ g m_X0_sortRoots d 0 0 av Q pc ls stk n h 0 0
theorem s_X0_sortRoots_0 {g : GX} {d : Nat} {av : List Value} {Q : QT} {n : Nat} {h : Hp}  (hp : g.2.2.2.2 = true)  (H : W_X0_sortRoots g d av Q n 2 [some (.ref 0), some (.int (1 : Int32)), none, none] [] h) : W_X0_sortRoots g d av Q n 0 [some (.ref 0), none, none, none] [] h := by
  refine r_iconst (v := (1 : Int32)) dX0_sortRoots_0 rfl ?_
  refine r_istore_n (ls2 := [some (.ref 0), some (.int (1 : Int32)), none, none]) dX0_sortRoots_1 rfl (by decide) rfl ?_
  exact H
theorem s_X0_sortRoots_2 {g : GX} {d : Nat} {av : List Value} {Q : QT} {n : Nat} {h : Hp} {x1 : Int32} (hp : g.2.2.2.2 = true)  (H : (((ri h 0 73) ≤ x1) → (Q none n h)) ∧ ((¬ (ri h 0 73) ≤ x1) → (vp_in x1 24 ∧ (W_X0_sortRoots g d av Q n 19 [some (.ref 0), some (.int x1), some (.int (ri h 1177 (x1).toNatClampNeg)), some (.int x1)] [] h)))) : W_X0_sortRoots g d av Q n 2 [some (.ref 0), some (.int x1), none, none] [] h := by
  refine r_iload_n dX0_sortRoots_2 rfl rfl ?_
  refine r_aload_n dX0_sortRoots_3 rfl rfl ?_
  refine m_getI hp fw_X0_873 dX0_sortRoots_4 rfl ly_0 ?_
  refine r_icmp_ge (tgt := 68) dX0_sortRoots_7 rfl (fun cH => ?_) (fun cH => ?_)
  · replace H := H.1 cH
    exact r_vret dX0_sortRoots_68 rfl (Nat.le_refl _) (Nat.le_refl _) H
  · replace H := H.2 cH
    refine r_aload_n dX0_sortRoots_10 rfl rfl ?_
    refine m_getF (x := 1177) hp fw_X0_490 dX0_sortRoots_11 rfl ly_0 (ff_0_72 ly_0) ?_
    refine r_iload_n dX0_sortRoots_14 rfl rfl ?_
    refine m_iald hp dX0_sortRoots_15 (lf_0_72 ly_0) H.1 ?_
    replace H := H.2
    refine r_istore_n (ls2 := [some (.ref 0), some (.int x1), some (.int (ri h 1177 (x1).toNatClampNeg)), none]) dX0_sortRoots_16 rfl (by decide) rfl ?_
    refine r_iload_n dX0_sortRoots_17 rfl rfl ?_
    refine r_istore_n (ls2 := [some (.ref 0), some (.int x1), some (.int (ri h 1177 (x1).toNatClampNeg)), some (.int x1)]) dX0_sortRoots_18 rfl (by decide) rfl ?_
    exact H
theorem s_X0_sortRoots_19 {g : GX} {d : Nat} {av : List Value} {Q : QT} {n : Nat} {h : Hp} {x1 : Int32} {x2 : Int32} {x3 : Int32} (hp : g.2.2.2.2 = true)  (H : ((x3 ≤ (0 : Int32)) → (W_X0_sortRoots g d av Q n 55 [some (.ref 0), some (.int x1), some (.int x2), some (.int x3)] [] h)) ∧ ((¬ x3 ≤ (0 : Int32)) → (vp_in (x3 - (1 : Int32)) 24 ∧ ((((ri h 1177 ((x3 - (1 : Int32))).toNatClampNeg) ≤ x2) → (W_X0_sortRoots g d av Q n 55 [some (.ref 0), some (.int x1), some (.int x2), some (.int x3)] [] h)) ∧ ((¬ (ri h 1177 ((x3 - (1 : Int32))).toNatClampNeg) ≤ x2) → (vp_in (x3 - (1 : Int32)) 24 ∧ (vp_in x3 24 ∧ ∀ h1, h1 = wi h 1177 (x3).toNatClampNeg (ri h 1177 ((x3 - (1 : Int32))).toNatClampNeg) → (W_X0_sortRoots g d av Q n 19 [some (.ref 0), some (.int x1), some (.int x2), some (.int (x3 + (-1 : Int32)))] [] h1)))))))) : W_X0_sortRoots g d av Q n 19 [some (.ref 0), some (.int x1), some (.int x2), some (.int x3)] [] h := by
  refine r_iload_n dX0_sortRoots_19 rfl rfl ?_
  refine r_if_le (tgt := 55) dX0_sortRoots_20 rfl (fun cH => ?_) (fun cH => ?_)
  · replace H := H.1 cH
    exact H
  · replace H := H.2 cH
    refine r_aload_n dX0_sortRoots_23 rfl rfl ?_
    refine m_getF (x := 1177) hp fw_X0_490 dX0_sortRoots_24 rfl ly_0 (ff_0_72 ly_0) ?_
    refine r_iload_n dX0_sortRoots_27 rfl rfl ?_
    refine r_iconst (v := (1 : Int32)) dX0_sortRoots_28 rfl ?_
    refine r_isub dX0_sortRoots_29 ?_
    refine m_iald hp dX0_sortRoots_30 (lf_0_72 ly_0) H.1 ?_
    replace H := H.2
    refine r_iload_n dX0_sortRoots_31 rfl rfl ?_
    refine r_icmp_le (tgt := 55) dX0_sortRoots_32 rfl (fun cH => ?_) (fun cH => ?_)
    · replace H := H.1 cH
      exact H
    · replace H := H.2 cH
      refine r_aload_n dX0_sortRoots_35 rfl rfl ?_
      refine m_getF (x := 1177) hp fw_X0_490 dX0_sortRoots_36 rfl ly_0 (ff_0_72 ly_0) ?_
      refine r_iload_n dX0_sortRoots_39 rfl rfl ?_
      refine r_aload_n dX0_sortRoots_40 rfl rfl ?_
      refine m_getF (x := 1177) hp fw_X0_490 dX0_sortRoots_41 rfl ly_0 (ff_0_72 ly_0) ?_
      refine r_iload_n dX0_sortRoots_44 rfl rfl ?_
      refine r_iconst (v := (1 : Int32)) dX0_sortRoots_45 rfl ?_
      refine r_isub dX0_sortRoots_46 ?_
      refine m_iald hp dX0_sortRoots_47 (lf_0_72 ly_0) H.1 ?_
      replace H := H.2
      refine m_iast hp dX0_sortRoots_48 (lf_0_72 ly_0) H.1 (fun h1 eh1 => ?_)
      replace H := H.2 h1 eh1
      refine r_iinc (v := (x3 + (-1 : Int32))) (ls2 := [some (.ref 0), some (.int x1), some (.int x2), some (.int (x3 + (-1 : Int32)))]) dX0_sortRoots_49 rfl rfl (by decide) rfl ?_
      refine r_goto (tgt := 19) dX0_sortRoots_52 rfl ?_
      exact H
theorem s_X0_sortRoots_55 {g : GX} {d : Nat} {av : List Value} {Q : QT} {n : Nat} {h : Hp} {x1 : Int32} {x2 : Int32} {x3 : Int32} (hp : g.2.2.2.2 = true)  (H : vp_in x3 24 ∧ ∀ h1, h1 = wi h 1177 (x3).toNatClampNeg x2 → (W_X0_sortRoots g d av Q n 2 [some (.ref 0), some (.int (x1 + (1 : Int32))), none, none] [] h1)) : W_X0_sortRoots g d av Q n 55 [some (.ref 0), some (.int x1), some (.int x2), some (.int x3)] [] h := by
  refine r_aload_n dX0_sortRoots_55 rfl rfl ?_
  refine m_getF (x := 1177) hp fw_X0_490 dX0_sortRoots_56 rfl ly_0 (ff_0_72 ly_0) ?_
  refine r_iload_n dX0_sortRoots_59 rfl rfl ?_
  refine r_iload_n dX0_sortRoots_60 rfl rfl ?_
  refine m_iast hp dX0_sortRoots_61 (lf_0_72 ly_0) H.1 (fun h1 eh1 => ?_)
  replace H := H.2 h1 eh1
  refine r_iinc (v := (x1 + (1 : Int32))) (ls2 := [some (.ref 0), some (.int (x1 + (1 : Int32))), some (.int x2), some (.int x3)]) dX0_sortRoots_62 rfl rfl (by decide) rfl ?_
  refine r_goto (tgt := 2) dX0_sortRoots_65 rfl ?_
  refine r_prune [true, true, false, false] (ls2 := [some (.ref 0), some (.int (x1 + (1 : Int32))), none, none]) rfl ?_
  exact H
abbrev W_X0_root (g : GX) (d : Nat) (av : List Value) (Q : QT) (n : Nat) (pc : Nat) (ls : LV) (stk : List Value) (h : Hp) : Prop := RJ g m_X0_root d 0 0 av Q pc ls stk n h 0 0
theorem s_X0_root_0 {g : GX} {d : Nat} {av : List Value} {Q : QT} {n : Nat} {h : Hp} {x1 : Int32} (hp : g.2.2.2.2 = true)  (H : ((x1 < (0 : Int32)) → (Q (some (.int (-1 : Int32))) n h)) ∧ ((¬ x1 < (0 : Int32)) → ((((ri h 0 73) ≤ x1) → (Q (some (.int (-1 : Int32))) n h)) ∧ ((¬ (ri h 0 73) ≤ x1) → (vp_in x1 24 ∧ (Q (some (.int (ri h 1177 (x1).toNatClampNeg))) n h)))))) : W_X0_root g d av Q n 0 [some (.ref 0), some (.int x1)] [] h := by
  refine r_iload_n dX0_root_0 rfl rfl ?_
  refine r_if_lt (tgt := 21) dX0_root_1 rfl (fun cH => ?_) (fun cH => ?_)
  · replace H := H.1 cH
    refine r_iconst (v := (-1 : Int32)) dX0_root_21 rfl ?_
    exact r_zret dX0_root_22 rfl rfl (Nat.le_refl _) (Nat.le_refl _) H
  · replace H := H.2 cH
    refine r_iload_n dX0_root_4 rfl rfl ?_
    refine r_aload_n dX0_root_5 rfl rfl ?_
    refine m_getI hp fw_X0_873 dX0_root_6 rfl ly_0 ?_
    refine r_icmp_ge (tgt := 21) dX0_root_9 rfl (fun cH => ?_) (fun cH => ?_)
    · replace H := H.1 cH
      refine r_iconst (v := (-1 : Int32)) dX0_root_21 rfl ?_
      exact r_zret dX0_root_22 rfl rfl (Nat.le_refl _) (Nat.le_refl _) H
    · replace H := H.2 cH
      refine r_aload_n dX0_root_12 rfl rfl ?_
      refine m_getF (x := 1177) hp fw_X0_490 dX0_root_13 rfl ly_0 (ff_0_72 ly_0) ?_
      refine r_iload_n dX0_root_16 rfl rfl ?_
      refine m_iald hp dX0_root_17 (lf_0_72 ly_0) H.1 ?_
      replace H := H.2
      refine r_goto (tgt := 22) dX0_root_18 rfl ?_
      exact r_zret dX0_root_22 rfl rfl (Nat.le_refl _) (Nat.le_refl _) H
abbrev W_X0_solve (g : GX) (d : Nat) (av : List Value) (Q : QT) (n : Nat) (pc : Nat) (ls : LV) (stk : List Value) (h : Hp) : Prop := RJ g m_X0_solve (d + 1) 0 0 av Q pc ls stk n h 0 0
theorem s_X0_solve_0 {g : GX} {d : Nat} {av : List Value} {Q : QT} {n : Nat} {h : Hp} {x1 : Int32} {x2 : Int32} (hp : g.2.2.2.2 = true)  (H : CallI g m_X0_isSlot d [.int x1] n h (fun v1 h1 => (((v1 = (0 : Int32)) → (Q (some (.int (-1 : Int32))) n h1)) ∧ ((¬ v1 = (0 : Int32)) → (CallI g m_X0_isSlot d [.int x2] n h1 (fun v2 h2 => (((¬ v2 = (0 : Int32)) → (vp_in x1 12 ∧ ∀ r3, r3 = 1185 + 27 * (x1).toNatClampNeg → ((((3 : Int32) ≤ (ri h2 r3 0)) → (((¬ (ri h2 r3 3) = (1 : Int32)) → (Q (some (.int (-1 : Int32))) n h2)) ∧ (((ri h2 r3 3) = (1 : Int32)) → (vp_in (0 : Int32) 7 ∧ ∀ r4, r4 = (r3 + 13) + 2 * ((0 : Int32)).toNatClampNeg → (CallI g m_X3_isZero d [.ref r4] n h2 (fun v5 h5 => (((¬ v5 = (0 : Int32)) → (Q (some (.int (-1 : Int32))) n h5)) ∧ ((v5 = (0 : Int32)) → (vp_in (1 : Int32) 7 ∧ ∀ r6, r6 = (r3 + 13) + 2 * ((1 : Int32)).toNatClampNeg → (CallI g m_X3_isZero d [.ref r6] n h5 (fun v7 h7 => (((v7 = (0 : Int32)) → (CallV g m_X5_set d [.ref 80, .int (1 : Int32)] n h7 (fun h8 => (vp_in (0 : Int32) 7 ∧ ∀ r9, r9 = (r3 + 13) + 2 * ((0 : Int32)).toNatClampNeg → (CallI g m_X3_head d [.ref r9] n h8 (fun v10 h10 => (vp_in (1 : Int32) 7 ∧ ∀ r11, r11 = (r3 + 13) + 2 * ((1 : Int32)).toNatClampNeg → (CallI g m_X3_head d [.ref r11] n h10 (fun v12 h12 => (CallI g m_X0_inverse d [.int v12] n h12 (fun v13 h13 => (CallI g m_X0_times d [.int v10, .int v13] n h13 (fun v14 h14 => (CallI g m_X0_less d [.int (0 : Int32), .int v14] n h14 (fun v15 h15 => (∀ h16, h16 = wi h15 80 1 v15 → (vp_in (0 : Int32) 7 ∧ ∀ r17, r17 = (r3 + 13) + 2 * ((0 : Int32)).toNatClampNeg → (CallI g m_X0_takeLines d [.ref 0, .ref r17, .int (1 : Int32)] n h16 (fun v18 h18 => (((v18 = (0 : Int32)) → (W_X0_solve g d av Q n 143 [some (.ref 0), none, some (.int x2), none, none] [] h18)) ∧ ((¬ v18 = (0 : Int32)) → (vp_in (1 : Int32) 7 ∧ ∀ r19, r19 = (r3 + 13) + 2 * ((1 : Int32)).toNatClampNeg → (CallI g m_X0_takeLines d [.ref 0, .ref r19, .int (-1 : Int32)] n h18 (fun v20 h20 => (((v20 = (0 : Int32)) → (W_X0_solve g d av Q n 143 [some (.ref 0), none, some (.int x2), none, none] [] h20)) ∧ ((¬ v20 = (0 : Int32)) → (W_X0_solve g d av Q n 144 [some (.ref 0), none, some (.int x2), none, none] [.int (1 : Int32)] h20))))))))))))))))))))))))))) ∧ ((¬ v7 = (0 : Int32)) → (Q (some (.int (-1 : Int32))) n h7)))))))))))))) ∧ ((¬ (3 : Int32) ≤ (ri h2 r3 0)) → (Q (some (.int (-3 : Int32))) n h2))))) ∧ ((v2 = (0 : Int32)) → (Q (some (.int (-1 : Int32))) n h2))))))))) : W_X0_solve g d av Q n 0 [some (.ref 0), some (.int x1), some (.int x2), none, none] [] h := by
  refine r_iload_n dX0_solve_0 rfl rfl ?_
  refine k_SI (As := [.int x1]) (stk := []) cs_X0_519 dX0_solve_1 rfl (Nat.le_of_ble_eq_true rfl) (H.mono (fun v1 h1 H => ?_)) ⟨Nat.le_refl _, Nat.le_refl _⟩
  refine r_if_eq (tgt := 14) dX0_solve_4 rfl (fun cH => ?_) (fun cH => ?_)
  · replace H := H.1 cH
    refine r_iconst (v := (-1 : Int32)) dX0_solve_14 rfl ?_
    exact r_zret dX0_solve_15 rfl rfl (Nat.le_refl _) (Nat.le_refl _) H
  · replace H := H.2 cH
    refine r_iload_n dX0_solve_7 rfl rfl ?_
    refine k_SI (As := [.int x2]) (stk := []) cs_X0_519 dX0_solve_8 rfl (Nat.le_of_ble_eq_true rfl) (H.mono (fun v2 h2 H => ?_)) ⟨Nat.le_refl _, Nat.le_refl _⟩
    refine r_if_ne (tgt := 16) dX0_solve_11 rfl (fun cH => ?_) (fun cH => ?_)
    · replace H := H.1 cH
      refine r_aload_n dX0_solve_16 rfl rfl ?_
      refine m_getF (x := 79) hp fw_X0_326 dX0_solve_17 rfl ly_0 (ff_0_20 ly_0) ?_
      refine r_iload_n dX0_solve_20 rfl rfl ?_
      obtain ⟨r3, er3⟩ : ∃ y, y = 1185 + 27 * (x1).toNatClampNeg := ⟨_, rfl⟩
      have hir3 := H.1
      replace H := H.2 r3 er3
      have tLr3 := la_79 hir3 er3
      refine m_aalF (x := r3) hp dX0_solve_21 (lf_0_20 ly_0) rfl rfl (lu_0_20 ly_0) hir3 (fa_79 hir3 er3) ?_
      refine r_astore_n (ls2 := [some (.ref 0), some (.int x1), some (.int x2), some (.ref r3), none]) dX0_solve_22 rfl (by decide) rfl ?_
      refine r_aload_n dX0_solve_23 rfl rfl ?_
      refine m_getI hp fw_X0_509 dX0_solve_24 rfl tLr3 ?_
      refine r_iconst (v := (3 : Int32)) dX0_solve_27 rfl ?_
      refine r_icmp_ge (tgt := 34) dX0_solve_28 rfl (fun cH => ?_) (fun cH => ?_)
      · replace H := H.1 cH
        refine r_aload_n dX0_solve_34 rfl rfl ?_
        refine m_getI hp fw_X0_575 dX0_solve_35 rfl tLr3 ?_
        refine r_iconst (v := (1 : Int32)) dX0_solve_38 rfl ?_
        refine r_icmp_ne (tgt := 66) dX0_solve_39 rfl (fun cH => ?_) (fun cH => ?_)
        · replace H := H.1 cH
          refine r_iconst (v := (-1 : Int32)) dX0_solve_66 rfl ?_
          exact r_zret dX0_solve_67 rfl rfl (Nat.le_refl _) (Nat.le_refl _) H
        · replace H := H.2 cH
          refine r_aload_n dX0_solve_42 rfl rfl ?_
          refine m_getF (x := (r3 + 11)) hp fw_X0_578 dX0_solve_43 rfl tLr3 (ff_9_2 tLr3) ?_
          refine r_iconst (v := (0 : Int32)) dX0_solve_46 rfl ?_
          obtain ⟨r4, er4⟩ : ∃ y, y = (r3 + 13) + 2 * ((0 : Int32)).toNatClampNeg := ⟨_, rfl⟩
          have hir4 := H.1
          replace H := H.2 r4 er4
          have tLr4 := le_9 tLr3 hir4 er4
          refine m_aalF (x := r4) hp dX0_solve_47 (lf_9_2 tLr3) rfl rfl (lu_9_2 tLr3) hir4 (fe_9 tLr3 hir4 er4) ?_
          refine k_VI (As := []) (stk := []) hp cv_X0_692 dX0_solve_48 rfl (Nat.le_of_ble_eq_true rfl) tLr4 (H.mono (fun v5 h5 H => ?_)) ⟨Nat.le_refl _, Nat.le_refl _⟩
          refine r_if_ne (tgt := 66) dX0_solve_51 rfl (fun cH => ?_) (fun cH => ?_)
          · replace H := H.1 cH
            refine r_iconst (v := (-1 : Int32)) dX0_solve_66 rfl ?_
            exact r_zret dX0_solve_67 rfl rfl (Nat.le_refl _) (Nat.le_refl _) H
          · replace H := H.2 cH
            refine r_aload_n dX0_solve_54 rfl rfl ?_
            refine m_getF (x := (r3 + 11)) hp fw_X0_578 dX0_solve_55 rfl tLr3 (ff_9_2 tLr3) ?_
            refine r_iconst (v := (1 : Int32)) dX0_solve_58 rfl ?_
            obtain ⟨r6, er6⟩ : ∃ y, y = (r3 + 13) + 2 * ((1 : Int32)).toNatClampNeg := ⟨_, rfl⟩
            have hir6 := H.1
            replace H := H.2 r6 er6
            have tLr6 := le_9 tLr3 hir6 er6
            refine m_aalF (x := r6) hp dX0_solve_59 (lf_9_2 tLr3) rfl rfl (lu_9_2 tLr3) hir6 (fe_9 tLr3 hir6 er6) ?_
            refine k_VI (As := []) (stk := []) hp cv_X0_692 dX0_solve_60 rfl (Nat.le_of_ble_eq_true rfl) tLr6 (H.mono (fun v7 h7 H => ?_)) ⟨Nat.le_refl _, Nat.le_refl _⟩
            refine r_if_eq (tgt := 68) dX0_solve_63 rfl (fun cH => ?_) (fun cH => ?_)
            · replace H := H.1 cH
              refine r_aload_n dX0_solve_68 rfl rfl ?_
              refine m_getF (x := 80) hp fw_X0_330 dX0_solve_69 rfl ly_0 (ff_0_21 ly_0) ?_
              refine r_iconst (v := (1 : Int32)) dX0_solve_72 rfl ?_
              refine k_VV (As := [.int (1 : Int32)]) (stk := []) hp cv_X0_129 dX0_solve_73 rfl (Nat.le_of_ble_eq_true rfl) (lf_0_21 ly_0) (H.mono (fun h8 H => ?_)) ⟨Nat.le_refl _, Nat.le_refl _⟩
              refine r_aload_n dX0_solve_76 rfl rfl ?_
              refine m_getF (x := 80) hp fw_X0_330 dX0_solve_77 rfl ly_0 (ff_0_21 ly_0) ?_
              refine r_iconst (v := (0 : Int32)) dX0_solve_80 rfl ?_
              refine r_aload_n dX0_solve_81 rfl rfl ?_
              refine m_getF (x := (r3 + 11)) hp fw_X0_578 dX0_solve_82 rfl tLr3 (ff_9_2 tLr3) ?_
              refine r_iconst (v := (0 : Int32)) dX0_solve_85 rfl ?_
              obtain ⟨r9, er9⟩ : ∃ y, y = (r3 + 13) + 2 * ((0 : Int32)).toNatClampNeg := ⟨_, rfl⟩
              have hir9 := H.1
              replace H := H.2 r9 er9
              have tLr9 := le_9 tLr3 hir9 er9
              refine m_aalF (x := r9) hp dX0_solve_86 (lf_9_2 tLr3) rfl rfl (lu_9_2 tLr3) hir9 (fe_9 tLr3 hir9 er9) ?_
              refine k_VI (As := []) (stk := [.int (0 : Int32), .ref 80]) hp cv_X0_693 dX0_solve_87 rfl (Nat.le_of_ble_eq_true rfl) tLr9 (H.mono (fun v10 h10 H => ?_)) ⟨Nat.le_refl _, Nat.le_refl _⟩
              refine r_aload_n dX0_solve_90 rfl rfl ?_
              refine m_getF (x := (r3 + 11)) hp fw_X0_578 dX0_solve_91 rfl tLr3 (ff_9_2 tLr3) ?_
              refine r_iconst (v := (1 : Int32)) dX0_solve_94 rfl ?_
              obtain ⟨r11, er11⟩ : ∃ y, y = (r3 + 13) + 2 * ((1 : Int32)).toNatClampNeg := ⟨_, rfl⟩
              have hir11 := H.1
              replace H := H.2 r11 er11
              have tLr11 := le_9 tLr3 hir11 er11
              refine m_aalF (x := r11) hp dX0_solve_95 (lf_9_2 tLr3) rfl rfl (lu_9_2 tLr3) hir11 (fe_9 tLr3 hir11 er11) ?_
              refine k_VI (As := []) (stk := [.int v10, .int (0 : Int32), .ref 80]) hp cv_X0_693 dX0_solve_96 rfl (Nat.le_of_ble_eq_true rfl) tLr11 (H.mono (fun v12 h12 H => ?_)) ⟨Nat.le_refl _, Nat.le_refl _⟩
              refine k_SI (As := [.int v12]) (stk := [.int v10, .int (0 : Int32), .ref 80]) cs_X0_74 dX0_solve_99 rfl (Nat.le_of_ble_eq_true rfl) (H.mono (fun v13 h13 H => ?_)) ⟨Nat.le_refl _, Nat.le_refl _⟩
              refine k_SI (As := [.int v10, .int v13]) (stk := [.int (0 : Int32), .ref 80]) cs_X0_6 dX0_solve_102 rfl (Nat.le_of_ble_eq_true rfl) (H.mono (fun v14 h14 H => ?_)) ⟨Nat.le_refl _, Nat.le_refl _⟩
              refine k_SI (As := [.int (0 : Int32), .int v14]) (stk := [.ref 80]) cs_X0_784 dX0_solve_105 rfl (Nat.le_of_ble_eq_true rfl) (H.mono (fun v15 h15 H => ?_)) ⟨Nat.le_refl _, Nat.le_refl _⟩
              refine m_putI hp fw_X0_130 dX0_solve_108 rfl rfl (lf_0_21 ly_0) (fun h16 eh16 => ?_)
              replace H := H h16 eh16
              refine r_aload_n dX0_solve_111 rfl rfl ?_
              refine r_aload_n dX0_solve_112 rfl rfl ?_
              refine m_getF (x := (r3 + 11)) hp fw_X0_578 dX0_solve_113 rfl tLr3 (ff_9_2 tLr3) ?_
              refine r_iconst (v := (0 : Int32)) dX0_solve_116 rfl ?_
              obtain ⟨r17, er17⟩ : ∃ y, y = (r3 + 13) + 2 * ((0 : Int32)).toNatClampNeg := ⟨_, rfl⟩
              have hir17 := H.1
              replace H := H.2 r17 er17
              have tLr17 := le_9 tLr3 hir17 er17
              refine m_aalF (x := r17) hp dX0_solve_117 (lf_9_2 tLr3) rfl rfl (lu_9_2 tLr3) hir17 (fe_9 tLr3 hir17 er17) ?_
              refine r_iconst (v := (1 : Int32)) dX0_solve_118 rfl ?_
              refine k_VI (As := [.ref r17, .int (1 : Int32)]) (stk := []) hp cv_X0_895 dX0_solve_119 rfl (Nat.le_of_ble_eq_true rfl) ly_0 (H.mono (fun v18 h18 H => ?_)) ⟨Nat.le_refl _, Nat.le_refl _⟩
              refine r_if_eq (tgt := 143) dX0_solve_122 rfl (fun cH => ?_) (fun cH => ?_)
              · replace H := H.1 cH
                refine r_prune [true, false, true, false, false] (ls2 := [some (.ref 0), none, some (.int x2), none, none]) rfl ?_
                exact H
              · replace H := H.2 cH
                refine r_aload_n dX0_solve_125 rfl rfl ?_
                refine r_aload_n dX0_solve_126 rfl rfl ?_
                refine m_getF (x := (r3 + 11)) hp fw_X0_578 dX0_solve_127 rfl tLr3 (ff_9_2 tLr3) ?_
                refine r_iconst (v := (1 : Int32)) dX0_solve_130 rfl ?_
                obtain ⟨r19, er19⟩ : ∃ y, y = (r3 + 13) + 2 * ((1 : Int32)).toNatClampNeg := ⟨_, rfl⟩
                have hir19 := H.1
                replace H := H.2 r19 er19
                have tLr19 := le_9 tLr3 hir19 er19
                refine m_aalF (x := r19) hp dX0_solve_131 (lf_9_2 tLr3) rfl rfl (lu_9_2 tLr3) hir19 (fe_9 tLr3 hir19 er19) ?_
                refine r_iconst (v := (-1 : Int32)) dX0_solve_132 rfl ?_
                refine k_VI (As := [.ref r19, .int (-1 : Int32)]) (stk := []) hp cv_X0_895 dX0_solve_133 rfl (Nat.le_of_ble_eq_true rfl) ly_0 (H.mono (fun v20 h20 H => ?_)) ⟨Nat.le_refl _, Nat.le_refl _⟩
                refine r_if_eq (tgt := 143) dX0_solve_136 rfl (fun cH => ?_) (fun cH => ?_)
                · replace H := H.1 cH
                  refine r_prune [true, false, true, false, false] (ls2 := [some (.ref 0), none, some (.int x2), none, none]) rfl ?_
                  exact H
                · replace H := H.2 cH
                  refine r_iconst (v := (1 : Int32)) dX0_solve_139 rfl ?_
                  refine r_goto (tgt := 144) dX0_solve_140 rfl ?_
                  refine r_prune [true, false, true, false, false] (ls2 := [some (.ref 0), none, some (.int x2), none, none]) rfl ?_
                  exact H
            · replace H := H.2 cH
              refine r_iconst (v := (-1 : Int32)) dX0_solve_66 rfl ?_
              exact r_zret dX0_solve_67 rfl rfl (Nat.le_refl _) (Nat.le_refl _) H
      · replace H := H.2 cH
        refine r_bipush (v := (-3 : Int32)) dX0_solve_31 rfl ?_
        exact r_zret dX0_solve_33 rfl rfl (Nat.le_refl _) (Nat.le_refl _) H
    · replace H := H.2 cH
      refine r_iconst (v := (-1 : Int32)) dX0_solve_14 rfl ?_
      exact r_zret dX0_solve_15 rfl rfl (Nat.le_refl _) (Nat.le_refl _) H
theorem s_X0_solve_143 {g : GX} {d : Nat} {av : List Value} {Q : QT} {n : Nat} {h : Hp} {x2 : Int32} (hp : g.2.2.2.2 = true)  (H : W_X0_solve g d av Q n 144 [some (.ref 0), none, some (.int x2), none, none] [.int (0 : Int32)] h) : W_X0_solve g d av Q n 143 [some (.ref 0), none, some (.int x2), none, none] [] h := by
  refine r_iconst (v := (0 : Int32)) dX0_solve_143 rfl ?_
  exact H
theorem s_X0_solve_144 {g : GX} {d : Nat} {av : List Value} {Q : QT} {n : Nat} {h : Hp} {x2 : Int32} {xs0 : Int32} (hp : g.2.2.2.2 = true)  (H : ((xs0 = (0 : Int32)) → (Q (some (.int (-1 : Int32))) n h)) ∧ ((¬ xs0 = (0 : Int32)) → (CallI g m_X5_sizes d [.ref 80] n h (fun v1 h1 => ((((12 : Int32) < v1) → (Q (some (.int (-1 : Int32))) n h1)) ∧ ((¬ (12 : Int32) < v1) → (CallI g m_X0_keep d [.ref 0, .ref 80, .int x2] n h1 (fun v2 h2 => (Q (some (.int v2)) n h2))))))))) : W_X0_solve g d av Q n 144 [some (.ref 0), none, some (.int x2), none, none] [.int xs0] h := by
  refine r_istore (ls2 := [some (.ref 0), none, some (.int x2), none, some (.int xs0)]) dX0_solve_144 (by decide) rfl ?_
  refine r_iload dX0_solve_146 rfl ?_
  refine r_if_eq (tgt := 175) dX0_solve_148 rfl (fun cH => ?_) (fun cH => ?_)
  · replace H := H.1 cH
    refine r_iconst (v := (-1 : Int32)) dX0_solve_175 rfl ?_
    exact r_zret dX0_solve_176 rfl rfl (Nat.le_refl _) (Nat.le_refl _) H
  · replace H := H.2 cH
    refine r_aload_n dX0_solve_151 rfl rfl ?_
    refine m_getF (x := 80) hp fw_X0_330 dX0_solve_152 rfl ly_0 (ff_0_21 ly_0) ?_
    refine k_VI (As := []) (stk := []) hp cv_X0_155 dX0_solve_155 rfl (Nat.le_of_ble_eq_true rfl) (lf_0_21 ly_0) (H.mono (fun v1 h1 H => ?_)) ⟨Nat.le_refl _, Nat.le_refl _⟩
    refine r_bipush (v := (12 : Int32)) dX0_solve_158 rfl ?_
    refine r_icmp_gt (tgt := 175) dX0_solve_160 rfl (fun cH => ?_) (fun cH => ?_)
    · replace H := H.1 cH
      refine r_iconst (v := (-1 : Int32)) dX0_solve_175 rfl ?_
      exact r_zret dX0_solve_176 rfl rfl (Nat.le_refl _) (Nat.le_refl _) H
    · replace H := H.2 cH
      refine r_aload_n dX0_solve_163 rfl rfl ?_
      refine r_aload_n dX0_solve_164 rfl rfl ?_
      refine m_getF (x := 80) hp fw_X0_330 dX0_solve_165 rfl ly_0 (ff_0_21 ly_0) ?_
      refine r_iload_n dX0_solve_168 rfl rfl ?_
      refine k_VI (As := [.ref 80, .int x2]) (stk := []) hp cv_X0_515 dX0_solve_169 rfl (Nat.le_of_ble_eq_true rfl) ly_0 (H.mono (fun v2 h2 H => ?_)) ⟨Nat.le_refl _, Nat.le_refl _⟩
      refine r_goto (tgt := 176) dX0_solve_172 rfl ?_
      exact r_zret dX0_solve_176 rfl rfl (Nat.le_refl _) (Nat.le_refl _) H
abbrev W_X0_takeLines (g : GX) (d : Nat) (av : List Value) (Q : QT) (n : Nat) (pc : Nat) (ls : LV) (stk : List Value) (h : Hp) : Prop := RJ g m_X0_takeLines (d + 1) 0 0 av Q pc ls stk n h 0 0
theorem s_X0_takeLines_0 {g : GX} {d : Nat} {av : List Value} {Q : QT} {n : Nat} {h : Hp} {a1 : Nat} {x2 : Int32} (hp : g.2.2.2.2 = true) (t1 : lay a1 = (0, 3, 2)) (H : CallV g m_X3_copy d [.ref 1178, .ref a1] n h (fun h1 => (W_X0_takeLines g d av Q n 11 [some (.ref 0), none, some (.int x2), some (.int (-49 : Int32))] [] h1))) : W_X0_takeLines g d av Q n 0 [some (.ref 0), some (.ref a1), some (.int x2), none] [] h := by
  refine r_aload_n dX0_takeLines_0 rfl rfl ?_
  refine m_getF (x := 1178) hp fw_X0_493 dX0_takeLines_1 rfl ly_0 (ff_0_74 ly_0) ?_
  refine r_aload_n dX0_takeLines_4 rfl rfl ?_
  refine k_VV (As := [.ref a1]) (stk := []) hp cv_X0_686 dX0_takeLines_5 rfl (Nat.le_of_ble_eq_true rfl) (lf_0_74 ly_0) (H.mono (fun h1 H => ?_)) ⟨Nat.le_refl _, Nat.le_refl _⟩
  refine r_bipush (v := (-49 : Int32)) dX0_takeLines_8 rfl ?_
  refine r_istore_n (ls2 := [some (.ref 0), some (.ref a1), some (.int x2), some (.int (-49 : Int32))]) dX0_takeLines_10 rfl (by decide) rfl ?_
  refine r_prune [true, false, true, true] (ls2 := [some (.ref 0), none, some (.int x2), some (.int (-49 : Int32))]) rfl ?_
  exact H
theorem s_X0_takeLines_11 {g : GX} {d : Nat} {av : List Value} {Q : QT} {n : Nat} {h : Hp} {x2 : Int32} {x3 : Int32} (hp : g.2.2.2.2 = true)  (H : (((51 : Int32) < x3) → (((¬ (ri h 1178 1) = (1 : Int32)) → (Q (some (.int (0 : Int32))) n h)) ∧ (((ri h 1178 1) = (1 : Int32)) → (Q (some (.int (1 : Int32))) n h)))) ∧ ((¬ (51 : Int32) < x3) → (W_X0_takeLines g d av Q n 17 [some (.ref 0), none, some (.int x2), some (.int x3)] [] h))) : W_X0_takeLines g d av Q n 11 [some (.ref 0), none, some (.int x2), some (.int x3)] [] h := by
  refine r_iload_n dX0_takeLines_11 rfl rfl ?_
  refine r_bipush (v := (51 : Int32)) dX0_takeLines_12 rfl ?_
  refine r_icmp_gt (tgt := 103) dX0_takeLines_14 rfl (fun cH => ?_) (fun cH => ?_)
  · replace H := H.1 cH
    refine r_aload_n dX0_takeLines_103 rfl rfl ?_
    refine m_getF (x := 1178) hp fw_X0_493 dX0_takeLines_104 rfl ly_0 (ff_0_74 ly_0) ?_
    refine m_getI hp fw_X0_636 dX0_takeLines_107 rfl (lf_0_74 ly_0) ?_
    refine r_iconst (v := (1 : Int32)) dX0_takeLines_110 rfl ?_
    refine r_icmp_ne (tgt := 118) dX0_takeLines_111 rfl (fun cH => ?_) (fun cH => ?_)
    · replace H := H.1 cH
      refine r_iconst (v := (0 : Int32)) dX0_takeLines_118 rfl ?_
      exact r_zret dX0_takeLines_119 rfl rfl (Nat.le_refl _) (Nat.le_refl _) H
    · replace H := H.2 cH
      refine r_iconst (v := (1 : Int32)) dX0_takeLines_114 rfl ?_
      refine r_goto (tgt := 119) dX0_takeLines_115 rfl ?_
      exact r_zret dX0_takeLines_119 rfl rfl (Nat.le_refl _) (Nat.le_refl _) H
  · replace H := H.2 cH
    exact H
theorem s_X0_takeLines_17 {g : GX} {d : Nat} {av : List Value} {Q : QT} {n : Nat} {h : Hp} {x2 : Int32} {x3 : Int32} (hp : g.2.2.2.2 = true)  (H : (((ri h 1178 1) ≤ (1 : Int32)) → (W_X0_takeLines g d av Q n 97 [some (.ref 0), none, some (.int x2), some (.int x3)] [] h)) ∧ ((¬ (ri h 1178 1) ≤ (1 : Int32)) → (CallI g m_X0_rest d [.int (-x3)] n h (fun v1 h1 => (CallI g m_X3_value d [.ref 1178, .int v1] n h1 (fun v2 h2 => (((¬ v2 = (0 : Int32)) → (W_X0_takeLines g d av Q n 97 [some (.ref 0), none, some (.int x2), some (.int x3)] [] h2)) ∧ ((v2 = (0 : Int32)) → (CallV g m_X5_add d [.ref 80, .int (1 : Int32), .int (0 : Int32), .int (x3 - (1 : Int32)), .int x2] n h2 (fun h3 => (CallI g m_X0_rest d [.int x3] n h3 (fun v4 h4 => (CallV g m_X3_set d [.ref 103, .int v4] n h4 (fun h5 => (CallV g m_X3_put d [.ref 103, .int (1 : Int32), .int (1 : Int32)] n h5 (fun h6 => (CallV g m_X2_divideExactly d [.ref 2, .ref 1178, .ref 103] n h6 (fun h7 => (W_X0_takeLines g d av Q n 17 [some (.ref 0), none, some (.int x2), some (.int x3)] [] h7))))))))))))))))))) : W_X0_takeLines g d av Q n 17 [some (.ref 0), none, some (.int x2), some (.int x3)] [] h := by
  refine r_aload_n dX0_takeLines_17 rfl rfl ?_
  refine m_getF (x := 1178) hp fw_X0_493 dX0_takeLines_18 rfl ly_0 (ff_0_74 ly_0) ?_
  refine m_getI hp fw_X0_636 dX0_takeLines_21 rfl (lf_0_74 ly_0) ?_
  refine r_iconst (v := (1 : Int32)) dX0_takeLines_24 rfl ?_
  refine r_icmp_le (tgt := 97) dX0_takeLines_25 rfl (fun cH => ?_) (fun cH => ?_)
  · replace H := H.1 cH
    exact H
  · replace H := H.2 cH
    refine r_aload_n dX0_takeLines_28 rfl rfl ?_
    refine m_getF (x := 1178) hp fw_X0_493 dX0_takeLines_29 rfl ly_0 (ff_0_74 ly_0) ?_
    refine r_iload_n dX0_takeLines_32 rfl rfl ?_
    refine r_ineg dX0_takeLines_33 ?_
    refine k_SI (As := [.int (-x3)]) (stk := [.ref 1178]) cs_X0_543 dX0_takeLines_34 rfl (Nat.le_of_ble_eq_true rfl) (H.mono (fun v1 h1 H => ?_)) ⟨Nat.le_refl _, Nat.le_refl _⟩
    refine k_VI (As := [.int v1]) (stk := []) hp cv_X0_765 dX0_takeLines_37 rfl (Nat.le_of_ble_eq_true rfl) (lf_0_74 ly_0) (H.mono (fun v2 h2 H => ?_)) ⟨Nat.le_refl _, Nat.le_refl _⟩
    refine r_if_ne (tgt := 97) dX0_takeLines_40 rfl (fun cH => ?_) (fun cH => ?_)
    · replace H := H.1 cH
      exact H
    · replace H := H.2 cH
      refine r_aload_n dX0_takeLines_43 rfl rfl ?_
      refine m_getF (x := 80) hp fw_X0_330 dX0_takeLines_44 rfl ly_0 (ff_0_21 ly_0) ?_
      refine r_iconst (v := (1 : Int32)) dX0_takeLines_47 rfl ?_
      refine r_iconst (v := (0 : Int32)) dX0_takeLines_48 rfl ?_
      refine r_iload_n dX0_takeLines_49 rfl rfl ?_
      refine r_iconst (v := (1 : Int32)) dX0_takeLines_50 rfl ?_
      refine r_isub dX0_takeLines_51 ?_
      refine r_iload_n dX0_takeLines_52 rfl rfl ?_
      refine k_VV (As := [.int (1 : Int32), .int (0 : Int32), .int (x3 - (1 : Int32)), .int x2]) (stk := []) hp cv_X0_152 dX0_takeLines_53 rfl (Nat.le_of_ble_eq_true rfl) (lf_0_21 ly_0) (H.mono (fun h3 H => ?_)) ⟨Nat.le_refl _, Nat.le_refl _⟩
      refine r_aload_n dX0_takeLines_56 rfl rfl ?_
      refine m_getF (x := 103) hp fw_X0_361 dX0_takeLines_57 rfl ly_0 (ff_0_32 ly_0) ?_
      refine r_iload_n dX0_takeLines_60 rfl rfl ?_
      refine k_SI (As := [.int x3]) (stk := [.ref 103]) cs_X0_543 dX0_takeLines_61 rfl (Nat.le_of_ble_eq_true rfl) (H.mono (fun v4 h4 H => ?_)) ⟨Nat.le_refl _, Nat.le_refl _⟩
      refine k_VV (As := [.int v4]) (stk := []) hp cv_X0_734 dX0_takeLines_64 rfl (Nat.le_of_ble_eq_true rfl) (lf_0_32 ly_0) (H.mono (fun h5 H => ?_)) ⟨Nat.le_refl _, Nat.le_refl _⟩
      refine r_aload_n dX0_takeLines_67 rfl rfl ?_
      refine m_getF (x := 103) hp fw_X0_361 dX0_takeLines_68 rfl ly_0 (ff_0_32 ly_0) ?_
      refine r_iconst (v := (1 : Int32)) dX0_takeLines_71 rfl ?_
      refine r_iconst (v := (1 : Int32)) dX0_takeLines_72 rfl ?_
      refine k_VV (As := [.int (1 : Int32), .int (1 : Int32)]) (stk := []) hp cv_X0_774 dX0_takeLines_73 rfl (Nat.le_of_ble_eq_true rfl) (lf_0_32 ly_0) (H.mono (fun h6 H => ?_)) ⟨Nat.le_refl _, Nat.le_refl _⟩
      refine r_aload_n dX0_takeLines_76 rfl rfl ?_
      refine m_getF (x := 1) hp fw_X0_46 dX0_takeLines_77 rfl ly_0 (ff_0_0 ly_0) ?_
      refine m_getF (x := 2) hp fw_X0_642 dX0_takeLines_80 rfl (lf_0_0 ly_0) (ff_1_0 (lf_0_0 ly_0)) ?_
      refine r_aload_n dX0_takeLines_83 rfl rfl ?_
      refine m_getF (x := 1178) hp fw_X0_493 dX0_takeLines_84 rfl ly_0 (ff_0_74 ly_0) ?_
      refine r_aload_n dX0_takeLines_87 rfl rfl ?_
      refine m_getF (x := 103) hp fw_X0_361 dX0_takeLines_88 rfl ly_0 (ff_0_32 ly_0) ?_
      refine k_VV (As := [.ref 1178, .ref 103]) (stk := []) hp cv_X0_718 dX0_takeLines_91 rfl (Nat.le_of_ble_eq_true rfl) (lf_1_0 (lf_0_0 ly_0)) (H.mono (fun h7 H => ?_)) ⟨Nat.le_refl _, Nat.le_refl _⟩
      refine r_goto (tgt := 17) dX0_takeLines_94 rfl ?_
      exact H
theorem s_X0_takeLines_97 {g : GX} {d : Nat} {av : List Value} {Q : QT} {n : Nat} {h : Hp} {x2 : Int32} {x3 : Int32} (hp : g.2.2.2.2 = true)  (H : W_X0_takeLines g d av Q n 11 [some (.ref 0), none, some (.int x2), some (.int (x3 + (1 : Int32)))] [] h) : W_X0_takeLines g d av Q n 97 [some (.ref 0), none, some (.int x2), some (.int x3)] [] h := by
  refine r_iinc (v := (x3 + (1 : Int32))) (ls2 := [some (.ref 0), none, some (.int x2), some (.int (x3 + (1 : Int32)))]) dX0_takeLines_97 rfl rfl (by decide) rfl ?_
  refine r_goto (tgt := 11) dX0_takeLines_100 rfl ?_
  exact H
abbrev W_X0_work (g : GX) (d : Nat) (av : List Value) (Q : QT) (n : Nat) (pc : Nat) (ls : LV) (stk : List Value) (h : Hp) : Prop := RJ g m_X0_work (d + 1) 0 0 av Q pc ls stk n h 0 0
theorem s_X0_work_0 {g : GX} {d : Nat} {av : List Value} {Q : QT} {n : Nat} {h : Hp} {x1 : Int32} {x2 : Int32} {x3 : Int32} {x4 : Int32} (hp : g.2.2.2.2 = true)  (H : CallI g m_X0_isSlot d [.int x2] n h (fun v1 h1 => (((v1 = (0 : Int32)) → (Q (some (.int (-1 : Int32))) n h1)) ∧ ((¬ v1 = (0 : Int32)) → (CallI g m_X0_isSlot d [.int x3] n h1 (fun v2 h2 => (((v2 = (0 : Int32)) → (Q (some (.int (-1 : Int32))) n h2)) ∧ ((¬ v2 = (0 : Int32)) → (CallI g m_X0_isSlot d [.int x4] n h2 (fun v3 h3 => (((¬ v3 = (0 : Int32)) → (CallI g m_X0_hasItem d [.ref 0, .int x2] n h3 (fun v4 h4 => (((v4 = (0 : Int32)) → (Q (some (.int (-3 : Int32))) n h4)) ∧ ((¬ v4 = (0 : Int32)) → (CallI g m_X0_hasItem d [.ref 0, .int x3] n h4 (fun v5 h5 => (((¬ v5 = (0 : Int32)) → (vp_in x2 12 ∧ ∀ r6, r6 = 1185 + 27 * (x2).toNatClampNeg → (vp_in x3 12 ∧ ∀ r7, r7 = 1185 + 27 * (x3).toNatClampNeg → (((x1 = (0 : Int32)) → (W_X0_work g d av Q n 74 [some (.ref 0), some (.int x1), none, none, some (.int x4), some (.ref (r6 + 1)), some (.ref (r7 + 1)), none, none, none] [] h5)) ∧ ((¬ x1 = (0 : Int32)) → (((¬ x1 = (1 : Int32)) → (W_X0_work g d av Q n 79 [some (.ref 0), some (.int x1), none, none, some (.int x4), some (.ref (r6 + 1)), some (.ref (r7 + 1)), none, none, none] [.int (0 : Int32)] h5)) ∧ ((x1 = (1 : Int32)) → (W_X0_work g d av Q n 74 [some (.ref 0), some (.int x1), none, none, some (.int x4), some (.ref (r6 + 1)), some (.ref (r7 + 1)), none, none, none] [] h5)))))))) ∧ ((v5 = (0 : Int32)) → (Q (some (.int (-3 : Int32))) n h5)))))))))) ∧ ((v3 = (0 : Int32)) → (Q (some (.int (-1 : Int32))) n h3))))))))))))) : W_X0_work g d av Q n 0 [some (.ref 0), some (.int x1), some (.int x2), some (.int x3), some (.int x4), none, none, none, none, none] [] h := by
  refine r_iload_n dX0_work_0 rfl rfl ?_
  refine k_SI (As := [.int x2]) (stk := []) cs_X0_519 dX0_work_1 rfl (Nat.le_of_ble_eq_true rfl) (H.mono (fun v1 h1 H => ?_)) ⟨Nat.le_refl _, Nat.le_refl _⟩
  refine r_if_eq (tgt := 22) dX0_work_4 rfl (fun cH => ?_) (fun cH => ?_)
  · replace H := H.1 cH
    refine r_iconst (v := (-1 : Int32)) dX0_work_22 rfl ?_
    exact r_zret dX0_work_23 rfl rfl (Nat.le_refl _) (Nat.le_refl _) H
  · replace H := H.2 cH
    refine r_iload_n dX0_work_7 rfl rfl ?_
    refine k_SI (As := [.int x3]) (stk := []) cs_X0_519 dX0_work_8 rfl (Nat.le_of_ble_eq_true rfl) (H.mono (fun v2 h2 H => ?_)) ⟨Nat.le_refl _, Nat.le_refl _⟩
    refine r_if_eq (tgt := 22) dX0_work_11 rfl (fun cH => ?_) (fun cH => ?_)
    · replace H := H.1 cH
      refine r_iconst (v := (-1 : Int32)) dX0_work_22 rfl ?_
      exact r_zret dX0_work_23 rfl rfl (Nat.le_refl _) (Nat.le_refl _) H
    · replace H := H.2 cH
      refine r_iload dX0_work_14 rfl ?_
      refine k_SI (As := [.int x4]) (stk := []) cs_X0_519 dX0_work_16 rfl (Nat.le_of_ble_eq_true rfl) (H.mono (fun v3 h3 H => ?_)) ⟨Nat.le_refl _, Nat.le_refl _⟩
      refine r_if_ne (tgt := 24) dX0_work_19 rfl (fun cH => ?_) (fun cH => ?_)
      · replace H := H.1 cH
        refine r_aload_n dX0_work_24 rfl rfl ?_
        refine r_iload_n dX0_work_25 rfl rfl ?_
        refine k_VI (As := [.int x2]) (stk := []) hp cv_X0_546 dX0_work_26 rfl (Nat.le_of_ble_eq_true rfl) ly_0 (H.mono (fun v4 h4 H => ?_)) ⟨Nat.le_refl _, Nat.le_refl _⟩
        refine r_if_eq (tgt := 40) dX0_work_29 rfl (fun cH => ?_) (fun cH => ?_)
        · replace H := H.1 cH
          refine r_bipush (v := (-3 : Int32)) dX0_work_40 rfl ?_
          exact r_zret dX0_work_42 rfl rfl (Nat.le_refl _) (Nat.le_refl _) H
        · replace H := H.2 cH
          refine r_aload_n dX0_work_32 rfl rfl ?_
          refine r_iload_n dX0_work_33 rfl rfl ?_
          refine k_VI (As := [.int x3]) (stk := []) hp cv_X0_546 dX0_work_34 rfl (Nat.le_of_ble_eq_true rfl) ly_0 (H.mono (fun v5 h5 H => ?_)) ⟨Nat.le_refl _, Nat.le_refl _⟩
          refine r_if_ne (tgt := 43) dX0_work_37 rfl (fun cH => ?_) (fun cH => ?_)
          · replace H := H.1 cH
            refine r_aload_n dX0_work_43 rfl rfl ?_
            refine m_getF (x := 79) hp fw_X0_326 dX0_work_44 rfl ly_0 (ff_0_20 ly_0) ?_
            refine r_iload_n dX0_work_47 rfl rfl ?_
            obtain ⟨r6, er6⟩ : ∃ y, y = 1185 + 27 * (x2).toNatClampNeg := ⟨_, rfl⟩
            have hir6 := H.1
            replace H := H.2 r6 er6
            have tLr6 := la_79 hir6 er6
            refine m_aalF (x := r6) hp dX0_work_48 (lf_0_20 ly_0) rfl rfl (lu_0_20 ly_0) hir6 (fa_79 hir6 er6) ?_
            refine m_getF (x := (r6 + 1)) hp fw_X0_512 dX0_work_49 rfl tLr6 (ff_9_1 tLr6) ?_
            refine r_astore (ls2 := [some (.ref 0), some (.int x1), some (.int x2), some (.int x3), some (.int x4), some (.ref (r6 + 1)), none, none, none, none]) dX0_work_52 (by decide) rfl ?_
            refine r_aload_n dX0_work_54 rfl rfl ?_
            refine m_getF (x := 79) hp fw_X0_326 dX0_work_55 rfl ly_0 (ff_0_20 ly_0) ?_
            refine r_iload_n dX0_work_58 rfl rfl ?_
            obtain ⟨r7, er7⟩ : ∃ y, y = 1185 + 27 * (x3).toNatClampNeg := ⟨_, rfl⟩
            have hir7 := H.1
            replace H := H.2 r7 er7
            have tLr7 := la_79 hir7 er7
            refine m_aalF (x := r7) hp dX0_work_59 (lf_0_20 ly_0) rfl rfl (lu_0_20 ly_0) hir7 (fa_79 hir7 er7) ?_
            refine m_getF (x := (r7 + 1)) hp fw_X0_512 dX0_work_60 rfl tLr7 (ff_9_1 tLr7) ?_
            refine r_astore (ls2 := [some (.ref 0), some (.int x1), some (.int x2), some (.int x3), some (.int x4), some (.ref (r6 + 1)), some (.ref (r7 + 1)), none, none, none]) dX0_work_63 (by decide) rfl ?_
            refine r_iload_n dX0_work_65 rfl rfl ?_
            refine r_if_eq (tgt := 74) dX0_work_66 rfl (fun cH => ?_) (fun cH => ?_)
            · replace H := H.1 cH
              refine r_prune [true, true, false, false, true, true, true, false, false, false] (ls2 := [some (.ref 0), some (.int x1), none, none, some (.int x4), some (.ref (r6 + 1)), some (.ref (r7 + 1)), none, none, none]) rfl ?_
              exact H
            · replace H := H.2 cH
              refine r_iload_n dX0_work_69 rfl rfl ?_
              refine r_iconst (v := (1 : Int32)) dX0_work_70 rfl ?_
              refine r_icmp_ne (tgt := 78) dX0_work_71 rfl (fun cH => ?_) (fun cH => ?_)
              · replace H := H.1 cH
                refine r_iconst (v := (0 : Int32)) dX0_work_78 rfl ?_
                refine r_prune [true, true, false, false, true, true, true, false, false, false] (ls2 := [some (.ref 0), some (.int x1), none, none, some (.int x4), some (.ref (r6 + 1)), some (.ref (r7 + 1)), none, none, none]) rfl ?_
                exact H
              · replace H := H.2 cH
                refine r_prune [true, true, false, false, true, true, true, false, false, false] (ls2 := [some (.ref 0), some (.int x1), none, none, some (.int x4), some (.ref (r6 + 1)), some (.ref (r7 + 1)), none, none, none]) rfl ?_
                exact H
          · replace H := H.2 cH
            refine r_bipush (v := (-3 : Int32)) dX0_work_40 rfl ?_
            exact r_zret dX0_work_42 rfl rfl (Nat.le_refl _) (Nat.le_refl _) H
      · replace H := H.2 cH
        refine r_iconst (v := (-1 : Int32)) dX0_work_22 rfl ?_
        exact r_zret dX0_work_23 rfl rfl (Nat.le_refl _) (Nat.le_refl _) H
theorem s_X0_work_74 {g : GX} {d : Nat} {av : List Value} {Q : QT} {n : Nat} {h : Hp} {x1 : Int32} {x4 : Int32} {a5 : Nat} {a6 : Nat} (hp : g.2.2.2.2 = true) (t5 : lay a5 = (0, 5, 8)) (t6 : lay a6 = (0, 5, 8)) (H : W_X0_work g d av Q n 79 [some (.ref 0), some (.int x1), none, none, some (.int x4), some (.ref a5), some (.ref a6), none, none, none] [.int (1 : Int32)] h) : W_X0_work g d av Q n 74 [some (.ref 0), some (.int x1), none, none, some (.int x4), some (.ref a5), some (.ref a6), none, none, none] [] h := by
  refine r_iconst (v := (1 : Int32)) dX0_work_74 rfl ?_
  refine r_goto (tgt := 79) dX0_work_75 rfl ?_
  exact H
theorem s_X0_work_79 {g : GX} {d : Nat} {av : List Value} {Q : QT} {n : Nat} {h : Hp} {x1 : Int32} {x4 : Int32} {a5 : Nat} {a6 : Nat} {xs0 : Int32} (hp : g.2.2.2.2 = true) (t5 : lay a5 = (0, 5, 8)) (t6 : lay a6 = (0, 5, 8)) (H : CallI g m_X0_within d [.int x1, .int (4 : Int32), .int (6 : Int32)] n h (fun v1 h1 => (((xs0 = (0 : Int32)) → (W_X0_work g d av Q n 111 [some (.ref 0), some (.int x1), none, none, some (.int x4), some (.ref a5), some (.ref a6), some (.int xs0), some (.int v1), none] [] h1)) ∧ ((¬ xs0 = (0 : Int32)) → (CallI g m_X5_isTerm d [.ref a5] n h1 (fun v2 h2 => (((¬ v2 = (0 : Int32)) → (Q (some (.int (-3 : Int32))) n h2)) ∧ ((v2 = (0 : Int32)) → (CallI g m_X5_isTerm d [.ref a6] n h2 (fun v3 h3 => (((¬ v3 = (0 : Int32)) → (Q (some (.int (-3 : Int32))) n h3)) ∧ ((v3 = (0 : Int32)) → (W_X0_work g d av Q n 111 [some (.ref 0), some (.int x1), none, none, some (.int x4), some (.ref a5), some (.ref a6), some (.int xs0), some (.int v1), none] [] h3))))))))))))) : W_X0_work g d av Q n 79 [some (.ref 0), some (.int x1), none, none, some (.int x4), some (.ref a5), some (.ref a6), none, none, none] [.int xs0] h := by
  refine r_istore (ls2 := [some (.ref 0), some (.int x1), none, none, some (.int x4), some (.ref a5), some (.ref a6), some (.int xs0), none, none]) dX0_work_79 (by decide) rfl ?_
  refine r_iload_n dX0_work_81 rfl rfl ?_
  refine r_iconst (v := (4 : Int32)) dX0_work_82 rfl ?_
  refine r_bipush (v := (6 : Int32)) dX0_work_83 rfl ?_
  refine k_SI (As := [.int x1, .int (4 : Int32), .int (6 : Int32)]) (stk := []) cs_X0_173 dX0_work_85 rfl (Nat.le_of_ble_eq_true rfl) (H.mono (fun v1 h1 H => ?_)) ⟨Nat.le_refl _, Nat.le_refl _⟩
  refine r_istore (ls2 := [some (.ref 0), some (.int x1), none, none, some (.int x4), some (.ref a5), some (.ref a6), some (.int xs0), some (.int v1), none]) dX0_work_88 (by decide) rfl ?_
  refine r_iload dX0_work_90 rfl ?_
  refine r_if_eq (tgt := 111) dX0_work_92 rfl (fun cH => ?_) (fun cH => ?_)
  · replace H := H.1 cH
    exact H
  · replace H := H.2 cH
    refine r_aload dX0_work_95 rfl ?_
    refine k_VI (As := []) (stk := []) hp cv_X0_177 dX0_work_97 rfl (Nat.le_of_ble_eq_true rfl) t5 (H.mono (fun v2 h2 H => ?_)) ⟨Nat.le_refl _, Nat.le_refl _⟩
    refine r_if_ne (tgt := 132) dX0_work_100 rfl (fun cH => ?_) (fun cH => ?_)
    · replace H := H.1 cH
      refine r_bipush (v := (-3 : Int32)) dX0_work_132 rfl ?_
      exact r_zret dX0_work_134 rfl rfl (Nat.le_refl _) (Nat.le_refl _) H
    · replace H := H.2 cH
      refine r_aload dX0_work_103 rfl ?_
      refine k_VI (As := []) (stk := []) hp cv_X0_177 dX0_work_105 rfl (Nat.le_of_ble_eq_true rfl) t6 (H.mono (fun v3 h3 H => ?_)) ⟨Nat.le_refl _, Nat.le_refl _⟩
      refine r_if_ne (tgt := 132) dX0_work_108 rfl (fun cH => ?_) (fun cH => ?_)
      · replace H := H.1 cH
        refine r_bipush (v := (-3 : Int32)) dX0_work_132 rfl ?_
        exact r_zret dX0_work_134 rfl rfl (Nat.le_refl _) (Nat.le_refl _) H
      · replace H := H.2 cH
        exact H
theorem s_X0_work_111 {g : GX} {d : Nat} {av : List Value} {Q : QT} {n : Nat} {h : Hp} {x1 : Int32} {x4 : Int32} {a5 : Nat} {a6 : Nat} {x7 : Int32} {x8 : Int32} (hp : g.2.2.2.2 = true) (t5 : lay a5 = (0, 5, 8)) (t6 : lay a6 = (0, 5, 8)) (H : ((x8 = (0 : Int32)) → (W_X0_work g d av Q n 135 [some (.ref 0), some (.int x1), none, none, some (.int x4), some (.ref a5), some (.ref a6), some (.int x7), some (.int x8), none] [] h)) ∧ ((¬ x8 = (0 : Int32)) → (CallI g m_X0_isPlainPolynomial d [.ref a5] n h (fun v1 h1 => (((v1 = (0 : Int32)) → (Q (some (.int (-3 : Int32))) n h1)) ∧ ((¬ v1 = (0 : Int32)) → (CallI g m_X0_isPlainPolynomial d [.ref a6] n h1 (fun v2 h2 => (((¬ v2 = (0 : Int32)) → (W_X0_work g d av Q n 135 [some (.ref 0), some (.int x1), none, none, some (.int x4), some (.ref a5), some (.ref a6), some (.int x7), some (.int x8), none] [] h2)) ∧ ((v2 = (0 : Int32)) → (Q (some (.int (-3 : Int32))) n h2))))))))))) : W_X0_work g d av Q n 111 [some (.ref 0), some (.int x1), none, none, some (.int x4), some (.ref a5), some (.ref a6), some (.int x7), some (.int x8), none] [] h := by
  refine r_iload dX0_work_111 rfl ?_
  refine r_if_eq (tgt := 135) dX0_work_113 rfl (fun cH => ?_) (fun cH => ?_)
  · replace H := H.1 cH
    exact H
  · replace H := H.2 cH
    refine r_aload dX0_work_116 rfl ?_
    refine k_SI (As := [.ref a5]) (stk := []) cs_X0_899 dX0_work_118 rfl (Nat.le_of_ble_eq_true rfl) (H.mono (fun v1 h1 H => ?_)) ⟨Nat.le_refl _, Nat.le_refl _⟩
    refine r_if_eq (tgt := 132) dX0_work_121 rfl (fun cH => ?_) (fun cH => ?_)
    · replace H := H.1 cH
      refine r_bipush (v := (-3 : Int32)) dX0_work_132 rfl ?_
      exact r_zret dX0_work_134 rfl rfl (Nat.le_refl _) (Nat.le_refl _) H
    · replace H := H.2 cH
      refine r_aload dX0_work_124 rfl ?_
      refine k_SI (As := [.ref a6]) (stk := []) cs_X0_899 dX0_work_126 rfl (Nat.le_of_ble_eq_true rfl) (H.mono (fun v2 h2 H => ?_)) ⟨Nat.le_refl _, Nat.le_refl _⟩
      refine r_if_ne (tgt := 135) dX0_work_129 rfl (fun cH => ?_) (fun cH => ?_)
      · replace H := H.1 cH
        exact H
      · replace H := H.2 cH
        refine r_bipush (v := (-3 : Int32)) dX0_work_132 rfl ?_
        exact r_zret dX0_work_134 rfl rfl (Nat.le_refl _) (Nat.le_refl _) H
theorem s_X0_work_135 {g : GX} {d : Nat} {av : List Value} {Q : QT} {n : Nat} {h : Hp} {x1 : Int32} {x4 : Int32} {a5 : Nat} {a6 : Nat} {x7 : Int32} {x8 : Int32} (hp : g.2.2.2.2 = true) (t5 : lay a5 = (0, 5, 8)) (t6 : lay a6 = (0, 5, 8)) (H : CallI g m_X0_within d [.int x1, .int (0 : Int32), .int (6 : Int32)] n h (fun v1 h1 => (((v1 = (0 : Int32)) → (Q (some (.int (-1 : Int32))) n h1)) ∧ ((¬ v1 = (0 : Int32)) → (((¬ x1 = (3 : Int32)) → (W_X0_work g d av Q n 163 [some (.ref 0), some (.int x1), none, none, some (.int x4), some (.ref a5), some (.ref a6), some (.int x7), some (.int x8), none] [] h1)) ∧ ((x1 = (3 : Int32)) → (CallI g m_X6_isZero d [.ref (a6 + 1)] n h1 (fun v2 h2 => (((v2 = (0 : Int32)) → (W_X0_work g d av Q n 163 [some (.ref 0), some (.int x1), none, none, some (.int x4), some (.ref a5), some (.ref a6), some (.int x7), some (.int x8), none] [] h2)) ∧ ((¬ v2 = (0 : Int32)) → (Q (some (.int (-1 : Int32))) n h2))))))))))) : W_X0_work g d av Q n 135 [some (.ref 0), some (.int x1), none, none, some (.int x4), some (.ref a5), some (.ref a6), some (.int x7), some (.int x8), none] [] h := by
  refine r_iload_n dX0_work_135 rfl rfl ?_
  refine r_iconst (v := (0 : Int32)) dX0_work_136 rfl ?_
  refine r_bipush (v := (6 : Int32)) dX0_work_137 rfl ?_
  refine k_SI (As := [.int x1, .int (0 : Int32), .int (6 : Int32)]) (stk := []) cs_X0_173 dX0_work_139 rfl (Nat.le_of_ble_eq_true rfl) (H.mono (fun v1 h1 H => ?_)) ⟨Nat.le_refl _, Nat.le_refl _⟩
  refine r_if_eq (tgt := 161) dX0_work_142 rfl (fun cH => ?_) (fun cH => ?_)
  · replace H := H.1 cH
    refine r_iconst (v := (-1 : Int32)) dX0_work_161 rfl ?_
    exact r_zret dX0_work_162 rfl rfl (Nat.le_refl _) (Nat.le_refl _) H
  · replace H := H.2 cH
    refine r_iload_n dX0_work_145 rfl rfl ?_
    refine r_iconst (v := (3 : Int32)) dX0_work_146 rfl ?_
    refine r_icmp_ne (tgt := 163) dX0_work_147 rfl (fun cH => ?_) (fun cH => ?_)
    · replace H := H.1 cH
      exact H
    · replace H := H.2 cH
      refine r_aload dX0_work_150 rfl ?_
      refine m_getF (x := (a6 + 1)) hp fw_X0_110 dX0_work_152 rfl t6 (ff_5_0 t6) ?_
      refine k_VI (As := []) (stk := []) hp cv_X0_128 dX0_work_155 rfl (Nat.le_of_ble_eq_true rfl) (lf_5_0 t6) (H.mono (fun v2 h2 H => ?_)) ⟨Nat.le_refl _, Nat.le_refl _⟩
      refine r_if_eq (tgt := 163) dX0_work_158 rfl (fun cH => ?_) (fun cH => ?_)
      · replace H := H.1 cH
        exact H
      · replace H := H.2 cH
        refine r_iconst (v := (-1 : Int32)) dX0_work_161 rfl ?_
        exact r_zret dX0_work_162 rfl rfl (Nat.le_refl _) (Nat.le_refl _) H
theorem s_X0_work_163 {g : GX} {d : Nat} {av : List Value} {Q : QT} {n : Nat} {h : Hp} {x1 : Int32} {x4 : Int32} {a5 : Nat} {a6 : Nat} {x7 : Int32} {x8 : Int32} (hp : g.2.2.2.2 = true) (t5 : lay a5 = (0, 5, 8)) (t6 : lay a6 = (0, 5, 8)) (H : CallV g m_X5_plain d [.ref 80] n h (fun h1 => (((x7 = (0 : Int32)) → (((¬ x8 = (0 : Int32)) → (((¬ x1 = (4 : Int32)) → (((¬ x1 = (6 : Int32)) → (W_X0_work g d av Q n 318 [some (.ref 0), none, none, none, some (.int x4), none, none, none, none, none] [.int (0 : Int32), .ref (a6 + 2), .ref (a5 + 2), .ref 0] h1)) ∧ ((x1 = (6 : Int32)) → (W_X0_work g d av Q n 318 [some (.ref 0), none, none, none, some (.int x4), none, none, none, none, none] [.int (1 : Int32), .ref (a6 + 2), .ref (a5 + 2), .ref 0] h1)))) ∧ ((x1 = (4 : Int32)) → (CallV g m_X1_common d [.ref 1, .ref (a5 + 2), .ref (a6 + 2), .ref 39] n h1 (fun h2 => (CallV g m_X4_set d [.ref 41, .int (1 : Int32)] n h2 (fun h3 => (CallI g m_X0_give d [.ref 0, .ref 81] n h3 (fun v4 h4 => (W_X0_work g d av Q n 323 [some (.ref 0), none, none, none, some (.int x4), none, none, none, none, some (.int v4)] [] h4)))))))))) ∧ ((x8 = (0 : Int32)) → (((¬ x1 = (3 : Int32)) → (W_X0_work g d av Q n 222 [some (.ref 0), none, none, none, some (.int x4), none, none, none, none, none] [.int (0 : Int32), .ref a6, .ref a5, .ref 0] h1)) ∧ ((x1 = (3 : Int32)) → (W_X0_work g d av Q n 222 [some (.ref 0), none, none, none, some (.int x4), none, none, none, none, none] [.int (1 : Int32), .ref a6, .ref a5, .ref 0] h1)))))) ∧ ((¬ x7 = (0 : Int32)) → (CallI g m_X0_reckon d [.ref 0, .int x1, .ref (a5 + 1), .ref (a6 + 1), .ref 81] n h1 (fun v5 h5 => (W_X0_work g d av Q n 323 [some (.ref 0), none, none, none, some (.int x4), none, none, none, none, some (.int v5)] [] h5))))))) : W_X0_work g d av Q n 163 [some (.ref 0), some (.int x1), none, none, some (.int x4), some (.ref a5), some (.ref a6), some (.int x7), some (.int x8), none] [] h := by
  refine r_aload_n dX0_work_163 rfl rfl ?_
  refine m_getF (x := 80) hp fw_X0_330 dX0_work_164 rfl ly_0 (ff_0_21 ly_0) ?_
  refine k_VV (As := []) (stk := []) hp cv_X0_301 dX0_work_167 rfl (Nat.le_of_ble_eq_true rfl) (lf_0_21 ly_0) (H.mono (fun h1 H => ?_)) ⟨Nat.le_refl _, Nat.le_refl _⟩
  refine r_iload dX0_work_170 rfl ?_
  refine r_if_eq (tgt := 202) dX0_work_172 rfl (fun cH => ?_) (fun cH => ?_)
  · replace H := H.1 cH
    refine r_iload dX0_work_202 rfl ?_
    refine r_if_ne (tgt := 234) dX0_work_204 rfl (fun cH => ?_) (fun cH => ?_)
    · replace H := H.1 cH
      refine r_iload_n dX0_work_234 rfl rfl ?_
      refine r_iconst (v := (4 : Int32)) dX0_work_235 rfl ?_
      refine r_icmp_ne (tgt := 290) dX0_work_236 rfl (fun cH => ?_) (fun cH => ?_)
      · replace H := H.1 cH
        refine r_aload_n dX0_work_290 rfl rfl ?_
        refine r_aload dX0_work_291 rfl ?_
        refine m_getF (x := (a5 + 1)) hp fw_X0_110 dX0_work_293 rfl t5 (ff_5_0 t5) ?_
        refine m_getF (x := (a5 + 2)) hp fw_X0_89 dX0_work_296 rfl (lf_5_0 t5) (ff_6_0 (lf_5_0 t5)) ?_
        refine r_aload dX0_work_299 rfl ?_
        refine m_getF (x := (a6 + 1)) hp fw_X0_110 dX0_work_301 rfl t6 (ff_5_0 t6) ?_
        refine m_getF (x := (a6 + 2)) hp fw_X0_89 dX0_work_304 rfl (lf_5_0 t6) (ff_6_0 (lf_5_0 t6)) ?_
        refine r_iload_n dX0_work_307 rfl rfl ?_
        refine r_bipush (v := (6 : Int32)) dX0_work_308 rfl ?_
        refine r_icmp_ne (tgt := 317) dX0_work_310 rfl (fun cH => ?_) (fun cH => ?_)
        · replace H := H.1 cH
          refine r_iconst (v := (0 : Int32)) dX0_work_317 rfl ?_
          refine r_prune [true, false, false, false, true, false, false, false, false, false] (ls2 := [some (.ref 0), none, none, none, some (.int x4), none, none, none, none, none]) rfl ?_
          exact H
        · replace H := H.2 cH
          refine r_iconst (v := (1 : Int32)) dX0_work_313 rfl ?_
          refine r_goto (tgt := 318) dX0_work_314 rfl ?_
          refine r_prune [true, false, false, false, true, false, false, false, false, false] (ls2 := [some (.ref 0), none, none, none, some (.int x4), none, none, none, none, none]) rfl ?_
          exact H
      · replace H := H.2 cH
        refine r_aload_n dX0_work_239 rfl rfl ?_
        refine m_getF (x := 1) hp fw_X0_46 dX0_work_240 rfl ly_0 (ff_0_0 ly_0) ?_
        refine r_aload dX0_work_243 rfl ?_
        refine m_getF (x := (a5 + 1)) hp fw_X0_110 dX0_work_245 rfl t5 (ff_5_0 t5) ?_
        refine m_getF (x := (a5 + 2)) hp fw_X0_89 dX0_work_248 rfl (lf_5_0 t5) (ff_6_0 (lf_5_0 t5)) ?_
        refine r_aload dX0_work_251 rfl ?_
        refine m_getF (x := (a6 + 1)) hp fw_X0_110 dX0_work_253 rfl t6 (ff_5_0 t6) ?_
        refine m_getF (x := (a6 + 2)) hp fw_X0_89 dX0_work_256 rfl (lf_5_0 t6) (ff_6_0 (lf_5_0 t6)) ?_
        refine r_aload_n dX0_work_259 rfl rfl ?_
        refine m_getF (x := 39) hp fw_X0_31 dX0_work_260 rfl ly_0 (ff_0_1 ly_0) ?_
        refine k_VV (As := [.ref (a5 + 2), .ref (a6 + 2), .ref 39]) (stk := []) hp cv_X0_53 dX0_work_263 rfl (Nat.le_of_ble_eq_true rfl) (lf_0_0 ly_0) (H.mono (fun h2 H => ?_)) ⟨Nat.le_refl _, Nat.le_refl _⟩
        refine r_aload_n dX0_work_266 rfl rfl ?_
        refine m_getF (x := 41) hp fw_X0_39 dX0_work_267 rfl ly_0 (ff_0_2 ly_0) ?_
        refine r_iconst (v := (1 : Int32)) dX0_work_270 rfl ?_
        refine k_VV (As := [.int (1 : Int32)]) (stk := []) hp cv_X0_42 dX0_work_271 rfl (Nat.le_of_ble_eq_true rfl) (lf_0_2 ly_0) (H.mono (fun h3 H => ?_)) ⟨Nat.le_refl _, Nat.le_refl _⟩
        refine r_aload_n dX0_work_274 rfl rfl ?_
        refine r_aload_n dX0_work_275 rfl rfl ?_
        refine m_getF (x := 80) hp fw_X0_330 dX0_work_276 rfl ly_0 (ff_0_21 ly_0) ?_
        refine m_getF (x := 81) hp fw_X0_110 dX0_work_279 rfl (lf_0_21 ly_0) (ff_5_0 (lf_0_21 ly_0)) ?_
        refine k_VI (As := [.ref 81]) (stk := []) hp cv_X0_106 dX0_work_282 rfl (Nat.le_of_ble_eq_true rfl) ly_0 (H.mono (fun v4 h4 H => ?_)) ⟨Nat.le_refl _, Nat.le_refl _⟩
        refine r_istore (ls2 := [some (.ref 0), some (.int x1), none, none, some (.int x4), some (.ref a5), some (.ref a6), some (.int x7), some (.int x8), some (.int v4)]) dX0_work_285 (by decide) rfl ?_
        refine r_goto (tgt := 323) dX0_work_287 rfl ?_
        refine r_prune [true, false, false, false, true, false, false, false, false, true] (ls2 := [some (.ref 0), none, none, none, some (.int x4), none, none, none, none, some (.int v4)]) rfl ?_
        exact H
    · replace H := H.2 cH
      refine r_aload_n dX0_work_207 rfl rfl ?_
      refine r_aload dX0_work_208 rfl ?_
      refine r_aload dX0_work_210 rfl ?_
      refine r_iload_n dX0_work_212 rfl rfl ?_
      refine r_iconst (v := (3 : Int32)) dX0_work_213 rfl ?_
      refine r_icmp_ne (tgt := 221) dX0_work_214 rfl (fun cH => ?_) (fun cH => ?_)
      · replace H := H.1 cH
        refine r_iconst (v := (0 : Int32)) dX0_work_221 rfl ?_
        refine r_prune [true, false, false, false, true, false, false, false, false, false] (ls2 := [some (.ref 0), none, none, none, some (.int x4), none, none, none, none, none]) rfl ?_
        exact H
      · replace H := H.2 cH
        refine r_iconst (v := (1 : Int32)) dX0_work_217 rfl ?_
        refine r_goto (tgt := 222) dX0_work_218 rfl ?_
        refine r_prune [true, false, false, false, true, false, false, false, false, false] (ls2 := [some (.ref 0), none, none, none, some (.int x4), none, none, none, none, none]) rfl ?_
        exact H
  · replace H := H.2 cH
    refine r_aload_n dX0_work_175 rfl rfl ?_
    refine r_iload_n dX0_work_176 rfl rfl ?_
    refine r_aload dX0_work_177 rfl ?_
    refine m_getF (x := (a5 + 1)) hp fw_X0_110 dX0_work_179 rfl t5 (ff_5_0 t5) ?_
    refine r_aload dX0_work_182 rfl ?_
    refine m_getF (x := (a6 + 1)) hp fw_X0_110 dX0_work_184 rfl t6 (ff_5_0 t6) ?_
    refine r_aload_n dX0_work_187 rfl rfl ?_
    refine m_getF (x := 80) hp fw_X0_330 dX0_work_188 rfl ly_0 (ff_0_21 ly_0) ?_
    refine m_getF (x := 81) hp fw_X0_110 dX0_work_191 rfl (lf_0_21 ly_0) (ff_5_0 (lf_0_21 ly_0)) ?_
    refine k_VI (As := [.int x1, .ref (a5 + 1), .ref (a6 + 1), .ref 81]) (stk := []) hp cv_X0_120 dX0_work_194 rfl (Nat.le_of_ble_eq_true rfl) ly_0 (H.mono (fun v5 h5 H => ?_)) ⟨Nat.le_refl _, Nat.le_refl _⟩
    refine r_istore (ls2 := [some (.ref 0), some (.int x1), none, none, some (.int x4), some (.ref a5), some (.ref a6), some (.int x7), some (.int x8), some (.int v5)]) dX0_work_197 (by decide) rfl ?_
    refine r_goto (tgt := 323) dX0_work_199 rfl ?_
    refine r_prune [true, false, false, false, true, false, false, false, false, true] (ls2 := [some (.ref 0), none, none, none, some (.int x4), none, none, none, none, some (.int v5)]) rfl ?_
    exact H
theorem s_X0_work_222 {g : GX} {d : Nat} {av : List Value} {Q : QT} {n : Nat} {h : Hp} {x4 : Int32} {xs0 : Int32} {as1 : Nat} {as2 : Nat} {as3 : Nat} (hp : g.2.2.2.2 = true) (ts1 : lay as1 = (0, 5, 8)) (ts2 : lay as2 = (0, 5, 8)) (ts3 : lay as3 = (0, 0, 80)) (H : CallI g m_X0_multiply d [.ref as3, .ref as2, .ref as1, .int xs0, .ref 80] n h (fun v1 h1 => (W_X0_work g d av Q n 323 [some (.ref 0), none, none, none, some (.int x4), none, none, none, none, some (.int v1)] [] h1))) : W_X0_work g d av Q n 222 [some (.ref 0), none, none, none, some (.int x4), none, none, none, none, none] [.int xs0, .ref as1, .ref as2, .ref as3] h := by
  refine r_aload_n dX0_work_222 rfl rfl ?_
  refine m_getF (x := 80) hp fw_X0_330 dX0_work_223 rfl ly_0 (ff_0_21 ly_0) ?_
  refine k_VI (As := [.ref as2, .ref as1, .int xs0, .ref 80]) (stk := []) hp cv_X0_169 dX0_work_226 rfl (Nat.le_of_ble_eq_true rfl) ts3 (H.mono (fun v1 h1 H => ?_)) ⟨Nat.le_refl _, Nat.le_refl _⟩
  refine r_istore (ls2 := [some (.ref 0), none, none, none, some (.int x4), none, none, none, none, some (.int v1)]) dX0_work_229 (by decide) rfl ?_
  refine r_goto (tgt := 323) dX0_work_231 rfl ?_
  exact H
theorem s_X0_work_318 {g : GX} {d : Nat} {av : List Value} {Q : QT} {n : Nat} {h : Hp} {x4 : Int32} {xs0 : Int32} {as1 : Nat} {as2 : Nat} {as3 : Nat} (hp : g.2.2.2.2 = true) (ts1 : lay as1 = (0, 4, 4)) (ts2 : lay as2 = (0, 4, 4)) (ts3 : lay as3 = (0, 0, 80)) (H : CallI g m_X0_resultant d [.ref as3, .ref as2, .ref as1, .int xs0] n h (fun v1 h1 => (W_X0_work g d av Q n 323 [some (.ref 0), none, none, none, some (.int x4), none, none, none, none, some (.int v1)] [] h1))) : W_X0_work g d av Q n 318 [some (.ref 0), none, none, none, some (.int x4), none, none, none, none, none] [.int xs0, .ref as1, .ref as2, .ref as3] h := by
  refine k_VI (As := [.ref as2, .ref as1, .int xs0]) (stk := []) hp cv_X0_902 dX0_work_318 rfl (Nat.le_of_ble_eq_true rfl) ts3 (H.mono (fun v1 h1 H => ?_)) ⟨Nat.le_refl _, Nat.le_refl _⟩
  refine r_istore (ls2 := [some (.ref 0), none, none, none, some (.int x4), none, none, none, none, some (.int v1)]) dX0_work_321 (by decide) rfl ?_
  exact H
theorem s_X0_work_323 {g : GX} {d : Nat} {av : List Value} {Q : QT} {n : Nat} {h : Hp} {x4 : Int32} {x9 : Int32} (hp : g.2.2.2.2 = true)  (H : ((x9 = (0 : Int32)) → (Q (some (.int (-2 : Int32))) n h)) ∧ ((¬ x9 = (0 : Int32)) → (CallI g m_X0_keep d [.ref 0, .ref 80, .int x4] n h (fun v1 h1 => (Q (some (.int v1)) n h1))))) : W_X0_work g d av Q n 323 [some (.ref 0), none, none, none, some (.int x4), none, none, none, none, some (.int x9)] [] h := by
  refine r_iload dX0_work_323 rfl ?_
  refine r_if_eq (tgt := 341) dX0_work_325 rfl (fun cH => ?_) (fun cH => ?_)
  · replace H := H.1 cH
    refine r_bipush (v := (-2 : Int32)) dX0_work_341 rfl ?_
    exact r_zret dX0_work_343 rfl rfl (Nat.le_refl _) (Nat.le_refl _) H
  · replace H := H.2 cH
    refine r_aload_n dX0_work_328 rfl rfl ?_
    refine r_aload_n dX0_work_329 rfl rfl ?_
    refine m_getF (x := 80) hp fw_X0_330 dX0_work_330 rfl ly_0 (ff_0_21 ly_0) ?_
    refine r_iload dX0_work_333 rfl ?_
    refine k_VI (As := [.ref 80, .int x4]) (stk := []) hp cv_X0_515 dX0_work_335 rfl (Nat.le_of_ble_eq_true rfl) ly_0 (H.mono (fun v1 h1 H => ?_)) ⟨Nat.le_refl _, Nat.le_refl _⟩
    refine r_goto (tgt := 343) dX0_work_338 rfl ?_
    exact r_zret dX0_work_343 rfl rfl (Nat.le_refl _) (Nat.le_refl _) H
abbrev W_X0_isPlainPolynomial (g : GX) (d : Nat) (av : List Value) (Q : QT) (n : Nat) (pc : Nat) (ls : LV) (stk : List Value) (h : Hp) : Prop := RJ g m_X0_isPlainPolynomial (d + 1) 0 0 av Q pc ls stk n h 0 0
theorem s_X0_isPlainPolynomial_0 {g : GX} {d : Nat} {av : List Value} {Q : QT} {n : Nat} {h : Hp} {a0 : Nat} (hp : g.2.2.2.2 = true) (t0 : lay a0 = (0, 5, 8)) (H : CallI g m_X5_isTerm d [.ref a0] n h (fun v1 h1 => (((¬ v1 = (0 : Int32)) → (Q (some (.int (0 : Int32))) n h1)) ∧ ((v1 = (0 : Int32)) → (CallI g m_X6_isPolynomial d [.ref (a0 + 1)] n h1 (fun v2 h2 => (((v2 = (0 : Int32)) → (Q (some (.int (0 : Int32))) n h2)) ∧ ((¬ v2 = (0 : Int32)) → (Q (some (.int (1 : Int32))) n h2))))))))) : W_X0_isPlainPolynomial g d av Q n 0 [some (.ref a0)] [] h := by
  refine r_aload_n dX0_isPlainPolynomial_0 rfl rfl ?_
  refine k_VI (As := []) (stk := []) hp cv_X0_177 dX0_isPlainPolynomial_1 rfl (Nat.le_of_ble_eq_true rfl) t0 (H.mono (fun v1 h1 H => ?_)) ⟨Nat.le_refl _, Nat.le_refl _⟩
  refine r_if_ne (tgt := 21) dX0_isPlainPolynomial_4 rfl (fun cH => ?_) (fun cH => ?_)
  · replace H := H.1 cH
    refine r_iconst (v := (0 : Int32)) dX0_isPlainPolynomial_21 rfl ?_
    exact r_zret dX0_isPlainPolynomial_22 rfl rfl (Nat.le_refl _) (Nat.le_refl _) H
  · replace H := H.2 cH
    refine r_aload_n dX0_isPlainPolynomial_7 rfl rfl ?_
    refine m_getF (x := (a0 + 1)) hp fw_X0_110 dX0_isPlainPolynomial_8 rfl t0 (ff_5_0 t0) ?_
    refine k_VI (As := []) (stk := []) hp cv_X0_180 dX0_isPlainPolynomial_11 rfl (Nat.le_of_ble_eq_true rfl) (lf_5_0 t0) (H.mono (fun v2 h2 H => ?_)) ⟨Nat.le_refl _, Nat.le_refl _⟩
    refine r_if_eq (tgt := 21) dX0_isPlainPolynomial_14 rfl (fun cH => ?_) (fun cH => ?_)
    · replace H := H.1 cH
      refine r_iconst (v := (0 : Int32)) dX0_isPlainPolynomial_21 rfl ?_
      exact r_zret dX0_isPlainPolynomial_22 rfl rfl (Nat.le_refl _) (Nat.le_refl _) H
    · replace H := H.2 cH
      refine r_iconst (v := (1 : Int32)) dX0_isPlainPolynomial_17 rfl ?_
      refine r_goto (tgt := 22) dX0_isPlainPolynomial_18 rfl ?_
      exact r_zret dX0_isPlainPolynomial_22 rfl rfl (Nat.le_refl _) (Nat.le_refl _) H
abbrev W_X0_resultant (g : GX) (d : Nat) (av : List Value) (Q : QT) (n : Nat) (pc : Nat) (ls : LV) (stk : List Value) (h : Hp) : Prop := RJ g m_X0_resultant (d + 1) 0 0 av Q pc ls stk n h 0 0
theorem s_X0_resultant_0 {g : GX} {d : Nat} {av : List Value} {Q : QT} {n : Nat} {h : Hp} {a1 : Nat} {a2 : Nat} {x3 : Int32} (hp : g.2.2.2.2 = true) (t1 : lay a1 = (0, 4, 4)) (t2 : lay a2 = (0, 4, 4)) (H : CallI g m_X4_isZero d [.ref a1] n h (fun v1 h1 => (((¬ v1 = (0 : Int32)) → (W_X0_resultant g d av Q n 14 [some (.ref 0), none, none, none, none, none, none, none, none] [] h1)) ∧ ((v1 = (0 : Int32)) → (CallI g m_X4_isZero d [.ref a2] n h1 (fun v2 h2 => (((v2 = (0 : Int32)) → (((x3 = (0 : Int32)) → (CallV g m_X4_copy d [.ref 93, .ref a1] n h2 (fun h3 => (CallV g m_X4_copy d [.ref 95, .ref a2] n h3 (fun h4 => (W_X0_resultant g d av Q n 63 [some (.ref 0), none, none, some (.int x3), none, none, none, none, none] [] h4)))))) ∧ ((¬ x3 = (0 : Int32)) → (CallV g m_X4_turn d [.ref 93, .ref a1] n h2 (fun h5 => (CallV g m_X4_turn d [.ref 95, .ref a2] n h5 (fun h6 => (W_X0_resultant g d av Q n 63 [some (.ref 0), none, none, some (.int x3), none, none, none, none, none] [] h6)))))))) ∧ ((¬ v2 = (0 : Int32)) → (W_X0_resultant g d av Q n 14 [some (.ref 0), none, none, none, none, none, none, none, none] [] h2))))))))) : W_X0_resultant g d av Q n 0 [some (.ref 0), some (.ref a1), some (.ref a2), some (.int x3), none, none, none, none, none] [] h := by
  refine r_aload_n dX0_resultant_0 rfl rfl ?_
  refine k_VI (As := []) (stk := []) hp cv_X0_35 dX0_resultant_1 rfl (Nat.le_of_ble_eq_true rfl) t1 (H.mono (fun v1 h1 H => ?_)) ⟨Nat.le_refl _, Nat.le_refl _⟩
  refine r_if_ne (tgt := 14) dX0_resultant_4 rfl (fun cH => ?_) (fun cH => ?_)
  · replace H := H.1 cH
    refine r_prune [true, false, false, false, false, false, false, false, false] (ls2 := [some (.ref 0), none, none, none, none, none, none, none, none]) rfl ?_
    exact H
  · replace H := H.2 cH
    refine r_aload_n dX0_resultant_7 rfl rfl ?_
    refine k_VI (As := []) (stk := []) hp cv_X0_35 dX0_resultant_8 rfl (Nat.le_of_ble_eq_true rfl) t2 (H.mono (fun v2 h2 H => ?_)) ⟨Nat.le_refl _, Nat.le_refl _⟩
    refine r_if_eq (tgt := 24) dX0_resultant_11 rfl (fun cH => ?_) (fun cH => ?_)
    · replace H := H.1 cH
      refine r_iload_n dX0_resultant_24 rfl rfl ?_
      refine r_if_eq (tgt := 47) dX0_resultant_25 rfl (fun cH => ?_) (fun cH => ?_)
      · replace H := H.1 cH
        refine r_aload_n dX0_resultant_47 rfl rfl ?_
        refine m_getF (x := 93) hp fw_X0_342 dX0_resultant_48 rfl ly_0 (ff_0_27 ly_0) ?_
        refine r_aload_n dX0_resultant_51 rfl rfl ?_
        refine k_VV (As := [.ref a1]) (stk := []) hp cv_X0_66 dX0_resultant_52 rfl (Nat.le_of_ble_eq_true rfl) (lf_0_27 ly_0) (H.mono (fun h3 H => ?_)) ⟨Nat.le_refl _, Nat.le_refl _⟩
        refine r_aload_n dX0_resultant_55 rfl rfl ?_
        refine m_getF (x := 95) hp fw_X0_345 dX0_resultant_56 rfl ly_0 (ff_0_28 ly_0) ?_
        refine r_aload_n dX0_resultant_59 rfl rfl ?_
        refine k_VV (As := [.ref a2]) (stk := []) hp cv_X0_66 dX0_resultant_60 rfl (Nat.le_of_ble_eq_true rfl) (lf_0_28 ly_0) (H.mono (fun h4 H => ?_)) ⟨Nat.le_refl _, Nat.le_refl _⟩
        refine r_prune [true, false, false, true, false, false, false, false, false] (ls2 := [some (.ref 0), none, none, some (.int x3), none, none, none, none, none]) rfl ?_
        exact H
      · replace H := H.2 cH
        refine r_aload_n dX0_resultant_28 rfl rfl ?_
        refine m_getF (x := 93) hp fw_X0_342 dX0_resultant_29 rfl ly_0 (ff_0_27 ly_0) ?_
        refine r_aload_n dX0_resultant_32 rfl rfl ?_
        refine k_VV (As := [.ref a1]) (stk := []) hp cv_X0_906 dX0_resultant_33 rfl (Nat.le_of_ble_eq_true rfl) (lf_0_27 ly_0) (H.mono (fun h5 H => ?_)) ⟨Nat.le_refl _, Nat.le_refl _⟩
        refine r_aload_n dX0_resultant_36 rfl rfl ?_
        refine m_getF (x := 95) hp fw_X0_345 dX0_resultant_37 rfl ly_0 (ff_0_28 ly_0) ?_
        refine r_aload_n dX0_resultant_40 rfl rfl ?_
        refine k_VV (As := [.ref a2]) (stk := []) hp cv_X0_906 dX0_resultant_41 rfl (Nat.le_of_ble_eq_true rfl) (lf_0_28 ly_0) (H.mono (fun h6 H => ?_)) ⟨Nat.le_refl _, Nat.le_refl _⟩
        refine r_goto (tgt := 63) dX0_resultant_44 rfl ?_
        refine r_prune [true, false, false, true, false, false, false, false, false] (ls2 := [some (.ref 0), none, none, some (.int x3), none, none, none, none, none]) rfl ?_
        exact H
    · replace H := H.2 cH
      refine r_prune [true, false, false, false, false, false, false, false, false] (ls2 := [some (.ref 0), none, none, none, none, none, none, none, none]) rfl ?_
      exact H
theorem s_X0_resultant_14 {g : GX} {d : Nat} {av : List Value} {Q : QT} {n : Nat} {h : Hp}  (hp : g.2.2.2.2 = true)  (H : CallV g m_X5_set d [.ref 80, .int (0 : Int32)] n h (fun h1 => (Q (some (.int (1 : Int32))) n h1))) : W_X0_resultant g d av Q n 14 [some (.ref 0), none, none, none, none, none, none, none, none] [] h := by
  refine r_aload_n dX0_resultant_14 rfl rfl ?_
  refine m_getF (x := 80) hp fw_X0_330 dX0_resultant_15 rfl ly_0 (ff_0_21 ly_0) ?_
  refine r_iconst (v := (0 : Int32)) dX0_resultant_18 rfl ?_
  refine k_VV (As := [.int (0 : Int32)]) (stk := []) hp cv_X0_129 dX0_resultant_19 rfl (Nat.le_of_ble_eq_true rfl) (lf_0_21 ly_0) (H.mono (fun h1 H => ?_)) ⟨Nat.le_refl _, Nat.le_refl _⟩
  refine r_iconst (v := (1 : Int32)) dX0_resultant_22 rfl ?_
  exact r_zret dX0_resultant_23 rfl rfl (Nat.le_refl _) (Nat.le_refl _) H
theorem s_X0_resultant_63 {g : GX} {d : Nat} {av : List Value} {Q : QT} {n : Nat} {h : Hp} {x3 : Int32} (hp : g.2.2.2.2 = true)  (H : CallI g m_X4_degreeK d [.ref 93] n h (fun v1 h1 => (CallI g m_X4_degreeK d [.ref 95] n h1 (fun v2 h2 => (CallI g m_X4_degreeN d [.ref 93] n h2 (fun v3 h3 => (CallI g m_X4_degreeN d [.ref 95] n h3 (fun v4 h4 => (W_X0_resultant g d av Q n 112 [some (.ref 0), none, none, some (.int x3), some (.int v1), some (.int v2), some (.int (((v3 * v2) + (v4 * v1)) + (1 : Int32))), some (.int (0 : Int32)), some (.int (0 : Int32))] [] h4))))))))) : W_X0_resultant g d av Q n 63 [some (.ref 0), none, none, some (.int x3), none, none, none, none, none] [] h := by
  refine r_aload_n dX0_resultant_63 rfl rfl ?_
  refine m_getF (x := 93) hp fw_X0_342 dX0_resultant_64 rfl ly_0 (ff_0_27 ly_0) ?_
  refine k_VI (As := []) (stk := []) hp cv_X0_572 dX0_resultant_67 rfl (Nat.le_of_ble_eq_true rfl) (lf_0_27 ly_0) (H.mono (fun v1 h1 H => ?_)) ⟨Nat.le_refl _, Nat.le_refl _⟩
  refine r_istore (ls2 := [some (.ref 0), none, none, some (.int x3), some (.int v1), none, none, none, none]) dX0_resultant_70 (by decide) rfl ?_
  refine r_aload_n dX0_resultant_72 rfl rfl ?_
  refine m_getF (x := 95) hp fw_X0_345 dX0_resultant_73 rfl ly_0 (ff_0_28 ly_0) ?_
  refine k_VI (As := []) (stk := []) hp cv_X0_572 dX0_resultant_76 rfl (Nat.le_of_ble_eq_true rfl) (lf_0_28 ly_0) (H.mono (fun v2 h2 H => ?_)) ⟨Nat.le_refl _, Nat.le_refl _⟩
  refine r_istore (ls2 := [some (.ref 0), none, none, some (.int x3), some (.int v1), some (.int v2), none, none, none]) dX0_resultant_79 (by decide) rfl ?_
  refine r_aload_n dX0_resultant_81 rfl rfl ?_
  refine m_getF (x := 93) hp fw_X0_342 dX0_resultant_82 rfl ly_0 (ff_0_27 ly_0) ?_
  refine k_VI (As := []) (stk := []) hp cv_X0_569 dX0_resultant_85 rfl (Nat.le_of_ble_eq_true rfl) (lf_0_27 ly_0) (H.mono (fun v3 h3 H => ?_)) ⟨Nat.le_refl _, Nat.le_refl _⟩
  refine r_iload dX0_resultant_88 rfl ?_
  refine r_imul dX0_resultant_90 ?_
  refine r_aload_n dX0_resultant_91 rfl rfl ?_
  refine m_getF (x := 95) hp fw_X0_345 dX0_resultant_92 rfl ly_0 (ff_0_28 ly_0) ?_
  refine k_VI (As := []) (stk := [.int (v3 * v2)]) hp cv_X0_569 dX0_resultant_95 rfl (Nat.le_of_ble_eq_true rfl) (lf_0_28 ly_0) (H.mono (fun v4 h4 H => ?_)) ⟨Nat.le_refl _, Nat.le_refl _⟩
  refine r_iload dX0_resultant_98 rfl ?_
  refine r_imul dX0_resultant_100 ?_
  refine r_iadd dX0_resultant_101 ?_
  refine r_iconst (v := (1 : Int32)) dX0_resultant_102 rfl ?_
  refine r_iadd dX0_resultant_103 ?_
  refine r_istore (ls2 := [some (.ref 0), none, none, some (.int x3), some (.int v1), some (.int v2), some (.int (((v3 * v2) + (v4 * v1)) + (1 : Int32))), none, none]) dX0_resultant_104 (by decide) rfl ?_
  refine r_iconst (v := (0 : Int32)) dX0_resultant_106 rfl ?_
  refine r_istore (ls2 := [some (.ref 0), none, none, some (.int x3), some (.int v1), some (.int v2), some (.int (((v3 * v2) + (v4 * v1)) + (1 : Int32))), some (.int (0 : Int32)), none]) dX0_resultant_107 (by decide) rfl ?_
  refine r_iconst (v := (0 : Int32)) dX0_resultant_109 rfl ?_
  refine r_istore (ls2 := [some (.ref 0), none, none, some (.int x3), some (.int v1), some (.int v2), some (.int (((v3 * v2) + (v4 * v1)) + (1 : Int32))), some (.int (0 : Int32)), some (.int (0 : Int32))]) dX0_resultant_110 (by decide) rfl ?_
  exact H
theorem s_X0_resultant_112 {g : GX} {d : Nat} {av : List Value} {Q : QT} {n : Nat} {h : Hp} {x3 : Int32} {x4 : Int32} {x5 : Int32} {x6 : Int32} {x7 : Int32} {x8 : Int32} (hp : g.2.2.2.2 = true)  (H : ((x6 ≤ x7) → (CallV g m_X1_interpolate d [.ref 1, .ref 1183, .ref 1184, .int x7, .ref 832] n h (fun h1 => (((x3 = (0 : Int32)) → (W_X0_resultant g d av Q n 241 [some (.ref 0), none, none, some (.int x3), none, none, none, none, none] [.int (24 : Int32), .int (ri h1 832 1)] h1)) ∧ ((¬ x3 = (0 : Int32)) → (W_X0_resultant g d av Q n 241 [some (.ref 0), none, none, some (.int x3), none, none, none, none, none] [.int (12 : Int32), .int (ri h1 832 1)] h1)))))) ∧ ((¬ x6 ≤ x7) → (CallV g m_X4_atN d [.ref 93, .int x8, .ref 103] n h (fun h2 => (CallV g m_X4_atN d [.ref 95, .int x8, .ref 105] n h2 (fun h3 => (((¬ (ri h3 103 1) = (x4 + (1 : Int32))) → (W_X0_resultant g d av Q n 196 [some (.ref 0), none, none, some (.int x3), some (.int x4), some (.int x5), some (.int x6), some (.int x7), some (.int x8)] [] h3)) ∧ (((ri h3 103 1) = (x4 + (1 : Int32))) → (((¬ (ri h3 105 1) = (x5 + (1 : Int32))) → (W_X0_resultant g d av Q n 196 [some (.ref 0), none, none, some (.int x3), some (.int x4), some (.int x5), some (.int x6), some (.int x7), some (.int x8)] [] h3)) ∧ (((ri h3 105 1) = (x5 + (1 : Int32))) → (vp_in x7 2000 ∧ ∀ h4, h4 = wi h3 1183 (x7).toNatClampNeg x8 → (CallI g m_X0_resultantOf d [.ref 0] n h4 (fun v5 h5 => (vp_in x7 2000 ∧ ∀ h6, h6 = wi h5 1184 (x7).toNatClampNeg v5 → (W_X0_resultant g d av Q n 196 [some (.ref 0), none, none, some (.int x3), some (.int x4), some (.int x5), some (.int x6), some (.int (x7 + (1 : Int32))), some (.int x8)] [] h6))))))))))))))) : W_X0_resultant g d av Q n 112 [some (.ref 0), none, none, some (.int x3), some (.int x4), some (.int x5), some (.int x6), some (.int x7), some (.int x8)] [] h := by
  refine r_iload dX0_resultant_112 rfl ?_
  refine r_iload dX0_resultant_114 rfl ?_
  refine r_icmp_ge (tgt := 202) dX0_resultant_116 rfl (fun cH => ?_) (fun cH => ?_)
  · replace H := H.1 cH
    refine r_aload_n dX0_resultant_202 rfl rfl ?_
    refine m_getF (x := 1) hp fw_X0_46 dX0_resultant_203 rfl ly_0 (ff_0_0 ly_0) ?_
    refine r_aload_n dX0_resultant_206 rfl rfl ?_
    refine m_getF (x := 1183) hp fw_X0_502 dX0_resultant_207 rfl ly_0 (ff_0_78 ly_0) ?_
    refine r_aload_n dX0_resultant_210 rfl rfl ?_
    refine m_getF (x := 1184) hp fw_X0_505 dX0_resultant_211 rfl ly_0 (ff_0_79 ly_0) ?_
    refine r_iload dX0_resultant_214 rfl ?_
    refine r_aload_n dX0_resultant_216 rfl rfl ?_
    refine m_getF (x := 832) hp fw_X0_411 dX0_resultant_217 rfl ly_0 (ff_0_46 ly_0) ?_
    refine k_VV (As := [.ref 1183, .ref 1184, .int x7, .ref 832]) (stk := []) hp cv_X0_912 dX0_resultant_220 rfl (Nat.le_of_ble_eq_true rfl) (lf_0_0 ly_0) (H.mono (fun h1 H => ?_)) ⟨Nat.le_refl _, Nat.le_refl _⟩
    refine r_aload_n dX0_resultant_223 rfl rfl ?_
    refine m_getF (x := 832) hp fw_X0_411 dX0_resultant_224 rfl ly_0 (ff_0_46 ly_0) ?_
    refine m_getI hp fw_X0_636 dX0_resultant_227 rfl (lf_0_46 ly_0) ?_
    refine r_iload_n dX0_resultant_230 rfl rfl ?_
    refine r_if_eq (tgt := 239) dX0_resultant_231 rfl (fun cH => ?_) (fun cH => ?_)
    · replace H := H.1 cH
      refine r_bipush (v := (24 : Int32)) dX0_resultant_239 rfl ?_
      refine r_prune [true, false, false, true, false, false, false, false, false] (ls2 := [some (.ref 0), none, none, some (.int x3), none, none, none, none, none]) rfl ?_
      exact H
    · replace H := H.2 cH
      refine r_bipush (v := (12 : Int32)) dX0_resultant_234 rfl ?_
      refine r_goto (tgt := 241) dX0_resultant_236 rfl ?_
      refine r_prune [true, false, false, true, false, false, false, false, false] (ls2 := [some (.ref 0), none, none, some (.int x3), none, none, none, none, none]) rfl ?_
      exact H
  · replace H := H.2 cH
    refine r_aload_n dX0_resultant_119 rfl rfl ?_
    refine m_getF (x := 93) hp fw_X0_342 dX0_resultant_120 rfl ly_0 (ff_0_27 ly_0) ?_
    refine r_iload dX0_resultant_123 rfl ?_
    refine r_aload_n dX0_resultant_125 rfl rfl ?_
    refine m_getF (x := 103) hp fw_X0_361 dX0_resultant_126 rfl ly_0 (ff_0_32 ly_0) ?_
    refine k_VV (As := [.int x8, .ref 103]) (stk := []) hp cv_X0_632 dX0_resultant_129 rfl (Nat.le_of_ble_eq_true rfl) (lf_0_27 ly_0) (H.mono (fun h2 H => ?_)) ⟨Nat.le_refl _, Nat.le_refl _⟩
    refine r_aload_n dX0_resultant_132 rfl rfl ?_
    refine m_getF (x := 95) hp fw_X0_345 dX0_resultant_133 rfl ly_0 (ff_0_28 ly_0) ?_
    refine r_iload dX0_resultant_136 rfl ?_
    refine r_aload_n dX0_resultant_138 rfl rfl ?_
    refine m_getF (x := 105) hp fw_X0_365 dX0_resultant_139 rfl ly_0 (ff_0_33 ly_0) ?_
    refine k_VV (As := [.int x8, .ref 105]) (stk := []) hp cv_X0_632 dX0_resultant_142 rfl (Nat.le_of_ble_eq_true rfl) (lf_0_28 ly_0) (H.mono (fun h3 H => ?_)) ⟨Nat.le_refl _, Nat.le_refl _⟩
    refine r_aload_n dX0_resultant_145 rfl rfl ?_
    refine m_getF (x := 103) hp fw_X0_361 dX0_resultant_146 rfl ly_0 (ff_0_32 ly_0) ?_
    refine m_getI hp fw_X0_636 dX0_resultant_149 rfl (lf_0_32 ly_0) ?_
    refine r_iload dX0_resultant_152 rfl ?_
    refine r_iconst (v := (1 : Int32)) dX0_resultant_154 rfl ?_
    refine r_iadd dX0_resultant_155 ?_
    refine r_icmp_ne (tgt := 196) dX0_resultant_156 rfl (fun cH => ?_) (fun cH => ?_)
    · replace H := H.1 cH
      exact H
    · replace H := H.2 cH
      refine r_aload_n dX0_resultant_159 rfl rfl ?_
      refine m_getF (x := 105) hp fw_X0_365 dX0_resultant_160 rfl ly_0 (ff_0_33 ly_0) ?_
      refine m_getI hp fw_X0_636 dX0_resultant_163 rfl (lf_0_33 ly_0) ?_
      refine r_iload dX0_resultant_166 rfl ?_
      refine r_iconst (v := (1 : Int32)) dX0_resultant_168 rfl ?_
      refine r_iadd dX0_resultant_169 ?_
      refine r_icmp_ne (tgt := 196) dX0_resultant_170 rfl (fun cH => ?_) (fun cH => ?_)
      · replace H := H.1 cH
        exact H
      · replace H := H.2 cH
        refine r_aload_n dX0_resultant_173 rfl rfl ?_
        refine m_getF (x := 1183) hp fw_X0_502 dX0_resultant_174 rfl ly_0 (ff_0_78 ly_0) ?_
        refine r_iload dX0_resultant_177 rfl ?_
        refine r_iload dX0_resultant_179 rfl ?_
        refine m_iast hp dX0_resultant_181 (lf_0_78 ly_0) H.1 (fun h4 eh4 => ?_)
        replace H := H.2 h4 eh4
        refine r_aload_n dX0_resultant_182 rfl rfl ?_
        refine m_getF (x := 1184) hp fw_X0_505 dX0_resultant_183 rfl ly_0 (ff_0_79 ly_0) ?_
        refine r_iload dX0_resultant_186 rfl ?_
        refine r_aload_n dX0_resultant_188 rfl rfl ?_
        refine k_VI (As := []) (stk := [.int x7, .ref 1184]) hp cv_X0_909 dX0_resultant_189 rfl (Nat.le_of_ble_eq_true rfl) ly_0 (H.mono (fun v5 h5 H => ?_)) ⟨Nat.le_refl _, Nat.le_refl _⟩
        refine m_iast hp dX0_resultant_192 (lf_0_79 ly_0) H.1 (fun h6 eh6 => ?_)
        replace H := H.2 h6 eh6
        refine r_iinc (v := (x7 + (1 : Int32))) (ls2 := [some (.ref 0), none, none, some (.int x3), some (.int x4), some (.int x5), some (.int x6), some (.int (x7 + (1 : Int32))), some (.int x8)]) dX0_resultant_193 rfl rfl (by decide) rfl ?_
        exact H
theorem s_X0_resultant_196 {g : GX} {d : Nat} {av : List Value} {Q : QT} {n : Nat} {h : Hp} {x3 : Int32} {x4 : Int32} {x5 : Int32} {x6 : Int32} {x7 : Int32} {x8 : Int32} (hp : g.2.2.2.2 = true)  (H : W_X0_resultant g d av Q n 112 [some (.ref 0), none, none, some (.int x3), some (.int x4), some (.int x5), some (.int x6), some (.int x7), some (.int (x8 + (1 : Int32)))] [] h) : W_X0_resultant g d av Q n 196 [some (.ref 0), none, none, some (.int x3), some (.int x4), some (.int x5), some (.int x6), some (.int x7), some (.int x8)] [] h := by
  refine r_iinc (v := (x8 + (1 : Int32))) (ls2 := [some (.ref 0), none, none, some (.int x3), some (.int x4), some (.int x5), some (.int x6), some (.int x7), some (.int (x8 + (1 : Int32)))]) dX0_resultant_196 rfl rfl (by decide) rfl ?_
  refine r_goto (tgt := 112) dX0_resultant_199 rfl ?_
  exact H
theorem s_X0_resultant_241 {g : GX} {d : Nat} {av : List Value} {Q : QT} {n : Nat} {h : Hp} {x3 : Int32} {xs0 : Int32} {xs1 : Int32} (hp : g.2.2.2.2 = true)  (H : ((xs1 ≤ (xs0 + (1 : Int32))) → (CallV g m_X5_plain d [.ref 80] n h (fun h1 => (CallV g m_X4_set d [.ref 84, .int (1 : Int32)] n h1 (fun h2 => (((x3 = (0 : Int32)) → (W_X0_resultant g d av Q n 294 [some (.ref 0), none, none, some (.int x3), none, none, none, none, none] [.int (ri h2 832 1), .ref 82] h2)) ∧ ((¬ x3 = (0 : Int32)) → (W_X0_resultant g d av Q n 294 [some (.ref 0), none, none, some (.int x3), none, none, none, none, none] [.int (1 : Int32), .ref 82] h2)))))))) ∧ ((¬ xs1 ≤ (xs0 + (1 : Int32))) → (Q (some (.int (0 : Int32))) n h))) : W_X0_resultant g d av Q n 241 [some (.ref 0), none, none, some (.int x3), none, none, none, none, none] [.int xs0, .int xs1] h := by
  refine r_iconst (v := (1 : Int32)) dX0_resultant_241 rfl ?_
  refine r_iadd dX0_resultant_242 ?_
  refine r_icmp_le (tgt := 248) dX0_resultant_243 rfl (fun cH => ?_) (fun cH => ?_)
  · replace H := H.1 cH
    refine r_aload_n dX0_resultant_248 rfl rfl ?_
    refine m_getF (x := 80) hp fw_X0_330 dX0_resultant_249 rfl ly_0 (ff_0_21 ly_0) ?_
    refine k_VV (As := []) (stk := []) hp cv_X0_301 dX0_resultant_252 rfl (Nat.le_of_ble_eq_true rfl) (lf_0_21 ly_0) (H.mono (fun h1 H => ?_)) ⟨Nat.le_refl _, Nat.le_refl _⟩
    refine r_aload_n dX0_resultant_255 rfl rfl ?_
    refine m_getF (x := 80) hp fw_X0_330 dX0_resultant_256 rfl ly_0 (ff_0_21 ly_0) ?_
    refine m_getF (x := 81) hp fw_X0_110 dX0_resultant_259 rfl (lf_0_21 ly_0) (ff_5_0 (lf_0_21 ly_0)) ?_
    refine m_getF (x := 84) hp fw_X0_94 dX0_resultant_262 rfl (lf_5_0 (lf_0_21 ly_0)) (ff_6_1 (lf_5_0 (lf_0_21 ly_0))) ?_
    refine r_iconst (v := (1 : Int32)) dX0_resultant_265 rfl ?_
    refine k_VV (As := [.int (1 : Int32)]) (stk := []) hp cv_X0_42 dX0_resultant_266 rfl (Nat.le_of_ble_eq_true rfl) (lf_6_1 (lf_5_0 (lf_0_21 ly_0))) (H.mono (fun h2 H => ?_)) ⟨Nat.le_refl _, Nat.le_refl _⟩
    refine r_aload_n dX0_resultant_269 rfl rfl ?_
    refine m_getF (x := 80) hp fw_X0_330 dX0_resultant_270 rfl ly_0 (ff_0_21 ly_0) ?_
    refine m_getF (x := 81) hp fw_X0_110 dX0_resultant_273 rfl (lf_0_21 ly_0) (ff_5_0 (lf_0_21 ly_0)) ?_
    refine m_getF (x := 82) hp fw_X0_89 dX0_resultant_276 rfl (lf_5_0 (lf_0_21 ly_0)) (ff_6_0 (lf_5_0 (lf_0_21 ly_0))) ?_
    refine r_iload_n dX0_resultant_279 rfl rfl ?_
    refine r_if_eq (tgt := 287) dX0_resultant_280 rfl (fun cH => ?_) (fun cH => ?_)
    · replace H := H.1 cH
      refine r_aload_n dX0_resultant_287 rfl rfl ?_
      refine m_getF (x := 832) hp fw_X0_411 dX0_resultant_288 rfl ly_0 (ff_0_46 ly_0) ?_
      refine m_getI hp fw_X0_636 dX0_resultant_291 rfl (lf_0_46 ly_0) ?_
      exact H
    · replace H := H.2 cH
      refine r_iconst (v := (1 : Int32)) dX0_resultant_283 rfl ?_
      refine r_goto (tgt := 294) dX0_resultant_284 rfl ?_
      exact H
  · replace H := H.2 cH
    refine r_iconst (v := (0 : Int32)) dX0_resultant_246 rfl ?_
    exact r_zret dX0_resultant_247 rfl rfl (Nat.le_refl _) (Nat.le_refl _) H
theorem s_X0_resultant_294 {g : GX} {d : Nat} {av : List Value} {Q : QT} {n : Nat} {h : Hp} {x3 : Int32} {xs0 : Int32} {as1 : Nat} (hp : g.2.2.2.2 = true) (ts1 : lay as1 = (0, 4, 4)) (H : ((x3 = (0 : Int32)) → (W_X0_resultant g d av Q n 309 [some (.ref 0), none, none, some (.int x3), none, none, none, none, none] [.int (1 : Int32), .int xs0, .ref as1] h)) ∧ ((¬ x3 = (0 : Int32)) → (W_X0_resultant g d av Q n 309 [some (.ref 0), none, none, some (.int x3), none, none, none, none, none] [.int (ri h 832 1), .int xs0, .ref as1] h))) : W_X0_resultant g d av Q n 294 [some (.ref 0), none, none, some (.int x3), none, none, none, none, none] [.int xs0, .ref as1] h := by
  refine r_iload_n dX0_resultant_294 rfl rfl ?_
  refine r_if_eq (tgt := 308) dX0_resultant_295 rfl (fun cH => ?_) (fun cH => ?_)
  · replace H := H.1 cH
    refine r_iconst (v := (1 : Int32)) dX0_resultant_308 rfl ?_
    exact H
  · replace H := H.2 cH
    refine r_aload_n dX0_resultant_298 rfl rfl ?_
    refine m_getF (x := 832) hp fw_X0_411 dX0_resultant_299 rfl ly_0 (ff_0_46 ly_0) ?_
    refine m_getI hp fw_X0_636 dX0_resultant_302 rfl (lf_0_46 ly_0) ?_
    refine r_goto (tgt := 309) dX0_resultant_305 rfl ?_
    exact H
theorem s_X0_resultant_309 {g : GX} {d : Nat} {av : List Value} {Q : QT} {n : Nat} {h : Hp} {x3 : Int32} {xs0 : Int32} {xs1 : Int32} {as2 : Nat} (hp : g.2.2.2.2 = true) (ts2 : lay as2 = (0, 4, 4)) (H : CallV g m_X4_open d [.ref as2, .int xs1, .int xs0] n h (fun h1 => (W_X0_resultant g d av Q n 315 [some (.ref 0), none, none, some (.int x3), none, none, none, none, some (.int (0 : Int32))] [] h1))) : W_X0_resultant g d av Q n 309 [some (.ref 0), none, none, some (.int x3), none, none, none, none, none] [.int xs0, .int xs1, .ref as2] h := by
  refine k_VV (As := [.int xs1, .int xs0]) (stk := []) hp cv_X0_304 dX0_resultant_309 rfl (Nat.le_of_ble_eq_true rfl) ts2 (H.mono (fun h1 H => ?_)) ⟨Nat.le_refl _, Nat.le_refl _⟩
  refine r_iconst (v := (0 : Int32)) dX0_resultant_312 rfl ?_
  refine r_istore (ls2 := [some (.ref 0), none, none, some (.int x3), none, none, none, none, some (.int (0 : Int32))]) dX0_resultant_313 (by decide) rfl ?_
  exact H
theorem s_X0_resultant_315 {g : GX} {d : Nat} {av : List Value} {Q : QT} {n : Nat} {h : Hp} {x3 : Int32} {x8 : Int32} (hp : g.2.2.2.2 = true)  (H : (((ri h 832 1) ≤ x8) → (CallV g m_X4_trim d [.ref 82] n h (fun h1 => (Q (some (.int (1 : Int32))) n h1)))) ∧ ((¬ (ri h 832 1) ≤ x8) → (((x3 = (0 : Int32)) → (W_X0_resultant g d av Q n 354 [some (.ref 0), none, none, some (.int x3), none, none, none, none, some (.int x8)] [.int x8, .ref 83] h)) ∧ ((¬ x3 = (0 : Int32)) → (W_X0_resultant g d av Q n 354 [some (.ref 0), none, none, some (.int x3), none, none, none, none, some (.int x8)] [.int (x8 * (25 : Int32)), .ref 83] h))))) : W_X0_resultant g d av Q n 315 [some (.ref 0), none, none, some (.int x3), none, none, none, none, some (.int x8)] [] h := by
  refine r_iload dX0_resultant_315 rfl ?_
  refine r_aload_n dX0_resultant_317 rfl rfl ?_
  refine m_getF (x := 832) hp fw_X0_411 dX0_resultant_318 rfl ly_0 (ff_0_46 ly_0) ?_
  refine m_getI hp fw_X0_636 dX0_resultant_321 rfl (lf_0_46 ly_0) ?_
  refine r_icmp_ge (tgt := 371) dX0_resultant_324 rfl (fun cH => ?_) (fun cH => ?_)
  · replace H := H.1 cH
    refine r_aload_n dX0_resultant_371 rfl rfl ?_
    refine m_getF (x := 80) hp fw_X0_330 dX0_resultant_372 rfl ly_0 (ff_0_21 ly_0) ?_
    refine m_getF (x := 81) hp fw_X0_110 dX0_resultant_375 rfl (lf_0_21 ly_0) (ff_5_0 (lf_0_21 ly_0)) ?_
    refine m_getF (x := 82) hp fw_X0_89 dX0_resultant_378 rfl (lf_5_0 (lf_0_21 ly_0)) (ff_6_0 (lf_5_0 (lf_0_21 ly_0))) ?_
    refine k_VV (As := []) (stk := []) hp cv_X0_611 dX0_resultant_381 rfl (Nat.le_of_ble_eq_true rfl) (lf_6_0 (lf_5_0 (lf_0_21 ly_0))) (H.mono (fun h1 H => ?_)) ⟨Nat.le_refl _, Nat.le_refl _⟩
    refine r_iconst (v := (1 : Int32)) dX0_resultant_384 rfl ?_
    exact r_zret dX0_resultant_385 rfl rfl (Nat.le_refl _) (Nat.le_refl _) H
  · replace H := H.2 cH
    refine r_aload_n dX0_resultant_327 rfl rfl ?_
    refine m_getF (x := 80) hp fw_X0_330 dX0_resultant_328 rfl ly_0 (ff_0_21 ly_0) ?_
    refine m_getF (x := 81) hp fw_X0_110 dX0_resultant_331 rfl (lf_0_21 ly_0) (ff_5_0 (lf_0_21 ly_0)) ?_
    refine m_getF (x := 82) hp fw_X0_89 dX0_resultant_334 rfl (lf_5_0 (lf_0_21 ly_0)) (ff_6_0 (lf_5_0 (lf_0_21 ly_0))) ?_
    refine m_getF (x := 83) hp fw_X0_288 dX0_resultant_337 rfl (lf_6_0 (lf_5_0 (lf_0_21 ly_0))) (ff_4_1 (lf_6_0 (lf_5_0 (lf_0_21 ly_0)))) ?_
    refine r_iload_n dX0_resultant_340 rfl rfl ?_
    refine r_if_eq (tgt := 352) dX0_resultant_341 rfl (fun cH => ?_) (fun cH => ?_)
    · replace H := H.1 cH
      refine r_iload dX0_resultant_352 rfl ?_
      exact H
    · replace H := H.2 cH
      refine r_iload dX0_resultant_344 rfl ?_
      refine r_bipush (v := (25 : Int32)) dX0_resultant_346 rfl ?_
      refine r_imul dX0_resultant_348 ?_
      refine r_goto (tgt := 354) dX0_resultant_349 rfl ?_
      exact H
theorem s_X0_resultant_354 {g : GX} {d : Nat} {av : List Value} {Q : QT} {n : Nat} {h : Hp} {x3 : Int32} {x8 : Int32} {xs0 : Int32} {as1 : Nat} {Ls1 : Nat} (hp : g.2.2.2.2 = true) (ts1 : lay as1 = (1, Ls1, 0)) (H : vp_in x8 (rm 833) ∧ (vp_in xs0 Ls1 ∧ ∀ h1, h1 = wi h as1 (xs0).toNatClampNeg (ri h 833 (x8).toNatClampNeg) → (W_X0_resultant g d av Q n 315 [some (.ref 0), none, none, some (.int x3), none, none, none, none, some (.int (x8 + (1 : Int32)))] [] h1))) : W_X0_resultant g d av Q n 354 [some (.ref 0), none, none, some (.int x3), none, none, none, none, some (.int x8)] [.int xs0, .ref as1] h := by
  refine r_aload_n dX0_resultant_354 rfl rfl ?_
  refine m_getF (x := 832) hp fw_X0_411 dX0_resultant_355 rfl ly_0 (ff_0_46 ly_0) ?_
  refine m_getF (x := 833) hp fw_X0_889 dX0_resultant_358 rfl (lf_0_46 ly_0) (ff_3_0 (lf_0_46 ly_0)) ?_
  refine r_iload dX0_resultant_361 rfl ?_
  refine m_iald hp dX0_resultant_363 (lf_3_0 (lf_0_46 ly_0)) H.1 ?_
  replace H := H.2
  refine m_iast hp dX0_resultant_364 ts1 H.1 (fun h1 eh1 => ?_)
  replace H := H.2 h1 eh1
  refine r_iinc (v := (x8 + (1 : Int32))) (ls2 := [some (.ref 0), none, none, some (.int x3), none, none, none, none, some (.int (x8 + (1 : Int32)))]) dX0_resultant_365 rfl rfl (by decide) rfl ?_
  refine r_goto (tgt := 315) dX0_resultant_368 rfl ?_
  exact H
abbrev W_X0_resultantOf (g : GX) (d : Nat) (av : List Value) (Q : QT) (n : Nat) (pc : Nat) (ls : LV) (stk : List Value) (h : Hp) : Prop := RJ g m_X0_resultantOf (d + 1) 0 0 av Q pc ls stk n h 0 0
theorem s_X0_resultantOf_0 {g : GX} {d : Nat} {av : List Value} {Q : QT} {n : Nat} {h : Hp}  (hp : g.2.2.2.2 = true)  (H : W_X0_resultantOf g d av Q n 2 [some (.ref 0), some (.int (1 : Int32)), none, none] [] h) : W_X0_resultantOf g d av Q n 0 [some (.ref 0), none, none, none] [] h := by
  refine r_iconst (v := (1 : Int32)) dX0_resultantOf_0 rfl ?_
  refine r_istore_n (ls2 := [some (.ref 0), some (.int (1 : Int32)), none, none]) dX0_resultantOf_1 rfl (by decide) rfl ?_
  exact H
theorem s_X0_resultantOf_2 {g : GX} {d : Nat} {av : List Value} {Q : QT} {n : Nat} {h : Hp} {x1 : Int32} (hp : g.2.2.2.2 = true)  (H : (((ri h 105 1) ≤ (1 : Int32)) → (CallI g m_X3_head d [.ref 105] n h (fun v1 h1 => (CallI g m_X3_degree d [.ref 103] n h1 (fun v2 h2 => (CallI g m_X0_power d [.int v1, .long (v2).toInt64] n h2 (fun v3 h3 => (CallI g m_X0_times d [.int x1, .int v3] n h3 (fun v4 h4 => (Q (some (.int v4)) n h4)))))))))) ∧ ((¬ (ri h 105 1) ≤ (1 : Int32)) → (CallI g m_X3_degree d [.ref 103] n h (fun v5 h5 => (CallI g m_X3_degree d [.ref 105] n h5 (fun v6 h6 => (CallV g m_X3_divide d [.ref 103, .ref 105, .null] n h6 (fun h7 => (CallI g m_X3_isZero d [.ref 103] n h7 (fun v8 h8 => (((v8 = (0 : Int32)) → (CallI g m_X3_head d [.ref 105] n h8 (fun v9 h9 => (CallI g m_X3_degree d [.ref 103] n h9 (fun v10 h10 => (CallI g m_X0_power d [.int v9, .long ((v5 - v10)).toInt64] n h10 (fun v11 h11 => (CallI g m_X0_times d [.int x1, .int v11] n h11 (fun v12 h12 => (((¬ (v5 - v5 / (2 : Int32) * (2 : Int32)) = (1 : Int32)) → (W_X0_resultantOf g d av Q n 100 [some (.ref 0), some (.int v12), none, none] [] h12)) ∧ (((v5 - v5 / (2 : Int32) * (2 : Int32)) = (1 : Int32)) → (((¬ (v6 - v6 / (2 : Int32) * (2 : Int32)) = (1 : Int32)) → (W_X0_resultantOf g d av Q n 100 [some (.ref 0), some (.int v12), none, none] [] h12)) ∧ (((v6 - v6 / (2 : Int32) * (2 : Int32)) = (1 : Int32)) → (CallI g m_X0_less d [.int (0 : Int32), .int v12] n h12 (fun v13 h13 => (W_X0_resultantOf g d av Q n 101 [some (.ref 0), none, none, none] [.int v13] h13)))))))))))))))) ∧ ((¬ v8 = (0 : Int32)) → (Q (some (.int (0 : Int32))) n h8))))))))))))) : W_X0_resultantOf g d av Q n 2 [some (.ref 0), some (.int x1), none, none] [] h := by
  refine r_aload_n dX0_resultantOf_2 rfl rfl ?_
  refine m_getF (x := 105) hp fw_X0_365 dX0_resultantOf_3 rfl ly_0 (ff_0_33 ly_0) ?_
  refine m_getI hp fw_X0_636 dX0_resultantOf_6 rfl (lf_0_33 ly_0) ?_
  refine r_iconst (v := (1 : Int32)) dX0_resultantOf_9 rfl ?_
  refine r_icmp_le (tgt := 138) dX0_resultantOf_10 rfl (fun cH => ?_) (fun cH => ?_)
  · replace H := H.1 cH
    refine r_iload_n dX0_resultantOf_138 rfl rfl ?_
    refine r_aload_n dX0_resultantOf_139 rfl rfl ?_
    refine m_getF (x := 105) hp fw_X0_365 dX0_resultantOf_140 rfl ly_0 (ff_0_33 ly_0) ?_
    refine k_VI (As := []) (stk := [.int x1]) hp cv_X0_693 dX0_resultantOf_143 rfl (Nat.le_of_ble_eq_true rfl) (lf_0_33 ly_0) (H.mono (fun v1 h1 H => ?_)) ⟨Nat.le_refl _, Nat.le_refl _⟩
    refine r_aload_n dX0_resultantOf_146 rfl rfl ?_
    refine m_getF (x := 103) hp fw_X0_361 dX0_resultantOf_147 rfl ly_0 (ff_0_32 ly_0) ?_
    refine k_VI (As := []) (stk := [.int v1, .int x1]) hp cv_X0_826 dX0_resultantOf_150 rfl (Nat.le_of_ble_eq_true rfl) (lf_0_32 ly_0) (H.mono (fun v2 h2 H => ?_)) ⟨Nat.le_refl _, Nat.le_refl _⟩
    refine r_i2l dX0_resultantOf_153 ?_
    refine k_SI (As := [.int v1, .long (v2).toInt64]) (stk := [.int x1]) cs_X0_12 dX0_resultantOf_154 rfl (Nat.le_of_ble_eq_true rfl) (H.mono (fun v3 h3 H => ?_)) ⟨Nat.le_refl _, Nat.le_refl _⟩
    refine k_SI (As := [.int x1, .int v3]) (stk := []) cs_X0_6 dX0_resultantOf_157 rfl (Nat.le_of_ble_eq_true rfl) (H.mono (fun v4 h4 H => ?_)) ⟨Nat.le_refl _, Nat.le_refl _⟩
    exact r_zret dX0_resultantOf_160 rfl rfl (Nat.le_refl _) (Nat.le_refl _) H
  · replace H := H.2 cH
    refine r_aload_n dX0_resultantOf_13 rfl rfl ?_
    refine m_getF (x := 103) hp fw_X0_361 dX0_resultantOf_14 rfl ly_0 (ff_0_32 ly_0) ?_
    refine k_VI (As := []) (stk := []) hp cv_X0_826 dX0_resultantOf_17 rfl (Nat.le_of_ble_eq_true rfl) (lf_0_32 ly_0) (H.mono (fun v5 h5 H => ?_)) ⟨Nat.le_refl _, Nat.le_refl _⟩
    refine r_istore_n (ls2 := [some (.ref 0), some (.int x1), some (.int v5), none]) dX0_resultantOf_20 rfl (by decide) rfl ?_
    refine r_aload_n dX0_resultantOf_21 rfl rfl ?_
    refine m_getF (x := 105) hp fw_X0_365 dX0_resultantOf_22 rfl ly_0 (ff_0_33 ly_0) ?_
    refine k_VI (As := []) (stk := []) hp cv_X0_826 dX0_resultantOf_25 rfl (Nat.le_of_ble_eq_true rfl) (lf_0_33 ly_0) (H.mono (fun v6 h6 H => ?_)) ⟨Nat.le_refl _, Nat.le_refl _⟩
    refine r_istore_n (ls2 := [some (.ref 0), some (.int x1), some (.int v5), some (.int v6)]) dX0_resultantOf_28 rfl (by decide) rfl ?_
    refine r_aload_n dX0_resultantOf_29 rfl rfl ?_
    refine m_getF (x := 103) hp fw_X0_361 dX0_resultantOf_30 rfl ly_0 (ff_0_32 ly_0) ?_
    refine r_aload_n dX0_resultantOf_33 rfl rfl ?_
    refine m_getF (x := 105) hp fw_X0_365 dX0_resultantOf_34 rfl ly_0 (ff_0_33 ly_0) ?_
    refine r_null dX0_resultantOf_37 ?_
    refine k_VV (As := [.ref 105, .null]) (stk := []) hp cv_X0_867 dX0_resultantOf_38 rfl (Nat.le_of_ble_eq_true rfl) (lf_0_32 ly_0) (H.mono (fun h7 H => ?_)) ⟨Nat.le_refl _, Nat.le_refl _⟩
    refine r_aload_n dX0_resultantOf_41 rfl rfl ?_
    refine m_getF (x := 103) hp fw_X0_361 dX0_resultantOf_42 rfl ly_0 (ff_0_32 ly_0) ?_
    refine k_VI (As := []) (stk := []) hp cv_X0_692 dX0_resultantOf_45 rfl (Nat.le_of_ble_eq_true rfl) (lf_0_32 ly_0) (H.mono (fun v8 h8 H => ?_)) ⟨Nat.le_refl _, Nat.le_refl _⟩
    refine r_if_eq (tgt := 53) dX0_resultantOf_48 rfl (fun cH => ?_) (fun cH => ?_)
    · replace H := H.1 cH
      refine r_iload_n dX0_resultantOf_53 rfl rfl ?_
      refine r_aload_n dX0_resultantOf_54 rfl rfl ?_
      refine m_getF (x := 105) hp fw_X0_365 dX0_resultantOf_55 rfl ly_0 (ff_0_33 ly_0) ?_
      refine k_VI (As := []) (stk := [.int x1]) hp cv_X0_693 dX0_resultantOf_58 rfl (Nat.le_of_ble_eq_true rfl) (lf_0_33 ly_0) (H.mono (fun v9 h9 H => ?_)) ⟨Nat.le_refl _, Nat.le_refl _⟩
      refine r_iload_n dX0_resultantOf_61 rfl rfl ?_
      refine r_aload_n dX0_resultantOf_62 rfl rfl ?_
      refine m_getF (x := 103) hp fw_X0_361 dX0_resultantOf_63 rfl ly_0 (ff_0_32 ly_0) ?_
      refine k_VI (As := []) (stk := [.int v5, .int v9, .int x1]) hp cv_X0_826 dX0_resultantOf_66 rfl (Nat.le_of_ble_eq_true rfl) (lf_0_32 ly_0) (H.mono (fun v10 h10 H => ?_)) ⟨Nat.le_refl _, Nat.le_refl _⟩
      refine r_isub dX0_resultantOf_69 ?_
      refine r_i2l dX0_resultantOf_70 ?_
      refine k_SI (As := [.int v9, .long ((v5 - v10)).toInt64]) (stk := [.int x1]) cs_X0_12 dX0_resultantOf_71 rfl (Nat.le_of_ble_eq_true rfl) (H.mono (fun v11 h11 H => ?_)) ⟨Nat.le_refl _, Nat.le_refl _⟩
      refine k_SI (As := [.int x1, .int v11]) (stk := []) cs_X0_6 dX0_resultantOf_74 rfl (Nat.le_of_ble_eq_true rfl) (H.mono (fun v12 h12 H => ?_)) ⟨Nat.le_refl _, Nat.le_refl _⟩
      refine r_istore_n (ls2 := [some (.ref 0), some (.int v12), some (.int v5), some (.int v6)]) dX0_resultantOf_77 rfl (by decide) rfl ?_
      refine r_iload_n dX0_resultantOf_78 rfl rfl ?_
      refine r_iconst (v := (2 : Int32)) dX0_resultantOf_79 rfl ?_
      refine r_irem dX0_resultantOf_80 (by decide) ?_
      refine r_iconst (v := (1 : Int32)) dX0_resultantOf_81 rfl ?_
      refine r_icmp_ne (tgt := 100) dX0_resultantOf_82 rfl (fun cH => ?_) (fun cH => ?_)
      · replace H := H.1 cH
        refine r_prune [true, true, false, false] (ls2 := [some (.ref 0), some (.int v12), none, none]) rfl ?_
        exact H
      · replace H := H.2 cH
        refine r_iload_n dX0_resultantOf_85 rfl rfl ?_
        refine r_iconst (v := (2 : Int32)) dX0_resultantOf_86 rfl ?_
        refine r_irem dX0_resultantOf_87 (by decide) ?_
        refine r_iconst (v := (1 : Int32)) dX0_resultantOf_88 rfl ?_
        refine r_icmp_ne (tgt := 100) dX0_resultantOf_89 rfl (fun cH => ?_) (fun cH => ?_)
        · replace H := H.1 cH
          refine r_prune [true, true, false, false] (ls2 := [some (.ref 0), some (.int v12), none, none]) rfl ?_
          exact H
        · replace H := H.2 cH
          refine r_iconst (v := (0 : Int32)) dX0_resultantOf_92 rfl ?_
          refine r_iload_n dX0_resultantOf_93 rfl rfl ?_
          refine k_SI (As := [.int (0 : Int32), .int v12]) (stk := []) cs_X0_784 dX0_resultantOf_94 rfl (Nat.le_of_ble_eq_true rfl) (H.mono (fun v13 h13 H => ?_)) ⟨Nat.le_refl _, Nat.le_refl _⟩
          refine r_goto (tgt := 101) dX0_resultantOf_97 rfl ?_
          refine r_prune [true, false, false, false] (ls2 := [some (.ref 0), none, none, none]) rfl ?_
          exact H
    · replace H := H.2 cH
      refine r_iconst (v := (0 : Int32)) dX0_resultantOf_51 rfl ?_
      exact r_zret dX0_resultantOf_52 rfl rfl (Nat.le_refl _) (Nat.le_refl _) H
theorem s_X0_resultantOf_100 {g : GX} {d : Nat} {av : List Value} {Q : QT} {n : Nat} {h : Hp} {x1 : Int32} (hp : g.2.2.2.2 = true)  (H : W_X0_resultantOf g d av Q n 101 [some (.ref 0), none, none, none] [.int x1] h) : W_X0_resultantOf g d av Q n 100 [some (.ref 0), some (.int x1), none, none] [] h := by
  refine r_iload_n dX0_resultantOf_100 rfl rfl ?_
  refine r_prune [true, false, false, false] (ls2 := [some (.ref 0), none, none, none]) rfl ?_
  exact H
theorem s_X0_resultantOf_101 {g : GX} {d : Nat} {av : List Value} {Q : QT} {n : Nat} {h : Hp} {xs0 : Int32} (hp : g.2.2.2.2 = true)  (H : CallV g m_X3_copy d [.ref 828, .ref 103] n h (fun h1 => (CallV g m_X3_copy d [.ref 103, .ref 105] n h1 (fun h2 => (CallV g m_X3_copy d [.ref 105, .ref 828] n h2 (fun h3 => (W_X0_resultantOf g d av Q n 2 [some (.ref 0), some (.int xs0), none, none] [] h3))))))) : W_X0_resultantOf g d av Q n 101 [some (.ref 0), none, none, none] [.int xs0] h := by
  refine r_istore_n (ls2 := [some (.ref 0), some (.int xs0), none, none]) dX0_resultantOf_101 rfl (by decide) rfl ?_
  refine r_aload_n dX0_resultantOf_102 rfl rfl ?_
  refine m_getF (x := 828) hp fw_X0_406 dX0_resultantOf_103 rfl ly_0 (ff_0_44 ly_0) ?_
  refine r_aload_n dX0_resultantOf_106 rfl rfl ?_
  refine m_getF (x := 103) hp fw_X0_361 dX0_resultantOf_107 rfl ly_0 (ff_0_32 ly_0) ?_
  refine k_VV (As := [.ref 103]) (stk := []) hp cv_X0_686 dX0_resultantOf_110 rfl (Nat.le_of_ble_eq_true rfl) (lf_0_44 ly_0) (H.mono (fun h1 H => ?_)) ⟨Nat.le_refl _, Nat.le_refl _⟩
  refine r_aload_n dX0_resultantOf_113 rfl rfl ?_
  refine m_getF (x := 103) hp fw_X0_361 dX0_resultantOf_114 rfl ly_0 (ff_0_32 ly_0) ?_
  refine r_aload_n dX0_resultantOf_117 rfl rfl ?_
  refine m_getF (x := 105) hp fw_X0_365 dX0_resultantOf_118 rfl ly_0 (ff_0_33 ly_0) ?_
  refine k_VV (As := [.ref 105]) (stk := []) hp cv_X0_686 dX0_resultantOf_121 rfl (Nat.le_of_ble_eq_true rfl) (lf_0_32 ly_0) (H.mono (fun h2 H => ?_)) ⟨Nat.le_refl _, Nat.le_refl _⟩
  refine r_aload_n dX0_resultantOf_124 rfl rfl ?_
  refine m_getF (x := 105) hp fw_X0_365 dX0_resultantOf_125 rfl ly_0 (ff_0_33 ly_0) ?_
  refine r_aload_n dX0_resultantOf_128 rfl rfl ?_
  refine m_getF (x := 828) hp fw_X0_406 dX0_resultantOf_129 rfl ly_0 (ff_0_44 ly_0) ?_
  refine k_VV (As := [.ref 828]) (stk := []) hp cv_X0_686 dX0_resultantOf_132 rfl (Nat.le_of_ble_eq_true rfl) (lf_0_33 ly_0) (H.mono (fun h3 H => ?_)) ⟨Nat.le_refl _, Nat.le_refl _⟩
  refine r_goto (tgt := 2) dX0_resultantOf_135 rfl ?_
  exact H
abbrev W_X0_change (g : GX) (d : Nat) (av : List Value) (Q : QT) (n : Nat) (pc : Nat) (ls : LV) (stk : List Value) (h : Hp) : Prop := RJ g m_X0_change (d + 1) 0 0 av Q pc ls stk n h 0 0
theorem s_X0_change_0 {g : GX} {d : Nat} {av : List Value} {Q : QT} {n : Nat} {h : Hp} {x1 : Int32} {x2 : Int32} {x3 : Int32} {x4 : Int32} (hp : g.2.2.2.2 = true)  (H : CallI g m_X0_isSlot d [.int x2] n h (fun v1 h1 => (((v1 = (0 : Int32)) → (Q (some (.int (-1 : Int32))) n h1)) ∧ ((¬ v1 = (0 : Int32)) → (CallI g m_X0_isSlot d [.int x4] n h1 (fun v2 h2 => (((¬ v2 = (0 : Int32)) → (((¬ x1 = (10 : Int32)) → (vp_in x2 12 ∧ ∀ r3, r3 = 1185 + 27 * (x2).toNatClampNeg → (((x1 = (0 : Int32)) → (W_X0_change g d av Q n 77 [some (.ref 0), some (.int x1), some (.int x2), some (.int x3), some (.int x4), some (.int (ri h2 r3 0)), none, none] [] h2)) ∧ ((¬ x1 = (0 : Int32)) → (((x1 = (1 : Int32)) → (W_X0_change g d av Q n 77 [some (.ref 0), some (.int x1), some (.int x2), some (.int x3), some (.int x4), some (.int (ri h2 r3 0)), none, none] [] h2)) ∧ ((¬ x1 = (1 : Int32)) → (((x1 = (9 : Int32)) → (W_X0_change g d av Q n 77 [some (.ref 0), some (.int x1), some (.int x2), some (.int x3), some (.int x4), some (.int (ri h2 r3 0)), none, none] [] h2)) ∧ ((¬ x1 = (9 : Int32)) → (((¬ x1 = (11 : Int32)) → (W_X0_change g d av Q n 82 [some (.ref 0), some (.int x1), some (.int x2), some (.int x3), some (.int x4), some (.int (ri h2 r3 0)), none, none] [.int (0 : Int32)] h2)) ∧ ((x1 = (11 : Int32)) → (W_X0_change g d av Q n 77 [some (.ref 0), some (.int x1), some (.int x2), some (.int x3), some (.int x4), some (.int (ri h2 r3 0)), none, none] [] h2))))))))))) ∧ ((x1 = (10 : Int32)) → (CallI g m_X0_rest d [.int x3] n h2 (fun v4 h4 => (CallV g m_X5_set d [.ref 80, .int v4] n h4 (fun h5 => (CallI g m_X0_keep d [.ref 0, .ref 80, .int x4] n h5 (fun v6 h6 => (Q (some (.int v6)) n h6)))))))))) ∧ ((v2 = (0 : Int32)) → (Q (some (.int (-1 : Int32))) n h2))))))))) : W_X0_change g d av Q n 0 [some (.ref 0), some (.int x1), some (.int x2), some (.int x3), some (.int x4), none, none, none] [] h := by
  refine r_iload_n dX0_change_0 rfl rfl ?_
  refine k_SI (As := [.int x2]) (stk := []) cs_X0_519 dX0_change_1 rfl (Nat.le_of_ble_eq_true rfl) (H.mono (fun v1 h1 H => ?_)) ⟨Nat.le_refl _, Nat.le_refl _⟩
  refine r_if_eq (tgt := 15) dX0_change_4 rfl (fun cH => ?_) (fun cH => ?_)
  · replace H := H.1 cH
    refine r_iconst (v := (-1 : Int32)) dX0_change_15 rfl ?_
    exact r_zret dX0_change_16 rfl rfl (Nat.le_refl _) (Nat.le_refl _) H
  · replace H := H.2 cH
    refine r_iload dX0_change_7 rfl ?_
    refine k_SI (As := [.int x4]) (stk := []) cs_X0_519 dX0_change_9 rfl (Nat.le_of_ble_eq_true rfl) (H.mono (fun v2 h2 H => ?_)) ⟨Nat.le_refl _, Nat.le_refl _⟩
    refine r_if_ne (tgt := 17) dX0_change_12 rfl (fun cH => ?_) (fun cH => ?_)
    · replace H := H.1 cH
      refine r_iload_n dX0_change_17 rfl rfl ?_
      refine r_bipush (v := (10 : Int32)) dX0_change_18 rfl ?_
      refine r_icmp_ne (tgt := 45) dX0_change_20 rfl (fun cH => ?_) (fun cH => ?_)
      · replace H := H.1 cH
        refine r_aload_n dX0_change_45 rfl rfl ?_
        refine m_getF (x := 79) hp fw_X0_326 dX0_change_46 rfl ly_0 (ff_0_20 ly_0) ?_
        refine r_iload_n dX0_change_49 rfl rfl ?_
        obtain ⟨r3, er3⟩ : ∃ y, y = 1185 + 27 * (x2).toNatClampNeg := ⟨_, rfl⟩
        have hir3 := H.1
        replace H := H.2 r3 er3
        have tLr3 := la_79 hir3 er3
        refine m_aalF (x := r3) hp dX0_change_50 (lf_0_20 ly_0) rfl rfl (lu_0_20 ly_0) hir3 (fa_79 hir3 er3) ?_
        refine m_getI hp fw_X0_509 dX0_change_51 rfl tLr3 ?_
        refine r_istore (ls2 := [some (.ref 0), some (.int x1), some (.int x2), some (.int x3), some (.int x4), some (.int (ri h2 r3 0)), none, none]) dX0_change_54 (by decide) rfl ?_
        refine r_iload_n dX0_change_56 rfl rfl ?_
        refine r_if_eq (tgt := 77) dX0_change_57 rfl (fun cH => ?_) (fun cH => ?_)
        · replace H := H.1 cH
          exact H
        · replace H := H.2 cH
          refine r_iload_n dX0_change_60 rfl rfl ?_
          refine r_iconst (v := (1 : Int32)) dX0_change_61 rfl ?_
          refine r_icmp_eq (tgt := 77) dX0_change_62 rfl (fun cH => ?_) (fun cH => ?_)
          · replace H := H.1 cH
            exact H
          · replace H := H.2 cH
            refine r_iload_n dX0_change_65 rfl rfl ?_
            refine r_bipush (v := (9 : Int32)) dX0_change_66 rfl ?_
            refine r_icmp_eq (tgt := 77) dX0_change_68 rfl (fun cH => ?_) (fun cH => ?_)
            · replace H := H.1 cH
              exact H
            · replace H := H.2 cH
              refine r_iload_n dX0_change_71 rfl rfl ?_
              refine r_bipush (v := (11 : Int32)) dX0_change_72 rfl ?_
              refine r_icmp_ne (tgt := 81) dX0_change_74 rfl (fun cH => ?_) (fun cH => ?_)
              · replace H := H.1 cH
                refine r_iconst (v := (0 : Int32)) dX0_change_81 rfl ?_
                exact H
              · replace H := H.2 cH
                exact H
      · replace H := H.2 cH
        refine r_aload_n dX0_change_23 rfl rfl ?_
        refine m_getF (x := 80) hp fw_X0_330 dX0_change_24 rfl ly_0 (ff_0_21 ly_0) ?_
        refine r_iload_n dX0_change_27 rfl rfl ?_
        refine k_SI (As := [.int x3]) (stk := [.ref 80]) cs_X0_543 dX0_change_28 rfl (Nat.le_of_ble_eq_true rfl) (H.mono (fun v4 h4 H => ?_)) ⟨Nat.le_refl _, Nat.le_refl _⟩
        refine k_VV (As := [.int v4]) (stk := []) hp cv_X0_129 dX0_change_31 rfl (Nat.le_of_ble_eq_true rfl) (lf_0_21 ly_0) (H.mono (fun h5 H => ?_)) ⟨Nat.le_refl _, Nat.le_refl _⟩
        refine r_aload_n dX0_change_34 rfl rfl ?_
        refine r_aload_n dX0_change_35 rfl rfl ?_
        refine m_getF (x := 80) hp fw_X0_330 dX0_change_36 rfl ly_0 (ff_0_21 ly_0) ?_
        refine r_iload dX0_change_39 rfl ?_
        refine k_VI (As := [.ref 80, .int x4]) (stk := []) hp cv_X0_515 dX0_change_41 rfl (Nat.le_of_ble_eq_true rfl) ly_0 (H.mono (fun v6 h6 H => ?_)) ⟨Nat.le_refl _, Nat.le_refl _⟩
        exact r_zret dX0_change_44 rfl rfl (Nat.le_refl _) (Nat.le_refl _) H
    · replace H := H.2 cH
      refine r_iconst (v := (-1 : Int32)) dX0_change_15 rfl ?_
      exact r_zret dX0_change_16 rfl rfl (Nat.le_refl _) (Nat.le_refl _) H
theorem s_X0_change_77 {g : GX} {d : Nat} {av : List Value} {Q : QT} {n : Nat} {h : Hp} {x1 : Int32} {x2 : Int32} {x3 : Int32} {x4 : Int32} {x5 : Int32} (hp : g.2.2.2.2 = true)  (H : W_X0_change g d av Q n 82 [some (.ref 0), some (.int x1), some (.int x2), some (.int x3), some (.int x4), some (.int x5), none, none] [.int (1 : Int32)] h) : W_X0_change g d av Q n 77 [some (.ref 0), some (.int x1), some (.int x2), some (.int x3), some (.int x4), some (.int x5), none, none] [] h := by
  refine r_iconst (v := (1 : Int32)) dX0_change_77 rfl ?_
  refine r_goto (tgt := 82) dX0_change_78 rfl ?_
  exact H
theorem s_X0_change_82 {g : GX} {d : Nat} {av : List Value} {Q : QT} {n : Nat} {h : Hp} {x1 : Int32} {x2 : Int32} {x3 : Int32} {x4 : Int32} {x5 : Int32} {xs0 : Int32} (hp : g.2.2.2.2 = true)  (H : CallI g m_X0_hasItem d [.ref 0, .int x2] n h (fun v1 h1 => (((v1 = (0 : Int32)) → (Q (some (.int (-3 : Int32))) n h1)) ∧ ((¬ v1 = (0 : Int32)) → (((¬ x5 = (2 : Int32)) → (W_X0_change g d av Q n 108 [some (.ref 0), some (.int x1), some (.int x2), some (.int x3), some (.int x4), some (.int x5), some (.int xs0), none] [] h1)) ∧ ((x5 = (2 : Int32)) → (CallI g m_X0_within d [.int x1, .int (2 : Int32), .int (8 : Int32)] n h1 (fun v2 h2 => (((¬ v2 = (0 : Int32)) → (Q (some (.int (-3 : Int32))) n h2)) ∧ ((v2 = (0 : Int32)) → (W_X0_change g d av Q n 108 [some (.ref 0), some (.int x1), some (.int x2), some (.int x3), some (.int x4), some (.int x5), some (.int xs0), none] [] h2))))))))))) : W_X0_change g d av Q n 82 [some (.ref 0), some (.int x1), some (.int x2), some (.int x3), some (.int x4), some (.int x5), none, none] [.int xs0] h := by
  refine r_istore (ls2 := [some (.ref 0), some (.int x1), some (.int x2), some (.int x3), some (.int x4), some (.int x5), some (.int xs0), none]) dX0_change_82 (by decide) rfl ?_
  refine r_aload_n dX0_change_84 rfl rfl ?_
  refine r_iload_n dX0_change_85 rfl rfl ?_
  refine k_VI (As := [.int x2]) (stk := []) hp cv_X0_546 dX0_change_86 rfl (Nat.le_of_ble_eq_true rfl) ly_0 (H.mono (fun v1 h1 H => ?_)) ⟨Nat.le_refl _, Nat.le_refl _⟩
  refine r_if_eq (tgt := 120) dX0_change_89 rfl (fun cH => ?_) (fun cH => ?_)
  · replace H := H.1 cH
    refine r_bipush (v := (-3 : Int32)) dX0_change_120 rfl ?_
    exact r_zret dX0_change_122 rfl rfl (Nat.le_refl _) (Nat.le_refl _) H
  · replace H := H.2 cH
    refine r_iload dX0_change_92 rfl ?_
    refine r_iconst (v := (2 : Int32)) dX0_change_94 rfl ?_
    refine r_icmp_ne (tgt := 108) dX0_change_95 rfl (fun cH => ?_) (fun cH => ?_)
    · replace H := H.1 cH
      exact H
    · replace H := H.2 cH
      refine r_iload_n dX0_change_98 rfl rfl ?_
      refine r_iconst (v := (2 : Int32)) dX0_change_99 rfl ?_
      refine r_bipush (v := (8 : Int32)) dX0_change_100 rfl ?_
      refine k_SI (As := [.int x1, .int (2 : Int32), .int (8 : Int32)]) (stk := []) cs_X0_173 dX0_change_102 rfl (Nat.le_of_ble_eq_true rfl) (H.mono (fun v2 h2 H => ?_)) ⟨Nat.le_refl _, Nat.le_refl _⟩
      refine r_if_ne (tgt := 120) dX0_change_105 rfl (fun cH => ?_) (fun cH => ?_)
      · replace H := H.1 cH
        refine r_bipush (v := (-3 : Int32)) dX0_change_120 rfl ?_
        exact r_zret dX0_change_122 rfl rfl (Nat.le_refl _) (Nat.le_refl _) H
      · replace H := H.2 cH
        exact H
theorem s_X0_change_108 {g : GX} {d : Nat} {av : List Value} {Q : QT} {n : Nat} {h : Hp} {x1 : Int32} {x2 : Int32} {x3 : Int32} {x4 : Int32} {x5 : Int32} {x6 : Int32} (hp : g.2.2.2.2 = true)  (H : ((¬ x5 = (1 : Int32)) → (W_X0_change g d av Q n 123 [some (.ref 0), some (.int x1), some (.int x2), some (.int x3), some (.int x4), some (.int x5), some (.int x6), none] [] h)) ∧ ((x5 = (1 : Int32)) → (((¬ x1 = (11 : Int32)) → (W_X0_change g d av Q n 123 [some (.ref 0), some (.int x1), some (.int x2), some (.int x3), some (.int x4), some (.int x5), some (.int x6), none] [] h)) ∧ ((x1 = (11 : Int32)) → (Q (some (.int (-3 : Int32))) n h))))) : W_X0_change g d av Q n 108 [some (.ref 0), some (.int x1), some (.int x2), some (.int x3), some (.int x4), some (.int x5), some (.int x6), none] [] h := by
  refine r_iload dX0_change_108 rfl ?_
  refine r_iconst (v := (1 : Int32)) dX0_change_110 rfl ?_
  refine r_icmp_ne (tgt := 123) dX0_change_111 rfl (fun cH => ?_) (fun cH => ?_)
  · replace H := H.1 cH
    exact H
  · replace H := H.2 cH
    refine r_iload_n dX0_change_114 rfl rfl ?_
    refine r_bipush (v := (11 : Int32)) dX0_change_115 rfl ?_
    refine r_icmp_ne (tgt := 123) dX0_change_117 rfl (fun cH => ?_) (fun cH => ?_)
    · replace H := H.1 cH
      exact H
    · replace H := H.2 cH
      refine r_bipush (v := (-3 : Int32)) dX0_change_120 rfl ?_
      exact r_zret dX0_change_122 rfl rfl (Nat.le_refl _) (Nat.le_refl _) H
theorem s_X0_change_123 {g : GX} {d : Nat} {av : List Value} {Q : QT} {n : Nat} {h : Hp} {x1 : Int32} {x2 : Int32} {x3 : Int32} {x4 : Int32} {x5 : Int32} {x6 : Int32} (hp : g.2.2.2.2 = true)  (H : vp_in x2 12 ∧ ∀ r1, r1 = 1185 + 27 * (x2).toNatClampNeg → (CallI g m_X0_within d [.int x1, .int (0 : Int32), .int (11 : Int32)] n h (fun v2 h2 => (((v2 = (0 : Int32)) → (Q (some (.int (-1 : Int32))) n h2)) ∧ ((¬ v2 = (0 : Int32)) → (((¬ x5 = (2 : Int32)) → (W_X0_change g d av Q n 157 [some (.ref 0), some (.int x1), none, some (.int x3), some (.int x4), some (.int x5), none, some (.ref (r1 + 1))] [] h2)) ∧ ((x5 = (2 : Int32)) → (((¬ x6 = (0 : Int32)) → (W_X0_change g d av Q n 157 [some (.ref 0), some (.int x1), none, some (.int x3), some (.int x4), some (.int x5), none, some (.ref (r1 + 1))] [] h2)) ∧ ((x6 = (0 : Int32)) → (Q (some (.int (-1 : Int32))) n h2)))))))))) : W_X0_change g d av Q n 123 [some (.ref 0), some (.int x1), some (.int x2), some (.int x3), some (.int x4), some (.int x5), some (.int x6), none] [] h := by
  refine r_aload_n dX0_change_123 rfl rfl ?_
  refine m_getF (x := 79) hp fw_X0_326 dX0_change_124 rfl ly_0 (ff_0_20 ly_0) ?_
  refine r_iload_n dX0_change_127 rfl rfl ?_
  obtain ⟨r1, er1⟩ : ∃ y, y = 1185 + 27 * (x2).toNatClampNeg := ⟨_, rfl⟩
  have hir1 := H.1
  replace H := H.2 r1 er1
  have tLr1 := la_79 hir1 er1
  refine m_aalF (x := r1) hp dX0_change_128 (lf_0_20 ly_0) rfl rfl (lu_0_20 ly_0) hir1 (fa_79 hir1 er1) ?_
  refine m_getF (x := (r1 + 1)) hp fw_X0_512 dX0_change_129 rfl tLr1 (ff_9_1 tLr1) ?_
  refine r_astore (ls2 := [some (.ref 0), some (.int x1), some (.int x2), some (.int x3), some (.int x4), some (.int x5), some (.int x6), some (.ref (r1 + 1))]) dX0_change_132 (by decide) rfl ?_
  refine r_iload_n dX0_change_134 rfl rfl ?_
  refine r_iconst (v := (0 : Int32)) dX0_change_135 rfl ?_
  refine r_bipush (v := (11 : Int32)) dX0_change_136 rfl ?_
  refine k_SI (As := [.int x1, .int (0 : Int32), .int (11 : Int32)]) (stk := []) cs_X0_173 dX0_change_138 rfl (Nat.le_of_ble_eq_true rfl) (H.mono (fun v2 h2 H => ?_)) ⟨Nat.le_refl _, Nat.le_refl _⟩
  refine r_if_eq (tgt := 155) dX0_change_141 rfl (fun cH => ?_) (fun cH => ?_)
  · replace H := H.1 cH
    refine r_iconst (v := (-1 : Int32)) dX0_change_155 rfl ?_
    exact r_zret dX0_change_156 rfl rfl (Nat.le_refl _) (Nat.le_refl _) H
  · replace H := H.2 cH
    refine r_iload dX0_change_144 rfl ?_
    refine r_iconst (v := (2 : Int32)) dX0_change_146 rfl ?_
    refine r_icmp_ne (tgt := 157) dX0_change_147 rfl (fun cH => ?_) (fun cH => ?_)
    · replace H := H.1 cH
      refine r_prune [true, true, false, true, true, true, false, true] (ls2 := [some (.ref 0), some (.int x1), none, some (.int x3), some (.int x4), some (.int x5), none, some (.ref (r1 + 1))]) rfl ?_
      exact H
    · replace H := H.2 cH
      refine r_iload dX0_change_150 rfl ?_
      refine r_if_ne (tgt := 157) dX0_change_152 rfl (fun cH => ?_) (fun cH => ?_)
      · replace H := H.1 cH
        refine r_prune [true, true, false, true, true, true, false, true] (ls2 := [some (.ref 0), some (.int x1), none, some (.int x3), some (.int x4), some (.int x5), none, some (.ref (r1 + 1))]) rfl ?_
        exact H
      · replace H := H.2 cH
        refine r_iconst (v := (-1 : Int32)) dX0_change_155 rfl ?_
        exact r_zret dX0_change_156 rfl rfl (Nat.le_refl _) (Nat.le_refl _) H
theorem s_X0_change_157 {g : GX} {d : Nat} {av : List Value} {Q : QT} {n : Nat} {h : Hp} {x1 : Int32} {x3 : Int32} {x4 : Int32} {x5 : Int32} {a7 : Nat} (hp : g.2.2.2.2 = true) (t7 : lay a7 = (0, 5, 8)) (H : ((¬ x1 = (9 : Int32)) → (((¬ x1 = (11 : Int32)) → (((¬ x5 = (2 : Int32)) → (CallI g m_X0_rest d [.int x3] n h (fun v1 h1 => (CallI g m_X0_layChange d [.ref 0, .int x1, .ref (a7 + 1), .int v1] n h1 (fun v2 h2 => (((¬ v2 = (0 : Int32)) → (CallI g m_X0_give d [.ref 0, .ref 81] n h2 (fun v3 h3 => (((v3 = (0 : Int32)) → (Q (some (.int (-2 : Int32))) n h3)) ∧ ((¬ v3 = (0 : Int32)) → (CallI g m_X0_keepResult d [.ref 0, .int x4] n h3 (fun v4 h4 => (Q (some (.int v4)) n h4)))))))) ∧ ((v2 = (0 : Int32)) → (Q (some (.int (-1 : Int32))) n h2)))))))) ∧ ((x5 = (2 : Int32)) → (((¬ x1 = (1 : Int32)) → (W_X0_change g d av Q n 279 [some (.ref 0), none, none, some (.int x3), some (.int x4), none, none, none] [.int (0 : Int32), .ref a7, .ref 0] h)) ∧ ((x1 = (1 : Int32)) → (W_X0_change g d av Q n 279 [some (.ref 0), none, none, some (.int x3), some (.int x4), none, none, none] [.int (1 : Int32), .ref a7, .ref 0] h)))))) ∧ ((x1 = (11 : Int32)) → (CallV g m_X5_plain d [.ref 80] n h (fun h5 => (CallV g m_X6_copy d [.ref 81, .ref (a7 + 1)] n h5 (fun h6 => (CallI g m_X0_keep d [.ref 0, .ref 80, .int x4] n h6 (fun v7 h7 => (Q (some (.int v7)) n h7)))))))))) ∧ ((x1 = (9 : Int32)) → (CallI g m_X0_within d [.int x3, .int (-12 : Int32), .int (12 : Int32)] n h (fun v8 h8 => (((v8 = (0 : Int32)) → (Q (some (.int (-1 : Int32))) n h8)) ∧ ((¬ v8 = (0 : Int32)) → ((((0 : Int32) ≤ x3) → (W_X0_change g d av Q n 191 [some (.ref 0), none, none, some (.int x3), some (.int x4), none, none, some (.ref a7)] [] h8)) ∧ ((¬ (0 : Int32) ≤ x3) → (CallI g m_X6_isZero d [.ref (a7 + 1)] n h8 (fun v9 h9 => (((v9 = (0 : Int32)) → (W_X0_change g d av Q n 191 [some (.ref 0), none, none, some (.int x3), some (.int x4), none, none, some (.ref a7)] [] h9)) ∧ ((¬ v9 = (0 : Int32)) → (Q (some (.int (-1 : Int32))) n h9))))))))))))) : W_X0_change g d av Q n 157 [some (.ref 0), some (.int x1), none, some (.int x3), some (.int x4), some (.int x5), none, some (.ref a7)] [] h := by
  refine r_iload_n dX0_change_157 rfl rfl ?_
  refine r_bipush (v := (9 : Int32)) dX0_change_158 rfl ?_
  refine r_icmp_ne (tgt := 221) dX0_change_160 rfl (fun cH => ?_) (fun cH => ?_)
  · replace H := H.1 cH
    refine r_iload_n dX0_change_221 rfl rfl ?_
    refine r_bipush (v := (11 : Int32)) dX0_change_222 rfl ?_
    refine r_icmp_ne (tgt := 260) dX0_change_224 rfl (fun cH => ?_) (fun cH => ?_)
    · replace H := H.1 cH
      refine r_iload dX0_change_260 rfl ?_
      refine r_iconst (v := (2 : Int32)) dX0_change_262 rfl ?_
      refine r_icmp_ne (tgt := 305) dX0_change_263 rfl (fun cH => ?_) (fun cH => ?_)
      · replace H := H.1 cH
        refine r_aload_n dX0_change_305 rfl rfl ?_
        refine r_iload_n dX0_change_306 rfl rfl ?_
        refine r_aload dX0_change_307 rfl ?_
        refine m_getF (x := (a7 + 1)) hp fw_X0_110 dX0_change_309 rfl t7 (ff_5_0 t7) ?_
        refine r_iload_n dX0_change_312 rfl rfl ?_
        refine k_SI (As := [.int x3]) (stk := [.ref (a7 + 1), .int x1, .ref 0]) cs_X0_543 dX0_change_313 rfl (Nat.le_of_ble_eq_true rfl) (H.mono (fun v1 h1 H => ?_)) ⟨Nat.le_refl _, Nat.le_refl _⟩
        refine k_VI (As := [.int x1, .ref (a7 + 1), .int v1]) (stk := []) hp cv_X0_931 dX0_change_316 rfl (Nat.le_of_ble_eq_true rfl) ly_0 (H.mono (fun v2 h2 H => ?_)) ⟨Nat.le_refl _, Nat.le_refl _⟩
        refine r_if_ne (tgt := 324) dX0_change_319 rfl (fun cH => ?_) (fun cH => ?_)
        · replace H := H.1 cH
          refine r_aload_n dX0_change_324 rfl rfl ?_
          refine r_aload_n dX0_change_325 rfl rfl ?_
          refine m_getF (x := 80) hp fw_X0_330 dX0_change_326 rfl ly_0 (ff_0_21 ly_0) ?_
          refine m_getF (x := 81) hp fw_X0_110 dX0_change_329 rfl (lf_0_21 ly_0) (ff_5_0 (lf_0_21 ly_0)) ?_
          refine k_VI (As := [.ref 81]) (stk := []) hp cv_X0_106 dX0_change_332 rfl (Nat.le_of_ble_eq_true rfl) ly_0 (H.mono (fun v3 h3 H => ?_)) ⟨Nat.le_refl _, Nat.le_refl _⟩
          refine r_if_eq (tgt := 347) dX0_change_335 rfl (fun cH => ?_) (fun cH => ?_)
          · replace H := H.1 cH
            refine r_bipush (v := (-2 : Int32)) dX0_change_347 rfl ?_
            exact r_zret dX0_change_349 rfl rfl (Nat.le_refl _) (Nat.le_refl _) H
          · replace H := H.2 cH
            refine r_aload_n dX0_change_338 rfl rfl ?_
            refine r_iload dX0_change_339 rfl ?_
            refine k_VI (As := [.int x4]) (stk := []) hp cv_X0_628 dX0_change_341 rfl (Nat.le_of_ble_eq_true rfl) ly_0 (H.mono (fun v4 h4 H => ?_)) ⟨Nat.le_refl _, Nat.le_refl _⟩
            refine r_goto (tgt := 349) dX0_change_344 rfl ?_
            exact r_zret dX0_change_349 rfl rfl (Nat.le_refl _) (Nat.le_refl _) H
        · replace H := H.2 cH
          refine r_iconst (v := (-1 : Int32)) dX0_change_322 rfl ?_
          exact r_zret dX0_change_323 rfl rfl (Nat.le_refl _) (Nat.le_refl _) H
      · replace H := H.2 cH
        refine r_aload_n dX0_change_266 rfl rfl ?_
        refine r_aload dX0_change_267 rfl ?_
        refine r_iload_n dX0_change_269 rfl rfl ?_
        refine r_iconst (v := (1 : Int32)) dX0_change_270 rfl ?_
        refine r_icmp_ne (tgt := 278) dX0_change_271 rfl (fun cH => ?_) (fun cH => ?_)
        · replace H := H.1 cH
          refine r_iconst (v := (0 : Int32)) dX0_change_278 rfl ?_
          refine r_prune [true, false, false, true, true, false, false, false] (ls2 := [some (.ref 0), none, none, some (.int x3), some (.int x4), none, none, none]) rfl ?_
          exact H
        · replace H := H.2 cH
          refine r_iconst (v := (1 : Int32)) dX0_change_274 rfl ?_
          refine r_goto (tgt := 279) dX0_change_275 rfl ?_
          refine r_prune [true, false, false, true, true, false, false, false] (ls2 := [some (.ref 0), none, none, some (.int x3), some (.int x4), none, none, none]) rfl ?_
          exact H
    · replace H := H.2 cH
      refine r_aload_n dX0_change_227 rfl rfl ?_
      refine m_getF (x := 80) hp fw_X0_330 dX0_change_228 rfl ly_0 (ff_0_21 ly_0) ?_
      refine k_VV (As := []) (stk := []) hp cv_X0_301 dX0_change_231 rfl (Nat.le_of_ble_eq_true rfl) (lf_0_21 ly_0) (H.mono (fun h5 H => ?_)) ⟨Nat.le_refl _, Nat.le_refl _⟩
      refine r_aload_n dX0_change_234 rfl rfl ?_
      refine m_getF (x := 80) hp fw_X0_330 dX0_change_235 rfl ly_0 (ff_0_21 ly_0) ?_
      refine m_getF (x := 81) hp fw_X0_110 dX0_change_238 rfl (lf_0_21 ly_0) (ff_5_0 (lf_0_21 ly_0)) ?_
      refine r_aload dX0_change_241 rfl ?_
      refine m_getF (x := (a7 + 1)) hp fw_X0_110 dX0_change_243 rfl t7 (ff_5_0 t7) ?_
      refine k_VV (As := [.ref (a7 + 1)]) (stk := []) hp cv_X0_760 dX0_change_246 rfl (Nat.le_of_ble_eq_true rfl) (lf_5_0 (lf_0_21 ly_0)) (H.mono (fun h6 H => ?_)) ⟨Nat.le_refl _, Nat.le_refl _⟩
      refine r_aload_n dX0_change_249 rfl rfl ?_
      refine r_aload_n dX0_change_250 rfl rfl ?_
      refine m_getF (x := 80) hp fw_X0_330 dX0_change_251 rfl ly_0 (ff_0_21 ly_0) ?_
      refine r_iload dX0_change_254 rfl ?_
      refine k_VI (As := [.ref 80, .int x4]) (stk := []) hp cv_X0_515 dX0_change_256 rfl (Nat.le_of_ble_eq_true rfl) ly_0 (H.mono (fun v7 h7 H => ?_)) ⟨Nat.le_refl _, Nat.le_refl _⟩
      exact r_zret dX0_change_259 rfl rfl (Nat.le_refl _) (Nat.le_refl _) H
  · replace H := H.2 cH
    refine r_iload_n dX0_change_163 rfl rfl ?_
    refine r_bipush (v := (-12 : Int32)) dX0_change_164 rfl ?_
    refine r_bipush (v := (12 : Int32)) dX0_change_166 rfl ?_
    refine k_SI (As := [.int x3, .int (-12 : Int32), .int (12 : Int32)]) (stk := []) cs_X0_173 dX0_change_168 rfl (Nat.le_of_ble_eq_true rfl) (H.mono (fun v8 h8 H => ?_)) ⟨Nat.le_refl _, Nat.le_refl _⟩
    refine r_if_eq (tgt := 189) dX0_change_171 rfl (fun cH => ?_) (fun cH => ?_)
    · replace H := H.1 cH
      refine r_iconst (v := (-1 : Int32)) dX0_change_189 rfl ?_
      exact r_zret dX0_change_190 rfl rfl (Nat.le_refl _) (Nat.le_refl _) H
    · replace H := H.2 cH
      refine r_iload_n dX0_change_174 rfl rfl ?_
      refine r_if_ge (tgt := 191) dX0_change_175 rfl (fun cH => ?_) (fun cH => ?_)
      · replace H := H.1 cH
        refine r_prune [true, false, false, true, true, false, false, true] (ls2 := [some (.ref 0), none, none, some (.int x3), some (.int x4), none, none, some (.ref a7)]) rfl ?_
        exact H
      · replace H := H.2 cH
        refine r_aload dX0_change_178 rfl ?_
        refine m_getF (x := (a7 + 1)) hp fw_X0_110 dX0_change_180 rfl t7 (ff_5_0 t7) ?_
        refine k_VI (As := []) (stk := []) hp cv_X0_128 dX0_change_183 rfl (Nat.le_of_ble_eq_true rfl) (lf_5_0 t7) (H.mono (fun v9 h9 H => ?_)) ⟨Nat.le_refl _, Nat.le_refl _⟩
        refine r_if_eq (tgt := 191) dX0_change_186 rfl (fun cH => ?_) (fun cH => ?_)
        · replace H := H.1 cH
          refine r_prune [true, false, false, true, true, false, false, true] (ls2 := [some (.ref 0), none, none, some (.int x3), some (.int x4), none, none, some (.ref a7)]) rfl ?_
          exact H
        · replace H := H.2 cH
          refine r_iconst (v := (-1 : Int32)) dX0_change_189 rfl ?_
          exact r_zret dX0_change_190 rfl rfl (Nat.le_refl _) (Nat.le_refl _) H
theorem s_X0_change_191 {g : GX} {d : Nat} {av : List Value} {Q : QT} {n : Nat} {h : Hp} {x3 : Int32} {x4 : Int32} {a7 : Nat} (hp : g.2.2.2.2 = true) (t7 : lay a7 = (0, 5, 8)) (H : CallI g m_X0_raise d [.ref 0, .ref a7, .int x3, .ref 80] n h (fun v1 h1 => (((v1 = (0 : Int32)) → (Q (some (.int (-2 : Int32))) n h1)) ∧ ((¬ v1 = (0 : Int32)) → (CallI g m_X0_keep d [.ref 0, .ref 80, .int x4] n h1 (fun v2 h2 => (Q (some (.int v2)) n h2))))))) : W_X0_change g d av Q n 191 [some (.ref 0), none, none, some (.int x3), some (.int x4), none, none, some (.ref a7)] [] h := by
  refine r_aload_n dX0_change_191 rfl rfl ?_
  refine r_aload dX0_change_192 rfl ?_
  refine r_iload_n dX0_change_194 rfl rfl ?_
  refine r_aload_n dX0_change_195 rfl rfl ?_
  refine m_getF (x := 80) hp fw_X0_330 dX0_change_196 rfl ly_0 (ff_0_21 ly_0) ?_
  refine k_VI (As := [.ref a7, .int x3, .ref 80]) (stk := []) hp cv_X0_284 dX0_change_199 rfl (Nat.le_of_ble_eq_true rfl) ly_0 (H.mono (fun v1 h1 H => ?_)) ⟨Nat.le_refl _, Nat.le_refl _⟩
  refine r_if_eq (tgt := 218) dX0_change_202 rfl (fun cH => ?_) (fun cH => ?_)
  · replace H := H.1 cH
    refine r_bipush (v := (-2 : Int32)) dX0_change_218 rfl ?_
    exact r_zret dX0_change_220 rfl rfl (Nat.le_refl _) (Nat.le_refl _) H
  · replace H := H.2 cH
    refine r_aload_n dX0_change_205 rfl rfl ?_
    refine r_aload_n dX0_change_206 rfl rfl ?_
    refine m_getF (x := 80) hp fw_X0_330 dX0_change_207 rfl ly_0 (ff_0_21 ly_0) ?_
    refine r_iload dX0_change_210 rfl ?_
    refine k_VI (As := [.ref 80, .int x4]) (stk := []) hp cv_X0_515 dX0_change_212 rfl (Nat.le_of_ble_eq_true rfl) ly_0 (H.mono (fun v2 h2 H => ?_)) ⟨Nat.le_refl _, Nat.le_refl _⟩
    refine r_goto (tgt := 220) dX0_change_215 rfl ?_
    exact r_zret dX0_change_220 rfl rfl (Nat.le_refl _) (Nat.le_refl _) H
theorem s_X0_change_279 {g : GX} {d : Nat} {av : List Value} {Q : QT} {n : Nat} {h : Hp} {x3 : Int32} {x4 : Int32} {xs0 : Int32} {as1 : Nat} {as2 : Nat} (hp : g.2.2.2.2 = true) (ts1 : lay as1 = (0, 5, 8)) (ts2 : lay as2 = (0, 0, 80)) (H : CallI g m_X0_rest d [.int x3] n h (fun v1 h1 => (CallI g m_X0_moveTerm d [.ref as2, .ref as1, .int xs0, .int v1] n h1 (fun v2 h2 => (((v2 = (0 : Int32)) → (Q (some (.int (-2 : Int32))) n h2)) ∧ ((¬ v2 = (0 : Int32)) → (CallI g m_X0_keep d [.ref 0, .ref 80, .int x4] n h2 (fun v3 h3 => (Q (some (.int v3)) n h3))))))))) : W_X0_change g d av Q n 279 [some (.ref 0), none, none, some (.int x3), some (.int x4), none, none, none] [.int xs0, .ref as1, .ref as2] h := by
  refine r_iload_n dX0_change_279 rfl rfl ?_
  refine k_SI (As := [.int x3]) (stk := [.int xs0, .ref as1, .ref as2]) cs_X0_543 dX0_change_280 rfl (Nat.le_of_ble_eq_true rfl) (H.mono (fun v1 h1 H => ?_)) ⟨Nat.le_refl _, Nat.le_refl _⟩
  refine k_VI (As := [.ref as1, .int xs0, .int v1]) (stk := []) hp cv_X0_935 dX0_change_283 rfl (Nat.le_of_ble_eq_true rfl) ts2 (H.mono (fun v2 h2 H => ?_)) ⟨Nat.le_refl _, Nat.le_refl _⟩
  refine r_if_eq (tgt := 302) dX0_change_286 rfl (fun cH => ?_) (fun cH => ?_)
  · replace H := H.1 cH
    refine r_bipush (v := (-2 : Int32)) dX0_change_302 rfl ?_
    exact r_zret dX0_change_304 rfl rfl (Nat.le_refl _) (Nat.le_refl _) H
  · replace H := H.2 cH
    refine r_aload_n dX0_change_289 rfl rfl ?_
    refine r_aload_n dX0_change_290 rfl rfl ?_
    refine m_getF (x := 80) hp fw_X0_330 dX0_change_291 rfl ly_0 (ff_0_21 ly_0) ?_
    refine r_iload dX0_change_294 rfl ?_
    refine k_VI (As := [.ref 80, .int x4]) (stk := []) hp cv_X0_515 dX0_change_296 rfl (Nat.le_of_ble_eq_true rfl) ly_0 (H.mono (fun v3 h3 H => ?_)) ⟨Nat.le_refl _, Nat.le_refl _⟩
    refine r_goto (tgt := 304) dX0_change_299 rfl ?_
    exact r_zret dX0_change_304 rfl rfl (Nat.le_refl _) (Nat.le_refl _) H
abbrev W_X0_moveTerm (g : GX) (d : Nat) (av : List Value) (Q : QT) (n : Nat) (pc : Nat) (ls : LV) (stk : List Value) (h : Hp) : Prop := RJ g m_X0_moveTerm (d + 1) 0 0 av Q pc ls stk n h 0 0
theorem s_X0_moveTerm_0 {g : GX} {d : Nat} {av : List Value} {Q : QT} {n : Nat} {h : Hp} {a1 : Nat} {x2 : Int32} {x3 : Int32} (hp : g.2.2.2.2 = true) (t1 : lay a1 = (0, 5, 8)) (H : CallI g m_X0_small d [.int x3] n h (fun v1 h1 => (W_X0_moveTerm g d av Q n 10 [some (.ref 0), some (.ref a1), some (.int x2), some (.int x3), some (.long (v1).toInt64), none, some (.int (0 : Int32)), none, none] [] h1))) : W_X0_moveTerm g d av Q n 0 [some (.ref 0), some (.ref a1), some (.int x2), some (.int x3), none, none, none, none, none] [] h := by
  refine r_iload_n dX0_moveTerm_0 rfl rfl ?_
  refine k_SI (As := [.int x3]) (stk := []) cs_X0_186 dX0_moveTerm_1 rfl (Nat.le_of_ble_eq_true rfl) (H.mono (fun v1 h1 H => ?_)) ⟨Nat.le_refl _, Nat.le_refl _⟩
  refine r_i2l dX0_moveTerm_4 ?_
  refine r_lstore (ls2 := [some (.ref 0), some (.ref a1), some (.int x2), some (.int x3), some (.long (v1).toInt64), none, none, none, none]) dX0_moveTerm_5 (by decide) rfl ?_
  refine r_iconst (v := (0 : Int32)) dX0_moveTerm_7 rfl ?_
  refine r_istore (ls2 := [some (.ref 0), some (.ref a1), some (.int x2), some (.int x3), some (.long (v1).toInt64), none, some (.int (0 : Int32)), none, none]) dX0_moveTerm_8 (by decide) rfl ?_
  exact H
theorem s_X0_moveTerm_10 {g : GX} {d : Nat} {av : List Value} {Q : QT} {n : Nat} {h : Hp} {a1 : Nat} {x2 : Int32} {x3 : Int32} {y4 : Int64} {x6 : Int32} (hp : g.2.2.2.2 = true) (t1 : lay a1 = (0, 5, 8)) (H : (((ri h a1 3) ≤ x6) → (((x2 = (0 : Int32)) → (W_X0_moveTerm g d av Q n 91 [some (.ref 0), some (.ref a1), some (.int x2), some (.int x3), some (.long y4), none, none, none, none] [.int (0 : Int32), .ref 0] h)) ∧ ((¬ x2 = (0 : Int32)) → (W_X0_moveTerm g d av Q n 91 [some (.ref 0), some (.ref a1), some (.int x2), some (.int x3), some (.long y4), none, none, none, none] [.int (1 : Int32), .ref 0] h)))) ∧ ((¬ (ri h a1 3) ≤ x6) → (vp_in x6 60 ∧ (((x2 = (0 : Int32)) → (vp_in x6 60 ∧ (W_X0_moveTerm g d av Q n 50 [some (.ref 0), some (.ref a1), some (.int x2), some (.int x3), some (.long y4), none, some (.int x6), none, none] [.int (ri h (a1 + 6) (x6).toNatClampNeg), .long y4, .long ((ri h (a1 + 8) (x6).toNatClampNeg)).toInt64] h))) ∧ ((¬ x2 = (0 : Int32)) → (vp_in x6 60 ∧ (W_X0_moveTerm g d av Q n 50 [some (.ref 0), some (.ref a1), some (.int x2), some (.int x3), some (.long y4), none, some (.int x6), none, none] [.int (ri h (a1 + 7) (x6).toNatClampNeg), .long y4, .long ((ri h (a1 + 8) (x6).toNatClampNeg)).toInt64] h))))))) : W_X0_moveTerm g d av Q n 10 [some (.ref 0), some (.ref a1), some (.int x2), some (.int x3), some (.long y4), none, some (.int x6), none, none] [] h := by
  refine r_iload dX0_moveTerm_10 rfl ?_
  refine r_aload_n dX0_moveTerm_12 rfl rfl ?_
  refine m_getI hp fw_X0_136 dX0_moveTerm_13 rfl t1 ?_
  refine r_icmp_ge (tgt := 81) dX0_moveTerm_16 rfl (fun cH => ?_) (fun cH => ?_)
  · replace H := H.1 cH
    refine r_aload_n dX0_moveTerm_81 rfl rfl ?_
    refine r_iload_n dX0_moveTerm_82 rfl rfl ?_
    refine r_if_eq (tgt := 90) dX0_moveTerm_83 rfl (fun cH => ?_) (fun cH => ?_)
    · replace H := H.1 cH
      refine r_iconst (v := (0 : Int32)) dX0_moveTerm_90 rfl ?_
      refine r_prune [true, true, true, true, true, false, false, false, false] (ls2 := [some (.ref 0), some (.ref a1), some (.int x2), some (.int x3), some (.long y4), none, none, none, none]) rfl ?_
      exact H
    · replace H := H.2 cH
      refine r_iconst (v := (1 : Int32)) dX0_moveTerm_86 rfl ?_
      refine r_goto (tgt := 91) dX0_moveTerm_87 rfl ?_
      refine r_prune [true, true, true, true, true, false, false, false, false] (ls2 := [some (.ref 0), some (.ref a1), some (.int x2), some (.int x3), some (.long y4), none, none, none, none]) rfl ?_
      exact H
  · replace H := H.2 cH
    refine r_aload_n dX0_moveTerm_19 rfl rfl ?_
    refine m_getF (x := (a1 + 8)) hp fw_X0_146 dX0_moveTerm_20 rfl t1 (ff_5_6 t1) ?_
    refine r_iload dX0_moveTerm_23 rfl ?_
    refine m_iald hp dX0_moveTerm_25 (lf_5_6 t1) H.1 ?_
    replace H := H.2
    refine r_i2l dX0_moveTerm_26 ?_
    refine r_lload dX0_moveTerm_27 rfl ?_
    refine r_iload_n dX0_moveTerm_29 rfl rfl ?_
    refine r_if_eq (tgt := 43) dX0_moveTerm_30 rfl (fun cH => ?_) (fun cH => ?_)
    · replace H := H.1 cH
      refine r_aload_n dX0_moveTerm_43 rfl rfl ?_
      refine m_getF (x := (a1 + 6)) hp fw_X0_139 dX0_moveTerm_44 rfl t1 (ff_5_4 t1) ?_
      refine r_iload dX0_moveTerm_47 rfl ?_
      refine m_iald hp dX0_moveTerm_49 (lf_5_4 t1) H.1 ?_
      replace H := H.2
      exact H
    · replace H := H.2 cH
      refine r_aload_n dX0_moveTerm_33 rfl rfl ?_
      refine m_getF (x := (a1 + 7)) hp fw_X0_143 dX0_moveTerm_34 rfl t1 (ff_5_5 t1) ?_
      refine r_iload dX0_moveTerm_37 rfl ?_
      refine m_iald hp dX0_moveTerm_39 (lf_5_5 t1) H.1 ?_
      replace H := H.2
      refine r_goto (tgt := 50) dX0_moveTerm_40 rfl ?_
      exact H
theorem s_X0_moveTerm_50 {g : GX} {d : Nat} {av : List Value} {Q : QT} {n : Nat} {h : Hp} {a1 : Nat} {x2 : Int32} {x3 : Int32} {y4 : Int64} {x6 : Int32} {xs0 : Int32} {ys1 : Int64} {ys2 : Int64} (hp : g.2.2.2.2 = true) (t1 : lay a1 = (0, 5, 8)) (H : (((lg_cmp (ys2 + (ys1 * (xs0).toInt64)) (-50 : Int64)) < (0 : Int32)) → (Q (some (.int (0 : Int32))) n h)) ∧ ((¬ (lg_cmp (ys2 + (ys1 * (xs0).toInt64)) (-50 : Int64)) < (0 : Int32)) → ((((lg_cmp (ys2 + (ys1 * (xs0).toInt64)) (50 : Int64)) ≤ (0 : Int32)) → (W_X0_moveTerm g d av Q n 10 [some (.ref 0), some (.ref a1), some (.int x2), some (.int x3), some (.long y4), none, some (.int (x6 + (1 : Int32))), none, none] [] h)) ∧ ((¬ (lg_cmp (ys2 + (ys1 * (xs0).toInt64)) (50 : Int64)) ≤ (0 : Int32)) → (Q (some (.int (0 : Int32))) n h))))) : W_X0_moveTerm g d av Q n 50 [some (.ref 0), some (.ref a1), some (.int x2), some (.int x3), some (.long y4), none, some (.int x6), none, none] [.int xs0, .long ys1, .long ys2] h := by
  refine r_i2l dX0_moveTerm_50 ?_
  refine r_lmul dX0_moveTerm_51 ?_
  refine r_ladd dX0_moveTerm_52 ?_
  refine r_lstore (ls2 := [some (.ref 0), some (.ref a1), some (.int x2), some (.int x3), some (.long y4), none, some (.int x6), some (.long (ys2 + (ys1 * (xs0).toInt64))), none]) dX0_moveTerm_53 (by decide) rfl ?_
  refine r_lload dX0_moveTerm_55 rfl ?_
  refine r_ldc2 (own := "") (v := (-50 : Int64)) dX0_moveTerm_57 q1724 ?_
  refine r_lcmp dX0_moveTerm_60 ?_
  refine r_if_lt (tgt := 73) dX0_moveTerm_61 rfl (fun cH => ?_) (fun cH => ?_)
  · replace H := H.1 cH
    refine r_iconst (v := (0 : Int32)) dX0_moveTerm_73 rfl ?_
    exact r_zret dX0_moveTerm_74 rfl rfl (Nat.le_refl _) (Nat.le_refl _) H
  · replace H := H.2 cH
    refine r_lload dX0_moveTerm_64 rfl ?_
    refine r_ldc2 (own := "") (v := (50 : Int64)) dX0_moveTerm_66 q1725 ?_
    refine r_lcmp dX0_moveTerm_69 ?_
    refine r_if_le (tgt := 75) dX0_moveTerm_70 rfl (fun cH => ?_) (fun cH => ?_)
    · replace H := H.1 cH
      refine r_iinc (v := (x6 + (1 : Int32))) (ls2 := [some (.ref 0), some (.ref a1), some (.int x2), some (.int x3), some (.long y4), none, some (.int (x6 + (1 : Int32))), some (.long (ys2 + (ys1 * (xs0).toInt64))), none]) dX0_moveTerm_75 rfl rfl (by decide) rfl ?_
      refine r_goto (tgt := 10) dX0_moveTerm_78 rfl ?_
      refine r_prune [true, true, true, true, true, false, true, false, false] (ls2 := [some (.ref 0), some (.ref a1), some (.int x2), some (.int x3), some (.long y4), none, some (.int (x6 + (1 : Int32))), none, none]) rfl ?_
      exact H
    · replace H := H.2 cH
      refine r_iconst (v := (0 : Int32)) dX0_moveTerm_73 rfl ?_
      exact r_zret dX0_moveTerm_74 rfl rfl (Nat.le_refl _) (Nat.le_refl _) H
theorem s_X0_moveTerm_91 {g : GX} {d : Nat} {av : List Value} {Q : QT} {n : Nat} {h : Hp} {a1 : Nat} {x2 : Int32} {x3 : Int32} {y4 : Int64} {xs0 : Int32} {as1 : Nat} (hp : g.2.2.2.2 = true) (t1 : lay a1 = (0, 5, 8)) (ts1 : lay as1 = (0, 0, 80)) (H : CallI g m_X0_layChange d [.ref as1, .int xs0, .ref (a1 + 1), .int x3] n h (fun v1 h1 => ((((0 : Int32) ≤ (lg_cmp y4 (0 : Int64))) → (((x2 = (0 : Int32)) → (W_X0_moveTerm g d av Q n 154 [some (.ref 0), some (.ref a1), some (.int x2), none, some (.long y4), none, none, none, none] [.int (ri h1 a1 1), .ref 39] h1)) ∧ ((¬ x2 = (0 : Int32)) → (W_X0_moveTerm g d av Q n 154 [some (.ref 0), some (.ref a1), some (.int x2), none, some (.long y4), none, none, none, none] [.int (ri h1 a1 2), .ref 39] h1)))) ∧ ((¬ (0 : Int32) ≤ (lg_cmp y4 (0 : Int64))) → (((x2 = (0 : Int32)) → (W_X0_moveTerm g d av Q n 127 [some (.ref 0), some (.ref a1), some (.int x2), none, some (.long y4), none, none, none, none] [.int (ri h1 a1 1), .ref 39] h1)) ∧ ((¬ x2 = (0 : Int32)) → (W_X0_moveTerm g d av Q n 127 [some (.ref 0), some (.ref a1), some (.int x2), none, some (.long y4), none, none, none, none] [.int (ri h1 a1 2), .ref 39] h1))))))) : W_X0_moveTerm g d av Q n 91 [some (.ref 0), some (.ref a1), some (.int x2), some (.int x3), some (.long y4), none, none, none, none] [.int xs0, .ref as1] h := by
  refine r_aload_n dX0_moveTerm_91 rfl rfl ?_
  refine m_getF (x := (a1 + 1)) hp fw_X0_110 dX0_moveTerm_92 rfl t1 (ff_5_0 t1) ?_
  refine r_iload_n dX0_moveTerm_95 rfl rfl ?_
  refine k_VI (As := [.int xs0, .ref (a1 + 1), .int x3]) (stk := []) hp cv_X0_931 dX0_moveTerm_96 rfl (Nat.le_of_ble_eq_true rfl) ts1 (H.mono (fun v1 h1 H => ?_)) ⟨Nat.le_refl _, Nat.le_refl _⟩
  refine r_istore (ls2 := [some (.ref 0), some (.ref a1), some (.int x2), some (.int x3), some (.long y4), none, some (.int v1), none, none]) dX0_moveTerm_99 (by decide) rfl ?_
  refine r_aload_n dX0_moveTerm_101 rfl rfl ?_
  refine m_getF (x := 39) hp fw_X0_31 dX0_moveTerm_102 rfl ly_0 (ff_0_1 ly_0) ?_
  refine r_lload dX0_moveTerm_105 rfl ?_
  refine r_lconst (v := (0 : Int64)) dX0_moveTerm_107 rfl ?_
  refine r_lcmp dX0_moveTerm_108 ?_
  refine r_if_ge (tgt := 139) dX0_moveTerm_109 rfl (fun cH => ?_) (fun cH => ?_)
  · replace H := H.1 cH
    refine r_iload_n dX0_moveTerm_139 rfl rfl ?_
    refine r_if_eq (tgt := 150) dX0_moveTerm_140 rfl (fun cH => ?_) (fun cH => ?_)
    · replace H := H.1 cH
      refine r_aload_n dX0_moveTerm_150 rfl rfl ?_
      refine m_getI hp fw_X0_130 dX0_moveTerm_151 rfl t1 ?_
      refine r_prune [true, true, true, false, true, false, false, false, false] (ls2 := [some (.ref 0), some (.ref a1), some (.int x2), none, some (.long y4), none, none, none, none]) rfl ?_
      exact H
    · replace H := H.2 cH
      refine r_aload_n dX0_moveTerm_143 rfl rfl ?_
      refine m_getI hp fw_X0_133 dX0_moveTerm_144 rfl t1 ?_
      refine r_goto (tgt := 154) dX0_moveTerm_147 rfl ?_
      refine r_prune [true, true, true, false, true, false, false, false, false] (ls2 := [some (.ref 0), some (.ref a1), some (.int x2), none, some (.long y4), none, none, none, none]) rfl ?_
      exact H
  · replace H := H.2 cH
    refine r_iload_n dX0_moveTerm_112 rfl rfl ?_
    refine r_if_eq (tgt := 123) dX0_moveTerm_113 rfl (fun cH => ?_) (fun cH => ?_)
    · replace H := H.1 cH
      refine r_aload_n dX0_moveTerm_123 rfl rfl ?_
      refine m_getI hp fw_X0_130 dX0_moveTerm_124 rfl t1 ?_
      refine r_prune [true, true, true, false, true, false, false, false, false] (ls2 := [some (.ref 0), some (.ref a1), some (.int x2), none, some (.long y4), none, none, none, none]) rfl ?_
      exact H
    · replace H := H.2 cH
      refine r_aload_n dX0_moveTerm_116 rfl rfl ?_
      refine m_getI hp fw_X0_133 dX0_moveTerm_117 rfl t1 ?_
      refine r_goto (tgt := 127) dX0_moveTerm_120 rfl ?_
      refine r_prune [true, true, true, false, true, false, false, false, false] (ls2 := [some (.ref 0), some (.ref a1), some (.int x2), none, some (.long y4), none, none, none, none]) rfl ?_
      exact H
theorem s_X0_moveTerm_127 {g : GX} {d : Nat} {av : List Value} {Q : QT} {n : Nat} {h : Hp} {a1 : Nat} {x2 : Int32} {y4 : Int64} {xs0 : Int32} {as1 : Nat} (hp : g.2.2.2.2 = true) (t1 : lay a1 = (0, 5, 8)) (ts1 : lay as1 = (0, 4, 4)) (H : CallI g m_X0_power d [.int xs0, .long (-y4)] n h (fun v1 h1 => (CallI g m_X0_inverse d [.int v1] n h1 (fun v2 h2 => (W_X0_moveTerm g d av Q n 159 [some (.ref 0), some (.ref a1), some (.int x2), none, some (.long y4), none, none, none, none] [.int v2, .ref as1] h2))))) : W_X0_moveTerm g d av Q n 127 [some (.ref 0), some (.ref a1), some (.int x2), none, some (.long y4), none, none, none, none] [.int xs0, .ref as1] h := by
  refine r_lload dX0_moveTerm_127 rfl ?_
  refine r_lneg dX0_moveTerm_129 ?_
  refine k_SI (As := [.int xs0, .long (-y4)]) (stk := [.ref as1]) cs_X0_12 dX0_moveTerm_130 rfl (Nat.le_of_ble_eq_true rfl) (H.mono (fun v1 h1 H => ?_)) ⟨Nat.le_refl _, Nat.le_refl _⟩
  refine k_SI (As := [.int v1]) (stk := [.ref as1]) cs_X0_74 dX0_moveTerm_133 rfl (Nat.le_of_ble_eq_true rfl) (H.mono (fun v2 h2 H => ?_)) ⟨Nat.le_refl _, Nat.le_refl _⟩
  refine r_goto (tgt := 159) dX0_moveTerm_136 rfl ?_
  exact H
theorem s_X0_moveTerm_154 {g : GX} {d : Nat} {av : List Value} {Q : QT} {n : Nat} {h : Hp} {a1 : Nat} {x2 : Int32} {y4 : Int64} {xs0 : Int32} {as1 : Nat} (hp : g.2.2.2.2 = true) (t1 : lay a1 = (0, 5, 8)) (ts1 : lay as1 = (0, 4, 4)) (H : CallI g m_X0_power d [.int xs0, .long y4] n h (fun v1 h1 => (W_X0_moveTerm g d av Q n 159 [some (.ref 0), some (.ref a1), some (.int x2), none, some (.long y4), none, none, none, none] [.int v1, .ref as1] h1))) : W_X0_moveTerm g d av Q n 154 [some (.ref 0), some (.ref a1), some (.int x2), none, some (.long y4), none, none, none, none] [.int xs0, .ref as1] h := by
  refine r_lload dX0_moveTerm_154 rfl ?_
  refine k_SI (As := [.int xs0, .long y4]) (stk := [.ref as1]) cs_X0_12 dX0_moveTerm_156 rfl (Nat.le_of_ble_eq_true rfl) (H.mono (fun v1 h1 H => ?_)) ⟨Nat.le_refl _, Nat.le_refl _⟩
  exact H
theorem s_X0_moveTerm_159 {g : GX} {d : Nat} {av : List Value} {Q : QT} {n : Nat} {h : Hp} {a1 : Nat} {x2 : Int32} {y4 : Int64} {xs0 : Int32} {as1 : Nat} (hp : g.2.2.2.2 = true) (t1 : lay a1 = (0, 5, 8)) (ts1 : lay as1 = (0, 4, 4)) (H : CallV g m_X4_scale d [.ref as1, .int xs0] n h (fun h1 => (CallI g m_X0_give d [.ref 0, .ref 81] n h1 (fun v2 h2 => (((¬ v2 = (0 : Int32)) → (CallV g m_X5_copyParts d [.ref 80, .ref a1] n h2 (fun h3 => (W_X0_moveTerm g d av Q n 189 [some (.ref 0), some (.ref a1), some (.int x2), none, some (.long y4), none, none, some (.int (0 : Int32)), none] [] h3)))) ∧ ((v2 = (0 : Int32)) → (Q (some (.int (0 : Int32))) n h2))))))) : W_X0_moveTerm g d av Q n 159 [some (.ref 0), some (.ref a1), some (.int x2), none, some (.long y4), none, none, none, none] [.int xs0, .ref as1] h := by
  refine k_VV (As := [.int xs0]) (stk := []) hp cv_X0_78 dX0_moveTerm_159 rfl (Nat.le_of_ble_eq_true rfl) ts1 (H.mono (fun h1 H => ?_)) ⟨Nat.le_refl _, Nat.le_refl _⟩
  refine r_aload_n dX0_moveTerm_162 rfl rfl ?_
  refine r_aload_n dX0_moveTerm_163 rfl rfl ?_
  refine m_getF (x := 80) hp fw_X0_330 dX0_moveTerm_164 rfl ly_0 (ff_0_21 ly_0) ?_
  refine m_getF (x := 81) hp fw_X0_110 dX0_moveTerm_167 rfl (lf_0_21 ly_0) (ff_5_0 (lf_0_21 ly_0)) ?_
  refine k_VI (As := [.ref 81]) (stk := []) hp cv_X0_106 dX0_moveTerm_170 rfl (Nat.le_of_ble_eq_true rfl) ly_0 (H.mono (fun v2 h2 H => ?_)) ⟨Nat.le_refl _, Nat.le_refl _⟩
  refine r_if_ne (tgt := 178) dX0_moveTerm_173 rfl (fun cH => ?_) (fun cH => ?_)
  · replace H := H.1 cH
    refine r_aload_n dX0_moveTerm_178 rfl rfl ?_
    refine m_getF (x := 80) hp fw_X0_330 dX0_moveTerm_179 rfl ly_0 (ff_0_21 ly_0) ?_
    refine r_aload_n dX0_moveTerm_182 rfl rfl ?_
    refine k_VV (As := [.ref a1]) (stk := []) hp cv_X0_124 dX0_moveTerm_183 rfl (Nat.le_of_ble_eq_true rfl) (lf_0_21 ly_0) (H.mono (fun h3 H => ?_)) ⟨Nat.le_refl _, Nat.le_refl _⟩
    refine r_iconst (v := (0 : Int32)) dX0_moveTerm_186 rfl ?_
    refine r_istore (ls2 := [some (.ref 0), some (.ref a1), some (.int x2), none, some (.long y4), none, none, some (.int (0 : Int32)), none]) dX0_moveTerm_187 (by decide) rfl ?_
    exact H
  · replace H := H.2 cH
    refine r_iconst (v := (0 : Int32)) dX0_moveTerm_176 rfl ?_
    exact r_zret dX0_moveTerm_177 rfl rfl (Nat.le_refl _) (Nat.le_refl _) H
theorem s_X0_moveTerm_189 {g : GX} {d : Nat} {av : List Value} {Q : QT} {n : Nat} {h : Hp} {a1 : Nat} {x2 : Int32} {y4 : Int64} {x7 : Int32} (hp : g.2.2.2.2 = true) (t1 : lay a1 = (0, 5, 8)) (H : (((ri h a1 3) ≤ x7) → (Q (some (.int (1 : Int32))) n h)) ∧ ((¬ (ri h a1 3) ≤ x7) → (vp_in x7 60 ∧ (((x2 = (0 : Int32)) → (vp_in x7 60 ∧ (W_X0_moveTerm g d av Q n 232 [some (.ref 0), some (.ref a1), some (.int x2), none, some (.long y4), none, none, some (.int x7), none] [.int (ri h (a1 + 6) (x7).toNatClampNeg), .long y4, .int (ri h 88 (x7).toNatClampNeg), .int x7, .ref 88] h))) ∧ ((¬ x2 = (0 : Int32)) → (vp_in x7 60 ∧ (W_X0_moveTerm g d av Q n 232 [some (.ref 0), some (.ref a1), some (.int x2), none, some (.long y4), none, none, some (.int x7), none] [.int (ri h (a1 + 7) (x7).toNatClampNeg), .long y4, .int (ri h 88 (x7).toNatClampNeg), .int x7, .ref 88] h))))))) : W_X0_moveTerm g d av Q n 189 [some (.ref 0), some (.ref a1), some (.int x2), none, some (.long y4), none, none, some (.int x7), none] [] h := by
  refine r_iload dX0_moveTerm_189 rfl ?_
  refine r_aload_n dX0_moveTerm_191 rfl rfl ?_
  refine m_getI hp fw_X0_136 dX0_moveTerm_192 rfl t1 ?_
  refine r_icmp_ge (tgt := 243) dX0_moveTerm_195 rfl (fun cH => ?_) (fun cH => ?_)
  · replace H := H.1 cH
    refine r_iconst (v := (1 : Int32)) dX0_moveTerm_243 rfl ?_
    exact r_zret dX0_moveTerm_244 rfl rfl (Nat.le_refl _) (Nat.le_refl _) H
  · replace H := H.2 cH
    refine r_aload_n dX0_moveTerm_198 rfl rfl ?_
    refine m_getF (x := 80) hp fw_X0_330 dX0_moveTerm_199 rfl ly_0 (ff_0_21 ly_0) ?_
    refine m_getF (x := 88) hp fw_X0_146 dX0_moveTerm_202 rfl (lf_0_21 ly_0) (ff_5_6 (lf_0_21 ly_0)) ?_
    refine r_iload dX0_moveTerm_205 rfl ?_
    refine r_dup2 dX0_moveTerm_207 rfl rfl ?_
    refine m_iald hp dX0_moveTerm_208 (lf_5_6 (lf_0_21 ly_0)) H.1 ?_
    replace H := H.2
    refine r_lload dX0_moveTerm_209 rfl ?_
    refine r_iload_n dX0_moveTerm_211 rfl rfl ?_
    refine r_if_eq (tgt := 225) dX0_moveTerm_212 rfl (fun cH => ?_) (fun cH => ?_)
    · replace H := H.1 cH
      refine r_aload_n dX0_moveTerm_225 rfl rfl ?_
      refine m_getF (x := (a1 + 6)) hp fw_X0_139 dX0_moveTerm_226 rfl t1 (ff_5_4 t1) ?_
      refine r_iload dX0_moveTerm_229 rfl ?_
      refine m_iald hp dX0_moveTerm_231 (lf_5_4 t1) H.1 ?_
      replace H := H.2
      exact H
    · replace H := H.2 cH
      refine r_aload_n dX0_moveTerm_215 rfl rfl ?_
      refine m_getF (x := (a1 + 7)) hp fw_X0_143 dX0_moveTerm_216 rfl t1 (ff_5_5 t1) ?_
      refine r_iload dX0_moveTerm_219 rfl ?_
      refine m_iald hp dX0_moveTerm_221 (lf_5_5 t1) H.1 ?_
      replace H := H.2
      refine r_goto (tgt := 232) dX0_moveTerm_222 rfl ?_
      exact H
theorem s_X0_moveTerm_232 {g : GX} {d : Nat} {av : List Value} {Q : QT} {n : Nat} {h : Hp} {a1 : Nat} {x2 : Int32} {y4 : Int64} {x7 : Int32} {xs0 : Int32} {ys1 : Int64} {xs2 : Int32} {xs3 : Int32} {as4 : Nat} {Ls4 : Nat} (hp : g.2.2.2.2 = true) (t1 : lay a1 = (0, 5, 8)) (ts4 : lay as4 = (1, Ls4, 0)) (H : vp_in xs3 Ls4 ∧ ∀ h1, h1 = wi h as4 (xs3).toNatClampNeg (xs2 + ((ys1 * (xs0).toInt64)).toInt32) → (W_X0_moveTerm g d av Q n 189 [some (.ref 0), some (.ref a1), some (.int x2), none, some (.long y4), none, none, some (.int (x7 + (1 : Int32))), none] [] h1)) : W_X0_moveTerm g d av Q n 232 [some (.ref 0), some (.ref a1), some (.int x2), none, some (.long y4), none, none, some (.int x7), none] [.int xs0, .long ys1, .int xs2, .int xs3, .ref as4] h := by
  refine r_i2l dX0_moveTerm_232 ?_
  refine r_lmul dX0_moveTerm_233 ?_
  refine r_l2i dX0_moveTerm_234 ?_
  refine r_iadd dX0_moveTerm_235 ?_
  refine m_iast hp dX0_moveTerm_236 ts4 H.1 (fun h1 eh1 => ?_)
  replace H := H.2 h1 eh1
  refine r_iinc (v := (x7 + (1 : Int32))) (ls2 := [some (.ref 0), some (.ref a1), some (.int x2), none, some (.long y4), none, none, some (.int (x7 + (1 : Int32))), none]) dX0_moveTerm_237 rfl rfl (by decide) rfl ?_
  refine r_goto (tgt := 189) dX0_moveTerm_240 rfl ?_
  exact H
abbrev W_X0_layChange (g : GX) (d : Nat) (av : List Value) (Q : QT) (n : Nat) (pc : Nat) (ls : LV) (stk : List Value) (h : Hp) : Prop := RJ g m_X0_layChange (d + 1) 0 0 av Q pc ls stk n h 0 0
theorem s_X0_layChange_0 {g : GX} {d : Nat} {av : List Value} {Q : QT} {n : Nat} {h : Hp} {x1 : Int32} {a2 : Nat} {x3 : Int32} (hp : g.2.2.2.2 = true) (t2 : lay a2 = (0, 6, 2)) (H : CallV g m_X4_copy d [.ref 39, .ref (a2 + 1)] n h (fun h1 => (CallV g m_X4_copy d [.ref 41, .ref (a2 + 3)] n h1 (fun h2 => (((x1).toInt = 0 → (CallV g m_X4_shiftN d [.ref 39, .int x3] n h2 (fun h3 => (CallV g m_X4_shiftN d [.ref 41, .int x3] n h3 (fun h4 => (W_X0_layChange g d av Q n 324 [some (.ref 0), none, none, none] [] h4)))))) ∧ ((x1).toInt = 1 → (CallV g m_X4_shiftK d [.ref 39, .int x3] n h2 (fun h5 => (CallV g m_X4_shiftK d [.ref 41, .int x3] n h5 (fun h6 => (W_X0_layChange g d av Q n 324 [some (.ref 0), none, none, none] [] h6)))))) ∧ ((x1).toInt = 2 → (CallV g m_X0_putN d [.ref 0, .ref (a2 + 1), .int x3, .ref 39] n h2 (fun h7 => (CallV g m_X0_putN d [.ref 0, .ref (a2 + 3), .int x3, .ref 41] n h7 (fun h8 => (W_X0_layChange g d av Q n 324 [some (.ref 0), none, none, none] [] h8)))))) ∧ ((x1).toInt = 3 → (CallV g m_X0_putK d [.ref 0, .ref (a2 + 1), .int x3, .ref 39] n h2 (fun h9 => (CallV g m_X0_putK d [.ref 0, .ref (a2 + 3), .int x3, .ref 41] n h9 (fun h10 => (W_X0_layChange g d av Q n 324 [some (.ref 0), none, none, none] [] h10)))))) ∧ ((x1).toInt = 4 → (((¬ x1 = (4 : Int32)) → (W_X0_layChange g d av Q n 179 [some (.ref 0), some (.int x1), some (.ref a2), none] [.int (0 : Int32), .ref (a2 + 1), .ref 0] h2)) ∧ ((x1 = (4 : Int32)) → (W_X0_layChange g d av Q n 179 [some (.ref 0), some (.int x1), some (.ref a2), none] [.int (1 : Int32), .ref (a2 + 1), .ref 0] h2)))) ∧ ((x1).toInt = 5 → (((¬ x1 = (4 : Int32)) → (W_X0_layChange g d av Q n 179 [some (.ref 0), some (.int x1), some (.ref a2), none] [.int (0 : Int32), .ref (a2 + 1), .ref 0] h2)) ∧ ((x1 = (4 : Int32)) → (W_X0_layChange g d av Q n 179 [some (.ref 0), some (.int x1), some (.ref a2), none] [.int (1 : Int32), .ref (a2 + 1), .ref 0] h2)))) ∧ ((x1).toInt = 6 → (CallV g m_X4_turn d [.ref 39, .ref (a2 + 1)] n h2 (fun h11 => (CallV g m_X4_turn d [.ref 41, .ref (a2 + 3)] n h11 (fun h12 => (W_X0_layChange g d av Q n 324 [some (.ref 0), none, none, none] [] h12)))))) ∧ ((x1).toInt = 7 → (CallV g m_X4_set d [.ref 41, .int (1 : Int32)] n h2 (fun h13 => (W_X0_layChange g d av Q n 324 [some (.ref 0), none, none, none] [] h13)))) ∧ (((x1).toInt < 0 ∨ 7 < (x1).toInt) → (CallV g m_X4_copy d [.ref 39, .ref (a2 + 3)] n h2 (fun h14 => (CallV g m_X4_set d [.ref 41, .int (1 : Int32)] n h14 (fun h15 => (W_X0_layChange g d av Q n 324 [some (.ref 0), none, none, none] [] h15))))))))))) : W_X0_layChange g d av Q n 0 [some (.ref 0), some (.int x1), some (.ref a2), some (.int x3)] [] h := by
  refine r_aload_n dX0_layChange_0 rfl rfl ?_
  refine m_getF (x := 39) hp fw_X0_31 dX0_layChange_1 rfl ly_0 (ff_0_1 ly_0) ?_
  refine r_aload_n dX0_layChange_4 rfl rfl ?_
  refine m_getF (x := (a2 + 1)) hp fw_X0_89 dX0_layChange_5 rfl t2 (ff_6_0 t2) ?_
  refine k_VV (As := [.ref (a2 + 1)]) (stk := []) hp cv_X0_66 dX0_layChange_8 rfl (Nat.le_of_ble_eq_true rfl) (lf_0_1 ly_0) (H.mono (fun h1 H => ?_)) ⟨Nat.le_refl _, Nat.le_refl _⟩
  refine r_aload_n dX0_layChange_11 rfl rfl ?_
  refine m_getF (x := 41) hp fw_X0_39 dX0_layChange_12 rfl ly_0 (ff_0_2 ly_0) ?_
  refine r_aload_n dX0_layChange_15 rfl rfl ?_
  refine m_getF (x := (a2 + 3)) hp fw_X0_94 dX0_layChange_16 rfl t2 (ff_6_1 t2) ?_
  refine k_VV (As := [.ref (a2 + 3)]) (stk := []) hp cv_X0_66 dX0_layChange_19 rfl (Nat.le_of_ble_eq_true rfl) (lf_0_2 ly_0) (H.mono (fun h2 H => ?_)) ⟨Nat.le_refl _, Nat.le_refl _⟩
  refine r_iload_n dX0_layChange_22 rfl rfl ?_
  by_cases c0 : (x1).toInt = 0
  · replace H := H.1 c0
    refine r_tableIn (tgt := 68) dX0_layChange_23 (by omega) (by omega) (by rw [c0]; rfl) rfl ?_
    refine r_aload_n dX0_layChange_68 rfl rfl ?_
    refine m_getF (x := 39) hp fw_X0_31 dX0_layChange_69 rfl ly_0 (ff_0_1 ly_0) ?_
    refine r_iload_n dX0_layChange_72 rfl rfl ?_
    refine k_VV (As := [.int x3]) (stk := []) hp cv_X0_614 dX0_layChange_73 rfl (Nat.le_of_ble_eq_true rfl) (lf_0_1 ly_0) (H.mono (fun h3 H => ?_)) ⟨Nat.le_refl _, Nat.le_refl _⟩
    refine r_aload_n dX0_layChange_76 rfl rfl ?_
    refine m_getF (x := 41) hp fw_X0_39 dX0_layChange_77 rfl ly_0 (ff_0_2 ly_0) ?_
    refine r_iload_n dX0_layChange_80 rfl rfl ?_
    refine k_VV (As := [.int x3]) (stk := []) hp cv_X0_614 dX0_layChange_81 rfl (Nat.le_of_ble_eq_true rfl) (lf_0_2 ly_0) (H.mono (fun h4 H => ?_)) ⟨Nat.le_refl _, Nat.le_refl _⟩
    refine r_goto (tgt := 324) dX0_layChange_84 rfl ?_
    refine r_prune [true, false, false, false] (ls2 := [some (.ref 0), none, none, none]) rfl ?_
    exact H
  by_cases c1 : (x1).toInt = 1
  · replace H := H.2.1 c1
    refine r_tableIn (tgt := 87) dX0_layChange_23 (by omega) (by omega) (by rw [c1]; rfl) rfl ?_
    refine r_aload_n dX0_layChange_87 rfl rfl ?_
    refine m_getF (x := 39) hp fw_X0_31 dX0_layChange_88 rfl ly_0 (ff_0_1 ly_0) ?_
    refine r_iload_n dX0_layChange_91 rfl rfl ?_
    refine k_VV (As := [.int x3]) (stk := []) hp cv_X0_617 dX0_layChange_92 rfl (Nat.le_of_ble_eq_true rfl) (lf_0_1 ly_0) (H.mono (fun h5 H => ?_)) ⟨Nat.le_refl _, Nat.le_refl _⟩
    refine r_aload_n dX0_layChange_95 rfl rfl ?_
    refine m_getF (x := 41) hp fw_X0_39 dX0_layChange_96 rfl ly_0 (ff_0_2 ly_0) ?_
    refine r_iload_n dX0_layChange_99 rfl rfl ?_
    refine k_VV (As := [.int x3]) (stk := []) hp cv_X0_617 dX0_layChange_100 rfl (Nat.le_of_ble_eq_true rfl) (lf_0_2 ly_0) (H.mono (fun h6 H => ?_)) ⟨Nat.le_refl _, Nat.le_refl _⟩
    refine r_goto (tgt := 324) dX0_layChange_103 rfl ?_
    refine r_prune [true, false, false, false] (ls2 := [some (.ref 0), none, none, none]) rfl ?_
    exact H
  by_cases c2 : (x1).toInt = 2
  · replace H := H.2.2.1 c2
    refine r_tableIn (tgt := 106) dX0_layChange_23 (by omega) (by omega) (by rw [c2]; rfl) rfl ?_
    refine r_aload_n dX0_layChange_106 rfl rfl ?_
    refine r_aload_n dX0_layChange_107 rfl rfl ?_
    refine m_getF (x := (a2 + 1)) hp fw_X0_89 dX0_layChange_108 rfl t2 (ff_6_0 t2) ?_
    refine r_iload_n dX0_layChange_111 rfl rfl ?_
    refine r_aload_n dX0_layChange_112 rfl rfl ?_
    refine m_getF (x := 39) hp fw_X0_31 dX0_layChange_113 rfl ly_0 (ff_0_1 ly_0) ?_
    refine k_VV (As := [.ref (a2 + 1), .int x3, .ref 39]) (stk := []) hp cv_X0_916 dX0_layChange_116 rfl (Nat.le_of_ble_eq_true rfl) ly_0 (H.mono (fun h7 H => ?_)) ⟨Nat.le_refl _, Nat.le_refl _⟩
    refine r_aload_n dX0_layChange_119 rfl rfl ?_
    refine r_aload_n dX0_layChange_120 rfl rfl ?_
    refine m_getF (x := (a2 + 3)) hp fw_X0_94 dX0_layChange_121 rfl t2 (ff_6_1 t2) ?_
    refine r_iload_n dX0_layChange_124 rfl rfl ?_
    refine r_aload_n dX0_layChange_125 rfl rfl ?_
    refine m_getF (x := 41) hp fw_X0_39 dX0_layChange_126 rfl ly_0 (ff_0_2 ly_0) ?_
    refine k_VV (As := [.ref (a2 + 3), .int x3, .ref 41]) (stk := []) hp cv_X0_916 dX0_layChange_129 rfl (Nat.le_of_ble_eq_true rfl) ly_0 (H.mono (fun h8 H => ?_)) ⟨Nat.le_refl _, Nat.le_refl _⟩
    refine r_goto (tgt := 324) dX0_layChange_132 rfl ?_
    refine r_prune [true, false, false, false] (ls2 := [some (.ref 0), none, none, none]) rfl ?_
    exact H
  by_cases c3 : (x1).toInt = 3
  · replace H := H.2.2.2.1 c3
    refine r_tableIn (tgt := 135) dX0_layChange_23 (by omega) (by omega) (by rw [c3]; rfl) rfl ?_
    refine r_aload_n dX0_layChange_135 rfl rfl ?_
    refine r_aload_n dX0_layChange_136 rfl rfl ?_
    refine m_getF (x := (a2 + 1)) hp fw_X0_89 dX0_layChange_137 rfl t2 (ff_6_0 t2) ?_
    refine r_iload_n dX0_layChange_140 rfl rfl ?_
    refine r_aload_n dX0_layChange_141 rfl rfl ?_
    refine m_getF (x := 39) hp fw_X0_31 dX0_layChange_142 rfl ly_0 (ff_0_1 ly_0) ?_
    refine k_VV (As := [.ref (a2 + 1), .int x3, .ref 39]) (stk := []) hp cv_X0_920 dX0_layChange_145 rfl (Nat.le_of_ble_eq_true rfl) ly_0 (H.mono (fun h9 H => ?_)) ⟨Nat.le_refl _, Nat.le_refl _⟩
    refine r_aload_n dX0_layChange_148 rfl rfl ?_
    refine r_aload_n dX0_layChange_149 rfl rfl ?_
    refine m_getF (x := (a2 + 3)) hp fw_X0_94 dX0_layChange_150 rfl t2 (ff_6_1 t2) ?_
    refine r_iload_n dX0_layChange_153 rfl rfl ?_
    refine r_aload_n dX0_layChange_154 rfl rfl ?_
    refine m_getF (x := 41) hp fw_X0_39 dX0_layChange_155 rfl ly_0 (ff_0_2 ly_0) ?_
    refine k_VV (As := [.ref (a2 + 3), .int x3, .ref 41]) (stk := []) hp cv_X0_920 dX0_layChange_158 rfl (Nat.le_of_ble_eq_true rfl) ly_0 (H.mono (fun h10 H => ?_)) ⟨Nat.le_refl _, Nat.le_refl _⟩
    refine r_goto (tgt := 324) dX0_layChange_161 rfl ?_
    refine r_prune [true, false, false, false] (ls2 := [some (.ref 0), none, none, none]) rfl ?_
    exact H
  by_cases c4 : (x1).toInt = 4
  · replace H := H.2.2.2.2.1 c4
    refine r_tableIn (tgt := 164) dX0_layChange_23 (by omega) (by omega) (by rw [c4]; rfl) rfl ?_
    refine r_aload_n dX0_layChange_164 rfl rfl ?_
    refine r_aload_n dX0_layChange_165 rfl rfl ?_
    refine m_getF (x := (a2 + 1)) hp fw_X0_89 dX0_layChange_166 rfl t2 (ff_6_0 t2) ?_
    refine r_iload_n dX0_layChange_169 rfl rfl ?_
    refine r_iconst (v := (4 : Int32)) dX0_layChange_170 rfl ?_
    refine r_icmp_ne (tgt := 178) dX0_layChange_171 rfl (fun cH => ?_) (fun cH => ?_)
    · replace H := H.1 cH
      refine r_iconst (v := (0 : Int32)) dX0_layChange_178 rfl ?_
      refine r_prune [true, true, true, false] (ls2 := [some (.ref 0), some (.int x1), some (.ref a2), none]) rfl ?_
      exact H
    · replace H := H.2 cH
      refine r_iconst (v := (1 : Int32)) dX0_layChange_174 rfl ?_
      refine r_goto (tgt := 179) dX0_layChange_175 rfl ?_
      refine r_prune [true, true, true, false] (ls2 := [some (.ref 0), some (.int x1), some (.ref a2), none]) rfl ?_
      exact H
  by_cases c5 : (x1).toInt = 5
  · replace H := H.2.2.2.2.2.1 c5
    refine r_tableIn (tgt := 164) dX0_layChange_23 (by omega) (by omega) (by rw [c5]; rfl) rfl ?_
    refine r_aload_n dX0_layChange_164 rfl rfl ?_
    refine r_aload_n dX0_layChange_165 rfl rfl ?_
    refine m_getF (x := (a2 + 1)) hp fw_X0_89 dX0_layChange_166 rfl t2 (ff_6_0 t2) ?_
    refine r_iload_n dX0_layChange_169 rfl rfl ?_
    refine r_iconst (v := (4 : Int32)) dX0_layChange_170 rfl ?_
    refine r_icmp_ne (tgt := 178) dX0_layChange_171 rfl (fun cH => ?_) (fun cH => ?_)
    · replace H := H.1 cH
      refine r_iconst (v := (0 : Int32)) dX0_layChange_178 rfl ?_
      refine r_prune [true, true, true, false] (ls2 := [some (.ref 0), some (.int x1), some (.ref a2), none]) rfl ?_
      exact H
    · replace H := H.2 cH
      refine r_iconst (v := (1 : Int32)) dX0_layChange_174 rfl ?_
      refine r_goto (tgt := 179) dX0_layChange_175 rfl ?_
      refine r_prune [true, true, true, false] (ls2 := [some (.ref 0), some (.int x1), some (.ref a2), none]) rfl ?_
      exact H
  by_cases c6 : (x1).toInt = 6
  · replace H := H.2.2.2.2.2.2.1 c6
    refine r_tableIn (tgt := 269) dX0_layChange_23 (by omega) (by omega) (by rw [c6]; rfl) rfl ?_
    refine r_aload_n dX0_layChange_269 rfl rfl ?_
    refine m_getF (x := 39) hp fw_X0_31 dX0_layChange_270 rfl ly_0 (ff_0_1 ly_0) ?_
    refine r_aload_n dX0_layChange_273 rfl rfl ?_
    refine m_getF (x := (a2 + 1)) hp fw_X0_89 dX0_layChange_274 rfl t2 (ff_6_0 t2) ?_
    refine k_VV (As := [.ref (a2 + 1)]) (stk := []) hp cv_X0_906 dX0_layChange_277 rfl (Nat.le_of_ble_eq_true rfl) (lf_0_1 ly_0) (H.mono (fun h11 H => ?_)) ⟨Nat.le_refl _, Nat.le_refl _⟩
    refine r_aload_n dX0_layChange_280 rfl rfl ?_
    refine m_getF (x := 41) hp fw_X0_39 dX0_layChange_281 rfl ly_0 (ff_0_2 ly_0) ?_
    refine r_aload_n dX0_layChange_284 rfl rfl ?_
    refine m_getF (x := (a2 + 3)) hp fw_X0_94 dX0_layChange_285 rfl t2 (ff_6_1 t2) ?_
    refine k_VV (As := [.ref (a2 + 3)]) (stk := []) hp cv_X0_906 dX0_layChange_288 rfl (Nat.le_of_ble_eq_true rfl) (lf_0_2 ly_0) (H.mono (fun h12 H => ?_)) ⟨Nat.le_refl _, Nat.le_refl _⟩
    refine r_goto (tgt := 324) dX0_layChange_291 rfl ?_
    refine r_prune [true, false, false, false] (ls2 := [some (.ref 0), none, none, none]) rfl ?_
    exact H
  by_cases c7 : (x1).toInt = 7
  · replace H := H.2.2.2.2.2.2.2.1 c7
    refine r_tableIn (tgt := 294) dX0_layChange_23 (by omega) (by omega) (by rw [c7]; rfl) rfl ?_
    refine r_aload_n dX0_layChange_294 rfl rfl ?_
    refine m_getF (x := 41) hp fw_X0_39 dX0_layChange_295 rfl ly_0 (ff_0_2 ly_0) ?_
    refine r_iconst (v := (1 : Int32)) dX0_layChange_298 rfl ?_
    refine k_VV (As := [.int (1 : Int32)]) (stk := []) hp cv_X0_42 dX0_layChange_299 rfl (Nat.le_of_ble_eq_true rfl) (lf_0_2 ly_0) (H.mono (fun h13 H => ?_)) ⟨Nat.le_refl _, Nat.le_refl _⟩
    refine r_goto (tgt := 324) dX0_layChange_302 rfl ?_
    refine r_prune [true, false, false, false] (ls2 := [some (.ref 0), none, none, none]) rfl ?_
    exact H
  have cD : (x1).toInt < 0 ∨ 7 < (x1).toInt := by omega
  replace H := H.2.2.2.2.2.2.2.2 cD
  refine r_tableOut (tgt := 305) dX0_layChange_23 cD rfl ?_
  refine r_aload_n dX0_layChange_305 rfl rfl ?_
  refine m_getF (x := 39) hp fw_X0_31 dX0_layChange_306 rfl ly_0 (ff_0_1 ly_0) ?_
  refine r_aload_n dX0_layChange_309 rfl rfl ?_
  refine m_getF (x := (a2 + 3)) hp fw_X0_94 dX0_layChange_310 rfl t2 (ff_6_1 t2) ?_
  refine k_VV (As := [.ref (a2 + 3)]) (stk := []) hp cv_X0_66 dX0_layChange_313 rfl (Nat.le_of_ble_eq_true rfl) (lf_0_1 ly_0) (H.mono (fun h14 H => ?_)) ⟨Nat.le_refl _, Nat.le_refl _⟩
  refine r_aload_n dX0_layChange_316 rfl rfl ?_
  refine m_getF (x := 41) hp fw_X0_39 dX0_layChange_317 rfl ly_0 (ff_0_2 ly_0) ?_
  refine r_iconst (v := (1 : Int32)) dX0_layChange_320 rfl ?_
  refine k_VV (As := [.int (1 : Int32)]) (stk := []) hp cv_X0_42 dX0_layChange_321 rfl (Nat.le_of_ble_eq_true rfl) (lf_0_2 ly_0) (H.mono (fun h15 H => ?_)) ⟨Nat.le_refl _, Nat.le_refl _⟩
  refine r_prune [true, false, false, false] (ls2 := [some (.ref 0), none, none, none]) rfl ?_
  exact H
theorem s_X0_layChange_179 {g : GX} {d : Nat} {av : List Value} {Q : QT} {n : Nat} {h : Hp} {x1 : Int32} {a2 : Nat} {xs0 : Int32} {as1 : Nat} {as2 : Nat} (hp : g.2.2.2.2 = true) (t2 : lay a2 = (0, 6, 2)) (ts1 : lay as1 = (0, 4, 4)) (ts2 : lay as2 = (0, 0, 80)) (H : CallV g m_X0_derive d [.ref as2, .ref as1, .int xs0, .ref 45] n h (fun h1 => (CallV g m_X4_product d [.ref 39, .ref 45, .ref (a2 + 3)] n h1 (fun h2 => (((¬ x1 = (4 : Int32)) → (W_X0_layChange g d av Q n 216 [some (.ref 0), none, some (.ref a2), none] [.int (0 : Int32), .ref (a2 + 3), .ref 0] h2)) ∧ ((x1 = (4 : Int32)) → (W_X0_layChange g d av Q n 216 [some (.ref 0), none, some (.ref a2), none] [.int (1 : Int32), .ref (a2 + 3), .ref 0] h2))))))) : W_X0_layChange g d av Q n 179 [some (.ref 0), some (.int x1), some (.ref a2), none] [.int xs0, .ref as1, .ref as2] h := by
  refine r_aload_n dX0_layChange_179 rfl rfl ?_
  refine m_getF (x := 45) hp fw_X0_59 dX0_layChange_180 rfl ly_0 (ff_0_4 ly_0) ?_
  refine k_VV (As := [.ref as1, .int xs0, .ref 45]) (stk := []) hp cv_X0_923 dX0_layChange_183 rfl (Nat.le_of_ble_eq_true rfl) ts2 (H.mono (fun h1 H => ?_)) ⟨Nat.le_refl _, Nat.le_refl _⟩
  refine r_aload_n dX0_layChange_186 rfl rfl ?_
  refine m_getF (x := 39) hp fw_X0_31 dX0_layChange_187 rfl ly_0 (ff_0_1 ly_0) ?_
  refine r_aload_n dX0_layChange_190 rfl rfl ?_
  refine m_getF (x := 45) hp fw_X0_59 dX0_layChange_191 rfl ly_0 (ff_0_4 ly_0) ?_
  refine r_aload_n dX0_layChange_194 rfl rfl ?_
  refine m_getF (x := (a2 + 3)) hp fw_X0_94 dX0_layChange_195 rfl t2 (ff_6_1 t2) ?_
  refine k_VV (As := [.ref 45, .ref (a2 + 3)]) (stk := []) hp cv_X0_97 dX0_layChange_198 rfl (Nat.le_of_ble_eq_true rfl) (lf_0_1 ly_0) (H.mono (fun h2 H => ?_)) ⟨Nat.le_refl _, Nat.le_refl _⟩
  refine r_aload_n dX0_layChange_201 rfl rfl ?_
  refine r_aload_n dX0_layChange_202 rfl rfl ?_
  refine m_getF (x := (a2 + 3)) hp fw_X0_94 dX0_layChange_203 rfl t2 (ff_6_1 t2) ?_
  refine r_iload_n dX0_layChange_206 rfl rfl ?_
  refine r_iconst (v := (4 : Int32)) dX0_layChange_207 rfl ?_
  refine r_icmp_ne (tgt := 215) dX0_layChange_208 rfl (fun cH => ?_) (fun cH => ?_)
  · replace H := H.1 cH
    refine r_iconst (v := (0 : Int32)) dX0_layChange_215 rfl ?_
    refine r_prune [true, false, true, false] (ls2 := [some (.ref 0), none, some (.ref a2), none]) rfl ?_
    exact H
  · replace H := H.2 cH
    refine r_iconst (v := (1 : Int32)) dX0_layChange_211 rfl ?_
    refine r_goto (tgt := 216) dX0_layChange_212 rfl ?_
    refine r_prune [true, false, true, false] (ls2 := [some (.ref 0), none, some (.ref a2), none]) rfl ?_
    exact H
theorem s_X0_layChange_216 {g : GX} {d : Nat} {av : List Value} {Q : QT} {n : Nat} {h : Hp} {a2 : Nat} {xs0 : Int32} {as1 : Nat} {as2 : Nat} (hp : g.2.2.2.2 = true) (t2 : lay a2 = (0, 6, 2)) (ts1 : lay as1 = (0, 4, 4)) (ts2 : lay as2 = (0, 0, 80)) (H : CallV g m_X0_derive d [.ref as2, .ref as1, .int xs0, .ref 45] n h (fun h1 => (CallV g m_X4_product d [.ref 43, .ref 45, .ref (a2 + 1)] n h1 (fun h2 => (CallV g m_X4_add d [.ref 39, .ref 43, .int (2147483646 : Int32)] n h2 (fun h3 => (CallV g m_X4_product d [.ref 41, .ref (a2 + 3), .ref (a2 + 3)] n h3 (fun h4 => (W_X0_layChange g d av Q n 324 [some (.ref 0), none, none, none] [] h4))))))))) : W_X0_layChange g d av Q n 216 [some (.ref 0), none, some (.ref a2), none] [.int xs0, .ref as1, .ref as2] h := by
  refine r_aload_n dX0_layChange_216 rfl rfl ?_
  refine m_getF (x := 45) hp fw_X0_59 dX0_layChange_217 rfl ly_0 (ff_0_4 ly_0) ?_
  refine k_VV (As := [.ref as1, .int xs0, .ref 45]) (stk := []) hp cv_X0_923 dX0_layChange_220 rfl (Nat.le_of_ble_eq_true rfl) ts2 (H.mono (fun h1 H => ?_)) ⟨Nat.le_refl _, Nat.le_refl _⟩
  refine r_aload_n dX0_layChange_223 rfl rfl ?_
  refine m_getF (x := 43) hp fw_X0_50 dX0_layChange_224 rfl ly_0 (ff_0_3 ly_0) ?_
  refine r_aload_n dX0_layChange_227 rfl rfl ?_
  refine m_getF (x := 45) hp fw_X0_59 dX0_layChange_228 rfl ly_0 (ff_0_4 ly_0) ?_
  refine r_aload_n dX0_layChange_231 rfl rfl ?_
  refine m_getF (x := (a2 + 1)) hp fw_X0_89 dX0_layChange_232 rfl t2 (ff_6_0 t2) ?_
  refine k_VV (As := [.ref 45, .ref (a2 + 1)]) (stk := []) hp cv_X0_97 dX0_layChange_235 rfl (Nat.le_of_ble_eq_true rfl) (lf_0_3 ly_0) (H.mono (fun h2 H => ?_)) ⟨Nat.le_refl _, Nat.le_refl _⟩
  refine r_aload_n dX0_layChange_238 rfl rfl ?_
  refine m_getF (x := 39) hp fw_X0_31 dX0_layChange_239 rfl ly_0 (ff_0_1 ly_0) ?_
  refine r_aload_n dX0_layChange_242 rfl rfl ?_
  refine m_getF (x := 43) hp fw_X0_50 dX0_layChange_243 rfl ly_0 (ff_0_3 ly_0) ?_
  refine r_ldc (own := "") (v := (2147483646 : Int32)) dX0_layChange_246 q1022 ?_
  refine k_VV (As := [.ref 43, .int (2147483646 : Int32)]) (stk := []) hp cv_X0_102 dX0_layChange_248 rfl (Nat.le_of_ble_eq_true rfl) (lf_0_1 ly_0) (H.mono (fun h3 H => ?_)) ⟨Nat.le_refl _, Nat.le_refl _⟩
  refine r_aload_n dX0_layChange_251 rfl rfl ?_
  refine m_getF (x := 41) hp fw_X0_39 dX0_layChange_252 rfl ly_0 (ff_0_2 ly_0) ?_
  refine r_aload_n dX0_layChange_255 rfl rfl ?_
  refine m_getF (x := (a2 + 3)) hp fw_X0_94 dX0_layChange_256 rfl t2 (ff_6_1 t2) ?_
  refine r_aload_n dX0_layChange_259 rfl rfl ?_
  refine m_getF (x := (a2 + 3)) hp fw_X0_94 dX0_layChange_260 rfl t2 (ff_6_1 t2) ?_
  refine k_VV (As := [.ref (a2 + 3), .ref (a2 + 3)]) (stk := []) hp cv_X0_97 dX0_layChange_263 rfl (Nat.le_of_ble_eq_true rfl) (lf_0_2 ly_0) (H.mono (fun h4 H => ?_)) ⟨Nat.le_refl _, Nat.le_refl _⟩
  refine r_goto (tgt := 324) dX0_layChange_266 rfl ?_
  refine r_prune [true, false, false, false] (ls2 := [some (.ref 0), none, none, none]) rfl ?_
  exact H
theorem s_X0_layChange_324 {g : GX} {d : Nat} {av : List Value} {Q : QT} {n : Nat} {h : Hp}  (hp : g.2.2.2.2 = true)  (H : CallI g m_X4_isZero d [.ref 41] n h (fun v1 h1 => (((¬ v1 = (0 : Int32)) → (Q (some (.int (0 : Int32))) n h1)) ∧ ((v1 = (0 : Int32)) → (Q (some (.int (1 : Int32))) n h1))))) : W_X0_layChange g d av Q n 324 [some (.ref 0), none, none, none] [] h := by
  refine r_aload_n dX0_layChange_324 rfl rfl ?_
  refine m_getF (x := 41) hp fw_X0_39 dX0_layChange_325 rfl ly_0 (ff_0_2 ly_0) ?_
  refine k_VI (As := []) (stk := []) hp cv_X0_35 dX0_layChange_328 rfl (Nat.le_of_ble_eq_true rfl) (lf_0_2 ly_0) (H.mono (fun v1 h1 H => ?_)) ⟨Nat.le_refl _, Nat.le_refl _⟩
  refine r_if_ne (tgt := 338) dX0_layChange_331 rfl (fun cH => ?_) (fun cH => ?_)
  · replace H := H.1 cH
    refine r_iconst (v := (0 : Int32)) dX0_layChange_338 rfl ?_
    exact r_zret dX0_layChange_339 rfl rfl (Nat.le_refl _) (Nat.le_refl _) H
  · replace H := H.2 cH
    refine r_iconst (v := (1 : Int32)) dX0_layChange_334 rfl ?_
    refine r_goto (tgt := 339) dX0_layChange_335 rfl ?_
    exact r_zret dX0_layChange_339 rfl rfl (Nat.le_refl _) (Nat.le_refl _) H
abbrev W_X0_putN (g : GX) (d : Nat) (av : List Value) (Q : QT) (n : Nat) (pc : Nat) (ls : LV) (stk : List Value) (h : Hp) : Prop := RJ g m_X0_putN (d + 1) 0 0 av Q pc ls stk n h 0 0
theorem s_X0_putN_0 {g : GX} {d : Nat} {av : List Value} {Q : QT} {n : Nat} {h : Hp} {a1 : Nat} {x2 : Int32} {a3 : Nat} (hp : g.2.2.2.2 = true) (t1 : lay a1 = (0, 4, 4)) (t3 : lay a3 = (0, 4, 4)) (H : CallV g m_X4_atN d [.ref a1, .int x2, .ref 103] n h (fun h1 => (CallV g m_X4_open d [.ref a3, .int (1 : Int32), .int (ri h1 a1 3)] n h1 (fun h2 => (W_X0_putN g d av Q n 21 [some (.ref 0), some (.ref a1), none, some (.ref a3), some (.int (0 : Int32))] [] h2))))) : W_X0_putN g d av Q n 0 [some (.ref 0), some (.ref a1), some (.int x2), some (.ref a3), none] [] h := by
  refine r_aload_n dX0_putN_0 rfl rfl ?_
  refine r_iload_n dX0_putN_1 rfl rfl ?_
  refine r_aload_n dX0_putN_2 rfl rfl ?_
  refine m_getF (x := 103) hp fw_X0_361 dX0_putN_3 rfl ly_0 (ff_0_32 ly_0) ?_
  refine k_VV (As := [.int x2, .ref 103]) (stk := []) hp cv_X0_632 dX0_putN_6 rfl (Nat.le_of_ble_eq_true rfl) t1 (H.mono (fun h1 H => ?_)) ⟨Nat.le_refl _, Nat.le_refl _⟩
  refine r_aload_n dX0_putN_9 rfl rfl ?_
  refine r_iconst (v := (1 : Int32)) dX0_putN_10 rfl ?_
  refine r_aload_n dX0_putN_11 rfl rfl ?_
  refine m_getI hp fw_X0_28 dX0_putN_12 rfl t1 ?_
  refine k_VV (As := [.int (1 : Int32), .int (ri h1 a1 3)]) (stk := []) hp cv_X0_304 dX0_putN_15 rfl (Nat.le_of_ble_eq_true rfl) t3 (H.mono (fun h2 H => ?_)) ⟨Nat.le_refl _, Nat.le_refl _⟩
  refine r_iconst (v := (0 : Int32)) dX0_putN_18 rfl ?_
  refine r_istore (ls2 := [some (.ref 0), some (.ref a1), some (.int x2), some (.ref a3), some (.int (0 : Int32))]) dX0_putN_19 (by decide) rfl ?_
  refine r_prune [true, true, false, true, true] (ls2 := [some (.ref 0), some (.ref a1), none, some (.ref a3), some (.int (0 : Int32))]) rfl ?_
  exact H
theorem s_X0_putN_21 {g : GX} {d : Nat} {av : List Value} {Q : QT} {n : Nat} {h : Hp} {a1 : Nat} {a3 : Nat} {x4 : Int32} (hp : g.2.2.2.2 = true) (t1 : lay a1 = (0, 4, 4)) (t3 : lay a3 = (0, 4, 4)) (H : (((ri h a1 3) ≤ x4) → (CallV g m_X4_trim d [.ref a3] n h (fun h1 => (Q none n h1)))) ∧ ((¬ (ri h a1 3) ≤ x4) → (CallI g m_X3_get d [.ref 103, .int x4] n h (fun v2 h2 => (vp_in (x4 * (ri h a3 0)) (rm (a3 + 1)) ∧ ∀ h3, h3 = wi h2 (a3 + 1) ((x4 * (ri h a3 0))).toNatClampNeg v2 → (W_X0_putN g d av Q n 21 [some (.ref 0), some (.ref a1), none, some (.ref a3), some (.int (x4 + (1 : Int32)))] [] h3)))))) : W_X0_putN g d av Q n 21 [some (.ref 0), some (.ref a1), none, some (.ref a3), some (.int x4)] [] h := by
  refine r_iload dX0_putN_21 rfl ?_
  refine r_aload_n dX0_putN_23 rfl rfl ?_
  refine m_getI hp fw_X0_28 dX0_putN_24 rfl t1 ?_
  refine r_icmp_ge (tgt := 57) dX0_putN_27 rfl (fun cH => ?_) (fun cH => ?_)
  · replace H := H.1 cH
    refine r_aload_n dX0_putN_57 rfl rfl ?_
    refine k_VV (As := []) (stk := []) hp cv_X0_611 dX0_putN_58 rfl (Nat.le_of_ble_eq_true rfl) t3 (H.mono (fun h1 H => ?_)) ⟨Nat.le_refl _, Nat.le_refl _⟩
    exact r_vret dX0_putN_61 rfl (Nat.le_refl _) (Nat.le_refl _) H
  · replace H := H.2 cH
    refine r_aload_n dX0_putN_30 rfl rfl ?_
    refine m_getF (x := (a3 + 1)) hp fw_X0_288 dX0_putN_31 rfl t3 (ff_4_1 t3) ?_
    refine r_iload dX0_putN_34 rfl ?_
    refine r_aload_n dX0_putN_36 rfl rfl ?_
    refine m_getI hp fw_X0_608 dX0_putN_37 rfl t3 ?_
    refine r_imul dX0_putN_40 ?_
    refine r_aload_n dX0_putN_41 rfl rfl ?_
    refine m_getF (x := 103) hp fw_X0_361 dX0_putN_42 rfl ly_0 (ff_0_32 ly_0) ?_
    refine r_iload dX0_putN_45 rfl ?_
    refine k_VI (As := [.int x4]) (stk := [.int (x4 * (ri h a3 0)), .ref (a3 + 1)]) hp cv_X0_580 dX0_putN_47 rfl (Nat.le_of_ble_eq_true rfl) (lf_0_32 ly_0) (H.mono (fun v2 h2 H => ?_)) ⟨Nat.le_refl _, Nat.le_refl _⟩
    refine m_iast hp dX0_putN_50 (lf_4_1 t3) H.1 (fun h3 eh3 => ?_)
    replace H := H.2 h3 eh3
    refine r_iinc (v := (x4 + (1 : Int32))) (ls2 := [some (.ref 0), some (.ref a1), none, some (.ref a3), some (.int (x4 + (1 : Int32)))]) dX0_putN_51 rfl rfl (by decide) rfl ?_
    refine r_goto (tgt := 21) dX0_putN_54 rfl ?_
    exact H
abbrev W_X0_putK (g : GX) (d : Nat) (av : List Value) (Q : QT) (n : Nat) (pc : Nat) (ls : LV) (stk : List Value) (h : Hp) : Prop := RJ g m_X0_putK (d + 1) 0 0 av Q pc ls stk n h 0 0
theorem s_X0_putK_0 {g : GX} {d : Nat} {av : List Value} {Q : QT} {n : Nat} {h : Hp} {a1 : Nat} {x2 : Int32} {a3 : Nat} (hp : g.2.2.2.2 = true) (t1 : lay a1 = (0, 4, 4)) (t3 : lay a3 = (0, 4, 4)) (H : CallV g m_X3_clear d [.ref 832] n h (fun h1 => (W_X0_putK g d av Q n 15 [some (.ref 0), some (.ref a1), some (.int x2), some (.ref a3), some (.int ((ri h1 a1 3) - (1 : Int32)))] [] h1))) : W_X0_putK g d av Q n 0 [some (.ref 0), some (.ref a1), some (.int x2), some (.ref a3), none] [] h := by
  refine r_aload_n dX0_putK_0 rfl rfl ?_
  refine m_getF (x := 832) hp fw_X0_411 dX0_putK_1 rfl ly_0 (ff_0_46 ly_0) ?_
  refine k_VV (As := []) (stk := []) hp cv_X0_709 dX0_putK_4 rfl (Nat.le_of_ble_eq_true rfl) (lf_0_46 ly_0) (H.mono (fun h1 H => ?_)) ⟨Nat.le_refl _, Nat.le_refl _⟩
  refine r_aload_n dX0_putK_7 rfl rfl ?_
  refine m_getI hp fw_X0_28 dX0_putK_8 rfl t1 ?_
  refine r_iconst (v := (1 : Int32)) dX0_putK_11 rfl ?_
  refine r_isub dX0_putK_12 ?_
  refine r_istore (ls2 := [some (.ref 0), some (.ref a1), some (.int x2), some (.ref a3), some (.int ((ri h1 a1 3) - (1 : Int32)))]) dX0_putK_13 (by decide) rfl ?_
  exact H
theorem s_X0_putK_15 {g : GX} {d : Nat} {av : List Value} {Q : QT} {n : Nat} {h : Hp} {a1 : Nat} {x2 : Int32} {a3 : Nat} {x4 : Int32} (hp : g.2.2.2.2 = true) (t1 : lay a1 = (0, 4, 4)) (t3 : lay a3 = (0, 4, 4)) (H : ((x4 < (0 : Int32)) → (CallV g m_X4_open d [.ref a3, .int (ri h 832 1), .int (1 : Int32)] n h (fun h1 => (CallV g m_X4_putRow d [.ref a3, .int (0 : Int32), .ref 832] n h1 (fun h2 => (CallV g m_X4_trim d [.ref a3] n h2 (fun h3 => (Q none n h3)))))))) ∧ ((¬ x4 < (0 : Int32)) → (CallV g m_X3_scale d [.ref 832, .int x2] n h (fun h4 => (CallV g m_X4_row d [.ref a1, .int x4, .ref 103] n h4 (fun h5 => (CallV g m_X3_add d [.ref 832, .ref 103, .int (1 : Int32), .int (0 : Int32)] n h5 (fun h6 => (W_X0_putK g d av Q n 15 [some (.ref 0), some (.ref a1), some (.int x2), some (.ref a3), some (.int (x4 + (-1 : Int32)))] [] h6))))))))) : W_X0_putK g d av Q n 15 [some (.ref 0), some (.ref a1), some (.int x2), some (.ref a3), some (.int x4)] [] h := by
  refine r_iload dX0_putK_15 rfl ?_
  refine r_if_lt (tgt := 57) dX0_putK_17 rfl (fun cH => ?_) (fun cH => ?_)
  · replace H := H.1 cH
    refine r_aload_n dX0_putK_57 rfl rfl ?_
    refine r_aload_n dX0_putK_58 rfl rfl ?_
    refine m_getF (x := 832) hp fw_X0_411 dX0_putK_59 rfl ly_0 (ff_0_46 ly_0) ?_
    refine m_getI hp fw_X0_636 dX0_putK_62 rfl (lf_0_46 ly_0) ?_
    refine r_iconst (v := (1 : Int32)) dX0_putK_65 rfl ?_
    refine k_VV (As := [.int (ri h 832 1), .int (1 : Int32)]) (stk := []) hp cv_X0_304 dX0_putK_66 rfl (Nat.le_of_ble_eq_true rfl) t3 (H.mono (fun h1 H => ?_)) ⟨Nat.le_refl _, Nat.le_refl _⟩
    refine r_aload_n dX0_putK_69 rfl rfl ?_
    refine r_iconst (v := (0 : Int32)) dX0_putK_70 rfl ?_
    refine r_aload_n dX0_putK_71 rfl rfl ?_
    refine m_getF (x := 832) hp fw_X0_411 dX0_putK_72 rfl ly_0 (ff_0_46 ly_0) ?_
    refine k_VV (As := [.int (0 : Int32), .ref 832]) (stk := []) hp cv_X0_664 dX0_putK_75 rfl (Nat.le_of_ble_eq_true rfl) t3 (H.mono (fun h2 H => ?_)) ⟨Nat.le_refl _, Nat.le_refl _⟩
    refine r_aload_n dX0_putK_78 rfl rfl ?_
    refine k_VV (As := []) (stk := []) hp cv_X0_611 dX0_putK_79 rfl (Nat.le_of_ble_eq_true rfl) t3 (H.mono (fun h3 H => ?_)) ⟨Nat.le_refl _, Nat.le_refl _⟩
    exact r_vret dX0_putK_82 rfl (Nat.le_refl _) (Nat.le_refl _) H
  · replace H := H.2 cH
    refine r_aload_n dX0_putK_20 rfl rfl ?_
    refine m_getF (x := 832) hp fw_X0_411 dX0_putK_21 rfl ly_0 (ff_0_46 ly_0) ?_
    refine r_iload_n dX0_putK_24 rfl rfl ?_
    refine k_VV (As := [.int x2]) (stk := []) hp cv_X0_697 dX0_putK_25 rfl (Nat.le_of_ble_eq_true rfl) (lf_0_46 ly_0) (H.mono (fun h4 H => ?_)) ⟨Nat.le_refl _, Nat.le_refl _⟩
    refine r_aload_n dX0_putK_28 rfl rfl ?_
    refine r_iload dX0_putK_29 rfl ?_
    refine r_aload_n dX0_putK_31 rfl rfl ?_
    refine m_getF (x := 103) hp fw_X0_361 dX0_putK_32 rfl ly_0 (ff_0_32 ly_0) ?_
    refine k_VV (As := [.int x4, .ref 103]) (stk := []) hp cv_X0_661 dX0_putK_35 rfl (Nat.le_of_ble_eq_true rfl) t1 (H.mono (fun h5 H => ?_)) ⟨Nat.le_refl _, Nat.le_refl _⟩
    refine r_aload_n dX0_putK_38 rfl rfl ?_
    refine m_getF (x := 832) hp fw_X0_411 dX0_putK_39 rfl ly_0 (ff_0_46 ly_0) ?_
    refine r_aload_n dX0_putK_42 rfl rfl ?_
    refine m_getF (x := 103) hp fw_X0_361 dX0_putK_43 rfl ly_0 (ff_0_32 ly_0) ?_
    refine r_iconst (v := (1 : Int32)) dX0_putK_46 rfl ?_
    refine r_iconst (v := (0 : Int32)) dX0_putK_47 rfl ?_
    refine k_VV (As := [.ref 103, .int (1 : Int32), .int (0 : Int32)]) (stk := []) hp cv_X0_689 dX0_putK_48 rfl (Nat.le_of_ble_eq_true rfl) (lf_0_46 ly_0) (H.mono (fun h6 H => ?_)) ⟨Nat.le_refl _, Nat.le_refl _⟩
    refine r_iinc (v := (x4 + (-1 : Int32))) (ls2 := [some (.ref 0), some (.ref a1), some (.int x2), some (.ref a3), some (.int (x4 + (-1 : Int32)))]) dX0_putK_51 rfl rfl (by decide) rfl ?_
    refine r_goto (tgt := 15) dX0_putK_54 rfl ?_
    exact H
abbrev W_X0_derive (g : GX) (d : Nat) (av : List Value) (Q : QT) (n : Nat) (pc : Nat) (ls : LV) (stk : List Value) (h : Hp) : Prop := RJ g m_X0_derive (d + 1) 0 0 av Q pc ls stk n h 0 0
theorem s_X0_derive_0 {g : GX} {d : Nat} {av : List Value} {Q : QT} {n : Nat} {h : Hp} {a1 : Nat} {x2 : Int32} {a3 : Nat} (hp : g.2.2.2.2 = true) (t1 : lay a1 = (0, 4, 4)) (t3 : lay a3 = (0, 4, 4)) (H : CallV g m_X4_open d [.ref a3, .int (ri h a1 2), .int (ri h a1 3)] n h (fun h1 => (W_X0_derive g d av Q n 15 [none, some (.ref a1), some (.int x2), some (.ref a3), some (.int (0 : Int32)), none, none] [] h1))) : W_X0_derive g d av Q n 0 [some (.ref 0), some (.ref a1), some (.int x2), some (.ref a3), none, none, none] [] h := by
  refine r_aload_n dX0_derive_0 rfl rfl ?_
  refine r_aload_n dX0_derive_1 rfl rfl ?_
  refine m_getI hp fw_X0_22 dX0_derive_2 rfl t1 ?_
  refine r_aload_n dX0_derive_5 rfl rfl ?_
  refine m_getI hp fw_X0_28 dX0_derive_6 rfl t1 ?_
  refine k_VV (As := [.int (ri h a1 2), .int (ri h a1 3)]) (stk := []) hp cv_X0_304 dX0_derive_9 rfl (Nat.le_of_ble_eq_true rfl) t3 (H.mono (fun h1 H => ?_)) ⟨Nat.le_refl _, Nat.le_refl _⟩
  refine r_iconst (v := (0 : Int32)) dX0_derive_12 rfl ?_
  refine r_istore (ls2 := [some (.ref 0), some (.ref a1), some (.int x2), some (.ref a3), some (.int (0 : Int32)), none, none]) dX0_derive_13 (by decide) rfl ?_
  refine r_prune [false, true, true, true, true, false, false] (ls2 := [none, some (.ref a1), some (.int x2), some (.ref a3), some (.int (0 : Int32)), none, none]) rfl ?_
  exact H
theorem s_X0_derive_15 {g : GX} {d : Nat} {av : List Value} {Q : QT} {n : Nat} {h : Hp} {a1 : Nat} {x2 : Int32} {a3 : Nat} {x4 : Int32} (hp : g.2.2.2.2 = true) (t1 : lay a1 = (0, 4, 4)) (t3 : lay a3 = (0, 4, 4)) (H : (((ri h a1 3) ≤ x4) → (CallV g m_X4_trim d [.ref a3] n h (fun h1 => (Q none n h1)))) ∧ ((¬ (ri h a1 3) ≤ x4) → (W_X0_derive g d av Q n 27 [none, some (.ref a1), some (.int x2), some (.ref a3), some (.int x4), some (.int (0 : Int32)), none] [] h))) : W_X0_derive g d av Q n 15 [none, some (.ref a1), some (.int x2), some (.ref a3), some (.int x4), none, none] [] h := by
  refine r_iload dX0_derive_15 rfl ?_
  refine r_aload_n dX0_derive_17 rfl rfl ?_
  refine m_getI hp fw_X0_28 dX0_derive_18 rfl t1 ?_
  refine r_icmp_ge (tgt := 127) dX0_derive_21 rfl (fun cH => ?_) (fun cH => ?_)
  · replace H := H.1 cH
    refine r_aload_n dX0_derive_127 rfl rfl ?_
    refine k_VV (As := []) (stk := []) hp cv_X0_611 dX0_derive_128 rfl (Nat.le_of_ble_eq_true rfl) t3 (H.mono (fun h1 H => ?_)) ⟨Nat.le_refl _, Nat.le_refl _⟩
    exact r_vret dX0_derive_131 rfl (Nat.le_refl _) (Nat.le_refl _) H
  · replace H := H.2 cH
    refine r_iconst (v := (0 : Int32)) dX0_derive_24 rfl ?_
    refine r_istore (ls2 := [none, some (.ref a1), some (.int x2), some (.ref a3), some (.int x4), some (.int (0 : Int32)), none]) dX0_derive_25 (by decide) rfl ?_
    exact H
theorem s_X0_derive_27 {g : GX} {d : Nat} {av : List Value} {Q : QT} {n : Nat} {h : Hp} {a1 : Nat} {x2 : Int32} {a3 : Nat} {x4 : Int32} {x5 : Int32} (hp : g.2.2.2.2 = true) (t1 : lay a1 = (0, 4, 4)) (t3 : lay a3 = (0, 4, 4)) (H : (((ri h a1 2) ≤ x5) → (W_X0_derive g d av Q n 15 [none, some (.ref a1), some (.int x2), some (.ref a3), some (.int (x4 + (1 : Int32))), none, none] [] h)) ∧ ((¬ (ri h a1 2) ≤ x5) → (CallI g m_X4_get d [.ref a1, .int x5, .int x4] n h (fun v1 h1 => (((x2 = (0 : Int32)) → (W_X0_derive g d av Q n 82 [none, some (.ref a1), some (.int x2), some (.ref a3), some (.int x4), some (.int x5), some (.int v1)] [] h1)) ∧ ((¬ x2 = (0 : Int32)) → (((x5 ≤ (0 : Int32)) → (W_X0_derive g d av Q n 82 [none, some (.ref a1), some (.int x2), some (.ref a3), some (.int x4), some (.int x5), some (.int v1)] [] h1)) ∧ ((¬ x5 ≤ (0 : Int32)) → (CallI g m_X0_times d [.int v1, .int x5] n h1 (fun v2 h2 => (vp_in (((x4 * (ri h1 a3 0)) + x5) - (1 : Int32)) (rm (a3 + 1)) ∧ ∀ h3, h3 = wi h2 (a3 + 1) ((((x4 * (ri h1 a3 0)) + x5) - (1 : Int32))).toNatClampNeg v2 → (W_X0_derive g d av Q n 115 [none, some (.ref a1), some (.int x2), some (.ref a3), some (.int x4), some (.int x5), none] [] h3)))))))))))) : W_X0_derive g d av Q n 27 [none, some (.ref a1), some (.int x2), some (.ref a3), some (.int x4), some (.int x5), none] [] h := by
  refine r_iload dX0_derive_27 rfl ?_
  refine r_aload_n dX0_derive_29 rfl rfl ?_
  refine m_getI hp fw_X0_22 dX0_derive_30 rfl t1 ?_
  refine r_icmp_ge (tgt := 121) dX0_derive_33 rfl (fun cH => ?_) (fun cH => ?_)
  · replace H := H.1 cH
    refine r_iinc (v := (x4 + (1 : Int32))) (ls2 := [none, some (.ref a1), some (.int x2), some (.ref a3), some (.int (x4 + (1 : Int32))), some (.int x5), none]) dX0_derive_121 rfl rfl (by decide) rfl ?_
    refine r_goto (tgt := 15) dX0_derive_124 rfl ?_
    refine r_prune [false, true, true, true, true, false, false] (ls2 := [none, some (.ref a1), some (.int x2), some (.ref a3), some (.int (x4 + (1 : Int32))), none, none]) rfl ?_
    exact H
  · replace H := H.2 cH
    refine r_aload_n dX0_derive_36 rfl rfl ?_
    refine r_iload dX0_derive_37 rfl ?_
    refine r_iload dX0_derive_39 rfl ?_
    refine k_VI (As := [.int x5, .int x4]) (stk := []) hp cv_X0_183 dX0_derive_41 rfl (Nat.le_of_ble_eq_true rfl) t1 (H.mono (fun v1 h1 H => ?_)) ⟨Nat.le_refl _, Nat.le_refl _⟩
    refine r_istore (ls2 := [none, some (.ref a1), some (.int x2), some (.ref a3), some (.int x4), some (.int x5), some (.int v1)]) dX0_derive_44 (by decide) rfl ?_
    refine r_iload_n dX0_derive_46 rfl rfl ?_
    refine r_if_eq (tgt := 82) dX0_derive_47 rfl (fun cH => ?_) (fun cH => ?_)
    · replace H := H.1 cH
      exact H
    · replace H := H.2 cH
      refine r_iload dX0_derive_50 rfl ?_
      refine r_if_le (tgt := 82) dX0_derive_52 rfl (fun cH => ?_) (fun cH => ?_)
      · replace H := H.1 cH
        exact H
      · replace H := H.2 cH
        refine r_aload_n dX0_derive_55 rfl rfl ?_
        refine m_getF (x := (a3 + 1)) hp fw_X0_288 dX0_derive_56 rfl t3 (ff_4_1 t3) ?_
        refine r_iload dX0_derive_59 rfl ?_
        refine r_aload_n dX0_derive_61 rfl rfl ?_
        refine m_getI hp fw_X0_608 dX0_derive_62 rfl t3 ?_
        refine r_imul dX0_derive_65 ?_
        refine r_iload dX0_derive_66 rfl ?_
        refine r_iadd dX0_derive_68 ?_
        refine r_iconst (v := (1 : Int32)) dX0_derive_69 rfl ?_
        refine r_isub dX0_derive_70 ?_
        refine r_iload dX0_derive_71 rfl ?_
        refine r_iload dX0_derive_73 rfl ?_
        refine k_SI (As := [.int v1, .int x5]) (stk := [.int (((x4 * (ri h1 a3 0)) + x5) - (1 : Int32)), .ref (a3 + 1)]) cs_X0_6 dX0_derive_75 rfl (Nat.le_of_ble_eq_true rfl) (H.mono (fun v2 h2 H => ?_)) ⟨Nat.le_refl _, Nat.le_refl _⟩
        refine m_iast hp dX0_derive_78 (lf_4_1 t3) H.1 (fun h3 eh3 => ?_)
        replace H := H.2 h3 eh3
        refine r_goto (tgt := 115) dX0_derive_79 rfl ?_
        refine r_prune [false, true, true, true, true, true, false] (ls2 := [none, some (.ref a1), some (.int x2), some (.ref a3), some (.int x4), some (.int x5), none]) rfl ?_
        exact H
theorem s_X0_derive_82 {g : GX} {d : Nat} {av : List Value} {Q : QT} {n : Nat} {h : Hp} {a1 : Nat} {x2 : Int32} {a3 : Nat} {x4 : Int32} {x5 : Int32} {x6 : Int32} (hp : g.2.2.2.2 = true) (t1 : lay a1 = (0, 4, 4)) (t3 : lay a3 = (0, 4, 4)) (H : ((¬ x2 = (0 : Int32)) → (W_X0_derive g d av Q n 115 [none, some (.ref a1), some (.int x2), some (.ref a3), some (.int x4), some (.int x5), none] [] h)) ∧ ((x2 = (0 : Int32)) → (((x4 ≤ (0 : Int32)) → (W_X0_derive g d av Q n 115 [none, some (.ref a1), some (.int x2), some (.ref a3), some (.int x4), some (.int x5), none] [] h)) ∧ ((¬ x4 ≤ (0 : Int32)) → (CallI g m_X0_times d [.int x6, .int x4] n h (fun v1 h1 => (vp_in (((x4 - (1 : Int32)) * (ri h a3 0)) + x5) (rm (a3 + 1)) ∧ ∀ h2, h2 = wi h1 (a3 + 1) ((((x4 - (1 : Int32)) * (ri h a3 0)) + x5)).toNatClampNeg v1 → (W_X0_derive g d av Q n 115 [none, some (.ref a1), some (.int x2), some (.ref a3), some (.int x4), some (.int x5), none] [] h2)))))))) : W_X0_derive g d av Q n 82 [none, some (.ref a1), some (.int x2), some (.ref a3), some (.int x4), some (.int x5), some (.int x6)] [] h := by
  refine r_iload_n dX0_derive_82 rfl rfl ?_
  refine r_if_ne (tgt := 115) dX0_derive_83 rfl (fun cH => ?_) (fun cH => ?_)
  · replace H := H.1 cH
    refine r_prune [false, true, true, true, true, true, false] (ls2 := [none, some (.ref a1), some (.int x2), some (.ref a3), some (.int x4), some (.int x5), none]) rfl ?_
    exact H
  · replace H := H.2 cH
    refine r_iload dX0_derive_86 rfl ?_
    refine r_if_le (tgt := 115) dX0_derive_88 rfl (fun cH => ?_) (fun cH => ?_)
    · replace H := H.1 cH
      refine r_prune [false, true, true, true, true, true, false] (ls2 := [none, some (.ref a1), some (.int x2), some (.ref a3), some (.int x4), some (.int x5), none]) rfl ?_
      exact H
    · replace H := H.2 cH
      refine r_aload_n dX0_derive_91 rfl rfl ?_
      refine m_getF (x := (a3 + 1)) hp fw_X0_288 dX0_derive_92 rfl t3 (ff_4_1 t3) ?_
      refine r_iload dX0_derive_95 rfl ?_
      refine r_iconst (v := (1 : Int32)) dX0_derive_97 rfl ?_
      refine r_isub dX0_derive_98 ?_
      refine r_aload_n dX0_derive_99 rfl rfl ?_
      refine m_getI hp fw_X0_608 dX0_derive_100 rfl t3 ?_
      refine r_imul dX0_derive_103 ?_
      refine r_iload dX0_derive_104 rfl ?_
      refine r_iadd dX0_derive_106 ?_
      refine r_iload dX0_derive_107 rfl ?_
      refine r_iload dX0_derive_109 rfl ?_
      refine k_SI (As := [.int x6, .int x4]) (stk := [.int (((x4 - (1 : Int32)) * (ri h a3 0)) + x5), .ref (a3 + 1)]) cs_X0_6 dX0_derive_111 rfl (Nat.le_of_ble_eq_true rfl) (H.mono (fun v1 h1 H => ?_)) ⟨Nat.le_refl _, Nat.le_refl _⟩
      refine m_iast hp dX0_derive_114 (lf_4_1 t3) H.1 (fun h2 eh2 => ?_)
      replace H := H.2 h2 eh2
      refine r_prune [false, true, true, true, true, true, false] (ls2 := [none, some (.ref a1), some (.int x2), some (.ref a3), some (.int x4), some (.int x5), none]) rfl ?_
      exact H
theorem s_X0_derive_115 {g : GX} {d : Nat} {av : List Value} {Q : QT} {n : Nat} {h : Hp} {a1 : Nat} {x2 : Int32} {a3 : Nat} {x4 : Int32} {x5 : Int32} (hp : g.2.2.2.2 = true) (t1 : lay a1 = (0, 4, 4)) (t3 : lay a3 = (0, 4, 4)) (H : W_X0_derive g d av Q n 27 [none, some (.ref a1), some (.int x2), some (.ref a3), some (.int x4), some (.int (x5 + (1 : Int32))), none] [] h) : W_X0_derive g d av Q n 115 [none, some (.ref a1), some (.int x2), some (.ref a3), some (.int x4), some (.int x5), none] [] h := by
  refine r_iinc (v := (x5 + (1 : Int32))) (ls2 := [none, some (.ref a1), some (.int x2), some (.ref a3), some (.int x4), some (.int (x5 + (1 : Int32))), none]) dX0_derive_115 rfl rfl (by decide) rfl ?_
  refine r_goto (tgt := 27) dX0_derive_118 rfl ?_
  exact H
abbrev W_X0_count (g : GX) (d : Nat) (av : List Value) (Q : QT) (n : Nat) (pc : Nat) (ls : LV) (stk : List Value) (h : Hp) : Prop := RJ g m_X0_count d 0 0 av Q pc ls stk n h 0 0
theorem s_X0_count_0 {g : GX} {d : Nat} {av : List Value} {Q : QT} {n : Nat} {h : Hp} {x1 : Int32} (hp : g.2.2.2.2 = true)  (H : W_X0_count g d av Q n 7 [some (.ref 0), some (.int x1), some (.int (0 : Int32)), some (.int (0 : Int32)), some (.int (0 : Int32))] [] h) : W_X0_count g d av Q n 0 [some (.ref 0), some (.int x1), none, none, none] [] h := by
  refine r_iconst (v := (0 : Int32)) dX0_count_0 rfl ?_
  refine r_istore_n (ls2 := [some (.ref 0), some (.int x1), some (.int (0 : Int32)), none, none]) dX0_count_1 rfl (by decide) rfl ?_
  refine r_iconst (v := (0 : Int32)) dX0_count_2 rfl ?_
  refine r_istore_n (ls2 := [some (.ref 0), some (.int x1), some (.int (0 : Int32)), some (.int (0 : Int32)), none]) dX0_count_3 rfl (by decide) rfl ?_
  refine r_iconst (v := (0 : Int32)) dX0_count_4 rfl ?_
  refine r_istore (ls2 := [some (.ref 0), some (.int x1), some (.int (0 : Int32)), some (.int (0 : Int32)), some (.int (0 : Int32))]) dX0_count_5 (by decide) rfl ?_
  exact H
theorem s_X0_count_7 {g : GX} {d : Nat} {av : List Value} {Q : QT} {n : Nat} {h : Hp} {x1 : Int32} {x2 : Int32} {x3 : Int32} {x4 : Int32} (hp : g.2.2.2.2 = true)  (H : (((12 : Int32) ≤ x4) → (((x1).toInt = 0 → (Q (some (.int (ri h 0 12))) n h)) ∧ ((x1).toInt = 1 → (Q (some (.int (ri h 0 25))) n h)) ∧ ((x1).toInt = 2 → (Q (some (.int (ri h 0 69))) n h)) ∧ ((x1).toInt = 3 → (Q (some (.int (ri h 0 73))) n h)) ∧ ((x1).toInt = 4 → (Q (some (.int x2)) n h)) ∧ ((x1).toInt = 5 → (Q (some (.int x3)) n h)) ∧ (((x1).toInt < 0 ∨ 5 < (x1).toInt) → (Q (some (.int (-1 : Int32))) n h)))) ∧ ((¬ (12 : Int32) ≤ x4) → (vp_in x4 12 ∧ ∀ r1, r1 = 1185 + 27 * (x4).toNatClampNeg → ((((ri h r1 0) ≤ (0 : Int32)) → (W_X0_count g d av Q n 33 [some (.ref 0), some (.int x1), none, some (.int x3), some (.int x4)] [.int (0 : Int32), .int x2] h)) ∧ ((¬ (ri h r1 0) ≤ (0 : Int32)) → (W_X0_count g d av Q n 33 [some (.ref 0), some (.int x1), none, some (.int x3), some (.int x4)] [.int (1 : Int32), .int x2] h)))))) : W_X0_count g d av Q n 7 [some (.ref 0), some (.int x1), some (.int x2), some (.int x3), some (.int x4)] [] h := by
  refine r_iload dX0_count_7 rfl ?_
  refine r_bipush (v := (12 : Int32)) dX0_count_9 rfl ?_
  refine r_icmp_ge (tgt := 63) dX0_count_11 rfl (fun cH => ?_) (fun cH => ?_)
  · replace H := H.1 cH
    refine r_iload_n dX0_count_63 rfl rfl ?_
    by_cases c0 : (x1).toInt = 0
    · replace H := H.1 c0
      refine r_tableIn (tgt := 104) dX0_count_64 (by omega) (by omega) (by rw [c0]; rfl) rfl ?_
      refine r_aload_n dX0_count_104 rfl rfl ?_
      refine m_getI hp fw_X0_204 dX0_count_105 rfl ly_0 ?_
      exact r_zret dX0_count_108 rfl rfl (Nat.le_refl _) (Nat.le_refl _) H
    by_cases c1 : (x1).toInt = 1
    · replace H := H.2.1 c1
      refine r_tableIn (tgt := 109) dX0_count_64 (by omega) (by omega) (by rw [c1]; rfl) rfl ?_
      refine r_aload_n dX0_count_109 rfl rfl ?_
      refine m_getI hp fw_X0_566 dX0_count_110 rfl ly_0 ?_
      exact r_zret dX0_count_113 rfl rfl (Nat.le_refl _) (Nat.le_refl _) H
    by_cases c2 : (x1).toInt = 2
    · replace H := H.2.2.1 c2
      refine r_tableIn (tgt := 114) dX0_count_64 (by omega) (by omega) (by rw [c2]; rfl) rfl ?_
      refine r_aload_n dX0_count_114 rfl rfl ?_
      refine m_getI hp fw_X0_854 dX0_count_115 rfl ly_0 ?_
      exact r_zret dX0_count_118 rfl rfl (Nat.le_refl _) (Nat.le_refl _) H
    by_cases c3 : (x1).toInt = 3
    · replace H := H.2.2.2.1 c3
      refine r_tableIn (tgt := 119) dX0_count_64 (by omega) (by omega) (by rw [c3]; rfl) rfl ?_
      refine r_aload_n dX0_count_119 rfl rfl ?_
      refine m_getI hp fw_X0_873 dX0_count_120 rfl ly_0 ?_
      exact r_zret dX0_count_123 rfl rfl (Nat.le_refl _) (Nat.le_refl _) H
    by_cases c4 : (x1).toInt = 4
    · replace H := H.2.2.2.2.1 c4
      refine r_tableIn (tgt := 124) dX0_count_64 (by omega) (by omega) (by rw [c4]; rfl) rfl ?_
      refine r_iload_n dX0_count_124 rfl rfl ?_
      exact r_zret dX0_count_125 rfl rfl (Nat.le_refl _) (Nat.le_refl _) H
    by_cases c5 : (x1).toInt = 5
    · replace H := H.2.2.2.2.2.1 c5
      refine r_tableIn (tgt := 126) dX0_count_64 (by omega) (by omega) (by rw [c5]; rfl) rfl ?_
      refine r_iload_n dX0_count_126 rfl rfl ?_
      exact r_zret dX0_count_127 rfl rfl (Nat.le_refl _) (Nat.le_refl _) H
    have cD : (x1).toInt < 0 ∨ 5 < (x1).toInt := by omega
    replace H := H.2.2.2.2.2.2 cD
    refine r_tableOut (tgt := 128) dX0_count_64 cD rfl ?_
    refine r_iconst (v := (-1 : Int32)) dX0_count_128 rfl ?_
    exact r_zret dX0_count_129 rfl rfl (Nat.le_refl _) (Nat.le_refl _) H
  · replace H := H.2 cH
    refine r_iload_n dX0_count_14 rfl rfl ?_
    refine r_aload_n dX0_count_15 rfl rfl ?_
    refine m_getF (x := 79) hp fw_X0_326 dX0_count_16 rfl ly_0 (ff_0_20 ly_0) ?_
    refine r_iload dX0_count_19 rfl ?_
    obtain ⟨r1, er1⟩ : ∃ y, y = 1185 + 27 * (x4).toNatClampNeg := ⟨_, rfl⟩
    have hir1 := H.1
    replace H := H.2 r1 er1
    have tLr1 := la_79 hir1 er1
    refine m_aalF (x := r1) hp dX0_count_21 (lf_0_20 ly_0) rfl rfl (lu_0_20 ly_0) hir1 (fa_79 hir1 er1) ?_
    refine m_getI hp fw_X0_509 dX0_count_22 rfl tLr1 ?_
    refine r_if_le (tgt := 32) dX0_count_25 rfl (fun cH => ?_) (fun cH => ?_)
    · replace H := H.1 cH
      refine r_iconst (v := (0 : Int32)) dX0_count_32 rfl ?_
      refine r_prune [true, true, false, true, true] (ls2 := [some (.ref 0), some (.int x1), none, some (.int x3), some (.int x4)]) rfl ?_
      exact H
    · replace H := H.2 cH
      refine r_iconst (v := (1 : Int32)) dX0_count_28 rfl ?_
      refine r_goto (tgt := 33) dX0_count_29 rfl ?_
      refine r_prune [true, true, false, true, true] (ls2 := [some (.ref 0), some (.int x1), none, some (.int x3), some (.int x4)]) rfl ?_
      exact H
theorem s_X0_count_33 {g : GX} {d : Nat} {av : List Value} {Q : QT} {n : Nat} {h : Hp} {x1 : Int32} {x3 : Int32} {x4 : Int32} {xs0 : Int32} {xs1 : Int32} (hp : g.2.2.2.2 = true)  (H : vp_in x4 12 ∧ ∀ r1, r1 = 1185 + 27 * (x4).toNatClampNeg → (((¬ (ri h r1 0) = (3 : Int32)) → (W_X0_count g d av Q n 55 [some (.ref 0), some (.int x1), some (.int (xs1 + xs0)), none, some (.int x4)] [.int (0 : Int32), .int x3] h)) ∧ (((ri h r1 0) = (3 : Int32)) → (W_X0_count g d av Q n 55 [some (.ref 0), some (.int x1), some (.int (xs1 + xs0)), none, some (.int x4)] [.int (1 : Int32), .int x3] h)))) : W_X0_count g d av Q n 33 [some (.ref 0), some (.int x1), none, some (.int x3), some (.int x4)] [.int xs0, .int xs1] h := by
  refine r_iadd dX0_count_33 ?_
  refine r_istore_n (ls2 := [some (.ref 0), some (.int x1), some (.int (xs1 + xs0)), some (.int x3), some (.int x4)]) dX0_count_34 rfl (by decide) rfl ?_
  refine r_iload_n dX0_count_35 rfl rfl ?_
  refine r_aload_n dX0_count_36 rfl rfl ?_
  refine m_getF (x := 79) hp fw_X0_326 dX0_count_37 rfl ly_0 (ff_0_20 ly_0) ?_
  refine r_iload dX0_count_40 rfl ?_
  obtain ⟨r1, er1⟩ : ∃ y, y = 1185 + 27 * (x4).toNatClampNeg := ⟨_, rfl⟩
  have hir1 := H.1
  replace H := H.2 r1 er1
  have tLr1 := la_79 hir1 er1
  refine m_aalF (x := r1) hp dX0_count_42 (lf_0_20 ly_0) rfl rfl (lu_0_20 ly_0) hir1 (fa_79 hir1 er1) ?_
  refine m_getI hp fw_X0_509 dX0_count_43 rfl tLr1 ?_
  refine r_iconst (v := (3 : Int32)) dX0_count_46 rfl ?_
  refine r_icmp_ne (tgt := 54) dX0_count_47 rfl (fun cH => ?_) (fun cH => ?_)
  · replace H := H.1 cH
    refine r_iconst (v := (0 : Int32)) dX0_count_54 rfl ?_
    refine r_prune [true, true, true, false, true] (ls2 := [some (.ref 0), some (.int x1), some (.int (xs1 + xs0)), none, some (.int x4)]) rfl ?_
    exact H
  · replace H := H.2 cH
    refine r_iconst (v := (1 : Int32)) dX0_count_50 rfl ?_
    refine r_goto (tgt := 55) dX0_count_51 rfl ?_
    refine r_prune [true, true, true, false, true] (ls2 := [some (.ref 0), some (.int x1), some (.int (xs1 + xs0)), none, some (.int x4)]) rfl ?_
    exact H
theorem s_X0_count_55 {g : GX} {d : Nat} {av : List Value} {Q : QT} {n : Nat} {h : Hp} {x1 : Int32} {x2 : Int32} {x4 : Int32} {xs0 : Int32} {xs1 : Int32} (hp : g.2.2.2.2 = true)  (H : W_X0_count g d av Q n 7 [some (.ref 0), some (.int x1), some (.int x2), some (.int (xs1 + xs0)), some (.int (x4 + (1 : Int32)))] [] h) : W_X0_count g d av Q n 55 [some (.ref 0), some (.int x1), some (.int x2), none, some (.int x4)] [.int xs0, .int xs1] h := by
  refine r_iadd dX0_count_55 ?_
  refine r_istore_n (ls2 := [some (.ref 0), some (.int x1), some (.int x2), some (.int (xs1 + xs0)), some (.int x4)]) dX0_count_56 rfl (by decide) rfl ?_
  refine r_iinc (v := (x4 + (1 : Int32))) (ls2 := [some (.ref 0), some (.int x1), some (.int x2), some (.int (xs1 + xs0)), some (.int (x4 + (1 : Int32)))]) dX0_count_57 rfl rfl (by decide) rfl ?_
  refine r_goto (tgt := 7) dX0_count_60 rfl ?_
  exact H
