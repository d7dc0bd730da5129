set_option maxRecDepth 100000
theorem dX1_common_0 : decode cX1_common 0 = .ok (.aload_n 1, 1) := by decide +kernel
theorem dX1_common_1 : decode cX1_common 1 = .ok (.invokevirtual 116, 3) := by decide +kernel
theorem dX1_common_4 : decode cX1_common 4 = .ok (.ifCond .ne 10, 3) := by decide +kernel
theorem dX1_common_7 : decode cX1_common 7 = .ok (.aload_n 2, 1) := by decide +kernel
theorem dX1_common_8 : decode cX1_common 8 = .ok (.invokevirtual 116, 3) := by decide +kernel
theorem dX1_common_11 : decode cX1_common 11 = .ok (.ifCond .eq 25, 3) := by decide +kernel
theorem dX1_common_14 : decode cX1_common 14 = .ok (.aload_n 3, 1) := by decide +kernel
theorem dX1_common_15 : decode cX1_common 15 = .ok (.aload_n 1, 1) := by decide +kernel
theorem dX1_common_16 : decode cX1_common 16 = .ok (.invokevirtual 116, 3) := by decide +kernel
theorem dX1_common_19 : decode cX1_common 19 = .ok (.ifCond .eq 7, 3) := by decide +kernel
theorem dX1_common_22 : decode cX1_common 22 = .ok (.aload_n 2, 1) := by decide +kernel
theorem dX1_common_23 : decode cX1_common 23 = .ok (.goto 4, 3) := by decide +kernel
theorem dX1_common_26 : decode cX1_common 26 = .ok (.aload_n 1, 1) := by decide +kernel
theorem dX1_common_27 : decode cX1_common 27 = .ok (.invokevirtual 124, 3) := by decide +kernel
theorem dX1_common_30 : decode cX1_common 30 = .ok (.aload_n 0, 1) := by decide +kernel
theorem dX1_common_31 : decode cX1_common 31 = .ok (.aload_n 3, 1) := by decide +kernel
theorem dX1_common_32 : decode cX1_common 32 = .ok (.invokevirtual 154, 3) := by decide +kernel
theorem dX1_common_35 : decode cX1_common 35 = .ok (.return_, 1) := by decide +kernel
theorem dX1_common_36 : decode cX1_common 36 = .ok (.aload_n 0, 1) := by decide +kernel
theorem dX1_common_37 : decode cX1_common 37 = .ok (.getfield 48, 3) := by decide +kernel
theorem dX1_common_40 : decode cX1_common 40 = .ok (.aload_n 1, 1) := by decide +kernel
theorem dX1_common_41 : decode cX1_common 41 = .ok (.invokevirtual 124, 3) := by decide +kernel
theorem dX1_common_44 : decode cX1_common 44 = .ok (.aload_n 0, 1) := by decide +kernel
theorem dX1_common_45 : decode cX1_common 45 = .ok (.getfield 52, 3) := by decide +kernel
theorem dX1_common_48 : decode cX1_common 48 = .ok (.aload_n 2, 1) := by decide +kernel
theorem dX1_common_49 : decode cX1_common 49 = .ok (.invokevirtual 124, 3) := by decide +kernel
theorem dX1_common_52 : decode cX1_common 52 = .ok (.aload_n 0, 1) := by decide +kernel
theorem dX1_common_53 : decode cX1_common 53 = .ok (.aload_n 0, 1) := by decide +kernel
theorem dX1_common_54 : decode cX1_common 54 = .ok (.getfield 48, 3) := by decide +kernel
theorem dX1_common_57 : decode cX1_common 57 = .ok (.aload_n 0, 1) := by decide +kernel
theorem dX1_common_58 : decode cX1_common 58 = .ok (.getfield 31, 3) := by decide +kernel
theorem dX1_common_61 : decode cX1_common 61 = .ok (.invokevirtual 157, 3) := by decide +kernel
theorem dX1_common_64 : decode cX1_common 64 = .ok (.aload_n 0, 1) := by decide +kernel
theorem dX1_common_65 : decode cX1_common 65 = .ok (.aload_n 0, 1) := by decide +kernel
theorem dX1_common_66 : decode cX1_common 66 = .ok (.getfield 52, 3) := by decide +kernel
theorem dX1_common_69 : decode cX1_common 69 = .ok (.aload_n 0, 1) := by decide +kernel
theorem dX1_common_70 : decode cX1_common 70 = .ok (.getfield 28, 3) := by decide +kernel
theorem dX1_common_73 : decode cX1_common 73 = .ok (.invokevirtual 157, 3) := by decide +kernel
theorem dX1_common_76 : decode cX1_common 76 = .ok (.aload_n 0, 1) := by decide +kernel
theorem dX1_common_77 : decode cX1_common 77 = .ok (.getfield 14, 3) := by decide +kernel
theorem dX1_common_80 : decode cX1_common 80 = .ok (.aload_n 0, 1) := by decide +kernel
theorem dX1_common_81 : decode cX1_common 81 = .ok (.getfield 31, 3) := by decide +kernel
theorem dX1_common_84 : decode cX1_common 84 = .ok (.aload_n 0, 1) := by decide +kernel
theorem dX1_common_85 : decode cX1_common 85 = .ok (.getfield 28, 3) := by decide +kernel
theorem dX1_common_88 : decode cX1_common 88 = .ok (.aload_n 0, 1) := by decide +kernel
theorem dX1_common_89 : decode cX1_common 89 = .ok (.getfield 31, 3) := by decide +kernel
theorem dX1_common_92 : decode cX1_common 92 = .ok (.invokevirtual 95, 3) := by decide +kernel
theorem dX1_common_95 : decode cX1_common 95 = .ok (.aload_n 0, 1) := by decide +kernel
theorem dX1_common_96 : decode cX1_common 96 = .ok (.getfield 48, 3) := by decide +kernel
theorem dX1_common_99 : decode cX1_common 99 = .ok (.getfield 84, 3) := by decide +kernel
theorem dX1_common_102 : decode cX1_common 102 = .ok (.iconst 1, 1) := by decide +kernel
theorem dX1_common_103 : decode cX1_common 103 = .ok (.if_icmp .le 44, 3) := by decide +kernel
theorem dX1_common_106 : decode cX1_common 106 = .ok (.aload_n 0, 1) := by decide +kernel
theorem dX1_common_107 : decode cX1_common 107 = .ok (.getfield 52, 3) := by decide +kernel
theorem dX1_common_110 : decode cX1_common 110 = .ok (.getfield 84, 3) := by decide +kernel
theorem dX1_common_113 : decode cX1_common 113 = .ok (.iconst 1, 1) := by decide +kernel
theorem dX1_common_114 : decode cX1_common 114 = .ok (.if_icmp .le 33, 3) := by decide +kernel
theorem dX1_common_117 : decode cX1_common 117 = .ok (.aload_n 0, 1) := by decide +kernel
theorem dX1_common_118 : decode cX1_common 118 = .ok (.invokevirtual 160, 3) := by decide +kernel
theorem dX1_common_121 : decode cX1_common 121 = .ok (.ifCond .eq 26, 3) := by decide +kernel
theorem dX1_common_124 : decode cX1_common 124 = .ok (.aload_n 3, 1) := by decide +kernel
theorem dX1_common_125 : decode cX1_common 125 = .ok (.aload_n 0, 1) := by decide +kernel
theorem dX1_common_126 : decode cX1_common 126 = .ok (.getfield 55, 3) := by decide +kernel
theorem dX1_common_129 : decode cX1_common 129 = .ok (.invokevirtual 124, 3) := by decide +kernel
theorem dX1_common_132 : decode cX1_common 132 = .ok (.aload_n 3, 1) := by decide +kernel
theorem dX1_common_133 : decode cX1_common 133 = .ok (.aload_n 0, 1) := by decide +kernel
theorem dX1_common_134 : decode cX1_common 134 = .ok (.getfield 31, 3) := by decide +kernel
theorem dX1_common_137 : decode cX1_common 137 = .ok (.aload_n 0, 1) := by decide +kernel
theorem dX1_common_138 : decode cX1_common 138 = .ok (.getfield 64, 3) := by decide +kernel
theorem dX1_common_141 : decode cX1_common 141 = .ok (.invokevirtual 163, 3) := by decide +kernel
theorem dX1_common_144 : decode cX1_common 144 = .ok (.goto 24, 3) := by decide +kernel
theorem dX1_common_147 : decode cX1_common 147 = .ok (.aload_n 3, 1) := by decide +kernel
theorem dX1_common_148 : decode cX1_common 148 = .ok (.aload_n 0, 1) := by decide +kernel
theorem dX1_common_149 : decode cX1_common 149 = .ok (.getfield 31, 3) := by decide +kernel
theorem dX1_common_152 : decode cX1_common 152 = .ok (.getfield 88, 3) := by decide +kernel
theorem dX1_common_155 : decode cX1_common 155 = .ok (.iconst 1, 1) := by decide +kernel
theorem dX1_common_156 : decode cX1_common 156 = .ok (.invokevirtual 131, 3) := by decide +kernel
theorem dX1_common_159 : decode cX1_common 159 = .ok (.aload_n 3, 1) := by decide +kernel
theorem dX1_common_160 : decode cX1_common 160 = .ok (.iconst 0, 1) := by decide +kernel
theorem dX1_common_161 : decode cX1_common 161 = .ok (.aload_n 0, 1) := by decide +kernel
theorem dX1_common_162 : decode cX1_common 162 = .ok (.getfield 31, 3) := by decide +kernel
theorem dX1_common_165 : decode cX1_common 165 = .ok (.invokevirtual 106, 3) := by decide +kernel
theorem dX1_common_168 : decode cX1_common 168 = .ok (.aload_n 0, 1) := by decide +kernel
theorem dX1_common_169 : decode cX1_common 169 = .ok (.aload_n 3, 1) := by decide +kernel
theorem dX1_common_170 : decode cX1_common 170 = .ok (.invokevirtual 154, 3) := by decide +kernel
theorem dX1_common_173 : decode cX1_common 173 = .ok (.return_, 1) := by decide +kernel
theorem dX1_makeHead_0 : decode cX1_makeHead 0 = .ok (.aload_n 1, 1) := by decide +kernel
theorem dX1_makeHead_1 : decode cX1_makeHead 1 = .ok (.invokevirtual 116, 3) := by decide +kernel
theorem dX1_makeHead_4 : decode cX1_makeHead 4 = .ok (.ifCond .ne 22, 3) := by decide +kernel
theorem dX1_makeHead_7 : decode cX1_makeHead 7 = .ok (.aload_n 1, 1) := by decide +kernel
theorem dX1_makeHead_8 : decode cX1_makeHead 8 = .ok (.invokevirtual 167, 3) := by decide +kernel
theorem dX1_makeHead_11 : decode cX1_makeHead 11 = .ok (.iconst 1, 1) := by decide +kernel
theorem dX1_makeHead_12 : decode cX1_makeHead 12 = .ok (.if_icmp .eq 14, 3) := by decide +kernel
theorem dX1_makeHead_15 : decode cX1_makeHead 15 = .ok (.aload_n 1, 1) := by decide +kernel
theorem dX1_makeHead_16 : decode cX1_makeHead 16 = .ok (.aload_n 1, 1) := by decide +kernel
theorem dX1_makeHead_17 : decode cX1_makeHead 17 = .ok (.invokevirtual 167, 3) := by decide +kernel
theorem dX1_makeHead_20 : decode cX1_makeHead 20 = .ok (.invokestatic 171, 3) := by decide +kernel
theorem dX1_makeHead_23 : decode cX1_makeHead 23 = .ok (.invokevirtual 175, 3) := by decide +kernel
theorem dX1_makeHead_26 : decode cX1_makeHead 26 = .ok (.return_, 1) := by decide +kernel
theorem dX1_primitive_0 : decode cX1_primitive 0 = .ok (.aload_n 0, 1) := by decide +kernel
theorem dX1_primitive_1 : decode cX1_primitive 1 = .ok (.aload_n 1, 1) := by decide +kernel
theorem dX1_primitive_2 : decode cX1_primitive 2 = .ok (.aload_n 2, 1) := by decide +kernel
theorem dX1_primitive_3 : decode cX1_primitive 3 = .ok (.invokevirtual 112, 3) := by decide +kernel
theorem dX1_primitive_6 : decode cX1_primitive 6 = .ok (.aload_n 1, 1) := by decide +kernel
theorem dX1_primitive_7 : decode cX1_primitive 7 = .ok (.invokevirtual 116, 3) := by decide +kernel
theorem dX1_primitive_10 : decode cX1_primitive 10 = .ok (.ifCond .ne 9, 3) := by decide +kernel
theorem dX1_primitive_13 : decode cX1_primitive 13 = .ok (.aload_n 0, 1) := by decide +kernel
theorem dX1_primitive_14 : decode cX1_primitive 14 = .ok (.aload_n 1, 1) := by decide +kernel
theorem dX1_primitive_15 : decode cX1_primitive 15 = .ok (.aload_n 2, 1) := by decide +kernel
theorem dX1_primitive_16 : decode cX1_primitive 16 = .ok (.invokevirtual 120, 3) := by decide +kernel
theorem dX1_primitive_19 : decode cX1_primitive 19 = .ok (.return_, 1) := by decide +kernel
theorem dX1_content_0 : decode cX1_content 0 = .ok (.aload_n 2, 1) := by decide +kernel
theorem dX1_content_1 : decode cX1_content 1 = .ok (.invokevirtual 81, 3) := by decide +kernel
theorem dX1_content_4 : decode cX1_content 4 = .ok (.iconst 0, 1) := by decide +kernel
theorem dX1_content_5 : decode cX1_content 5 = .ok (.istore_n 3, 1) := by decide +kernel
theorem dX1_content_6 : decode cX1_content 6 = .ok (.iload_n 3, 1) := by decide +kernel
theorem dX1_content_7 : decode cX1_content 7 = .ok (.aload_n 1, 1) := by decide +kernel
theorem dX1_content_8 : decode cX1_content 8 = .ok (.getfield 84, 3) := by decide +kernel
theorem dX1_content_11 : decode cX1_content 11 = .ok (.if_icmp .ge 39, 3) := by decide +kernel
theorem dX1_content_14 : decode cX1_content 14 = .ok (.aload_n 2, 1) := by decide +kernel
theorem dX1_content_15 : decode cX1_content 15 = .ok (.getfield 88, 3) := by decide +kernel
theorem dX1_content_18 : decode cX1_content 18 = .ok (.iconst 1, 1) := by decide +kernel
theorem dX1_content_19 : decode cX1_content 19 = .ok (.if_icmp .eq 31, 3) := by decide +kernel
theorem dX1_content_22 : decode cX1_content 22 = .ok (.aload_n 1, 1) := by decide +kernel
theorem dX1_content_23 : decode cX1_content 23 = .ok (.iload_n 3, 1) := by decide +kernel
theorem dX1_content_24 : decode cX1_content 24 = .ok (.aload_n 0, 1) := by decide +kernel
theorem dX1_content_25 : decode cX1_content 25 = .ok (.getfield 21, 3) := by decide +kernel
theorem dX1_content_28 : decode cX1_content 28 = .ok (.invokevirtual 91, 3) := by decide +kernel
theorem dX1_content_31 : decode cX1_content 31 = .ok (.aload_n 0, 1) := by decide +kernel
theorem dX1_content_32 : decode cX1_content 32 = .ok (.getfield 14, 3) := by decide +kernel
theorem dX1_content_35 : decode cX1_content 35 = .ok (.aload_n 2, 1) := by decide +kernel
theorem dX1_content_36 : decode cX1_content 36 = .ok (.aload_n 0, 1) := by decide +kernel
theorem dX1_content_37 : decode cX1_content 37 = .ok (.getfield 21, 3) := by decide +kernel
theorem dX1_content_40 : decode cX1_content 40 = .ok (.aload_n 2, 1) := by decide +kernel
theorem dX1_content_41 : decode cX1_content 41 = .ok (.invokevirtual 95, 3) := by decide +kernel
theorem dX1_content_44 : decode cX1_content 44 = .ok (.iinc 3 1, 3) := by decide +kernel
theorem dX1_content_47 : decode cX1_content 47 = .ok (.goto (-41), 3) := by decide +kernel
theorem dX1_content_50 : decode cX1_content 50 = .ok (.return_, 1) := by decide +kernel
theorem dX1_divideRows_0 : decode cX1_divideRows 0 = .ok (.aload_n 2, 1) := by decide +kernel
theorem dX1_divideRows_1 : decode cX1_divideRows 1 = .ok (.getfield 88, 3) := by decide +kernel
theorem dX1_divideRows_4 : decode cX1_divideRows 4 = .ok (.iconst 1, 1) := by decide +kernel
theorem dX1_divideRows_5 : decode cX1_divideRows 5 = .ok (.if_icmp .ne 14, 3) := by decide +kernel
theorem dX1_divideRows_8 : decode cX1_divideRows 8 = .ok (.aload_n 2, 1) := by decide +kernel
theorem dX1_divideRows_9 : decode cX1_divideRows 9 = .ok (.getfield 99, 3) := by decide +kernel
theorem dX1_divideRows_12 : decode cX1_divideRows 12 = .ok (.iconst 0, 1) := by decide +kernel
theorem dX1_divideRows_13 : decode cX1_divideRows 13 = .ok (.iaload, 1) := by decide +kernel
theorem dX1_divideRows_14 : decode cX1_divideRows 14 = .ok (.iconst 1, 1) := by decide +kernel
theorem dX1_divideRows_15 : decode cX1_divideRows 15 = .ok (.if_icmp .ne 4, 3) := by decide +kernel
theorem dX1_divideRows_18 : decode cX1_divideRows 18 = .ok (.return_, 1) := by decide +kernel
theorem dX1_divideRows_19 : decode cX1_divideRows 19 = .ok (.iconst 0, 1) := by decide +kernel
theorem dX1_divideRows_20 : decode cX1_divideRows 20 = .ok (.istore_n 3, 1) := by decide +kernel
theorem dX1_divideRows_21 : decode cX1_divideRows 21 = .ok (.iload_n 3, 1) := by decide +kernel
theorem dX1_divideRows_22 : decode cX1_divideRows 22 = .ok (.aload_n 1, 1) := by decide +kernel
theorem dX1_divideRows_23 : decode cX1_divideRows 23 = .ok (.getfield 84, 3) := by decide +kernel
theorem dX1_divideRows_26 : decode cX1_divideRows 26 = .ok (.if_icmp .ge 39, 3) := by decide +kernel
theorem dX1_divideRows_29 : decode cX1_divideRows 29 = .ok (.aload_n 1, 1) := by decide +kernel
theorem dX1_divideRows_30 : decode cX1_divideRows 30 = .ok (.iload_n 3, 1) := by decide +kernel
theorem dX1_divideRows_31 : decode cX1_divideRows 31 = .ok (.aload_n 0, 1) := by decide +kernel
theorem dX1_divideRows_32 : decode cX1_divideRows 32 = .ok (.getfield 21, 3) := by decide +kernel
theorem dX1_divideRows_35 : decode cX1_divideRows 35 = .ok (.invokevirtual 91, 3) := by decide +kernel
theorem dX1_divideRows_38 : decode cX1_divideRows 38 = .ok (.aload_n 0, 1) := by decide +kernel
theorem dX1_divideRows_39 : decode cX1_divideRows 39 = .ok (.getfield 14, 3) := by decide +kernel
theorem dX1_divideRows_42 : decode cX1_divideRows 42 = .ok (.aload_n 0, 1) := by decide +kernel
theorem dX1_divideRows_43 : decode cX1_divideRows 43 = .ok (.getfield 21, 3) := by decide +kernel
theorem dX1_divideRows_46 : decode cX1_divideRows 46 = .ok (.aload_n 2, 1) := by decide +kernel
theorem dX1_divideRows_47 : decode cX1_divideRows 47 = .ok (.invokevirtual 102, 3) := by decide +kernel
theorem dX1_divideRows_50 : decode cX1_divideRows 50 = .ok (.aload_n 1, 1) := by decide +kernel
theorem dX1_divideRows_51 : decode cX1_divideRows 51 = .ok (.iload_n 3, 1) := by decide +kernel
theorem dX1_divideRows_52 : decode cX1_divideRows 52 = .ok (.aload_n 0, 1) := by decide +kernel
theorem dX1_divideRows_53 : decode cX1_divideRows 53 = .ok (.getfield 21, 3) := by decide +kernel
theorem dX1_divideRows_56 : decode cX1_divideRows 56 = .ok (.invokevirtual 106, 3) := by decide +kernel
theorem dX1_divideRows_59 : decode cX1_divideRows 59 = .ok (.iinc 3 1, 3) := by decide +kernel
theorem dX1_divideRows_62 : decode cX1_divideRows 62 = .ok (.goto (-41), 3) := by decide +kernel
theorem dX1_divideRows_65 : decode cX1_divideRows 65 = .ok (.aload_n 1, 1) := by decide +kernel
theorem dX1_divideRows_66 : decode cX1_divideRows 66 = .ok (.invokevirtual 109, 3) := by decide +kernel
theorem dX1_divideRows_69 : decode cX1_divideRows 69 = .ok (.return_, 1) := by decide +kernel
theorem dX1_alongK_0 : decode cX1_alongK 0 = .ok (.aload_n 0, 1) := by decide +kernel
theorem dX1_alongK_1 : decode cX1_alongK 1 = .ok (.getfield 48, 3) := by decide +kernel
theorem dX1_alongK_4 : decode cX1_alongK 4 = .ok (.aload_n 0, 1) := by decide +kernel
theorem dX1_alongK_5 : decode cX1_alongK 5 = .ok (.getfield 48, 3) := by decide +kernel
theorem dX1_alongK_8 : decode cX1_alongK 8 = .ok (.getfield 84, 3) := by decide +kernel
theorem dX1_alongK_11 : decode cX1_alongK 11 = .ok (.iconst 1, 1) := by decide +kernel
theorem dX1_alongK_12 : decode cX1_alongK 12 = .ok (.isub, 1) := by decide +kernel
theorem dX1_alongK_13 : decode cX1_alongK 13 = .ok (.aload_n 0, 1) := by decide +kernel
theorem dX1_alongK_14 : decode cX1_alongK 14 = .ok (.getfield 21, 3) := by decide +kernel
theorem dX1_alongK_17 : decode cX1_alongK 17 = .ok (.invokevirtual 91, 3) := by decide +kernel
theorem dX1_alongK_20 : decode cX1_alongK 20 = .ok (.aload_n 0, 1) := by decide +kernel
theorem dX1_alongK_21 : decode cX1_alongK 21 = .ok (.getfield 52, 3) := by decide +kernel
theorem dX1_alongK_24 : decode cX1_alongK 24 = .ok (.aload_n 0, 1) := by decide +kernel
theorem dX1_alongK_25 : decode cX1_alongK 25 = .ok (.getfield 52, 3) := by decide +kernel
theorem dX1_alongK_28 : decode cX1_alongK 28 = .ok (.getfield 84, 3) := by decide +kernel
theorem dX1_alongK_31 : decode cX1_alongK 31 = .ok (.iconst 1, 1) := by decide +kernel
theorem dX1_alongK_32 : decode cX1_alongK 32 = .ok (.isub, 1) := by decide +kernel
theorem dX1_alongK_33 : decode cX1_alongK 33 = .ok (.aload_n 0, 1) := by decide +kernel
theorem dX1_alongK_34 : decode cX1_alongK 34 = .ok (.getfield 25, 3) := by decide +kernel
theorem dX1_alongK_37 : decode cX1_alongK 37 = .ok (.invokevirtual 91, 3) := by decide +kernel
theorem dX1_alongK_40 : decode cX1_alongK 40 = .ok (.aload_n 0, 1) := by decide +kernel
theorem dX1_alongK_41 : decode cX1_alongK 41 = .ok (.getfield 14, 3) := by decide +kernel
theorem dX1_alongK_44 : decode cX1_alongK 44 = .ok (.aload_n 0, 1) := by decide +kernel
theorem dX1_alongK_45 : decode cX1_alongK 45 = .ok (.getfield 21, 3) := by decide +kernel
theorem dX1_alongK_48 : decode cX1_alongK 48 = .ok (.aload_n 0, 1) := by decide +kernel
theorem dX1_alongK_49 : decode cX1_alongK 49 = .ok (.getfield 25, 3) := by decide +kernel
theorem dX1_alongK_52 : decode cX1_alongK 52 = .ok (.aload_n 0, 1) := by decide +kernel
theorem dX1_alongK_53 : decode cX1_alongK 53 = .ok (.getfield 28, 3) := by decide +kernel
theorem dX1_alongK_56 : decode cX1_alongK 56 = .ok (.invokevirtual 95, 3) := by decide +kernel
theorem dX1_alongK_59 : decode cX1_alongK 59 = .ok (.aload_n 0, 1) := by decide +kernel
theorem dX1_alongK_60 : decode cX1_alongK 60 = .ok (.getfield 48, 3) := by decide +kernel
theorem dX1_alongK_63 : decode cX1_alongK 63 = .ok (.getfield 128, 3) := by decide +kernel
theorem dX1_alongK_66 : decode cX1_alongK 66 = .ok (.aload_n 0, 1) := by decide +kernel
theorem dX1_alongK_67 : decode cX1_alongK 67 = .ok (.getfield 52, 3) := by decide +kernel
theorem dX1_alongK_70 : decode cX1_alongK 70 = .ok (.getfield 128, 3) := by decide +kernel
theorem dX1_alongK_73 : decode cX1_alongK 73 = .ok (.invokestatic 178, 3) := by decide +kernel
theorem dX1_alongK_76 : decode cX1_alongK 76 = .ok (.aload_n 0, 1) := by decide +kernel
theorem dX1_alongK_77 : decode cX1_alongK 77 = .ok (.getfield 28, 3) := by decide +kernel
theorem dX1_alongK_80 : decode cX1_alongK 80 = .ok (.getfield 88, 3) := by decide +kernel
theorem dX1_alongK_83 : decode cX1_alongK 83 = .ok (.iadd, 1) := by decide +kernel
theorem dX1_alongK_84 : decode cX1_alongK 84 = .ok (.iconst 1, 1) := by decide +kernel
theorem dX1_alongK_85 : decode cX1_alongK 85 = .ok (.isub, 1) := by decide +kernel
theorem dX1_alongK_86 : decode cX1_alongK 86 = .ok (.istore_n 1, 1) := by decide +kernel
theorem dX1_alongK_87 : decode cX1_alongK 87 = .ok (.aload_n 0, 1) := by decide +kernel
theorem dX1_alongK_88 : decode cX1_alongK 88 = .ok (.sipush 150, 3) := by decide +kernel
theorem dX1_alongK_91 : decode cX1_alongK 91 = .ok (.putfield 183, 3) := by decide +kernel
theorem dX1_alongK_94 : decode cX1_alongK 94 = .ok (.aload_n 0, 1) := by decide +kernel
theorem dX1_alongK_95 : decode cX1_alongK 95 = .ok (.iconst 0, 1) := by decide +kernel
theorem dX1_alongK_96 : decode cX1_alongK 96 = .ok (.putfield 186, 3) := by decide +kernel
theorem dX1_alongK_99 : decode cX1_alongK 99 = .ok (.iconst 0, 1) := by decide +kernel
theorem dX1_alongK_100 : decode cX1_alongK 100 = .ok (.istore_n 2, 1) := by decide +kernel
theorem dX1_alongK_101 : decode cX1_alongK 101 = .ok (.aload_n 0, 1) := by decide +kernel
theorem dX1_alongK_102 : decode cX1_alongK 102 = .ok (.iload_n 2, 1) := by decide +kernel
theorem dX1_alongK_103 : decode cX1_alongK 103 = .ok (.iload_n 1, 1) := by decide +kernel
theorem dX1_alongK_104 : decode cX1_alongK 104 = .ok (.invokevirtual 189, 3) := by decide +kernel
theorem dX1_alongK_107 : decode cX1_alongK 107 = .ok (.istore_n 2, 1) := by decide +kernel
theorem dX1_alongK_108 : decode cX1_alongK 108 = .ok (.aload_n 0, 1) := by decide +kernel
theorem dX1_alongK_109 : decode cX1_alongK 109 = .ok (.getfield 183, 3) := by decide +kernel
theorem dX1_alongK_112 : decode cX1_alongK 112 = .ok (.ifCond .ne 5, 3) := by decide +kernel
theorem dX1_alongK_115 : decode cX1_alongK 115 = .ok (.iconst 0, 1) := by decide +kernel
theorem dX1_alongK_116 : decode cX1_alongK 116 = .ok (.ireturn, 1) := by decide +kernel
theorem dX1_alongK_117 : decode cX1_alongK 117 = .ok (.aload_n 0, 1) := by decide +kernel
theorem dX1_alongK_118 : decode cX1_alongK 118 = .ok (.iload_n 1, 1) := by decide +kernel
theorem dX1_alongK_119 : decode cX1_alongK 119 = .ok (.invokevirtual 192, 3) := by decide +kernel
theorem dX1_alongK_122 : decode cX1_alongK 122 = .ok (.aload_n 0, 1) := by decide +kernel
theorem dX1_alongK_123 : decode cX1_alongK 123 = .ok (.aload_n 0, 1) := by decide +kernel
theorem dX1_alongK_124 : decode cX1_alongK 124 = .ok (.getfield 55, 3) := by decide +kernel
theorem dX1_alongK_127 : decode cX1_alongK 127 = .ok (.aload_n 0, 1) := by decide +kernel
theorem dX1_alongK_128 : decode cX1_alongK 128 = .ok (.getfield 34, 3) := by decide +kernel
theorem dX1_alongK_131 : decode cX1_alongK 131 = .ok (.invokevirtual 157, 3) := by decide +kernel
theorem dX1_alongK_134 : decode cX1_alongK 134 = .ok (.aload_n 0, 1) := by decide +kernel
theorem dX1_alongK_135 : decode cX1_alongK 135 = .ok (.aload_n 0, 1) := by decide +kernel
theorem dX1_alongK_136 : decode cX1_alongK 136 = .ok (.getfield 55, 3) := by decide +kernel
theorem dX1_alongK_139 : decode cX1_alongK 139 = .ok (.aload_n 0, 1) := by decide +kernel
theorem dX1_alongK_140 : decode cX1_alongK 140 = .ok (.getfield 48, 3) := by decide +kernel
theorem dX1_alongK_143 : decode cX1_alongK 143 = .ok (.aload_n 0, 1) := by decide +kernel
theorem dX1_alongK_144 : decode cX1_alongK 144 = .ok (.getfield 61, 3) := by decide +kernel
theorem dX1_alongK_147 : decode cX1_alongK 147 = .ok (.invokevirtual 195, 3) := by decide +kernel
theorem dX1_alongK_150 : decode cX1_alongK 150 = .ok (.ifCond .eq 24, 3) := by decide +kernel
theorem dX1_alongK_153 : decode cX1_alongK 153 = .ok (.aload_n 0, 1) := by decide +kernel
theorem dX1_alongK_154 : decode cX1_alongK 154 = .ok (.aload_n 0, 1) := by decide +kernel
theorem dX1_alongK_155 : decode cX1_alongK 155 = .ok (.getfield 55, 3) := by decide +kernel
theorem dX1_alongK_158 : decode cX1_alongK 158 = .ok (.aload_n 0, 1) := by decide +kernel
theorem dX1_alongK_159 : decode cX1_alongK 159 = .ok (.getfield 52, 3) := by decide +kernel
theorem dX1_alongK_162 : decode cX1_alongK 162 = .ok (.aload_n 0, 1) := by decide +kernel
theorem dX1_alongK_163 : decode cX1_alongK 163 = .ok (.getfield 61, 3) := by decide +kernel
theorem dX1_alongK_166 : decode cX1_alongK 166 = .ok (.invokevirtual 195, 3) := by decide +kernel
theorem dX1_alongK_169 : decode cX1_alongK 169 = .ok (.ifCond .eq 5, 3) := by decide +kernel
theorem dX1_alongK_172 : decode cX1_alongK 172 = .ok (.iconst 1, 1) := by decide +kernel
theorem dX1_alongK_173 : decode cX1_alongK 173 = .ok (.ireturn, 1) := by decide +kernel
theorem dX1_alongK_174 : decode cX1_alongK 174 = .ok (.aload_n 0, 1) := by decide +kernel
theorem dX1_alongK_175 : decode cX1_alongK 175 = .ok (.iconst 0, 1) := by decide +kernel
theorem dX1_alongK_176 : decode cX1_alongK 176 = .ok (.putfield 186, 3) := by decide +kernel
theorem dX1_alongK_179 : decode cX1_alongK 179 = .ok (.goto (-78), 3) := by decide +kernel
theorem dX1_look_0 : decode cX1_look 0 = .ok (.iload_n 1, 1) := by decide +kernel
theorem dX1_look_1 : decode cX1_look 1 = .ok (.istore_n 3, 1) := by decide +kernel
theorem dX1_look_2 : decode cX1_look 2 = .ok (.aload_n 0, 1) := by decide +kernel
theorem dX1_look_3 : decode cX1_look 3 = .ok (.getfield 186, 3) := by decide +kernel
theorem dX1_look_6 : decode cX1_look 6 = .ok (.iload_n 2, 1) := by decide +kernel
theorem dX1_look_7 : decode cX1_look 7 = .ok (.if_icmp .ge 142, 3) := by decide +kernel
theorem dX1_look_10 : decode cX1_look 10 = .ok (.aload_n 0, 1) := by decide +kernel
theorem dX1_look_11 : decode cX1_look 11 = .ok (.getfield 183, 3) := by decide +kernel
theorem dX1_look_14 : decode cX1_look 14 = .ok (.ifCond .le 135, 3) := by decide +kernel
theorem dX1_look_17 : decode cX1_look 17 = .ok (.aload_n 0, 1) := by decide +kernel
theorem dX1_look_18 : decode cX1_look 18 = .ok (.getfield 48, 3) := by decide +kernel
theorem dX1_look_21 : decode cX1_look 21 = .ok (.iload_n 3, 1) := by decide +kernel
theorem dX1_look_22 : decode cX1_look 22 = .ok (.aload_n 0, 1) := by decide +kernel
theorem dX1_look_23 : decode cX1_look 23 = .ok (.getfield 21, 3) := by decide +kernel
theorem dX1_look_26 : decode cX1_look 26 = .ok (.invokevirtual 199, 3) := by decide +kernel
theorem dX1_look_29 : decode cX1_look 29 = .ok (.aload_n 0, 1) := by decide +kernel
theorem dX1_look_30 : decode cX1_look 30 = .ok (.getfield 52, 3) := by decide +kernel
theorem dX1_look_33 : decode cX1_look 33 = .ok (.iload_n 3, 1) := by decide +kernel
theorem dX1_look_34 : decode cX1_look 34 = .ok (.aload_n 0, 1) := by decide +kernel
theorem dX1_look_35 : decode cX1_look 35 = .ok (.getfield 25, 3) := by decide +kernel
theorem dX1_look_38 : decode cX1_look 38 = .ok (.invokevirtual 199, 3) := by decide +kernel
theorem dX1_look_41 : decode cX1_look 41 = .ok (.aload_n 0, 1) := by decide +kernel
theorem dX1_look_42 : decode cX1_look 42 = .ok (.getfield 21, 3) := by decide +kernel
theorem dX1_look_45 : decode cX1_look 45 = .ok (.getfield 88, 3) := by decide +kernel
theorem dX1_look_48 : decode cX1_look 48 = .ok (.aload_n 0, 1) := by decide +kernel
theorem dX1_look_49 : decode cX1_look 49 = .ok (.getfield 48, 3) := by decide +kernel
theorem dX1_look_52 : decode cX1_look 52 = .ok (.getfield 84, 3) := by decide +kernel
theorem dX1_look_55 : decode cX1_look 55 = .ok (.if_icmp .ne 88, 3) := by decide +kernel
theorem dX1_look_58 : decode cX1_look 58 = .ok (.aload_n 0, 1) := by decide +kernel
theorem dX1_look_59 : decode cX1_look 59 = .ok (.getfield 25, 3) := by decide +kernel
theorem dX1_look_62 : decode cX1_look 62 = .ok (.getfield 88, 3) := by decide +kernel
theorem dX1_look_65 : decode cX1_look 65 = .ok (.aload_n 0, 1) := by decide +kernel
theorem dX1_look_66 : decode cX1_look 66 = .ok (.getfield 52, 3) := by decide +kernel
theorem dX1_look_69 : decode cX1_look 69 = .ok (.getfield 84, 3) := by decide +kernel
theorem dX1_look_72 : decode cX1_look 72 = .ok (.if_icmp .ne 71, 3) := by decide +kernel
theorem dX1_look_75 : decode cX1_look 75 = .ok (.aload_n 0, 1) := by decide +kernel
theorem dX1_look_76 : decode cX1_look 76 = .ok (.getfield 14, 3) := by decide +kernel
theorem dX1_look_79 : decode cX1_look 79 = .ok (.aload_n 0, 1) := by decide +kernel
theorem dX1_look_80 : decode cX1_look 80 = .ok (.getfield 21, 3) := by decide +kernel
theorem dX1_look_83 : decode cX1_look 83 = .ok (.aload_n 0, 1) := by decide +kernel
theorem dX1_look_84 : decode cX1_look 84 = .ok (.getfield 25, 3) := by decide +kernel
theorem dX1_look_87 : decode cX1_look 87 = .ok (.aload_n 0, 1) := by decide +kernel
theorem dX1_look_88 : decode cX1_look 88 = .ok (.getfield 21, 3) := by decide +kernel
theorem dX1_look_91 : decode cX1_look 91 = .ok (.invokevirtual 95, 3) := by decide +kernel
theorem dX1_look_94 : decode cX1_look 94 = .ok (.aload_n 0, 1) := by decide +kernel
theorem dX1_look_95 : decode cX1_look 95 = .ok (.getfield 21, 3) := by decide +kernel
theorem dX1_look_98 : decode cX1_look 98 = .ok (.invokevirtual 202, 3) := by decide +kernel
theorem dX1_look_101 : decode cX1_look 101 = .ok (.aload_n 0, 1) := by decide +kernel
theorem dX1_look_102 : decode cX1_look 102 = .ok (.getfield 183, 3) := by decide +kernel
theorem dX1_look_105 : decode cX1_look 105 = .ok (.if_icmp .ge 19, 3) := by decide +kernel
theorem dX1_look_108 : decode cX1_look 108 = .ok (.aload_n 0, 1) := by decide +kernel
theorem dX1_look_109 : decode cX1_look 109 = .ok (.aload_n 0, 1) := by decide +kernel
theorem dX1_look_110 : decode cX1_look 110 = .ok (.getfield 21, 3) := by decide +kernel
theorem dX1_look_113 : decode cX1_look 113 = .ok (.invokevirtual 202, 3) := by decide +kernel
theorem dX1_look_116 : decode cX1_look 116 = .ok (.putfield 183, 3) := by decide +kernel
theorem dX1_look_119 : decode cX1_look 119 = .ok (.aload_n 0, 1) := by decide +kernel
theorem dX1_look_120 : decode cX1_look 120 = .ok (.iconst 0, 1) := by decide +kernel
theorem dX1_look_121 : decode cX1_look 121 = .ok (.putfield 186, 3) := by decide +kernel
theorem dX1_look_124 : decode cX1_look 124 = .ok (.aload_n 0, 1) := by decide +kernel
theorem dX1_look_125 : decode cX1_look 125 = .ok (.getfield 21, 3) := by decide +kernel
theorem dX1_look_128 : decode cX1_look 128 = .ok (.invokevirtual 202, 3) := by decide +kernel
theorem dX1_look_131 : decode cX1_look 131 = .ok (.aload_n 0, 1) := by decide +kernel
theorem dX1_look_132 : decode cX1_look 132 = .ok (.getfield 183, 3) := by decide +kernel
theorem dX1_look_135 : decode cX1_look 135 = .ok (.if_icmp .ne 8, 3) := by decide +kernel
theorem dX1_look_138 : decode cX1_look 138 = .ok (.aload_n 0, 1) := by decide +kernel
theorem dX1_look_139 : decode cX1_look 139 = .ok (.iload_n 3, 1) := by decide +kernel
theorem dX1_look_140 : decode cX1_look 140 = .ok (.invokevirtual 205, 3) := by decide +kernel
theorem dX1_look_143 : decode cX1_look 143 = .ok (.iinc 3 1, 3) := by decide +kernel
theorem dX1_look_146 : decode cX1_look 146 = .ok (.goto (-144), 3) := by decide +kernel
theorem dX1_look_149 : decode cX1_look 149 = .ok (.iload_n 3, 1) := by decide +kernel
theorem dX1_look_150 : decode cX1_look 150 = .ok (.ireturn, 1) := by decide +kernel
theorem dX1_keep_0 : decode cX1_keep 0 = .ok (.aload_n 0, 1) := by decide +kernel
theorem dX1_keep_1 : decode cX1_keep 1 = .ok (.getfield 67, 3) := by decide +kernel
theorem dX1_keep_4 : decode cX1_keep 4 = .ok (.aload_n 0, 1) := by decide +kernel
theorem dX1_keep_5 : decode cX1_keep 5 = .ok (.getfield 186, 3) := by decide +kernel
theorem dX1_keep_8 : decode cX1_keep 8 = .ok (.iload_n 1, 1) := by decide +kernel
theorem dX1_keep_9 : decode cX1_keep 9 = .ok (.iastore, 1) := by decide +kernel
theorem dX1_keep_10 : decode cX1_keep 10 = .ok (.aload_n 0, 1) := by decide +kernel
theorem dX1_keep_11 : decode cX1_keep 11 = .ok (.getfield 28, 3) := by decide +kernel
theorem dX1_keep_14 : decode cX1_keep 14 = .ok (.iload_n 1, 1) := by decide +kernel
theorem dX1_keep_15 : decode cX1_keep 15 = .ok (.invokevirtual 208, 3) := by decide +kernel
theorem dX1_keep_18 : decode cX1_keep 18 = .ok (.istore_n 2, 1) := by decide +kernel
theorem dX1_keep_19 : decode cX1_keep 19 = .ok (.iconst 0, 1) := by decide +kernel
theorem dX1_keep_20 : decode cX1_keep 20 = .ok (.istore_n 3, 1) := by decide +kernel
theorem dX1_keep_21 : decode cX1_keep 21 = .ok (.iload_n 3, 1) := by decide +kernel
theorem dX1_keep_22 : decode cX1_keep 22 = .ok (.aload_n 0, 1) := by decide +kernel
theorem dX1_keep_23 : decode cX1_keep 23 = .ok (.getfield 183, 3) := by decide +kernel
theorem dX1_keep_26 : decode cX1_keep 26 = .ok (.if_icmp .gt 37, 3) := by decide +kernel
theorem dX1_keep_29 : decode cX1_keep 29 = .ok (.aload_n 0, 1) := by decide +kernel
theorem dX1_keep_30 : decode cX1_keep 30 = .ok (.getfield 72, 3) := by decide +kernel
theorem dX1_keep_33 : decode cX1_keep 33 = .ok (.aload_n 0, 1) := by decide +kernel
theorem dX1_keep_34 : decode cX1_keep 34 = .ok (.getfield 186, 3) := by decide +kernel
theorem dX1_keep_37 : decode cX1_keep 37 = .ok (.sipush 150, 3) := by decide +kernel
theorem dX1_keep_40 : decode cX1_keep 40 = .ok (.imul, 1) := by decide +kernel
theorem dX1_keep_41 : decode cX1_keep 41 = .ok (.iload_n 3, 1) := by decide +kernel
theorem dX1_keep_42 : decode cX1_keep 42 = .ok (.iadd, 1) := by decide +kernel
theorem dX1_keep_43 : decode cX1_keep 43 = .ok (.aload_n 0, 1) := by decide +kernel
theorem dX1_keep_44 : decode cX1_keep 44 = .ok (.getfield 21, 3) := by decide +kernel
theorem dX1_keep_47 : decode cX1_keep 47 = .ok (.getfield 99, 3) := by decide +kernel
theorem dX1_keep_50 : decode cX1_keep 50 = .ok (.iload_n 3, 1) := by decide +kernel
theorem dX1_keep_51 : decode cX1_keep 51 = .ok (.iaload, 1) := by decide +kernel
theorem dX1_keep_52 : decode cX1_keep 52 = .ok (.iload_n 2, 1) := by decide +kernel
theorem dX1_keep_53 : decode cX1_keep 53 = .ok (.invokestatic 211, 3) := by decide +kernel
theorem dX1_keep_56 : decode cX1_keep 56 = .ok (.iastore, 1) := by decide +kernel
theorem dX1_keep_57 : decode cX1_keep 57 = .ok (.iinc 3 1, 3) := by decide +kernel
theorem dX1_keep_60 : decode cX1_keep 60 = .ok (.goto (-39), 3) := by decide +kernel
theorem dX1_keep_63 : decode cX1_keep 63 = .ok (.aload_n 0, 1) := by decide +kernel
theorem dX1_keep_64 : decode cX1_keep 64 = .ok (.dup, 1) := by decide +kernel
theorem dX1_keep_65 : decode cX1_keep 65 = .ok (.getfield 186, 3) := by decide +kernel
theorem dX1_keep_68 : decode cX1_keep 68 = .ok (.iconst 1, 1) := by decide +kernel
theorem dX1_keep_69 : decode cX1_keep 69 = .ok (.iadd, 1) := by decide +kernel
theorem dX1_keep_70 : decode cX1_keep 70 = .ok (.putfield 186, 3) := by decide +kernel
theorem dX1_keep_73 : decode cX1_keep 73 = .ok (.return_, 1) := by decide +kernel
theorem dX1_join_0 : decode cX1_join 0 = .ok (.aload_n 0, 1) := by decide +kernel
theorem dX1_join_1 : decode cX1_join 1 = .ok (.getfield 55, 3) := by decide +kernel
theorem dX1_join_4 : decode cX1_join 4 = .ok (.iload_n 1, 1) := by decide +kernel
theorem dX1_join_5 : decode cX1_join 5 = .ok (.aload_n 0, 1) := by decide +kernel
theorem dX1_join_6 : decode cX1_join 6 = .ok (.getfield 183, 3) := by decide +kernel
theorem dX1_join_9 : decode cX1_join 9 = .ok (.iconst 1, 1) := by decide +kernel
theorem dX1_join_10 : decode cX1_join 10 = .ok (.iadd, 1) := by decide +kernel
theorem dX1_join_11 : decode cX1_join 11 = .ok (.invokevirtual 131, 3) := by decide +kernel
theorem dX1_join_14 : decode cX1_join 14 = .ok (.iconst 0, 1) := by decide +kernel
theorem dX1_join_15 : decode cX1_join 15 = .ok (.istore_n 2, 1) := by decide +kernel
theorem dX1_join_16 : decode cX1_join 16 = .ok (.iload_n 2, 1) := by decide +kernel
theorem dX1_join_17 : decode cX1_join 17 = .ok (.aload_n 0, 1) := by decide +kernel
theorem dX1_join_18 : decode cX1_join 18 = .ok (.getfield 183, 3) := by decide +kernel
theorem dX1_join_21 : decode cX1_join 21 = .ok (.if_icmp .gt 75, 3) := by decide +kernel
theorem dX1_join_24 : decode cX1_join 24 = .ok (.iconst 0, 1) := by decide +kernel
theorem dX1_join_25 : decode cX1_join 25 = .ok (.istore_n 3, 1) := by decide +kernel
theorem dX1_join_26 : decode cX1_join 26 = .ok (.iload_n 3, 1) := by decide +kernel
theorem dX1_join_27 : decode cX1_join 27 = .ok (.aload_n 0, 1) := by decide +kernel
theorem dX1_join_28 : decode cX1_join 28 = .ok (.getfield 186, 3) := by decide +kernel
theorem dX1_join_31 : decode cX1_join 31 = .ok (.if_icmp .ge 27, 3) := by decide +kernel
theorem dX1_join_34 : decode cX1_join 34 = .ok (.aload_n 0, 1) := by decide +kernel
theorem dX1_join_35 : decode cX1_join 35 = .ok (.getfield 75, 3) := by decide +kernel
theorem dX1_join_38 : decode cX1_join 38 = .ok (.iload_n 3, 1) := by decide +kernel
theorem dX1_join_39 : decode cX1_join 39 = .ok (.aload_n 0, 1) := by decide +kernel
theorem dX1_join_40 : decode cX1_join 40 = .ok (.getfield 72, 3) := by decide +kernel
theorem dX1_join_43 : decode cX1_join 43 = .ok (.iload_n 3, 1) := by decide +kernel
theorem dX1_join_44 : decode cX1_join 44 = .ok (.sipush 150, 3) := by decide +kernel
theorem dX1_join_47 : decode cX1_join 47 = .ok (.imul, 1) := by decide +kernel
theorem dX1_join_48 : decode cX1_join 48 = .ok (.iload_n 2, 1) := by decide +kernel
theorem dX1_join_49 : decode cX1_join 49 = .ok (.iadd, 1) := by decide +kernel
theorem dX1_join_50 : decode cX1_join 50 = .ok (.iaload, 1) := by decide +kernel
theorem dX1_join_51 : decode cX1_join 51 = .ok (.iastore, 1) := by decide +kernel
theorem dX1_join_52 : decode cX1_join 52 = .ok (.iinc 3 1, 3) := by decide +kernel
theorem dX1_join_55 : decode cX1_join 55 = .ok (.goto (-29), 3) := by decide +kernel
theorem dX1_join_58 : decode cX1_join 58 = .ok (.aload_n 0, 1) := by decide +kernel
theorem dX1_join_59 : decode cX1_join 59 = .ok (.aload_n 0, 1) := by decide +kernel
theorem dX1_join_60 : decode cX1_join 60 = .ok (.getfield 67, 3) := by decide +kernel
theorem dX1_join_63 : decode cX1_join 63 = .ok (.aload_n 0, 1) := by decide +kernel
theorem dX1_join_64 : decode cX1_join 64 = .ok (.getfield 75, 3) := by decide +kernel
theorem dX1_join_67 : decode cX1_join 67 = .ok (.aload_n 0, 1) := by decide +kernel
theorem dX1_join_68 : decode cX1_join 68 = .ok (.getfield 186, 3) := by decide +kernel
theorem dX1_join_71 : decode cX1_join 71 = .ok (.aload_n 0, 1) := by decide +kernel
theorem dX1_join_72 : decode cX1_join 72 = .ok (.getfield 21, 3) := by decide +kernel
theorem dX1_join_75 : decode cX1_join 75 = .ok (.invokevirtual 214, 3) := by decide +kernel
theorem dX1_join_78 : decode cX1_join 78 = .ok (.aload_n 0, 1) := by decide +kernel
theorem dX1_join_79 : decode cX1_join 79 = .ok (.getfield 55, 3) := by decide +kernel
theorem dX1_join_82 : decode cX1_join 82 = .ok (.iload_n 2, 1) := by decide +kernel
theorem dX1_join_83 : decode cX1_join 83 = .ok (.aload_n 0, 1) := by decide +kernel
theorem dX1_join_84 : decode cX1_join 84 = .ok (.getfield 21, 3) := by decide +kernel
theorem dX1_join_87 : decode cX1_join 87 = .ok (.invokevirtual 106, 3) := by decide +kernel
theorem dX1_join_90 : decode cX1_join 90 = .ok (.iinc 2 1, 3) := by decide +kernel
theorem dX1_join_93 : decode cX1_join 93 = .ok (.goto (-77), 3) := by decide +kernel
theorem dX1_join_96 : decode cX1_join 96 = .ok (.aload_n 0, 1) := by decide +kernel
theorem dX1_join_97 : decode cX1_join 97 = .ok (.getfield 55, 3) := by decide +kernel
theorem dX1_join_100 : decode cX1_join 100 = .ok (.invokevirtual 109, 3) := by decide +kernel
theorem dX1_join_103 : decode cX1_join 103 = .ok (.return_, 1) := by decide +kernel
theorem dX1_interpolate_0 : decode cX1_interpolate 0 = .ok (.iconst 1, 1) := by decide +kernel
theorem dX1_interpolate_1 : decode cX1_interpolate 1 = .ok (.istore 5, 2) := by decide +kernel
theorem dX1_interpolate_3 : decode cX1_interpolate 3 = .ok (.iload 5, 2) := by decide +kernel
theorem dX1_interpolate_5 : decode cX1_interpolate 5 = .ok (.iload_n 3, 1) := by decide +kernel
theorem dX1_interpolate_6 : decode cX1_interpolate 6 = .ok (.if_icmp .ge 63, 3) := by decide +kernel
theorem dX1_interpolate_9 : decode cX1_interpolate 9 = .ok (.iload_n 3, 1) := by decide +kernel
theorem dX1_interpolate_10 : decode cX1_interpolate 10 = .ok (.iconst 1, 1) := by decide +kernel
theorem dX1_interpolate_11 : decode cX1_interpolate 11 = .ok (.isub, 1) := by decide +kernel
theorem dX1_interpolate_12 : decode cX1_interpolate 12 = .ok (.istore 6, 2) := by decide +kernel
theorem dX1_interpolate_14 : decode cX1_interpolate 14 = .ok (.iload 6, 2) := by decide +kernel
theorem dX1_interpolate_16 : decode cX1_interpolate 16 = .ok (.iload 5, 2) := by decide +kernel
theorem dX1_interpolate_18 : decode cX1_interpolate 18 = .ok (.if_icmp .lt 45, 3) := by decide +kernel
theorem dX1_interpolate_21 : decode cX1_interpolate 21 = .ok (.aload_n 2, 1) := by decide +kernel
theorem dX1_interpolate_22 : decode cX1_interpolate 22 = .ok (.iload 6, 2) := by decide +kernel
theorem dX1_interpolate_24 : decode cX1_interpolate 24 = .ok (.aload_n 2, 1) := by decide +kernel
theorem dX1_interpolate_25 : decode cX1_interpolate 25 = .ok (.iload 6, 2) := by decide +kernel
theorem dX1_interpolate_27 : decode cX1_interpolate 27 = .ok (.iaload, 1) := by decide +kernel
theorem dX1_interpolate_28 : decode cX1_interpolate 28 = .ok (.aload_n 2, 1) := by decide +kernel
theorem dX1_interpolate_29 : decode cX1_interpolate 29 = .ok (.iload 6, 2) := by decide +kernel
theorem dX1_interpolate_31 : decode cX1_interpolate 31 = .ok (.iconst 1, 1) := by decide +kernel
theorem dX1_interpolate_32 : decode cX1_interpolate 32 = .ok (.isub, 1) := by decide +kernel
theorem dX1_interpolate_33 : decode cX1_interpolate 33 = .ok (.iaload, 1) := by decide +kernel
theorem dX1_interpolate_34 : decode cX1_interpolate 34 = .ok (.invokestatic 148, 3) := by decide +kernel
theorem dX1_interpolate_37 : decode cX1_interpolate 37 = .ok (.aload_n 0, 1) := by decide +kernel
theorem dX1_interpolate_38 : decode cX1_interpolate 38 = .ok (.aload_n 1, 1) := by decide +kernel
theorem dX1_interpolate_39 : decode cX1_interpolate 39 = .ok (.iload 6, 2) := by decide +kernel
theorem dX1_interpolate_41 : decode cX1_interpolate 41 = .ok (.iaload, 1) := by decide +kernel
theorem dX1_interpolate_42 : decode cX1_interpolate 42 = .ok (.aload_n 1, 1) := by decide +kernel
theorem dX1_interpolate_43 : decode cX1_interpolate 43 = .ok (.iload 6, 2) := by decide +kernel
theorem dX1_interpolate_45 : decode cX1_interpolate 45 = .ok (.iload 5, 2) := by decide +kernel
theorem dX1_interpolate_47 : decode cX1_interpolate 47 = .ok (.isub, 1) := by decide +kernel
theorem dX1_interpolate_48 : decode cX1_interpolate 48 = .ok (.iaload, 1) := by decide +kernel
theorem dX1_interpolate_49 : decode cX1_interpolate 49 = .ok (.isub, 1) := by decide +kernel
theorem dX1_interpolate_50 : decode cX1_interpolate 50 = .ok (.invokevirtual 218, 3) := by decide +kernel
theorem dX1_interpolate_53 : decode cX1_interpolate 53 = .ok (.invokestatic 211, 3) := by decide +kernel
theorem dX1_interpolate_56 : decode cX1_interpolate 56 = .ok (.iastore, 1) := by decide +kernel
theorem dX1_interpolate_57 : decode cX1_interpolate 57 = .ok (.iinc 6 (-1), 3) := by decide +kernel
theorem dX1_interpolate_60 : decode cX1_interpolate 60 = .ok (.goto (-46), 3) := by decide +kernel
theorem dX1_interpolate_63 : decode cX1_interpolate 63 = .ok (.iinc 5 1, 3) := by decide +kernel
theorem dX1_interpolate_66 : decode cX1_interpolate 66 = .ok (.goto (-63), 3) := by decide +kernel
theorem dX1_interpolate_69 : decode cX1_interpolate 69 = .ok (.aload 4, 2) := by decide +kernel
theorem dX1_interpolate_71 : decode cX1_interpolate 71 = .ok (.invokevirtual 81, 3) := by decide +kernel
theorem dX1_interpolate_74 : decode cX1_interpolate 74 = .ok (.iload_n 3, 1) := by decide +kernel
theorem dX1_interpolate_75 : decode cX1_interpolate 75 = .ok (.iconst 1, 1) := by decide +kernel
theorem dX1_interpolate_76 : decode cX1_interpolate 76 = .ok (.isub, 1) := by decide +kernel
theorem dX1_interpolate_77 : decode cX1_interpolate 77 = .ok (.istore 5, 2) := by decide +kernel
theorem dX1_interpolate_79 : decode cX1_interpolate 79 = .ok (.iload 5, 2) := by decide +kernel
theorem dX1_interpolate_81 : decode cX1_interpolate 81 = .ok (.ifCond .lt 171, 3) := by decide +kernel
theorem dX1_interpolate_84 : decode cX1_interpolate 84 = .ok (.aload 4, 2) := by decide +kernel
theorem dX1_interpolate_86 : decode cX1_interpolate 86 = .ok (.getfield 88, 3) := by decide +kernel
theorem dX1_interpolate_89 : decode cX1_interpolate 89 = .ok (.istore 6, 2) := by decide +kernel
theorem dX1_interpolate_91 : decode cX1_interpolate 91 = .ok (.iload 6, 2) := by decide +kernel
theorem dX1_interpolate_93 : decode cX1_interpolate 93 = .ok (.ifCond .le 59, 3) := by decide +kernel
theorem dX1_interpolate_96 : decode cX1_interpolate 96 = .ok (.aload 4, 2) := by decide +kernel
theorem dX1_interpolate_98 : decode cX1_interpolate 98 = .ok (.getfield 99, 3) := by decide +kernel
theorem dX1_interpolate_101 : decode cX1_interpolate 101 = .ok (.iload 6, 2) := by decide +kernel
theorem dX1_interpolate_103 : decode cX1_interpolate 103 = .ok (.aload 4, 2) := by decide +kernel
theorem dX1_interpolate_105 : decode cX1_interpolate 105 = .ok (.getfield 99, 3) := by decide +kernel
theorem dX1_interpolate_108 : decode cX1_interpolate 108 = .ok (.iload 6, 2) := by decide +kernel
theorem dX1_interpolate_110 : decode cX1_interpolate 110 = .ok (.iconst 1, 1) := by decide +kernel
theorem dX1_interpolate_111 : decode cX1_interpolate 111 = .ok (.isub, 1) := by decide +kernel
theorem dX1_interpolate_112 : decode cX1_interpolate 112 = .ok (.iaload, 1) := by decide +kernel
theorem dX1_interpolate_113 : decode cX1_interpolate 113 = .ok (.iload 6, 2) := by decide +kernel
theorem dX1_interpolate_115 : decode cX1_interpolate 115 = .ok (.aload 4, 2) := by decide +kernel
theorem dX1_interpolate_117 : decode cX1_interpolate 117 = .ok (.getfield 88, 3) := by decide +kernel
theorem dX1_interpolate_120 : decode cX1_interpolate 120 = .ok (.if_icmp .ge 21, 3) := by decide +kernel
theorem dX1_interpolate_123 : decode cX1_interpolate 123 = .ok (.aload 4, 2) := by decide +kernel
theorem dX1_interpolate_125 : decode cX1_interpolate 125 = .ok (.getfield 99, 3) := by decide +kernel
theorem dX1_interpolate_128 : decode cX1_interpolate 128 = .ok (.iload 6, 2) := by decide +kernel
theorem dX1_interpolate_130 : decode cX1_interpolate 130 = .ok (.iaload, 1) := by decide +kernel
theorem dX1_interpolate_131 : decode cX1_interpolate 131 = .ok (.aload_n 1, 1) := by decide +kernel
theorem dX1_interpolate_132 : decode cX1_interpolate 132 = .ok (.iload 5, 2) := by decide +kernel
theorem dX1_interpolate_134 : decode cX1_interpolate 134 = .ok (.iaload, 1) := by decide +kernel
theorem dX1_interpolate_135 : decode cX1_interpolate 135 = .ok (.invokestatic 211, 3) := by decide +kernel
theorem dX1_interpolate_138 : decode cX1_interpolate 138 = .ok (.goto 4, 3) := by decide +kernel
theorem dX1_interpolate_141 : decode cX1_interpolate 141 = .ok (.iconst 0, 1) := by decide +kernel
theorem dX1_interpolate_142 : decode cX1_interpolate 142 = .ok (.invokestatic 148, 3) := by decide +kernel
theorem dX1_interpolate_145 : decode cX1_interpolate 145 = .ok (.iastore, 1) := by decide +kernel
theorem dX1_interpolate_146 : decode cX1_interpolate 146 = .ok (.iinc 6 (-1), 3) := by decide +kernel
theorem dX1_interpolate_149 : decode cX1_interpolate 149 = .ok (.goto (-58), 3) := by decide +kernel
theorem dX1_interpolate_152 : decode cX1_interpolate 152 = .ok (.aload 4, 2) := by decide +kernel
theorem dX1_interpolate_154 : decode cX1_interpolate 154 = .ok (.getfield 88, 3) := by decide +kernel
theorem dX1_interpolate_157 : decode cX1_interpolate 157 = .ok (.ifCond .le 39, 3) := by decide +kernel
theorem dX1_interpolate_160 : decode cX1_interpolate 160 = .ok (.aload 4, 2) := by decide +kernel
theorem dX1_interpolate_162 : decode cX1_interpolate 162 = .ok (.getfield 99, 3) := by decide +kernel
theorem dX1_interpolate_165 : decode cX1_interpolate 165 = .ok (.iconst 0, 1) := by decide +kernel
theorem dX1_interpolate_166 : decode cX1_interpolate 166 = .ok (.iconst 0, 1) := by decide +kernel
theorem dX1_interpolate_167 : decode cX1_interpolate 167 = .ok (.aload 4, 2) := by decide +kernel
theorem dX1_interpolate_169 : decode cX1_interpolate 169 = .ok (.getfield 99, 3) := by decide +kernel
theorem dX1_interpolate_172 : decode cX1_interpolate 172 = .ok (.iconst 0, 1) := by decide +kernel
theorem dX1_interpolate_173 : decode cX1_interpolate 173 = .ok (.iaload, 1) := by decide +kernel
theorem dX1_interpolate_174 : decode cX1_interpolate 174 = .ok (.aload_n 1, 1) := by decide +kernel
theorem dX1_interpolate_175 : decode cX1_interpolate 175 = .ok (.iload 5, 2) := by decide +kernel
theorem dX1_interpolate_177 : decode cX1_interpolate 177 = .ok (.iaload, 1) := by decide +kernel
theorem dX1_interpolate_178 : decode cX1_interpolate 178 = .ok (.invokestatic 211, 3) := by decide +kernel
theorem dX1_interpolate_181 : decode cX1_interpolate 181 = .ok (.invokestatic 148, 3) := by decide +kernel
theorem dX1_interpolate_184 : decode cX1_interpolate 184 = .ok (.iastore, 1) := by decide +kernel
theorem dX1_interpolate_185 : decode cX1_interpolate 185 = .ok (.aload 4, 2) := by decide +kernel
theorem dX1_interpolate_187 : decode cX1_interpolate 187 = .ok (.dup, 1) := by decide +kernel
theorem dX1_interpolate_188 : decode cX1_interpolate 188 = .ok (.getfield 88, 3) := by decide +kernel
theorem dX1_interpolate_191 : decode cX1_interpolate 191 = .ok (.iconst 1, 1) := by decide +kernel
theorem dX1_interpolate_192 : decode cX1_interpolate 192 = .ok (.iadd, 1) := by decide +kernel
theorem dX1_interpolate_193 : decode cX1_interpolate 193 = .ok (.putfield 88, 3) := by decide +kernel
theorem dX1_interpolate_196 : decode cX1_interpolate 196 = .ok (.aload 4, 2) := by decide +kernel
theorem dX1_interpolate_198 : decode cX1_interpolate 198 = .ok (.getfield 99, 3) := by decide +kernel
theorem dX1_interpolate_201 : decode cX1_interpolate 201 = .ok (.iconst 0, 1) := by decide +kernel
theorem dX1_interpolate_202 : decode cX1_interpolate 202 = .ok (.aload 4, 2) := by decide +kernel
theorem dX1_interpolate_204 : decode cX1_interpolate 204 = .ok (.getfield 88, 3) := by decide +kernel
theorem dX1_interpolate_207 : decode cX1_interpolate 207 = .ok (.ifCond .ne 10, 3) := by decide +kernel
theorem dX1_interpolate_210 : decode cX1_interpolate 210 = .ok (.aload_n 2, 1) := by decide +kernel
theorem dX1_interpolate_211 : decode cX1_interpolate 211 = .ok (.iload 5, 2) := by decide +kernel
theorem dX1_interpolate_213 : decode cX1_interpolate 213 = .ok (.iaload, 1) := by decide +kernel
theorem dX1_interpolate_214 : decode cX1_interpolate 214 = .ok (.goto 17, 3) := by decide +kernel
theorem dX1_interpolate_217 : decode cX1_interpolate 217 = .ok (.aload 4, 2) := by decide +kernel
theorem dX1_interpolate_219 : decode cX1_interpolate 219 = .ok (.getfield 99, 3) := by decide +kernel
theorem dX1_interpolate_222 : decode cX1_interpolate 222 = .ok (.iconst 0, 1) := by decide +kernel
theorem dX1_interpolate_223 : decode cX1_interpolate 223 = .ok (.iaload, 1) := by decide +kernel
theorem dX1_interpolate_224 : decode cX1_interpolate 224 = .ok (.aload_n 2, 1) := by decide +kernel
theorem dX1_interpolate_225 : decode cX1_interpolate 225 = .ok (.iload 5, 2) := by decide +kernel
theorem dX1_interpolate_227 : decode cX1_interpolate 227 = .ok (.iaload, 1) := by decide +kernel
theorem dX1_interpolate_228 : decode cX1_interpolate 228 = .ok (.invokestatic 221, 3) := by decide +kernel
theorem dX1_interpolate_231 : decode cX1_interpolate 231 = .ok (.iastore, 1) := by decide +kernel
theorem dX1_interpolate_232 : decode cX1_interpolate 232 = .ok (.aload 4, 2) := by decide +kernel
theorem dX1_interpolate_234 : decode cX1_interpolate 234 = .ok (.aload 4, 2) := by decide +kernel
theorem dX1_interpolate_236 : decode cX1_interpolate 236 = .ok (.getfield 88, 3) := by decide +kernel
theorem dX1_interpolate_239 : decode cX1_interpolate 239 = .ok (.iconst 1, 1) := by decide +kernel
theorem dX1_interpolate_240 : decode cX1_interpolate 240 = .ok (.invokestatic 224, 3) := by decide +kernel
theorem dX1_interpolate_243 : decode cX1_interpolate 243 = .ok (.putfield 88, 3) := by decide +kernel
theorem dX1_interpolate_246 : decode cX1_interpolate 246 = .ok (.iinc 5 (-1), 3) := by decide +kernel
theorem dX1_interpolate_249 : decode cX1_interpolate 249 = .ok (.goto (-170), 3) := by decide +kernel
theorem dX1_interpolate_252 : decode cX1_interpolate 252 = .ok (.aload 4, 2) := by decide +kernel
theorem dX1_interpolate_254 : decode cX1_interpolate 254 = .ok (.invokevirtual 227, 3) := by decide +kernel
theorem dX1_interpolate_257 : decode cX1_interpolate 257 = .ok (.return_, 1) := by decide +kernel
theorem dX1_parted_0 : decode cX1_parted 0 = .ok (.iload_n 1, 1) := by decide +kernel
theorem dX1_parted_1 : decode cX1_parted 1 = .ok (.sipush 2000, 3) := by decide +kernel
theorem dX1_parted_4 : decode cX1_parted 4 = .ok (.if_icmp .lt 8, 3) := by decide +kernel
theorem dX1_parted_7 : decode cX1_parted 7 = .ok (.iload_n 1, 1) := by decide +kernel
theorem dX1_parted_8 : decode cX1_parted 8 = .ok (.invokestatic 171, 3) := by decide +kernel
theorem dX1_parted_11 : decode cX1_parted 11 = .ok (.ireturn, 1) := by decide +kernel
theorem dX1_parted_12 : decode cX1_parted 12 = .ok (.aload_n 0, 1) := by decide +kernel
theorem dX1_parted_13 : decode cX1_parted 13 = .ok (.getfield 78, 3) := by decide +kernel
theorem dX1_parted_16 : decode cX1_parted 16 = .ok (.iload_n 1, 1) := by decide +kernel
theorem dX1_parted_17 : decode cX1_parted 17 = .ok (.iaload, 1) := by decide +kernel
theorem dX1_parted_18 : decode cX1_parted 18 = .ok (.ifCond .ne 13, 3) := by decide +kernel
theorem dX1_parted_21 : decode cX1_parted 21 = .ok (.aload_n 0, 1) := by decide +kernel
theorem dX1_parted_22 : decode cX1_parted 22 = .ok (.getfield 78, 3) := by decide +kernel
theorem dX1_parted_25 : decode cX1_parted 25 = .ok (.iload_n 1, 1) := by decide +kernel
theorem dX1_parted_26 : decode cX1_parted 26 = .ok (.iload_n 1, 1) := by decide +kernel
theorem dX1_parted_27 : decode cX1_parted 27 = .ok (.invokestatic 171, 3) := by decide +kernel
theorem dX1_parted_30 : decode cX1_parted 30 = .ok (.iastore, 1) := by decide +kernel
theorem dX1_parted_31 : decode cX1_parted 31 = .ok (.aload_n 0, 1) := by decide +kernel
theorem dX1_parted_32 : decode cX1_parted 32 = .ok (.getfield 78, 3) := by decide +kernel
theorem dX1_parted_35 : decode cX1_parted 35 = .ok (.iload_n 1, 1) := by decide +kernel
theorem dX1_parted_36 : decode cX1_parted 36 = .ok (.iaload, 1) := by decide +kernel
theorem dX1_parted_37 : decode cX1_parted 37 = .ok (.ireturn, 1) := by decide +kernel
theorem dX1_divides_0 : decode cX1_divides 0 = .ok (.aload_n 3, 1) := by decide +kernel
theorem dX1_divides_1 : decode cX1_divides 1 = .ok (.invokevirtual 123, 3) := by decide +kernel
theorem dX1_divides_4 : decode cX1_divides 4 = .ok (.aload_n 0, 1) := by decide +kernel
theorem dX1_divides_5 : decode cX1_divides 5 = .ok (.getfield 58, 3) := by decide +kernel
theorem dX1_divides_8 : decode cX1_divides 8 = .ok (.aload_n 2, 1) := by decide +kernel
theorem dX1_divides_9 : decode cX1_divides 9 = .ok (.invokevirtual 124, 3) := by decide +kernel
theorem dX1_divides_12 : decode cX1_divides 12 = .ok (.aload_n 2, 1) := by decide +kernel
theorem dX1_divides_13 : decode cX1_divides 13 = .ok (.getfield 84, 3) := by decide +kernel
theorem dX1_divides_16 : decode cX1_divides 16 = .ok (.aload_n 1, 1) := by decide +kernel
theorem dX1_divides_17 : decode cX1_divides 17 = .ok (.getfield 84, 3) := by decide +kernel
theorem dX1_divides_20 : decode cX1_divides 20 = .ok (.isub, 1) := by decide +kernel
theorem dX1_divides_21 : decode cX1_divides 21 = .ok (.istore 4, 2) := by decide +kernel
theorem dX1_divides_23 : decode cX1_divides 23 = .ok (.iload 4, 2) := by decide +kernel
theorem dX1_divides_25 : decode cX1_divides 25 = .ok (.ifCond .lt 14, 3) := by decide +kernel
theorem dX1_divides_28 : decode cX1_divides 28 = .ok (.aload_n 2, 1) := by decide +kernel
theorem dX1_divides_29 : decode cX1_divides 29 = .ok (.getfield 128, 3) := by decide +kernel
theorem dX1_divides_32 : decode cX1_divides 32 = .ok (.aload_n 1, 1) := by decide +kernel
theorem dX1_divides_33 : decode cX1_divides 33 = .ok (.getfield 128, 3) := by decide +kernel
theorem dX1_divides_36 : decode cX1_divides 36 = .ok (.if_icmp .ge 8, 3) := by decide +kernel
theorem dX1_divides_39 : decode cX1_divides 39 = .ok (.aload_n 2, 1) := by decide +kernel
theorem dX1_divides_40 : decode cX1_divides 40 = .ok (.invokevirtual 116, 3) := by decide +kernel
theorem dX1_divides_43 : decode cX1_divides 43 = .ok (.ireturn, 1) := by decide +kernel
theorem dX1_divides_44 : decode cX1_divides 44 = .ok (.aload_n 3, 1) := by decide +kernel
theorem dX1_divides_45 : decode cX1_divides 45 = .ok (.aload_n 2, 1) := by decide +kernel
theorem dX1_divides_46 : decode cX1_divides 46 = .ok (.getfield 128, 3) := by decide +kernel
theorem dX1_divides_49 : decode cX1_divides 49 = .ok (.iload 4, 2) := by decide +kernel
theorem dX1_divides_51 : decode cX1_divides 51 = .ok (.iconst 1, 1) := by decide +kernel
theorem dX1_divides_52 : decode cX1_divides 52 = .ok (.iadd, 1) := by decide +kernel
theorem dX1_divides_53 : decode cX1_divides 53 = .ok (.invokevirtual 131, 3) := by decide +kernel
theorem dX1_divides_56 : decode cX1_divides 56 = .ok (.aload_n 1, 1) := by decide +kernel
theorem dX1_divides_57 : decode cX1_divides 57 = .ok (.aload_n 1, 1) := by decide +kernel
theorem dX1_divides_58 : decode cX1_divides 58 = .ok (.getfield 84, 3) := by decide +kernel
theorem dX1_divides_61 : decode cX1_divides 61 = .ok (.iconst 1, 1) := by decide +kernel
theorem dX1_divides_62 : decode cX1_divides 62 = .ok (.isub, 1) := by decide +kernel
theorem dX1_divides_63 : decode cX1_divides 63 = .ok (.aload_n 0, 1) := by decide +kernel
theorem dX1_divides_64 : decode cX1_divides 64 = .ok (.getfield 25, 3) := by decide +kernel
theorem dX1_divides_67 : decode cX1_divides 67 = .ok (.invokevirtual 91, 3) := by decide +kernel
theorem dX1_divides_70 : decode cX1_divides 70 = .ok (.iload 4, 2) := by decide +kernel
theorem dX1_divides_72 : decode cX1_divides 72 = .ok (.istore 5, 2) := by decide +kernel
theorem dX1_divides_74 : decode cX1_divides 74 = .ok (.iload 5, 2) := by decide +kernel
theorem dX1_divides_76 : decode cX1_divides 76 = .ok (.ifCond .lt 125, 3) := by decide +kernel
theorem dX1_divides_79 : decode cX1_divides 79 = .ok (.aload_n 0, 1) := by decide +kernel
theorem dX1_divides_80 : decode cX1_divides 80 = .ok (.getfield 58, 3) := by decide +kernel
theorem dX1_divides_83 : decode cX1_divides 83 = .ok (.iload 5, 2) := by decide +kernel
theorem dX1_divides_85 : decode cX1_divides 85 = .ok (.aload_n 1, 1) := by decide +kernel
theorem dX1_divides_86 : decode cX1_divides 86 = .ok (.getfield 84, 3) := by decide +kernel
theorem dX1_divides_89 : decode cX1_divides 89 = .ok (.iadd, 1) := by decide +kernel
theorem dX1_divides_90 : decode cX1_divides 90 = .ok (.iconst 1, 1) := by decide +kernel
theorem dX1_divides_91 : decode cX1_divides 91 = .ok (.isub, 1) := by decide +kernel
theorem dX1_divides_92 : decode cX1_divides 92 = .ok (.aload_n 0, 1) := by decide +kernel
theorem dX1_divides_93 : decode cX1_divides 93 = .ok (.getfield 21, 3) := by decide +kernel
theorem dX1_divides_96 : decode cX1_divides 96 = .ok (.invokevirtual 91, 3) := by decide +kernel
theorem dX1_divides_99 : decode cX1_divides 99 = .ok (.aload_n 0, 1) := by decide +kernel
theorem dX1_divides_100 : decode cX1_divides 100 = .ok (.getfield 21, 3) := by decide +kernel
theorem dX1_divides_103 : decode cX1_divides 103 = .ok (.aload_n 0, 1) := by decide +kernel
theorem dX1_divides_104 : decode cX1_divides 104 = .ok (.getfield 25, 3) := by decide +kernel
theorem dX1_divides_107 : decode cX1_divides 107 = .ok (.aload_n 0, 1) := by decide +kernel
theorem dX1_divides_108 : decode cX1_divides 108 = .ok (.getfield 37, 3) := by decide +kernel
theorem dX1_divides_111 : decode cX1_divides 111 = .ok (.invokevirtual 134, 3) := by decide +kernel
theorem dX1_divides_114 : decode cX1_divides 114 = .ok (.aload_n 0, 1) := by decide +kernel
theorem dX1_divides_115 : decode cX1_divides 115 = .ok (.getfield 21, 3) := by decide +kernel
theorem dX1_divides_118 : decode cX1_divides 118 = .ok (.invokevirtual 137, 3) := by decide +kernel
theorem dX1_divides_121 : decode cX1_divides 121 = .ok (.ifCond .eq 17, 3) := by decide +kernel
theorem dX1_divides_124 : decode cX1_divides 124 = .ok (.aload_n 0, 1) := by decide +kernel
theorem dX1_divides_125 : decode cX1_divides 125 = .ok (.getfield 37, 3) := by decide +kernel
theorem dX1_divides_128 : decode cX1_divides 128 = .ok (.getfield 88, 3) := by decide +kernel
theorem dX1_divides_131 : decode cX1_divides 131 = .ok (.aload_n 3, 1) := by decide +kernel
theorem dX1_divides_132 : decode cX1_divides 132 = .ok (.getfield 128, 3) := by decide +kernel
theorem dX1_divides_135 : decode cX1_divides 135 = .ok (.if_icmp .le 5, 3) := by decide +kernel
theorem dX1_divides_138 : decode cX1_divides 138 = .ok (.iconst 0, 1) := by decide +kernel
theorem dX1_divides_139 : decode cX1_divides 139 = .ok (.ireturn, 1) := by decide +kernel
theorem dX1_divides_140 : decode cX1_divides 140 = .ok (.aload_n 3, 1) := by decide +kernel
theorem dX1_divides_141 : decode cX1_divides 141 = .ok (.iload 5, 2) := by decide +kernel
theorem dX1_divides_143 : decode cX1_divides 143 = .ok (.aload_n 0, 1) := by decide +kernel
theorem dX1_divides_144 : decode cX1_divides 144 = .ok (.getfield 37, 3) := by decide +kernel
theorem dX1_divides_147 : decode cX1_divides 147 = .ok (.invokevirtual 106, 3) := by decide +kernel
theorem dX1_divides_150 : decode cX1_divides 150 = .ok (.iconst 0, 1) := by decide +kernel
theorem dX1_divides_151 : decode cX1_divides 151 = .ok (.istore 6, 2) := by decide +kernel
theorem dX1_divides_153 : decode cX1_divides 153 = .ok (.iload 6, 2) := by decide +kernel
theorem dX1_divides_155 : decode cX1_divides 155 = .ok (.aload_n 1, 1) := by decide +kernel
theorem dX1_divides_156 : decode cX1_divides 156 = .ok (.getfield 84, 3) := by decide +kernel
theorem dX1_divides_159 : decode cX1_divides 159 = .ok (.if_icmp .ge 36, 3) := by decide +kernel
theorem dX1_divides_162 : decode cX1_divides 162 = .ok (.aload_n 0, 1) := by decide +kernel
theorem dX1_divides_163 : decode cX1_divides 163 = .ok (.getfield 37, 3) := by decide +kernel
theorem dX1_divides_166 : decode cX1_divides 166 = .ok (.invokevirtual 137, 3) := by decide +kernel
theorem dX1_divides_169 : decode cX1_divides 169 = .ok (.ifCond .ne 26, 3) := by decide +kernel
theorem dX1_divides_172 : decode cX1_divides 172 = .ok (.aload_n 0, 1) := by decide +kernel
theorem dX1_divides_173 : decode cX1_divides 173 = .ok (.aload_n 1, 1) := by decide +kernel
theorem dX1_divides_174 : decode cX1_divides 174 = .ok (.iload 6, 2) := by decide +kernel
theorem dX1_divides_176 : decode cX1_divides 176 = .ok (.iload 6, 2) := by decide +kernel
theorem dX1_divides_178 : decode cX1_divides 178 = .ok (.iload 5, 2) := by decide +kernel
theorem dX1_divides_180 : decode cX1_divides 180 = .ok (.iadd, 1) := by decide +kernel
theorem dX1_divides_181 : decode cX1_divides 181 = .ok (.invokevirtual 138, 3) := by decide +kernel
theorem dX1_divides_184 : decode cX1_divides 184 = .ok (.ifCond .ne 5, 3) := by decide +kernel
theorem dX1_divides_187 : decode cX1_divides 187 = .ok (.iconst 0, 1) := by decide +kernel
theorem dX1_divides_188 : decode cX1_divides 188 = .ok (.ireturn, 1) := by decide +kernel
theorem dX1_divides_189 : decode cX1_divides 189 = .ok (.iinc 6 1, 3) := by decide +kernel
theorem dX1_divides_192 : decode cX1_divides 192 = .ok (.goto (-39), 3) := by decide +kernel
theorem dX1_divides_195 : decode cX1_divides 195 = .ok (.iinc 5 (-1), 3) := by decide +kernel
theorem dX1_divides_198 : decode cX1_divides 198 = .ok (.goto (-124), 3) := by decide +kernel
theorem dX1_divides_201 : decode cX1_divides 201 = .ok (.aload_n 3, 1) := by decide +kernel
theorem dX1_divides_202 : decode cX1_divides 202 = .ok (.invokevirtual 109, 3) := by decide +kernel
theorem dX1_divides_205 : decode cX1_divides 205 = .ok (.aload_n 0, 1) := by decide +kernel
theorem dX1_divides_206 : decode cX1_divides 206 = .ok (.getfield 58, 3) := by decide +kernel
theorem dX1_divides_209 : decode cX1_divides 209 = .ok (.invokevirtual 109, 3) := by decide +kernel
theorem dX1_divides_212 : decode cX1_divides 212 = .ok (.aload_n 0, 1) := by decide +kernel
theorem dX1_divides_213 : decode cX1_divides 213 = .ok (.getfield 58, 3) := by decide +kernel
theorem dX1_divides_216 : decode cX1_divides 216 = .ok (.invokevirtual 116, 3) := by decide +kernel
theorem dX1_divides_219 : decode cX1_divides 219 = .ok (.ireturn, 1) := by decide +kernel
theorem dX1_takeAway_0 : decode cX1_takeAway 0 = .ok (.aload_n 1, 1) := by decide +kernel
theorem dX1_takeAway_1 : decode cX1_takeAway 1 = .ok (.iload_n 2, 1) := by decide +kernel
theorem dX1_takeAway_2 : decode cX1_takeAway 2 = .ok (.aload_n 0, 1) := by decide +kernel
theorem dX1_takeAway_3 : decode cX1_takeAway 3 = .ok (.getfield 21, 3) := by decide +kernel
theorem dX1_takeAway_6 : decode cX1_takeAway 6 = .ok (.invokevirtual 91, 3) := by decide +kernel
theorem dX1_takeAway_9 : decode cX1_takeAway 9 = .ok (.aload_n 0, 1) := by decide +kernel
theorem dX1_takeAway_10 : decode cX1_takeAway 10 = .ok (.getfield 40, 3) := by decide +kernel
theorem dX1_takeAway_13 : decode cX1_takeAway 13 = .ok (.aload_n 0, 1) := by decide +kernel
theorem dX1_takeAway_14 : decode cX1_takeAway 14 = .ok (.getfield 21, 3) := by decide +kernel
theorem dX1_takeAway_17 : decode cX1_takeAway 17 = .ok (.aload_n 0, 1) := by decide +kernel
theorem dX1_takeAway_18 : decode cX1_takeAway 18 = .ok (.getfield 37, 3) := by decide +kernel
theorem dX1_takeAway_21 : decode cX1_takeAway 21 = .ok (.invokevirtual 142, 3) := by decide +kernel
theorem dX1_takeAway_24 : decode cX1_takeAway 24 = .ok (.aload_n 0, 1) := by decide +kernel
theorem dX1_takeAway_25 : decode cX1_takeAway 25 = .ok (.getfield 40, 3) := by decide +kernel
theorem dX1_takeAway_28 : decode cX1_takeAway 28 = .ok (.getfield 88, 3) := by decide +kernel
theorem dX1_takeAway_31 : decode cX1_takeAway 31 = .ok (.aload_n 0, 1) := by decide +kernel
theorem dX1_takeAway_32 : decode cX1_takeAway 32 = .ok (.getfield 58, 3) := by decide +kernel
theorem dX1_takeAway_35 : decode cX1_takeAway 35 = .ok (.getfield 128, 3) := by decide +kernel
theorem dX1_takeAway_38 : decode cX1_takeAway 38 = .ok (.if_icmp .le 5, 3) := by decide +kernel
theorem dX1_takeAway_41 : decode cX1_takeAway 41 = .ok (.iconst 0, 1) := by decide +kernel
theorem dX1_takeAway_42 : decode cX1_takeAway 42 = .ok (.ireturn, 1) := by decide +kernel
theorem dX1_takeAway_43 : decode cX1_takeAway 43 = .ok (.iconst 0, 1) := by decide +kernel
theorem dX1_takeAway_44 : decode cX1_takeAway 44 = .ok (.istore 4, 2) := by decide +kernel
theorem dX1_takeAway_46 : decode cX1_takeAway 46 = .ok (.iload 4, 2) := by decide +kernel
theorem dX1_takeAway_48 : decode cX1_takeAway 48 = .ok (.aload_n 0, 1) := by decide +kernel
theorem dX1_takeAway_49 : decode cX1_takeAway 49 = .ok (.getfield 40, 3) := by decide +kernel
theorem dX1_takeAway_52 : decode cX1_takeAway 52 = .ok (.getfield 88, 3) := by decide +kernel
theorem dX1_takeAway_55 : decode cX1_takeAway 55 = .ok (.if_icmp .ge 56, 3) := by decide +kernel
theorem dX1_takeAway_58 : decode cX1_takeAway 58 = .ok (.iload_n 3, 1) := by decide +kernel
theorem dX1_takeAway_59 : decode cX1_takeAway 59 = .ok (.aload_n 0, 1) := by decide +kernel
theorem dX1_takeAway_60 : decode cX1_takeAway 60 = .ok (.getfield 58, 3) := by decide +kernel
theorem dX1_takeAway_63 : decode cX1_takeAway 63 = .ok (.getfield 144, 3) := by decide +kernel
theorem dX1_takeAway_66 : decode cX1_takeAway 66 = .ok (.imul, 1) := by decide +kernel
theorem dX1_takeAway_67 : decode cX1_takeAway 67 = .ok (.iload 4, 2) := by decide +kernel
theorem dX1_takeAway_69 : decode cX1_takeAway 69 = .ok (.iadd, 1) := by decide +kernel
theorem dX1_takeAway_70 : decode cX1_takeAway 70 = .ok (.istore 5, 2) := by decide +kernel
theorem dX1_takeAway_72 : decode cX1_takeAway 72 = .ok (.aload_n 0, 1) := by decide +kernel
theorem dX1_takeAway_73 : decode cX1_takeAway 73 = .ok (.getfield 58, 3) := by decide +kernel
theorem dX1_takeAway_76 : decode cX1_takeAway 76 = .ok (.getfield 147, 3) := by decide +kernel
theorem dX1_takeAway_79 : decode cX1_takeAway 79 = .ok (.iload 5, 2) := by decide +kernel
theorem dX1_takeAway_81 : decode cX1_takeAway 81 = .ok (.aload_n 0, 1) := by decide +kernel
theorem dX1_takeAway_82 : decode cX1_takeAway 82 = .ok (.getfield 58, 3) := by decide +kernel
theorem dX1_takeAway_85 : decode cX1_takeAway 85 = .ok (.getfield 147, 3) := by decide +kernel
theorem dX1_takeAway_88 : decode cX1_takeAway 88 = .ok (.iload 5, 2) := by decide +kernel
theorem dX1_takeAway_90 : decode cX1_takeAway 90 = .ok (.iaload, 1) := by decide +kernel
theorem dX1_takeAway_91 : decode cX1_takeAway 91 = .ok (.aload_n 0, 1) := by decide +kernel
theorem dX1_takeAway_92 : decode cX1_takeAway 92 = .ok (.getfield 40, 3) := by decide +kernel
theorem dX1_takeAway_95 : decode cX1_takeAway 95 = .ok (.getfield 99, 3) := by decide +kernel
theorem dX1_takeAway_98 : decode cX1_takeAway 98 = .ok (.iload 4, 2) := by decide +kernel
theorem dX1_takeAway_100 : decode cX1_takeAway 100 = .ok (.iaload, 1) := by decide +kernel
theorem dX1_takeAway_101 : decode cX1_takeAway 101 = .ok (.invokestatic 148, 3) := by decide +kernel
theorem dX1_takeAway_104 : decode cX1_takeAway 104 = .ok (.iastore, 1) := by decide +kernel
theorem dX1_takeAway_105 : decode cX1_takeAway 105 = .ok (.iinc 4 1, 3) := by decide +kernel
theorem dX1_takeAway_108 : decode cX1_takeAway 108 = .ok (.goto (-62), 3) := by decide +kernel
theorem dX1_takeAway_111 : decode cX1_takeAway 111 = .ok (.iconst 1, 1) := by decide +kernel
theorem dX1_takeAway_112 : decode cX1_takeAway 112 = .ok (.ireturn, 1) := by decide +kernel
abbrev W_X1_common (g : GX) (d : Nat) (av : List Value) (Q : QT) (n : Nat) (pc : Nat) (ls : LV) (stk : List Value) (h : Hp) : Prop := RJ g m_X1_common (d + 1) 0 0 av Q pc ls stk n h 0 0
theorem s_X1_common_0 {g : GX} {d : Nat} {av : List Value} {Q : QT} {n : Nat} {h : Hp} {a1 : Nat} {a2 : Nat} {a3 : Nat} (hp : g.2.2.2.2 = true) (t1 : lay a1 = (0, 4, 4)) (t2 : lay a2 = (0, 4, 4)) (t3 : lay a3 = (0, 4, 4)) (H : CallI g m_X4_isZero d [.ref a1] n h (fun v1 h1 => (((¬ v1 = (0 : Int32)) → (W_X1_common g d av Q n 14 [some (.ref 1), some (.ref a1), some (.ref a2), some (.ref a3)] [] h1)) ∧ ((v1 = (0 : Int32)) → (CallI g m_X4_isZero d [.ref a2] n h1 (fun v2 h2 => (((v2 = (0 : Int32)) → (CallV g m_X4_copy d [.ref 23, .ref a1] n h2 (fun h3 => (CallV g m_X4_copy d [.ref 25, .ref a2] n h3 (fun h4 => (CallV g m_X1_primitive d [.ref 1, .ref 23, .ref 15] n h4 (fun h5 => (CallV g m_X1_primitive d [.ref 1, .ref 25, .ref 13] n h5 (fun h6 => (CallV g m_X2_common d [.ref 2, .ref 15, .ref 13, .ref 15] n h6 (fun h7 => ((((ri h7 23 3) ≤ (1 : Int32)) → (W_X1_common g d av Q n 147 [some (.ref 1), none, none, some (.ref a3)] [] h7)) ∧ ((¬ (ri h7 23 3) ≤ (1 : Int32)) → ((((ri h7 25 3) ≤ (1 : Int32)) → (W_X1_common g d av Q n 147 [some (.ref 1), none, none, some (.ref a3)] [] h7)) ∧ ((¬ (ri h7 25 3) ≤ (1 : Int32)) → (CallI g m_X1_alongK d [.ref 1] n h7 (fun v8 h8 => (((v8 = (0 : Int32)) → (W_X1_common g d av Q n 147 [some (.ref 1), none, none, some (.ref a3)] [] h8)) ∧ ((¬ v8 = (0 : Int32)) → (CallV g m_X4_copy d [.ref a3, .ref 27] n h8 (fun h9 => (CallV g m_X4_timesPoly d [.ref a3, .ref 15, .ref 33] n h9 (fun h10 => (W_X1_common g d av Q n 168 [some (.ref 1), none, none, some (.ref a3)] [] h10)))))))))))))))))))))))) ∧ ((¬ v2 = (0 : Int32)) → (W_X1_common g d av Q n 14 [some (.ref 1), some (.ref a1), some (.ref a2), some (.ref a3)] [] h2))))))))) : W_X1_common g d av Q n 0 [some (.ref 1), some (.ref a1), some (.ref a2), some (.ref a3)] [] h := by
  refine r_aload_n dX1_common_0 rfl rfl ?_
  refine k_VI (As := []) (stk := []) hp cv_X1_116 dX1_common_1 rfl (Nat.le_of_ble_eq_true rfl) t1 (H.mono (fun v1 h1 H => ?_)) ⟨Nat.le_refl _, Nat.le_refl _⟩
  refine r_if_ne (tgt := 14) dX1_common_4 rfl (fun cH => ?_) (fun cH => ?_)
  · replace H := H.1 cH
    exact H
  · replace H := H.2 cH
    refine r_aload_n dX1_common_7 rfl rfl ?_
    refine k_VI (As := []) (stk := []) hp cv_X1_116 dX1_common_8 rfl (Nat.le_of_ble_eq_true rfl) t2 (H.mono (fun v2 h2 H => ?_)) ⟨Nat.le_refl _, Nat.le_refl _⟩
    refine r_if_eq (tgt := 36) dX1_common_11 rfl (fun cH => ?_) (fun cH => ?_)
    · replace H := H.1 cH
      refine r_aload_n dX1_common_36 rfl rfl ?_
      refine m_getF (x := 23) hp fw_X1_48 dX1_common_37 rfl ly_1 (ff_1_8 ly_1) ?_
      refine r_aload_n dX1_common_40 rfl rfl ?_
      refine k_VV (As := [.ref a1]) (stk := []) hp cv_X1_124 dX1_common_41 rfl (Nat.le_of_ble_eq_true rfl) (lf_1_8 ly_1) (H.mono (fun h3 H => ?_)) ⟨Nat.le_refl _, Nat.le_refl _⟩
      refine r_aload_n dX1_common_44 rfl rfl ?_
      refine m_getF (x := 25) hp fw_X1_52 dX1_common_45 rfl ly_1 (ff_1_9 ly_1) ?_
      refine r_aload_n dX1_common_48 rfl rfl ?_
      refine k_VV (As := [.ref a2]) (stk := []) hp cv_X1_124 dX1_common_49 rfl (Nat.le_of_ble_eq_true rfl) (lf_1_9 ly_1) (H.mono (fun h4 H => ?_)) ⟨Nat.le_refl _, Nat.le_refl _⟩
      refine r_aload_n dX1_common_52 rfl rfl ?_
      refine r_aload_n dX1_common_53 rfl rfl ?_
      refine m_getF (x := 23) hp fw_X1_48 dX1_common_54 rfl ly_1 (ff_1_8 ly_1) ?_
      refine r_aload_n dX1_common_57 rfl rfl ?_
      refine m_getF (x := 15) hp fw_X1_31 dX1_common_58 rfl ly_1 (ff_1_4 ly_1) ?_
      refine k_VV (As := [.ref 23, .ref 15]) (stk := []) hp cv_X1_157 dX1_common_61 rfl (Nat.le_of_ble_eq_true rfl) ly_1 (H.mono (fun h5 H => ?_)) ⟨Nat.le_refl _, Nat.le_refl _⟩
      refine r_aload_n dX1_common_64 rfl rfl ?_
      refine r_aload_n dX1_common_65 rfl rfl ?_
      refine m_getF (x := 25) hp fw_X1_52 dX1_common_66 rfl ly_1 (ff_1_9 ly_1) ?_
      refine r_aload_n dX1_common_69 rfl rfl ?_
      refine m_getF (x := 13) hp fw_X1_28 dX1_common_70 rfl ly_1 (ff_1_3 ly_1) ?_
      refine k_VV (As := [.ref 25, .ref 13]) (stk := []) hp cv_X1_157 dX1_common_73 rfl (Nat.le_of_ble_eq_true rfl) ly_1 (H.mono (fun h6 H => ?_)) ⟨Nat.le_refl _, Nat.le_refl _⟩
      refine r_aload_n dX1_common_76 rfl rfl ?_
      refine m_getF (x := 2) hp fw_X1_14 dX1_common_77 rfl ly_1 (ff_1_0 ly_1) ?_
      refine r_aload_n dX1_common_80 rfl rfl ?_
      refine m_getF (x := 15) hp fw_X1_31 dX1_common_81 rfl ly_1 (ff_1_4 ly_1) ?_
      refine r_aload_n dX1_common_84 rfl rfl ?_
      refine m_getF (x := 13) hp fw_X1_28 dX1_common_85 rfl ly_1 (ff_1_3 ly_1) ?_
      refine r_aload_n dX1_common_88 rfl rfl ?_
      refine m_getF (x := 15) hp fw_X1_31 dX1_common_89 rfl ly_1 (ff_1_4 ly_1) ?_
      refine k_VV (As := [.ref 15, .ref 13, .ref 15]) (stk := []) hp cv_X1_95 dX1_common_92 rfl (Nat.le_of_ble_eq_true rfl) (lf_1_0 ly_1) (H.mono (fun h7 H => ?_)) ⟨Nat.le_refl _, Nat.le_refl _⟩
      refine r_aload_n dX1_common_95 rfl rfl ?_
      refine m_getF (x := 23) hp fw_X1_48 dX1_common_96 rfl ly_1 (ff_1_8 ly_1) ?_
      refine m_getI hp fw_X1_84 dX1_common_99 rfl (lf_1_8 ly_1) ?_
      refine r_iconst (v := (1 : Int32)) dX1_common_102 rfl ?_
      refine r_icmp_le (tgt := 147) dX1_common_103 rfl (fun cH => ?_) (fun cH => ?_)
      · replace H := H.1 cH
        refine r_prune [true, false, false, true] (ls2 := [some (.ref 1), none, none, some (.ref a3)]) rfl ?_
        exact H
      · replace H := H.2 cH
        refine r_aload_n dX1_common_106 rfl rfl ?_
        refine m_getF (x := 25) hp fw_X1_52 dX1_common_107 rfl ly_1 (ff_1_9 ly_1) ?_
        refine m_getI hp fw_X1_84 dX1_common_110 rfl (lf_1_9 ly_1) ?_
        refine r_iconst (v := (1 : Int32)) dX1_common_113 rfl ?_
        refine r_icmp_le (tgt := 147) dX1_common_114 rfl (fun cH => ?_) (fun cH => ?_)
        · replace H := H.1 cH
          refine r_prune [true, false, false, true] (ls2 := [some (.ref 1), none, none, some (.ref a3)]) rfl ?_
          exact H
        · replace H := H.2 cH
          refine r_aload_n dX1_common_117 rfl rfl ?_
          refine k_VI (As := []) (stk := []) hp cv_X1_160 dX1_common_118 rfl (Nat.le_of_ble_eq_true rfl) ly_1 (H.mono (fun v8 h8 H => ?_)) ⟨Nat.le_refl _, Nat.le_refl _⟩
          refine r_if_eq (tgt := 147) dX1_common_121 rfl (fun cH => ?_) (fun cH => ?_)
          · replace H := H.1 cH
            refine r_prune [true, false, false, true] (ls2 := [some (.ref 1), none, none, some (.ref a3)]) rfl ?_
            exact H
          · replace H := H.2 cH
            refine r_aload_n dX1_common_124 rfl rfl ?_
            refine r_aload_n dX1_common_125 rfl rfl ?_
            refine m_getF (x := 27) hp fw_X1_55 dX1_common_126 rfl ly_1 (ff_1_10 ly_1) ?_
            refine k_VV (As := [.ref 27]) (stk := []) hp cv_X1_124 dX1_common_129 rfl (Nat.le_of_ble_eq_true rfl) t3 (H.mono (fun h9 H => ?_)) ⟨Nat.le_refl _, Nat.le_refl _⟩
            refine r_aload_n dX1_common_132 rfl rfl ?_
            refine r_aload_n dX1_common_133 rfl rfl ?_
            refine m_getF (x := 15) hp fw_X1_31 dX1_common_134 rfl ly_1 (ff_1_4 ly_1) ?_
            refine r_aload_n dX1_common_137 rfl rfl ?_
            refine m_getF (x := 33) hp fw_X1_64 dX1_common_138 rfl ly_1 (ff_1_13 ly_1) ?_
            refine k_VV (As := [.ref 15, .ref 33]) (stk := []) hp cv_X1_163 dX1_common_141 rfl (Nat.le_of_ble_eq_true rfl) t3 (H.mono (fun h10 H => ?_)) ⟨Nat.le_refl _, Nat.le_refl _⟩
            refine r_goto (tgt := 168) dX1_common_144 rfl ?_
            refine r_prune [true, false, false, true] (ls2 := [some (.ref 1), none, none, some (.ref a3)]) rfl ?_
            exact H
    · replace H := H.2 cH
      exact H
theorem s_X1_common_14 {g : GX} {d : Nat} {av : List Value} {Q : QT} {n : Nat} {h : Hp} {a1 : Nat} {a2 : Nat} {a3 : Nat} (hp : g.2.2.2.2 = true) (t1 : lay a1 = (0, 4, 4)) (t2 : lay a2 = (0, 4, 4)) (t3 : lay a3 = (0, 4, 4)) (H : CallI g m_X4_isZero d [.ref a1] n h (fun v1 h1 => (((v1 = (0 : Int32)) → (W_X1_common g d av Q n 27 [some (.ref 1), none, none, some (.ref a3)] [.ref a1, .ref a3] h1)) ∧ ((¬ v1 = (0 : Int32)) → (W_X1_common g d av Q n 27 [some (.ref 1), none, none, some (.ref a3)] [.ref a2, .ref a3] h1))))) : W_X1_common g d av Q n 14 [some (.ref 1), some (.ref a1), some (.ref a2), some (.ref a3)] [] h := by
  refine r_aload_n dX1_common_14 rfl rfl ?_
  refine r_aload_n dX1_common_15 rfl rfl ?_
  refine k_VI (As := []) (stk := [.ref a3]) hp cv_X1_116 dX1_common_16 rfl (Nat.le_of_ble_eq_true rfl) t1 (H.mono (fun v1 h1 H => ?_)) ⟨Nat.le_refl _, Nat.le_refl _⟩
  refine r_if_eq (tgt := 26) dX1_common_19 rfl (fun cH => ?_) (fun cH => ?_)
  · replace H := H.1 cH
    refine r_aload_n dX1_common_26 rfl rfl ?_
    refine r_prune [true, false, false, true] (ls2 := [some (.ref 1), none, none, some (.ref a3)]) rfl ?_
    exact H
  · replace H := H.2 cH
    refine r_aload_n dX1_common_22 rfl rfl ?_
    refine r_goto (tgt := 27) dX1_common_23 rfl ?_
    refine r_prune [true, false, false, true] (ls2 := [some (.ref 1), none, none, some (.ref a3)]) rfl ?_
    exact H
theorem s_X1_common_27 {g : GX} {d : Nat} {av : List Value} {Q : QT} {n : Nat} {h : Hp} {a3 : Nat} {as0 : Nat} {as1 : Nat} (hp : g.2.2.2.2 = true) (t3 : lay a3 = (0, 4, 4)) (ts0 : lay as0 = (0, 4, 4)) (ts1 : lay as1 = (0, 4, 4)) (H : CallV g m_X4_copy d [.ref as1, .ref as0] n h (fun h1 => (CallV g m_X1_makeHead d [.ref 1, .ref a3] n h1 (fun h2 => (Q none n h2))))) : W_X1_common g d av Q n 27 [some (.ref 1), none, none, some (.ref a3)] [.ref as0, .ref as1] h := by
  refine k_VV (As := [.ref as0]) (stk := []) hp cv_X1_124 dX1_common_27 rfl (Nat.le_of_ble_eq_true rfl) ts1 (H.mono (fun h1 H => ?_)) ⟨Nat.le_refl _, Nat.le_refl _⟩
  refine r_aload_n dX1_common_30 rfl rfl ?_
  refine r_aload_n dX1_common_31 rfl rfl ?_
  refine k_VV (As := [.ref a3]) (stk := []) hp cv_X1_154 dX1_common_32 rfl (Nat.le_of_ble_eq_true rfl) ly_1 (H.mono (fun h2 H => ?_)) ⟨Nat.le_refl _, Nat.le_refl _⟩
  exact r_vret dX1_common_35 rfl (Nat.le_refl _) (Nat.le_refl _) H
theorem s_X1_common_147 {g : GX} {d : Nat} {av : List Value} {Q : QT} {n : Nat} {h : Hp} {a3 : Nat} (hp : g.2.2.2.2 = true) (t3 : lay a3 = (0, 4, 4)) (H : CallV g m_X4_open d [.ref a3, .int (ri h 15 1), .int (1 : Int32)] n h (fun h1 => (CallV g m_X4_putRow d [.ref a3, .int (0 : Int32), .ref 15] n h1 (fun h2 => (W_X1_common g d av Q n 168 [some (.ref 1), none, none, some (.ref a3)] [] h2))))) : W_X1_common g d av Q n 147 [some (.ref 1), none, none, some (.ref a3)] [] h := by
  refine r_aload_n dX1_common_147 rfl rfl ?_
  refine r_aload_n dX1_common_148 rfl rfl ?_
  refine m_getF (x := 15) hp fw_X1_31 dX1_common_149 rfl ly_1 (ff_1_4 ly_1) ?_
  refine m_getI hp fw_X1_88 dX1_common_152 rfl (lf_1_4 ly_1) ?_
  refine r_iconst (v := (1 : Int32)) dX1_common_155 rfl ?_
  refine k_VV (As := [.int (ri h 15 1), .int (1 : Int32)]) (stk := []) hp cv_X1_131 dX1_common_156 rfl (Nat.le_of_ble_eq_true rfl) t3 (H.mono (fun h1 H => ?_)) ⟨Nat.le_refl _, Nat.le_refl _⟩
  refine r_aload_n dX1_common_159 rfl rfl ?_
  refine r_iconst (v := (0 : Int32)) dX1_common_160 rfl ?_
  refine r_aload_n dX1_common_161 rfl rfl ?_
  refine m_getF (x := 15) hp fw_X1_31 dX1_common_162 rfl ly_1 (ff_1_4 ly_1) ?_
  refine k_VV (As := [.int (0 : Int32), .ref 15]) (stk := []) hp cv_X1_106 dX1_common_165 rfl (Nat.le_of_ble_eq_true rfl) t3 (H.mono (fun h2 H => ?_)) ⟨Nat.le_refl _, Nat.le_refl _⟩
  exact H
theorem s_X1_common_168 {g : GX} {d : Nat} {av : List Value} {Q : QT} {n : Nat} {h : Hp} {a3 : Nat} (hp : g.2.2.2.2 = true) (t3 : lay a3 = (0, 4, 4)) (H : CallV g m_X1_makeHead d [.ref 1, .ref a3] n h (fun h1 => (Q none n h1))) : W_X1_common g d av Q n 168 [some (.ref 1), none, none, some (.ref a3)] [] h := by
  refine r_aload_n dX1_common_168 rfl rfl ?_
  refine r_aload_n dX1_common_169 rfl rfl ?_
  refine k_VV (As := [.ref a3]) (stk := []) hp cv_X1_154 dX1_common_170 rfl (Nat.le_of_ble_eq_true rfl) ly_1 (H.mono (fun h1 H => ?_)) ⟨Nat.le_refl _, Nat.le_refl _⟩
  exact r_vret dX1_common_173 rfl (Nat.le_refl _) (Nat.le_refl _) H
abbrev W_X1_makeHead (g : GX) (d : Nat) (av : List Value) (Q : QT) (n : Nat) (pc : Nat) (ls : LV) (stk : List Value) (h : Hp) : Prop := RJ g m_X1_makeHead (d + 1) 0 0 av Q pc ls stk n h 0 0
theorem s_X1_makeHead_0 {g : GX} {d : Nat} {av : List Value} {Q : QT} {n : Nat} {h : Hp} {a1 : Nat} (hp : g.2.2.2.2 = true) (t1 : lay a1 = (0, 4, 4)) (H : CallI g m_X4_isZero d [.ref a1] n h (fun v1 h1 => (((¬ v1 = (0 : Int32)) → (Q none n h1)) ∧ ((v1 = (0 : Int32)) → (CallI g m_X4_head d [.ref a1] n h1 (fun v2 h2 => (((v2 = (1 : Int32)) → (Q none n h2)) ∧ ((¬ v2 = (1 : Int32)) → (CallI g m_X4_head d [.ref a1] n h2 (fun v3 h3 => (CallI g m_X0_inverse d [.int v3] n h3 (fun v4 h4 => (CallV g m_X4_scale d [.ref a1, .int v4] n h4 (fun h5 => (Q none n h5))))))))))))))) : W_X1_makeHead g d av Q n 0 [some (.ref 1), some (.ref a1)] [] h := by
  refine r_aload_n dX1_makeHead_0 rfl rfl ?_
  refine k_VI (As := []) (stk := []) hp cv_X1_116 dX1_makeHead_1 rfl (Nat.le_of_ble_eq_true rfl) t1 (H.mono (fun v1 h1 H => ?_)) ⟨Nat.le_refl _, Nat.le_refl _⟩
  refine r_if_ne (tgt := 26) dX1_makeHead_4 rfl (fun cH => ?_) (fun cH => ?_)
  · replace H := H.1 cH
    exact r_vret dX1_makeHead_26 rfl (Nat.le_refl _) (Nat.le_refl _) H
  · replace H := H.2 cH
    refine r_aload_n dX1_makeHead_7 rfl rfl ?_
    refine k_VI (As := []) (stk := []) hp cv_X1_167 dX1_makeHead_8 rfl (Nat.le_of_ble_eq_true rfl) t1 (H.mono (fun v2 h2 H => ?_)) ⟨Nat.le_refl _, Nat.le_refl _⟩
    refine r_iconst (v := (1 : Int32)) dX1_makeHead_11 rfl ?_
    refine r_icmp_eq (tgt := 26) dX1_makeHead_12 rfl (fun cH => ?_) (fun cH => ?_)
    · replace H := H.1 cH
      exact r_vret dX1_makeHead_26 rfl (Nat.le_refl _) (Nat.le_refl _) H
    · replace H := H.2 cH
      refine r_aload_n dX1_makeHead_15 rfl rfl ?_
      refine r_aload_n dX1_makeHead_16 rfl rfl ?_
      refine k_VI (As := []) (stk := [.ref a1]) hp cv_X1_167 dX1_makeHead_17 rfl (Nat.le_of_ble_eq_true rfl) t1 (H.mono (fun v3 h3 H => ?_)) ⟨Nat.le_refl _, Nat.le_refl _⟩
      refine k_SI (As := [.int v3]) (stk := [.ref a1]) cs_X1_171 dX1_makeHead_20 rfl (Nat.le_of_ble_eq_true rfl) (H.mono (fun v4 h4 H => ?_)) ⟨Nat.le_refl _, Nat.le_refl _⟩
      refine k_VV (As := [.int v4]) (stk := []) hp cv_X1_175 dX1_makeHead_23 rfl (Nat.le_of_ble_eq_true rfl) t1 (H.mono (fun h5 H => ?_)) ⟨Nat.le_refl _, Nat.le_refl _⟩
      exact r_vret dX1_makeHead_26 rfl (Nat.le_refl _) (Nat.le_refl _) H
abbrev W_X1_primitive (g : GX) (d : Nat) (av : List Value) (Q : QT) (n : Nat) (pc : Nat) (ls : LV) (stk : List Value) (h : Hp) : Prop := RJ g m_X1_primitive (d + 1) 0 0 av Q pc ls stk n h 0 0
theorem s_X1_primitive_0 {g : GX} {d : Nat} {av : List Value} {Q : QT} {n : Nat} {h : Hp} {a1 : Nat} {a2 : Nat} (hp : g.2.2.2.2 = true) (t1 : lay a1 = (0, 4, 4)) (t2 : lay a2 = (0, 3, 2)) (H : CallV g m_X1_content d [.ref 1, .ref a1, .ref a2] n h (fun h1 => (CallI g m_X4_isZero d [.ref a1] n h1 (fun v2 h2 => (((¬ v2 = (0 : Int32)) → (Q none n h2)) ∧ ((v2 = (0 : Int32)) → (CallV g m_X1_divideRows d [.ref 1, .ref a1, .ref a2] n h2 (fun h3 => (Q none n h3))))))))) : W_X1_primitive g d av Q n 0 [some (.ref 1), some (.ref a1), some (.ref a2)] [] h := by
  refine r_aload_n dX1_primitive_0 rfl rfl ?_
  refine r_aload_n dX1_primitive_1 rfl rfl ?_
  refine r_aload_n dX1_primitive_2 rfl rfl ?_
  refine k_VV (As := [.ref a1, .ref a2]) (stk := []) hp cv_X1_112 dX1_primitive_3 rfl (Nat.le_of_ble_eq_true rfl) ly_1 (H.mono (fun h1 H => ?_)) ⟨Nat.le_refl _, Nat.le_refl _⟩
  refine r_aload_n dX1_primitive_6 rfl rfl ?_
  refine k_VI (As := []) (stk := []) hp cv_X1_116 dX1_primitive_7 rfl (Nat.le_of_ble_eq_true rfl) t1 (H.mono (fun v2 h2 H => ?_)) ⟨Nat.le_refl _, Nat.le_refl _⟩
  refine r_if_ne (tgt := 19) dX1_primitive_10 rfl (fun cH => ?_) (fun cH => ?_)
  · replace H := H.1 cH
    exact r_vret dX1_primitive_19 rfl (Nat.le_refl _) (Nat.le_refl _) H
  · replace H := H.2 cH
    refine r_aload_n dX1_primitive_13 rfl rfl ?_
    refine r_aload_n dX1_primitive_14 rfl rfl ?_
    refine r_aload_n dX1_primitive_15 rfl rfl ?_
    refine k_VV (As := [.ref a1, .ref a2]) (stk := []) hp cv_X1_120 dX1_primitive_16 rfl (Nat.le_of_ble_eq_true rfl) ly_1 (H.mono (fun h3 H => ?_)) ⟨Nat.le_refl _, Nat.le_refl _⟩
    exact r_vret dX1_primitive_19 rfl (Nat.le_refl _) (Nat.le_refl _) H
abbrev W_X1_content (g : GX) (d : Nat) (av : List Value) (Q : QT) (n : Nat) (pc : Nat) (ls : LV) (stk : List Value) (h : Hp) : Prop := RJ g m_X1_content (d + 1) 0 0 av Q pc ls stk n h 0 0
theorem s_X1_content_0 {g : GX} {d : Nat} {av : List Value} {Q : QT} {n : Nat} {h : Hp} {a1 : Nat} {a2 : Nat} (hp : g.2.2.2.2 = true) (t1 : lay a1 = (0, 4, 4)) (t2 : lay a2 = (0, 3, 2)) (H : CallV g m_X3_clear d [.ref a2] n h (fun h1 => (W_X1_content g d av Q n 6 [some (.ref 1), some (.ref a1), some (.ref a2), some (.int (0 : Int32))] [] h1))) : W_X1_content g d av Q n 0 [some (.ref 1), some (.ref a1), some (.ref a2), none] [] h := by
  refine r_aload_n dX1_content_0 rfl rfl ?_
  refine k_VV (As := []) (stk := []) hp cv_X1_81 dX1_content_1 rfl (Nat.le_of_ble_eq_true rfl) t2 (H.mono (fun h1 H => ?_)) ⟨Nat.le_refl _, Nat.le_refl _⟩
  refine r_iconst (v := (0 : Int32)) dX1_content_4 rfl ?_
  refine r_istore_n (ls2 := [some (.ref 1), some (.ref a1), some (.ref a2), some (.int (0 : Int32))]) dX1_content_5 rfl (by decide) rfl ?_
  exact H
theorem s_X1_content_6 {g : GX} {d : Nat} {av : List Value} {Q : QT} {n : Nat} {h : Hp} {a1 : Nat} {a2 : Nat} {x3 : Int32} (hp : g.2.2.2.2 = true) (t1 : lay a1 = (0, 4, 4)) (t2 : lay a2 = (0, 3, 2)) (H : (((ri h a1 3) ≤ x3) → (Q none n h)) ∧ ((¬ (ri h a1 3) ≤ x3) → ((((ri h a2 1) = (1 : Int32)) → (Q none n h)) ∧ ((¬ (ri h a2 1) = (1 : Int32)) → (CallV g m_X4_row d [.ref a1, .int x3, .ref 9] n h (fun h1 => (CallV g m_X2_common d [.ref 2, .ref a2, .ref 9, .ref a2] n h1 (fun h2 => (W_X1_content g d av Q n 6 [some (.ref 1), some (.ref a1), some (.ref a2), some (.int (x3 + (1 : Int32)))] [] h2))))))))) : W_X1_content g d av Q n 6 [some (.ref 1), some (.ref a1), some (.ref a2), some (.int x3)] [] h := by
  refine r_iload_n dX1_content_6 rfl rfl ?_
  refine r_aload_n dX1_content_7 rfl rfl ?_
  refine m_getI hp fw_X1_84 dX1_content_8 rfl t1 ?_
  refine r_icmp_ge (tgt := 50) dX1_content_11 rfl (fun cH => ?_) (fun cH => ?_)
  · replace H := H.1 cH
    exact r_vret dX1_content_50 rfl (Nat.le_refl _) (Nat.le_refl _) H
  · replace H := H.2 cH
    refine r_aload_n dX1_content_14 rfl rfl ?_
    refine m_getI hp fw_X1_88 dX1_content_15 rfl t2 ?_
    refine r_iconst (v := (1 : Int32)) dX1_content_18 rfl ?_
    refine r_icmp_eq (tgt := 50) dX1_content_19 rfl (fun cH => ?_) (fun cH => ?_)
    · replace H := H.1 cH
      exact r_vret dX1_content_50 rfl (Nat.le_refl _) (Nat.le_refl _) H
    · replace H := H.2 cH
      refine r_aload_n dX1_content_22 rfl rfl ?_
      refine r_iload_n dX1_content_23 rfl rfl ?_
      refine r_aload_n dX1_content_24 rfl rfl ?_
      refine m_getF (x := 9) hp fw_X1_21 dX1_content_25 rfl ly_1 (ff_1_1 ly_1) ?_
      refine k_VV (As := [.int x3, .ref 9]) (stk := []) hp cv_X1_91 dX1_content_28 rfl (Nat.le_of_ble_eq_true rfl) t1 (H.mono (fun h1 H => ?_)) ⟨Nat.le_refl _, Nat.le_refl _⟩
      refine r_aload_n dX1_content_31 rfl rfl ?_
      refine m_getF (x := 2) hp fw_X1_14 dX1_content_32 rfl ly_1 (ff_1_0 ly_1) ?_
      refine r_aload_n dX1_content_35 rfl rfl ?_
      refine r_aload_n dX1_content_36 rfl rfl ?_
      refine m_getF (x := 9) hp fw_X1_21 dX1_content_37 rfl ly_1 (ff_1_1 ly_1) ?_
      refine r_aload_n dX1_content_40 rfl rfl ?_
      refine k_VV (As := [.ref a2, .ref 9, .ref a2]) (stk := []) hp cv_X1_95 dX1_content_41 rfl (Nat.le_of_ble_eq_true rfl) (lf_1_0 ly_1) (H.mono (fun h2 H => ?_)) ⟨Nat.le_refl _, Nat.le_refl _⟩
      refine r_iinc (v := (x3 + (1 : Int32))) (ls2 := [some (.ref 1), some (.ref a1), some (.ref a2), some (.int (x3 + (1 : Int32)))]) dX1_content_44 rfl rfl (by decide) rfl ?_
      refine r_goto (tgt := 6) dX1_content_47 rfl ?_
      exact H
abbrev W_X1_divideRows (g : GX) (d : Nat) (av : List Value) (Q : QT) (n : Nat) (pc : Nat) (ls : LV) (stk : List Value) (h : Hp) : Prop := RJ g m_X1_divideRows (d + 1) 0 0 av Q pc ls stk n h 0 0
theorem s_X1_divideRows_0 {g : GX} {d : Nat} {av : List Value} {Q : QT} {n : Nat} {h : Hp} {a1 : Nat} {a2 : Nat} (hp : g.2.2.2.2 = true) (t1 : lay a1 = (0, 4, 4)) (t2 : lay a2 = (0, 3, 2)) (H : ((¬ (ri h a2 1) = (1 : Int32)) → (W_X1_divideRows g d av Q n 19 [some (.ref 1), some (.ref a1), some (.ref a2), none] [] h)) ∧ (((ri h a2 1) = (1 : Int32)) → (vp_in (0 : Int32) (rm (a2 + 1)) ∧ (((¬ (ri h (a2 + 1) ((0 : Int32)).toNatClampNeg) = (1 : Int32)) → (W_X1_divideRows g d av Q n 19 [some (.ref 1), some (.ref a1), some (.ref a2), none] [] h)) ∧ (((ri h (a2 + 1) ((0 : Int32)).toNatClampNeg) = (1 : Int32)) → (Q none n h)))))) : W_X1_divideRows g d av Q n 0 [some (.ref 1), some (.ref a1), some (.ref a2), none] [] h := by
  refine r_aload_n dX1_divideRows_0 rfl rfl ?_
  refine m_getI hp fw_X1_88 dX1_divideRows_1 rfl t2 ?_
  refine r_iconst (v := (1 : Int32)) dX1_divideRows_4 rfl ?_
  refine r_icmp_ne (tgt := 19) dX1_divideRows_5 rfl (fun cH => ?_) (fun cH => ?_)
  · replace H := H.1 cH
    exact H
  · replace H := H.2 cH
    refine r_aload_n dX1_divideRows_8 rfl rfl ?_
    refine m_getF (x := (a2 + 1)) hp fw_X1_99 dX1_divideRows_9 rfl t2 (ff_3_0 t2) ?_
    refine r_iconst (v := (0 : Int32)) dX1_divideRows_12 rfl ?_
    refine m_iald hp dX1_divideRows_13 (lf_3_0 t2) H.1 ?_
    replace H := H.2
    refine r_iconst (v := (1 : Int32)) dX1_divideRows_14 rfl ?_
    refine r_icmp_ne (tgt := 19) dX1_divideRows_15 rfl (fun cH => ?_) (fun cH => ?_)
    · replace H := H.1 cH
      exact H
    · replace H := H.2 cH
      exact r_vret dX1_divideRows_18 rfl (Nat.le_refl _) (Nat.le_refl _) H
theorem s_X1_divideRows_19 {g : GX} {d : Nat} {av : List Value} {Q : QT} {n : Nat} {h : Hp} {a1 : Nat} {a2 : Nat} (hp : g.2.2.2.2 = true) (t1 : lay a1 = (0, 4, 4)) (t2 : lay a2 = (0, 3, 2)) (H : W_X1_divideRows g d av Q n 21 [some (.ref 1), some (.ref a1), some (.ref a2), some (.int (0 : Int32))] [] h) : W_X1_divideRows g d av Q n 19 [some (.ref 1), some (.ref a1), some (.ref a2), none] [] h := by
  refine r_iconst (v := (0 : Int32)) dX1_divideRows_19 rfl ?_
  refine r_istore_n (ls2 := [some (.ref 1), some (.ref a1), some (.ref a2), some (.int (0 : Int32))]) dX1_divideRows_20 rfl (by decide) rfl ?_
  exact H
theorem s_X1_divideRows_21 {g : GX} {d : Nat} {av : List Value} {Q : QT} {n : Nat} {h : Hp} {a1 : Nat} {a2 : Nat} {x3 : Int32} (hp : g.2.2.2.2 = true) (t1 : lay a1 = (0, 4, 4)) (t2 : lay a2 = (0, 3, 2)) (H : (((ri h a1 3) ≤ x3) → (CallV g m_X4_trim d [.ref a1] n h (fun h1 => (Q none n h1)))) ∧ ((¬ (ri h a1 3) ≤ x3) → (CallV g m_X4_row d [.ref a1, .int x3, .ref 9] n h (fun h2 => (CallV g m_X2_divideExactly d [.ref 2, .ref 9, .ref a2] n h2 (fun h3 => (CallV g m_X4_putRow d [.ref a1, .int x3, .ref 9] n h3 (fun h4 => (W_X1_divideRows g d av Q n 21 [some (.ref 1), some (.ref a1), some (.ref a2), some (.int (x3 + (1 : Int32)))] [] h4))))))))) : W_X1_divideRows g d av Q n 21 [some (.ref 1), some (.ref a1), some (.ref a2), some (.int x3)] [] h := by
  refine r_iload_n dX1_divideRows_21 rfl rfl ?_
  refine r_aload_n dX1_divideRows_22 rfl rfl ?_
  refine m_getI hp fw_X1_84 dX1_divideRows_23 rfl t1 ?_
  refine r_icmp_ge (tgt := 65) dX1_divideRows_26 rfl (fun cH => ?_) (fun cH => ?_)
  · replace H := H.1 cH
    refine r_aload_n dX1_divideRows_65 rfl rfl ?_
    refine k_VV (As := []) (stk := []) hp cv_X1_109 dX1_divideRows_66 rfl (Nat.le_of_ble_eq_true rfl) t1 (H.mono (fun h1 H => ?_)) ⟨Nat.le_refl _, Nat.le_refl _⟩
    exact r_vret dX1_divideRows_69 rfl (Nat.le_refl _) (Nat.le_refl _) H
  · replace H := H.2 cH
    refine r_aload_n dX1_divideRows_29 rfl rfl ?_
    refine r_iload_n dX1_divideRows_30 rfl rfl ?_
    refine r_aload_n dX1_divideRows_31 rfl rfl ?_
    refine m_getF (x := 9) hp fw_X1_21 dX1_divideRows_32 rfl ly_1 (ff_1_1 ly_1) ?_
    refine k_VV (As := [.int x3, .ref 9]) (stk := []) hp cv_X1_91 dX1_divideRows_35 rfl (Nat.le_of_ble_eq_true rfl) t1 (H.mono (fun h2 H => ?_)) ⟨Nat.le_refl _, Nat.le_refl _⟩
    refine r_aload_n dX1_divideRows_38 rfl rfl ?_
    refine m_getF (x := 2) hp fw_X1_14 dX1_divideRows_39 rfl ly_1 (ff_1_0 ly_1) ?_
    refine r_aload_n dX1_divideRows_42 rfl rfl ?_
    refine m_getF (x := 9) hp fw_X1_21 dX1_divideRows_43 rfl ly_1 (ff_1_1 ly_1) ?_
    refine r_aload_n dX1_divideRows_46 rfl rfl ?_
    refine k_VV (As := [.ref 9, .ref a2]) (stk := []) hp cv_X1_102 dX1_divideRows_47 rfl (Nat.le_of_ble_eq_true rfl) (lf_1_0 ly_1) (H.mono (fun h3 H => ?_)) ⟨Nat.le_refl _, Nat.le_refl _⟩
    refine r_aload_n dX1_divideRows_50 rfl rfl ?_
    refine r_iload_n dX1_divideRows_51 rfl rfl ?_
    refine r_aload_n dX1_divideRows_52 rfl rfl ?_
    refine m_getF (x := 9) hp fw_X1_21 dX1_divideRows_53 rfl ly_1 (ff_1_1 ly_1) ?_
    refine k_VV (As := [.int x3, .ref 9]) (stk := []) hp cv_X1_106 dX1_divideRows_56 rfl (Nat.le_of_ble_eq_true rfl) t1 (H.mono (fun h4 H => ?_)) ⟨Nat.le_refl _, Nat.le_refl _⟩
    refine r_iinc (v := (x3 + (1 : Int32))) (ls2 := [some (.ref 1), some (.ref a1), some (.ref a2), some (.int (x3 + (1 : Int32)))]) dX1_divideRows_59 rfl rfl (by decide) rfl ?_
    refine r_goto (tgt := 21) dX1_divideRows_62 rfl ?_
    exact H
abbrev W_X1_alongK (g : GX) (d : Nat) (av : List Value) (Q : QT) (n : Nat) (pc : Nat) (ls : LV) (stk : List Value) (h : Hp) : Prop := RJ g m_X1_alongK (d + 1) 0 0 av Q pc ls stk n h 0 0
theorem s_X1_alongK_0 {g : GX} {d : Nat} {av : List Value} {Q : QT} {n : Nat} {h : Hp}  (hp : g.2.2.2.2 = true)  (H : CallV g m_X4_row d [.ref 23, .int ((ri h 23 3) - (1 : Int32)), .ref 9] n h (fun h1 => (CallV g m_X4_row d [.ref 25, .int ((ri h1 25 3) - (1 : Int32)), .ref 11] n h1 (fun h2 => (CallV g m_X2_common d [.ref 2, .ref 9, .ref 11, .ref 13] n h2 (fun h3 => (CallI g m_J3_min d [.int (ri h3 23 2), .int (ri h3 25 2)] n h3 (fun v4 h4 => (∀ h5, h5 = wi h4 1 19 (150 : Int32) → (∀ h6, h6 = wi h5 1 18 (0 : Int32) → (W_X1_alongK g d av Q n 101 [some (.ref 1), some (.int ((v4 + (ri h4 13 1)) - (1 : Int32))), some (.int (0 : Int32))] [] h6))))))))))) : W_X1_alongK g d av Q n 0 [some (.ref 1), none, none] [] h := by
  refine r_aload_n dX1_alongK_0 rfl rfl ?_
  refine m_getF (x := 23) hp fw_X1_48 dX1_alongK_1 rfl ly_1 (ff_1_8 ly_1) ?_
  refine r_aload_n dX1_alongK_4 rfl rfl ?_
  refine m_getF (x := 23) hp fw_X1_48 dX1_alongK_5 rfl ly_1 (ff_1_8 ly_1) ?_
  refine m_getI hp fw_X1_84 dX1_alongK_8 rfl (lf_1_8 ly_1) ?_
  refine r_iconst (v := (1 : Int32)) dX1_alongK_11 rfl ?_
  refine r_isub dX1_alongK_12 ?_
  refine r_aload_n dX1_alongK_13 rfl rfl ?_
  refine m_getF (x := 9) hp fw_X1_21 dX1_alongK_14 rfl ly_1 (ff_1_1 ly_1) ?_
  refine k_VV (As := [.int ((ri h 23 3) - (1 : Int32)), .ref 9]) (stk := []) hp cv_X1_91 dX1_alongK_17 rfl (Nat.le_of_ble_eq_true rfl) (lf_1_8 ly_1) (H.mono (fun h1 H => ?_)) ⟨Nat.le_refl _, Nat.le_refl _⟩
  refine r_aload_n dX1_alongK_20 rfl rfl ?_
  refine m_getF (x := 25) hp fw_X1_52 dX1_alongK_21 rfl ly_1 (ff_1_9 ly_1) ?_
  refine r_aload_n dX1_alongK_24 rfl rfl ?_
  refine m_getF (x := 25) hp fw_X1_52 dX1_alongK_25 rfl ly_1 (ff_1_9 ly_1) ?_
  refine m_getI hp fw_X1_84 dX1_alongK_28 rfl (lf_1_9 ly_1) ?_
  refine r_iconst (v := (1 : Int32)) dX1_alongK_31 rfl ?_
  refine r_isub dX1_alongK_32 ?_
  refine r_aload_n dX1_alongK_33 rfl rfl ?_
  refine m_getF (x := 11) hp fw_X1_25 dX1_alongK_34 rfl ly_1 (ff_1_2 ly_1) ?_
  refine k_VV (As := [.int ((ri h1 25 3) - (1 : Int32)), .ref 11]) (stk := []) hp cv_X1_91 dX1_alongK_37 rfl (Nat.le_of_ble_eq_true rfl) (lf_1_9 ly_1) (H.mono (fun h2 H => ?_)) ⟨Nat.le_refl _, Nat.le_refl _⟩
  refine r_aload_n dX1_alongK_40 rfl rfl ?_
  refine m_getF (x := 2) hp fw_X1_14 dX1_alongK_41 rfl ly_1 (ff_1_0 ly_1) ?_
  refine r_aload_n dX1_alongK_44 rfl rfl ?_
  refine m_getF (x := 9) hp fw_X1_21 dX1_alongK_45 rfl ly_1 (ff_1_1 ly_1) ?_
  refine r_aload_n dX1_alongK_48 rfl rfl ?_
  refine m_getF (x := 11) hp fw_X1_25 dX1_alongK_49 rfl ly_1 (ff_1_2 ly_1) ?_
  refine r_aload_n dX1_alongK_52 rfl rfl ?_
  refine m_getF (x := 13) hp fw_X1_28 dX1_alongK_53 rfl ly_1 (ff_1_3 ly_1) ?_
  refine k_VV (As := [.ref 9, .ref 11, .ref 13]) (stk := []) hp cv_X1_95 dX1_alongK_56 rfl (Nat.le_of_ble_eq_true rfl) (lf_1_0 ly_1) (H.mono (fun h3 H => ?_)) ⟨Nat.le_refl _, Nat.le_refl _⟩
  refine r_aload_n dX1_alongK_59 rfl rfl ?_
  refine m_getF (x := 23) hp fw_X1_48 dX1_alongK_60 rfl ly_1 (ff_1_8 ly_1) ?_
  refine m_getI hp fw_X1_128 dX1_alongK_63 rfl (lf_1_8 ly_1) ?_
  refine r_aload_n dX1_alongK_66 rfl rfl ?_
  refine m_getF (x := 25) hp fw_X1_52 dX1_alongK_67 rfl ly_1 (ff_1_9 ly_1) ?_
  refine m_getI hp fw_X1_128 dX1_alongK_70 rfl (lf_1_9 ly_1) ?_
  refine k_SI (As := [.int (ri h3 23 2), .int (ri h3 25 2)]) (stk := []) cs_X1_178 dX1_alongK_73 rfl (Nat.le_of_ble_eq_true rfl) (H.mono (fun v4 h4 H => ?_)) ⟨Nat.le_refl _, Nat.le_refl _⟩
  refine r_aload_n dX1_alongK_76 rfl rfl ?_
  refine m_getF (x := 13) hp fw_X1_28 dX1_alongK_77 rfl ly_1 (ff_1_3 ly_1) ?_
  refine m_getI hp fw_X1_88 dX1_alongK_80 rfl (lf_1_3 ly_1) ?_
  refine r_iadd dX1_alongK_83 ?_
  refine r_iconst (v := (1 : Int32)) dX1_alongK_84 rfl ?_
  refine r_isub dX1_alongK_85 ?_
  refine r_istore_n (ls2 := [some (.ref 1), some (.int ((v4 + (ri h4 13 1)) - (1 : Int32))), none]) dX1_alongK_86 rfl (by decide) rfl ?_
  refine r_aload_n dX1_alongK_87 rfl rfl ?_
  refine r_sipush (v := (150 : Int32)) dX1_alongK_88 rfl ?_
  refine m_putI hp fw_X1_183 dX1_alongK_91 rfl rfl ly_1 (fun h5 eh5 => ?_)
  replace H := H h5 eh5
  refine r_aload_n dX1_alongK_94 rfl rfl ?_
  refine r_iconst (v := (0 : Int32)) dX1_alongK_95 rfl ?_
  refine m_putI hp fw_X1_186 dX1_alongK_96 rfl rfl ly_1 (fun h6 eh6 => ?_)
  replace H := H h6 eh6
  refine r_iconst (v := (0 : Int32)) dX1_alongK_99 rfl ?_
  refine r_istore_n (ls2 := [some (.ref 1), some (.int ((v4 + (ri h4 13 1)) - (1 : Int32))), some (.int (0 : Int32))]) dX1_alongK_100 rfl (by decide) rfl ?_
  exact H
theorem s_X1_alongK_101 {g : GX} {d : Nat} {av : List Value} {Q : QT} {n : Nat} {h : Hp} {x1 : Int32} {x2 : Int32} (hp : g.2.2.2.2 = true)  (H : CallI g m_X1_look d [.ref 1, .int x2, .int x1] n h (fun v1 h1 => (((¬ (ri h1 1 19) = (0 : Int32)) → (CallV g m_X1_join d [.ref 1, .int x1] n h1 (fun h2 => (CallV g m_X1_primitive d [.ref 1, .ref 27, .ref 17] n h2 (fun h3 => (CallI g m_X1_divides d [.ref 1, .ref 27, .ref 23, .ref 31] n h3 (fun v4 h4 => (((v4 = (0 : Int32)) → (W_X1_alongK g d av Q n 174 [some (.ref 1), some (.int x1), some (.int v1)] [] h4)) ∧ ((¬ v4 = (0 : Int32)) → (CallI g m_X1_divides d [.ref 1, .ref 27, .ref 25, .ref 31] n h4 (fun v5 h5 => (((v5 = (0 : Int32)) → (W_X1_alongK g d av Q n 174 [some (.ref 1), some (.int x1), some (.int v1)] [] h5)) ∧ ((¬ v5 = (0 : Int32)) → (Q (some (.int (1 : Int32))) n h5)))))))))))))) ∧ (((ri h1 1 19) = (0 : Int32)) → (Q (some (.int (0 : Int32))) n h1))))) : W_X1_alongK g d av Q n 101 [some (.ref 1), some (.int x1), some (.int x2)] [] h := by
  refine r_aload_n dX1_alongK_101 rfl rfl ?_
  refine r_iload_n dX1_alongK_102 rfl rfl ?_
  refine r_iload_n dX1_alongK_103 rfl rfl ?_
  refine k_VI (As := [.int x2, .int x1]) (stk := []) hp cv_X1_189 dX1_alongK_104 rfl (Nat.le_of_ble_eq_true rfl) ly_1 (H.mono (fun v1 h1 H => ?_)) ⟨Nat.le_refl _, Nat.le_refl _⟩
  refine r_istore_n (ls2 := [some (.ref 1), some (.int x1), some (.int v1)]) dX1_alongK_107 rfl (by decide) rfl ?_
  refine r_aload_n dX1_alongK_108 rfl rfl ?_
  refine m_getI hp fw_X1_183 dX1_alongK_109 rfl ly_1 ?_
  refine r_if_ne (tgt := 117) dX1_alongK_112 rfl (fun cH => ?_) (fun cH => ?_)
  · replace H := H.1 cH
    refine r_aload_n dX1_alongK_117 rfl rfl ?_
    refine r_iload_n dX1_alongK_118 rfl rfl ?_
    refine k_VV (As := [.int x1]) (stk := []) hp cv_X1_192 dX1_alongK_119 rfl (Nat.le_of_ble_eq_true rfl) ly_1 (H.mono (fun h2 H => ?_)) ⟨Nat.le_refl _, Nat.le_refl _⟩
    refine r_aload_n dX1_alongK_122 rfl rfl ?_
    refine r_aload_n dX1_alongK_123 rfl rfl ?_
    refine m_getF (x := 27) hp fw_X1_55 dX1_alongK_124 rfl ly_1 (ff_1_10 ly_1) ?_
    refine r_aload_n dX1_alongK_127 rfl rfl ?_
    refine m_getF (x := 17) hp fw_X1_34 dX1_alongK_128 rfl ly_1 (ff_1_5 ly_1) ?_
    refine k_VV (As := [.ref 27, .ref 17]) (stk := []) hp cv_X1_157 dX1_alongK_131 rfl (Nat.le_of_ble_eq_true rfl) ly_1 (H.mono (fun h3 H => ?_)) ⟨Nat.le_refl _, Nat.le_refl _⟩
    refine r_aload_n dX1_alongK_134 rfl rfl ?_
    refine r_aload_n dX1_alongK_135 rfl rfl ?_
    refine m_getF (x := 27) hp fw_X1_55 dX1_alongK_136 rfl ly_1 (ff_1_10 ly_1) ?_
    refine r_aload_n dX1_alongK_139 rfl rfl ?_
    refine m_getF (x := 23) hp fw_X1_48 dX1_alongK_140 rfl ly_1 (ff_1_8 ly_1) ?_
    refine r_aload_n dX1_alongK_143 rfl rfl ?_
    refine m_getF (x := 31) hp fw_X1_61 dX1_alongK_144 rfl ly_1 (ff_1_12 ly_1) ?_
    refine k_VI (As := [.ref 27, .ref 23, .ref 31]) (stk := []) hp cv_X1_195 dX1_alongK_147 rfl (Nat.le_of_ble_eq_true rfl) ly_1 (H.mono (fun v4 h4 H => ?_)) ⟨Nat.le_refl _, Nat.le_refl _⟩
    refine r_if_eq (tgt := 174) dX1_alongK_150 rfl (fun cH => ?_) (fun cH => ?_)
    · replace H := H.1 cH
      exact H
    · replace H := H.2 cH
      refine r_aload_n dX1_alongK_153 rfl rfl ?_
      refine r_aload_n dX1_alongK_154 rfl rfl ?_
      refine m_getF (x := 27) hp fw_X1_55 dX1_alongK_155 rfl ly_1 (ff_1_10 ly_1) ?_
      refine r_aload_n dX1_alongK_158 rfl rfl ?_
      refine m_getF (x := 25) hp fw_X1_52 dX1_alongK_159 rfl ly_1 (ff_1_9 ly_1) ?_
      refine r_aload_n dX1_alongK_162 rfl rfl ?_
      refine m_getF (x := 31) hp fw_X1_61 dX1_alongK_163 rfl ly_1 (ff_1_12 ly_1) ?_
      refine k_VI (As := [.ref 27, .ref 25, .ref 31]) (stk := []) hp cv_X1_195 dX1_alongK_166 rfl (Nat.le_of_ble_eq_true rfl) ly_1 (H.mono (fun v5 h5 H => ?_)) ⟨Nat.le_refl _, Nat.le_refl _⟩
      refine r_if_eq (tgt := 174) dX1_alongK_169 rfl (fun cH => ?_) (fun cH => ?_)
      · replace H := H.1 cH
        exact H
      · replace H := H.2 cH
        refine r_iconst (v := (1 : Int32)) dX1_alongK_172 rfl ?_
        exact r_zret dX1_alongK_173 rfl rfl (Nat.le_refl _) (Nat.le_refl _) H
  · replace H := H.2 cH
    refine r_iconst (v := (0 : Int32)) dX1_alongK_115 rfl ?_
    exact r_zret dX1_alongK_116 rfl rfl (Nat.le_refl _) (Nat.le_refl _) H
theorem s_X1_alongK_174 {g : GX} {d : Nat} {av : List Value} {Q : QT} {n : Nat} {h : Hp} {x1 : Int32} {x2 : Int32} (hp : g.2.2.2.2 = true)  (H : ∀ h1, h1 = wi h 1 18 (0 : Int32) → (W_X1_alongK g d av Q n 101 [some (.ref 1), some (.int x1), some (.int x2)] [] h1)) : W_X1_alongK g d av Q n 174 [some (.ref 1), some (.int x1), some (.int x2)] [] h := by
  refine r_aload_n dX1_alongK_174 rfl rfl ?_
  refine r_iconst (v := (0 : Int32)) dX1_alongK_175 rfl ?_
  refine m_putI hp fw_X1_186 dX1_alongK_176 rfl rfl ly_1 (fun h1 eh1 => ?_)
  replace H := H h1 eh1
  refine r_goto (tgt := 101) dX1_alongK_179 rfl ?_
  exact H
abbrev W_X1_look (g : GX) (d : Nat) (av : List Value) (Q : QT) (n : Nat) (pc : Nat) (ls : LV) (stk : List Value) (h : Hp) : Prop := RJ g m_X1_look (d + 1) 0 0 av Q pc ls stk n h 0 0
theorem s_X1_look_0 {g : GX} {d : Nat} {av : List Value} {Q : QT} {n : Nat} {h : Hp} {x1 : Int32} {x2 : Int32} (hp : g.2.2.2.2 = true)  (H : W_X1_look g d av Q n 2 [some (.ref 1), none, some (.int x2), some (.int x1)] [] h) : W_X1_look g d av Q n 0 [some (.ref 1), some (.int x1), some (.int x2), none] [] h := by
  refine r_iload_n dX1_look_0 rfl rfl ?_
  refine r_istore_n (ls2 := [some (.ref 1), some (.int x1), some (.int x2), some (.int x1)]) dX1_look_1 rfl (by decide) rfl ?_
  refine r_prune [true, false, true, true] (ls2 := [some (.ref 1), none, some (.int x2), some (.int x1)]) rfl ?_
  exact H
theorem s_X1_look_2 {g : GX} {d : Nat} {av : List Value} {Q : QT} {n : Nat} {h : Hp} {x2 : Int32} {x3 : Int32} (hp : g.2.2.2.2 = true)  (H : ((x2 ≤ (ri h 1 18)) → (Q (some (.int x3)) n h)) ∧ ((¬ x2 ≤ (ri h 1 18)) → ((((ri h 1 19) ≤ (0 : Int32)) → (Q (some (.int x3)) n h)) ∧ ((¬ (ri h 1 19) ≤ (0 : Int32)) → (CallV g m_X4_atN d [.ref 23, .int x3, .ref 9] n h (fun h1 => (CallV g m_X4_atN d [.ref 25, .int x3, .ref 11] n h1 (fun h2 => (((¬ (ri h2 9 1) = (ri h2 23 3)) → (W_X1_look g d av Q n 143 [some (.ref 1), none, some (.int x2), some (.int x3)] [] h2)) ∧ (((ri h2 9 1) = (ri h2 23 3)) → (((¬ (ri h2 11 1) = (ri h2 25 3)) → (W_X1_look g d av Q n 143 [some (.ref 1), none, some (.int x2), some (.int x3)] [] h2)) ∧ (((ri h2 11 1) = (ri h2 25 3)) → (CallV g m_X2_common d [.ref 2, .ref 9, .ref 11, .ref 9] n h2 (fun h3 => (CallI g m_X3_degree d [.ref 9] n h3 (fun v4 h4 => ((((ri h4 1 19) ≤ v4) → (W_X1_look g d av Q n 124 [some (.ref 1), none, some (.int x2), some (.int x3)] [] h4)) ∧ ((¬ (ri h4 1 19) ≤ v4) → (CallI g m_X3_degree d [.ref 9] n h4 (fun v5 h5 => (∀ h6, h6 = wi h5 1 19 v5 → (∀ h7, h7 = wi h6 1 18 (0 : Int32) → (W_X1_look g d av Q n 124 [some (.ref 1), none, some (.int x2), some (.int x3)] [] h7))))))))))))))))))))))) : W_X1_look g d av Q n 2 [some (.ref 1), none, some (.int x2), some (.int x3)] [] h := by
  refine r_aload_n dX1_look_2 rfl rfl ?_
  refine m_getI hp fw_X1_186 dX1_look_3 rfl ly_1 ?_
  refine r_iload_n dX1_look_6 rfl rfl ?_
  refine r_icmp_ge (tgt := 149) dX1_look_7 rfl (fun cH => ?_) (fun cH => ?_)
  · replace H := H.1 cH
    refine r_iload_n dX1_look_149 rfl rfl ?_
    exact r_zret dX1_look_150 rfl rfl (Nat.le_refl _) (Nat.le_refl _) H
  · replace H := H.2 cH
    refine r_aload_n dX1_look_10 rfl rfl ?_
    refine m_getI hp fw_X1_183 dX1_look_11 rfl ly_1 ?_
    refine r_if_le (tgt := 149) dX1_look_14 rfl (fun cH => ?_) (fun cH => ?_)
    · replace H := H.1 cH
      refine r_iload_n dX1_look_149 rfl rfl ?_
      exact r_zret dX1_look_150 rfl rfl (Nat.le_refl _) (Nat.le_refl _) H
    · replace H := H.2 cH
      refine r_aload_n dX1_look_17 rfl rfl ?_
      refine m_getF (x := 23) hp fw_X1_48 dX1_look_18 rfl ly_1 (ff_1_8 ly_1) ?_
      refine r_iload_n dX1_look_21 rfl rfl ?_
      refine r_aload_n dX1_look_22 rfl rfl ?_
      refine m_getF (x := 9) hp fw_X1_21 dX1_look_23 rfl ly_1 (ff_1_1 ly_1) ?_
      refine k_VV (As := [.int x3, .ref 9]) (stk := []) hp cv_X1_199 dX1_look_26 rfl (Nat.le_of_ble_eq_true rfl) (lf_1_8 ly_1) (H.mono (fun h1 H => ?_)) ⟨Nat.le_refl _, Nat.le_refl _⟩
      refine r_aload_n dX1_look_29 rfl rfl ?_
      refine m_getF (x := 25) hp fw_X1_52 dX1_look_30 rfl ly_1 (ff_1_9 ly_1) ?_
      refine r_iload_n dX1_look_33 rfl rfl ?_
      refine r_aload_n dX1_look_34 rfl rfl ?_
      refine m_getF (x := 11) hp fw_X1_25 dX1_look_35 rfl ly_1 (ff_1_2 ly_1) ?_
      refine k_VV (As := [.int x3, .ref 11]) (stk := []) hp cv_X1_199 dX1_look_38 rfl (Nat.le_of_ble_eq_true rfl) (lf_1_9 ly_1) (H.mono (fun h2 H => ?_)) ⟨Nat.le_refl _, Nat.le_refl _⟩
      refine r_aload_n dX1_look_41 rfl rfl ?_
      refine m_getF (x := 9) hp fw_X1_21 dX1_look_42 rfl ly_1 (ff_1_1 ly_1) ?_
      refine m_getI hp fw_X1_88 dX1_look_45 rfl (lf_1_1 ly_1) ?_
      refine r_aload_n dX1_look_48 rfl rfl ?_
      refine m_getF (x := 23) hp fw_X1_48 dX1_look_49 rfl ly_1 (ff_1_8 ly_1) ?_
      refine m_getI hp fw_X1_84 dX1_look_52 rfl (lf_1_8 ly_1) ?_
      refine r_icmp_ne (tgt := 143) dX1_look_55 rfl (fun cH => ?_) (fun cH => ?_)
      · replace H := H.1 cH
        exact H
      · replace H := H.2 cH
        refine r_aload_n dX1_look_58 rfl rfl ?_
        refine m_getF (x := 11) hp fw_X1_25 dX1_look_59 rfl ly_1 (ff_1_2 ly_1) ?_
        refine m_getI hp fw_X1_88 dX1_look_62 rfl (lf_1_2 ly_1) ?_
        refine r_aload_n dX1_look_65 rfl rfl ?_
        refine m_getF (x := 25) hp fw_X1_52 dX1_look_66 rfl ly_1 (ff_1_9 ly_1) ?_
        refine m_getI hp fw_X1_84 dX1_look_69 rfl (lf_1_9 ly_1) ?_
        refine r_icmp_ne (tgt := 143) dX1_look_72 rfl (fun cH => ?_) (fun cH => ?_)
        · replace H := H.1 cH
          exact H
        · replace H := H.2 cH
          refine r_aload_n dX1_look_75 rfl rfl ?_
          refine m_getF (x := 2) hp fw_X1_14 dX1_look_76 rfl ly_1 (ff_1_0 ly_1) ?_
          refine r_aload_n dX1_look_79 rfl rfl ?_
          refine m_getF (x := 9) hp fw_X1_21 dX1_look_80 rfl ly_1 (ff_1_1 ly_1) ?_
          refine r_aload_n dX1_look_83 rfl rfl ?_
          refine m_getF (x := 11) hp fw_X1_25 dX1_look_84 rfl ly_1 (ff_1_2 ly_1) ?_
          refine r_aload_n dX1_look_87 rfl rfl ?_
          refine m_getF (x := 9) hp fw_X1_21 dX1_look_88 rfl ly_1 (ff_1_1 ly_1) ?_
          refine k_VV (As := [.ref 9, .ref 11, .ref 9]) (stk := []) hp cv_X1_95 dX1_look_91 rfl (Nat.le_of_ble_eq_true rfl) (lf_1_0 ly_1) (H.mono (fun h3 H => ?_)) ⟨Nat.le_refl _, Nat.le_refl _⟩
          refine r_aload_n dX1_look_94 rfl rfl ?_
          refine m_getF (x := 9) hp fw_X1_21 dX1_look_95 rfl ly_1 (ff_1_1 ly_1) ?_
          refine k_VI (As := []) (stk := []) hp cv_X1_202 dX1_look_98 rfl (Nat.le_of_ble_eq_true rfl) (lf_1_1 ly_1) (H.mono (fun v4 h4 H => ?_)) ⟨Nat.le_refl _, Nat.le_refl _⟩
          refine r_aload_n dX1_look_101 rfl rfl ?_
          refine m_getI hp fw_X1_183 dX1_look_102 rfl ly_1 ?_
          refine r_icmp_ge (tgt := 124) dX1_look_105 rfl (fun cH => ?_) (fun cH => ?_)
          · replace H := H.1 cH
            exact H
          · replace H := H.2 cH
            refine r_aload_n dX1_look_108 rfl rfl ?_
            refine r_aload_n dX1_look_109 rfl rfl ?_
            refine m_getF (x := 9) hp fw_X1_21 dX1_look_110 rfl ly_1 (ff_1_1 ly_1) ?_
            refine k_VI (As := []) (stk := [.ref 1]) hp cv_X1_202 dX1_look_113 rfl (Nat.le_of_ble_eq_true rfl) (lf_1_1 ly_1) (H.mono (fun v5 h5 H => ?_)) ⟨Nat.le_refl _, Nat.le_refl _⟩
            refine m_putI hp fw_X1_183 dX1_look_116 rfl rfl ly_1 (fun h6 eh6 => ?_)
            replace H := H h6 eh6
            refine r_aload_n dX1_look_119 rfl rfl ?_
            refine r_iconst (v := (0 : Int32)) dX1_look_120 rfl ?_
            refine m_putI hp fw_X1_186 dX1_look_121 rfl rfl ly_1 (fun h7 eh7 => ?_)
            replace H := H h7 eh7
            exact H
theorem s_X1_look_124 {g : GX} {d : Nat} {av : List Value} {Q : QT} {n : Nat} {h : Hp} {x2 : Int32} {x3 : Int32} (hp : g.2.2.2.2 = true)  (H : CallI g m_X3_degree d [.ref 9] n h (fun v1 h1 => (((¬ v1 = (ri h1 1 19)) → (W_X1_look g d av Q n 143 [some (.ref 1), none, some (.int x2), some (.int x3)] [] h1)) ∧ ((v1 = (ri h1 1 19)) → (CallV g m_X1_keep d [.ref 1, .int x3] n h1 (fun h2 => (W_X1_look g d av Q n 143 [some (.ref 1), none, some (.int x2), some (.int x3)] [] h2))))))) : W_X1_look g d av Q n 124 [some (.ref 1), none, some (.int x2), some (.int x3)] [] h := by
  refine r_aload_n dX1_look_124 rfl rfl ?_
  refine m_getF (x := 9) hp fw_X1_21 dX1_look_125 rfl ly_1 (ff_1_1 ly_1) ?_
  refine k_VI (As := []) (stk := []) hp cv_X1_202 dX1_look_128 rfl (Nat.le_of_ble_eq_true rfl) (lf_1_1 ly_1) (H.mono (fun v1 h1 H => ?_)) ⟨Nat.le_refl _, Nat.le_refl _⟩
  refine r_aload_n dX1_look_131 rfl rfl ?_
  refine m_getI hp fw_X1_183 dX1_look_132 rfl ly_1 ?_
  refine r_icmp_ne (tgt := 143) dX1_look_135 rfl (fun cH => ?_) (fun cH => ?_)
  · replace H := H.1 cH
    exact H
  · replace H := H.2 cH
    refine r_aload_n dX1_look_138 rfl rfl ?_
    refine r_iload_n dX1_look_139 rfl rfl ?_
    refine k_VV (As := [.int x3]) (stk := []) hp cv_X1_205 dX1_look_140 rfl (Nat.le_of_ble_eq_true rfl) ly_1 (H.mono (fun h2 H => ?_)) ⟨Nat.le_refl _, Nat.le_refl _⟩
    exact H
theorem s_X1_look_143 {g : GX} {d : Nat} {av : List Value} {Q : QT} {n : Nat} {h : Hp} {x2 : Int32} {x3 : Int32} (hp : g.2.2.2.2 = true)  (H : W_X1_look g d av Q n 2 [some (.ref 1), none, some (.int x2), some (.int (x3 + (1 : Int32)))] [] h) : W_X1_look g d av Q n 143 [some (.ref 1), none, some (.int x2), some (.int x3)] [] h := by
  refine r_iinc (v := (x3 + (1 : Int32))) (ls2 := [some (.ref 1), none, some (.int x2), some (.int (x3 + (1 : Int32)))]) dX1_look_143 rfl rfl (by decide) rfl ?_
  refine r_goto (tgt := 2) dX1_look_146 rfl ?_
  exact H
abbrev W_X1_keep (g : GX) (d : Nat) (av : List Value) (Q : QT) (n : Nat) (pc : Nat) (ls : LV) (stk : List Value) (h : Hp) : Prop := RJ g m_X1_keep (d + 1) 0 0 av Q pc ls stk n h 0 0
theorem s_X1_keep_0 {g : GX} {d : Nat} {av : List Value} {Q : QT} {n : Nat} {h : Hp} {x1 : Int32} (hp : g.2.2.2.2 = true)  (H : vp_in (ri h 1 18) 2000 ∧ ∀ h1, h1 = wi h 35 ((ri h 1 18)).toNatClampNeg x1 → (CallI g m_X3_value d [.ref 13, .int x1] n h1 (fun v2 h2 => (W_X1_keep g d av Q n 21 [some (.ref 1), none, some (.int v2), some (.int (0 : Int32))] [] h2)))) : W_X1_keep g d av Q n 0 [some (.ref 1), some (.int x1), none, none] [] h := by
  refine r_aload_n dX1_keep_0 rfl rfl ?_
  refine m_getF (x := 35) hp fw_X1_67 dX1_keep_1 rfl ly_1 (ff_1_14 ly_1) ?_
  refine r_aload_n dX1_keep_4 rfl rfl ?_
  refine m_getI hp fw_X1_186 dX1_keep_5 rfl ly_1 ?_
  refine r_iload_n dX1_keep_8 rfl rfl ?_
  refine m_iast hp dX1_keep_9 (lf_1_14 ly_1) H.1 (fun h1 eh1 => ?_)
  replace H := H.2 h1 eh1
  refine r_aload_n dX1_keep_10 rfl rfl ?_
  refine m_getF (x := 13) hp fw_X1_28 dX1_keep_11 rfl ly_1 (ff_1_3 ly_1) ?_
  refine r_iload_n dX1_keep_14 rfl rfl ?_
  refine k_VI (As := [.int x1]) (stk := []) hp cv_X1_208 dX1_keep_15 rfl (Nat.le_of_ble_eq_true rfl) (lf_1_3 ly_1) (H.mono (fun v2 h2 H => ?_)) ⟨Nat.le_refl _, Nat.le_refl _⟩
  refine r_istore_n (ls2 := [some (.ref 1), some (.int x1), some (.int v2), none]) dX1_keep_18 rfl (by decide) rfl ?_
  refine r_iconst (v := (0 : Int32)) dX1_keep_19 rfl ?_
  refine r_istore_n (ls2 := [some (.ref 1), some (.int x1), some (.int v2), some (.int (0 : Int32))]) dX1_keep_20 rfl (by decide) rfl ?_
  refine r_prune [true, false, true, true] (ls2 := [some (.ref 1), none, some (.int v2), some (.int (0 : Int32))]) rfl ?_
  exact H
theorem s_X1_keep_21 {g : GX} {d : Nat} {av : List Value} {Q : QT} {n : Nat} {h : Hp} {x2 : Int32} {x3 : Int32} (hp : g.2.2.2.2 = true)  (H : (((ri h 1 19) < x3) → (∀ h1, h1 = wi h 1 18 ((ri h 1 18) + (1 : Int32)) → (Q none n h1))) ∧ ((¬ (ri h 1 19) < x3) → (vp_in x3 (rm 10) ∧ (CallI g m_X0_times d [.int (ri h 10 (x3).toNatClampNeg), .int x2] n h (fun v2 h2 => (vp_in (((ri h 1 18) * (150 : Int32)) + x3) 300000 ∧ ∀ h3, h3 = wi h2 36 ((((ri h 1 18) * (150 : Int32)) + x3)).toNatClampNeg v2 → (W_X1_keep g d av Q n 21 [some (.ref 1), none, some (.int x2), some (.int (x3 + (1 : Int32)))] [] h3))))))) : W_X1_keep g d av Q n 21 [some (.ref 1), none, some (.int x2), some (.int x3)] [] h := by
  refine r_iload_n dX1_keep_21 rfl rfl ?_
  refine r_aload_n dX1_keep_22 rfl rfl ?_
  refine m_getI hp fw_X1_183 dX1_keep_23 rfl ly_1 ?_
  refine r_icmp_gt (tgt := 63) dX1_keep_26 rfl (fun cH => ?_) (fun cH => ?_)
  · replace H := H.1 cH
    refine r_aload_n dX1_keep_63 rfl rfl ?_
    refine r_dup dX1_keep_64 rfl ?_
    refine m_getI hp fw_X1_186 dX1_keep_65 rfl ly_1 ?_
    refine r_iconst (v := (1 : Int32)) dX1_keep_68 rfl ?_
    refine r_iadd dX1_keep_69 ?_
    refine m_putI hp fw_X1_186 dX1_keep_70 rfl rfl ly_1 (fun h1 eh1 => ?_)
    replace H := H h1 eh1
    exact r_vret dX1_keep_73 rfl (Nat.le_refl _) (Nat.le_refl _) H
  · replace H := H.2 cH
    refine r_aload_n dX1_keep_29 rfl rfl ?_
    refine m_getF (x := 36) hp fw_X1_72 dX1_keep_30 rfl ly_1 (ff_1_15 ly_1) ?_
    refine r_aload_n dX1_keep_33 rfl rfl ?_
    refine m_getI hp fw_X1_186 dX1_keep_34 rfl ly_1 ?_
    refine r_sipush (v := (150 : Int32)) dX1_keep_37 rfl ?_
    refine r_imul dX1_keep_40 ?_
    refine r_iload_n dX1_keep_41 rfl rfl ?_
    refine r_iadd dX1_keep_42 ?_
    refine r_aload_n dX1_keep_43 rfl rfl ?_
    refine m_getF (x := 9) hp fw_X1_21 dX1_keep_44 rfl ly_1 (ff_1_1 ly_1) ?_
    refine m_getF (x := 10) hp fw_X1_99 dX1_keep_47 rfl (lf_1_1 ly_1) (ff_3_0 (lf_1_1 ly_1)) ?_
    refine r_iload_n dX1_keep_50 rfl rfl ?_
    refine m_iald hp dX1_keep_51 (lf_3_0 (lf_1_1 ly_1)) H.1 ?_
    replace H := H.2
    refine r_iload_n dX1_keep_52 rfl rfl ?_
    refine k_SI (As := [.int (ri h 10 (x3).toNatClampNeg), .int x2]) (stk := [.int (((ri h 1 18) * (150 : Int32)) + x3), .ref 36]) cs_X1_211 dX1_keep_53 rfl (Nat.le_of_ble_eq_true rfl) (H.mono (fun v2 h2 H => ?_)) ⟨Nat.le_refl _, Nat.le_refl _⟩
    refine m_iast hp dX1_keep_56 (lf_1_15 ly_1) H.1 (fun h3 eh3 => ?_)
    replace H := H.2 h3 eh3
    refine r_iinc (v := (x3 + (1 : Int32))) (ls2 := [some (.ref 1), none, some (.int x2), some (.int (x3 + (1 : Int32)))]) dX1_keep_57 rfl rfl (by decide) rfl ?_
    refine r_goto (tgt := 21) dX1_keep_60 rfl ?_
    exact H
abbrev W_X1_join (g : GX) (d : Nat) (av : List Value) (Q : QT) (n : Nat) (pc : Nat) (ls : LV) (stk : List Value) (h : Hp) : Prop := RJ g m_X1_join (d + 1) 0 0 av Q pc ls stk n h 0 0
theorem s_X1_join_0 {g : GX} {d : Nat} {av : List Value} {Q : QT} {n : Nat} {h : Hp} {x1 : Int32} (hp : g.2.2.2.2 = true)  (H : CallV g m_X4_open d [.ref 27, .int x1, .int ((ri h 1 19) + (1 : Int32))] n h (fun h1 => (W_X1_join g d av Q n 16 [some (.ref 1), none, some (.int (0 : Int32)), none] [] h1))) : W_X1_join g d av Q n 0 [some (.ref 1), some (.int x1), none, none] [] h := by
  refine r_aload_n dX1_join_0 rfl rfl ?_
  refine m_getF (x := 27) hp fw_X1_55 dX1_join_1 rfl ly_1 (ff_1_10 ly_1) ?_
  refine r_iload_n dX1_join_4 rfl rfl ?_
  refine r_aload_n dX1_join_5 rfl rfl ?_
  refine m_getI hp fw_X1_183 dX1_join_6 rfl ly_1 ?_
  refine r_iconst (v := (1 : Int32)) dX1_join_9 rfl ?_
  refine r_iadd dX1_join_10 ?_
  refine k_VV (As := [.int x1, .int ((ri h 1 19) + (1 : Int32))]) (stk := []) hp cv_X1_131 dX1_join_11 rfl (Nat.le_of_ble_eq_true rfl) (lf_1_10 ly_1) (H.mono (fun h1 H => ?_)) ⟨Nat.le_refl _, Nat.le_refl _⟩
  refine r_iconst (v := (0 : Int32)) dX1_join_14 rfl ?_
  refine r_istore_n (ls2 := [some (.ref 1), some (.int x1), some (.int (0 : Int32)), none]) dX1_join_15 rfl (by decide) rfl ?_
  refine r_prune [true, false, true, false] (ls2 := [some (.ref 1), none, some (.int (0 : Int32)), none]) rfl ?_
  exact H
theorem s_X1_join_16 {g : GX} {d : Nat} {av : List Value} {Q : QT} {n : Nat} {h : Hp} {x2 : Int32} (hp : g.2.2.2.2 = true)  (H : (((ri h 1 19) < x2) → (CallV g m_X4_trim d [.ref 27] n h (fun h1 => (Q none n h1)))) ∧ ((¬ (ri h 1 19) < x2) → (W_X1_join g d av Q n 26 [some (.ref 1), none, some (.int x2), some (.int (0 : Int32))] [] h))) : W_X1_join g d av Q n 16 [some (.ref 1), none, some (.int x2), none] [] h := by
  refine r_iload_n dX1_join_16 rfl rfl ?_
  refine r_aload_n dX1_join_17 rfl rfl ?_
  refine m_getI hp fw_X1_183 dX1_join_18 rfl ly_1 ?_
  refine r_icmp_gt (tgt := 96) dX1_join_21 rfl (fun cH => ?_) (fun cH => ?_)
  · replace H := H.1 cH
    refine r_aload_n dX1_join_96 rfl rfl ?_
    refine m_getF (x := 27) hp fw_X1_55 dX1_join_97 rfl ly_1 (ff_1_10 ly_1) ?_
    refine k_VV (As := []) (stk := []) hp cv_X1_109 dX1_join_100 rfl (Nat.le_of_ble_eq_true rfl) (lf_1_10 ly_1) (H.mono (fun h1 H => ?_)) ⟨Nat.le_refl _, Nat.le_refl _⟩
    exact r_vret dX1_join_103 rfl (Nat.le_refl _) (Nat.le_refl _) H
  · replace H := H.2 cH
    refine r_iconst (v := (0 : Int32)) dX1_join_24 rfl ?_
    refine r_istore_n (ls2 := [some (.ref 1), none, some (.int x2), some (.int (0 : Int32))]) dX1_join_25 rfl (by decide) rfl ?_
    exact H
theorem s_X1_join_26 {g : GX} {d : Nat} {av : List Value} {Q : QT} {n : Nat} {h : Hp} {x2 : Int32} {x3 : Int32} (hp : g.2.2.2.2 = true)  (H : (((ri h 1 18) ≤ x3) → (CallV g m_X1_interpolate d [.ref 1, .ref 35, .ref 37, .int (ri h 1 18), .ref 9] n h (fun h1 => (CallV g m_X4_putRow d [.ref 27, .int x2, .ref 9] n h1 (fun h2 => (W_X1_join g d av Q n 16 [some (.ref 1), none, some (.int (x2 + (1 : Int32))), none] [] h2)))))) ∧ ((¬ (ri h 1 18) ≤ x3) → (vp_in ((x3 * (150 : Int32)) + x2) 300000 ∧ (vp_in x3 2000 ∧ ∀ h3, h3 = wi h 37 (x3).toNatClampNeg (ri h 36 (((x3 * (150 : Int32)) + x2)).toNatClampNeg) → (W_X1_join g d av Q n 26 [some (.ref 1), none, some (.int x2), some (.int (x3 + (1 : Int32)))] [] h3))))) : W_X1_join g d av Q n 26 [some (.ref 1), none, some (.int x2), some (.int x3)] [] h := by
  refine r_iload_n dX1_join_26 rfl rfl ?_
  refine r_aload_n dX1_join_27 rfl rfl ?_
  refine m_getI hp fw_X1_186 dX1_join_28 rfl ly_1 ?_
  refine r_icmp_ge (tgt := 58) dX1_join_31 rfl (fun cH => ?_) (fun cH => ?_)
  · replace H := H.1 cH
    refine r_aload_n dX1_join_58 rfl rfl ?_
    refine r_aload_n dX1_join_59 rfl rfl ?_
    refine m_getF (x := 35) hp fw_X1_67 dX1_join_60 rfl ly_1 (ff_1_14 ly_1) ?_
    refine r_aload_n dX1_join_63 rfl rfl ?_
    refine m_getF (x := 37) hp fw_X1_75 dX1_join_64 rfl ly_1 (ff_1_16 ly_1) ?_
    refine r_aload_n dX1_join_67 rfl rfl ?_
    refine m_getI hp fw_X1_186 dX1_join_68 rfl ly_1 ?_
    refine r_aload_n dX1_join_71 rfl rfl ?_
    refine m_getF (x := 9) hp fw_X1_21 dX1_join_72 rfl ly_1 (ff_1_1 ly_1) ?_
    refine k_VV (As := [.ref 35, .ref 37, .int (ri h 1 18), .ref 9]) (stk := []) hp cv_X1_214 dX1_join_75 rfl (Nat.le_of_ble_eq_true rfl) ly_1 (H.mono (fun h1 H => ?_)) ⟨Nat.le_refl _, Nat.le_refl _⟩
    refine r_aload_n dX1_join_78 rfl rfl ?_
    refine m_getF (x := 27) hp fw_X1_55 dX1_join_79 rfl ly_1 (ff_1_10 ly_1) ?_
    refine r_iload_n dX1_join_82 rfl rfl ?_
    refine r_aload_n dX1_join_83 rfl rfl ?_
    refine m_getF (x := 9) hp fw_X1_21 dX1_join_84 rfl ly_1 (ff_1_1 ly_1) ?_
    refine k_VV (As := [.int x2, .ref 9]) (stk := []) hp cv_X1_106 dX1_join_87 rfl (Nat.le_of_ble_eq_true rfl) (lf_1_10 ly_1) (H.mono (fun h2 H => ?_)) ⟨Nat.le_refl _, Nat.le_refl _⟩
    refine r_iinc (v := (x2 + (1 : Int32))) (ls2 := [some (.ref 1), none, some (.int (x2 + (1 : Int32))), some (.int x3)]) dX1_join_90 rfl rfl (by decide) rfl ?_
    refine r_goto (tgt := 16) dX1_join_93 rfl ?_
    refine r_prune [true, false, true, false] (ls2 := [some (.ref 1), none, some (.int (x2 + (1 : Int32))), none]) rfl ?_
    exact H
  · replace H := H.2 cH
    refine r_aload_n dX1_join_34 rfl rfl ?_
    refine m_getF (x := 37) hp fw_X1_75 dX1_join_35 rfl ly_1 (ff_1_16 ly_1) ?_
    refine r_iload_n dX1_join_38 rfl rfl ?_
    refine r_aload_n dX1_join_39 rfl rfl ?_
    refine m_getF (x := 36) hp fw_X1_72 dX1_join_40 rfl ly_1 (ff_1_15 ly_1) ?_
    refine r_iload_n dX1_join_43 rfl rfl ?_
    refine r_sipush (v := (150 : Int32)) dX1_join_44 rfl ?_
    refine r_imul dX1_join_47 ?_
    refine r_iload_n dX1_join_48 rfl rfl ?_
    refine r_iadd dX1_join_49 ?_
    refine m_iald hp dX1_join_50 (lf_1_15 ly_1) H.1 ?_
    replace H := H.2
    refine m_iast hp dX1_join_51 (lf_1_16 ly_1) H.1 (fun h3 eh3 => ?_)
    replace H := H.2 h3 eh3
    refine r_iinc (v := (x3 + (1 : Int32))) (ls2 := [some (.ref 1), none, some (.int x2), some (.int (x3 + (1 : Int32)))]) dX1_join_52 rfl rfl (by decide) rfl ?_
    refine r_goto (tgt := 26) dX1_join_55 rfl ?_
    exact H
abbrev W_X1_interpolate (g : GX) (d : Nat) (av : List Value) (Q : QT) (n : Nat) (pc : Nat) (ls : LV) (stk : List Value) (h : Hp) : Prop := RJ g m_X1_interpolate (d + 1) 0 0 av Q pc ls stk n h 0 0
theorem s_X1_interpolate_0 {g : GX} {d : Nat} {av : List Value} {Q : QT} {n : Nat} {h : Hp} {a1 : Nat} {L1 : Nat} {a2 : Nat} {L2 : Nat} {x3 : Int32} {a4 : Nat} (hp : g.2.2.2.2 = true) (t1 : lay a1 = (1, L1, 0)) (t2 : lay a2 = (1, L2, 0)) (t4 : lay a4 = (0, 3, 2)) (H : W_X1_interpolate g d av Q n 3 [some (.ref 1), some (.ref a1), some (.ref a2), some (.int x3), some (.ref a4), some (.int (1 : Int32)), none] [] h) : W_X1_interpolate g d av Q n 0 [some (.ref 1), some (.ref a1), some (.ref a2), some (.int x3), some (.ref a4), none, none] [] h := by
  refine r_iconst (v := (1 : Int32)) dX1_interpolate_0 rfl ?_
  refine r_istore (ls2 := [some (.ref 1), some (.ref a1), some (.ref a2), some (.int x3), some (.ref a4), some (.int (1 : Int32)), none]) dX1_interpolate_1 (by decide) rfl ?_
  exact H
theorem s_X1_interpolate_3 {g : GX} {d : Nat} {av : List Value} {Q : QT} {n : Nat} {h : Hp} {a1 : Nat} {L1 : Nat} {a2 : Nat} {L2 : Nat} {x3 : Int32} {a4 : Nat} {x5 : Int32} (hp : g.2.2.2.2 = true) (t1 : lay a1 = (1, L1, 0)) (t2 : lay a2 = (1, L2, 0)) (t4 : lay a4 = (0, 3, 2)) (H : ((x3 ≤ x5) → (CallV g m_X3_clear d [.ref a4] n h (fun h1 => (W_X1_interpolate g d av Q n 79 [none, some (.ref a1), some (.ref a2), none, some (.ref a4), some (.int (x3 - (1 : Int32))), none] [] h1)))) ∧ ((¬ x3 ≤ x5) → (W_X1_interpolate g d av Q n 14 [some (.ref 1), some (.ref a1), some (.ref a2), some (.int x3), some (.ref a4), some (.int x5), some (.int (x3 - (1 : Int32)))] [] h))) : W_X1_interpolate g d av Q n 3 [some (.ref 1), some (.ref a1), some (.ref a2), some (.int x3), some (.ref a4), some (.int x5), none] [] h := by
  refine r_iload dX1_interpolate_3 rfl ?_
  refine r_iload_n dX1_interpolate_5 rfl rfl ?_
  refine r_icmp_ge (tgt := 69) dX1_interpolate_6 rfl (fun cH => ?_) (fun cH => ?_)
  · replace H := H.1 cH
    refine r_aload dX1_interpolate_69 rfl ?_
    refine k_VV (As := []) (stk := []) hp cv_X1_81 dX1_interpolate_71 rfl (Nat.le_of_ble_eq_true rfl) t4 (H.mono (fun h1 H => ?_)) ⟨Nat.le_refl _, Nat.le_refl _⟩
    refine r_iload_n dX1_interpolate_74 rfl rfl ?_
    refine r_iconst (v := (1 : Int32)) dX1_interpolate_75 rfl ?_
    refine r_isub dX1_interpolate_76 ?_
    refine r_istore (ls2 := [some (.ref 1), some (.ref a1), some (.ref a2), some (.int x3), some (.ref a4), some (.int (x3 - (1 : Int32))), none]) dX1_interpolate_77 (by decide) rfl ?_
    refine r_prune [false, true, true, false, true, true, false] (ls2 := [none, some (.ref a1), some (.ref a2), none, some (.ref a4), some (.int (x3 - (1 : Int32))), none]) rfl ?_
    exact H
  · replace H := H.2 cH
    refine r_iload_n dX1_interpolate_9 rfl rfl ?_
    refine r_iconst (v := (1 : Int32)) dX1_interpolate_10 rfl ?_
    refine r_isub dX1_interpolate_11 ?_
    refine r_istore (ls2 := [some (.ref 1), some (.ref a1), some (.ref a2), some (.int x3), some (.ref a4), some (.int x5), some (.int (x3 - (1 : Int32)))]) dX1_interpolate_12 (by decide) rfl ?_
    exact H
theorem s_X1_interpolate_14 {g : GX} {d : Nat} {av : List Value} {Q : QT} {n : Nat} {h : Hp} {a1 : Nat} {L1 : Nat} {a2 : Nat} {L2 : Nat} {x3 : Int32} {a4 : Nat} {x5 : Int32} {x6 : Int32} (hp : g.2.2.2.2 = true) (t1 : lay a1 = (1, L1, 0)) (t2 : lay a2 = (1, L2, 0)) (t4 : lay a4 = (0, 3, 2)) (H : ((x6 < x5) → (W_X1_interpolate g d av Q n 3 [some (.ref 1), some (.ref a1), some (.ref a2), some (.int x3), some (.ref a4), some (.int (x5 + (1 : Int32))), none] [] h)) ∧ ((¬ x6 < x5) → (vp_in x6 L2 ∧ (vp_in (x6 - (1 : Int32)) L2 ∧ (CallI g m_X0_less d [.int (ri h a2 (x6).toNatClampNeg), .int (ri h a2 ((x6 - (1 : Int32))).toNatClampNeg)] n h (fun v1 h1 => (vp_in x6 L1 ∧ (vp_in (x6 - x5) L1 ∧ (CallI g m_X1_parted d [.ref 1, .int ((ri h1 a1 (x6).toNatClampNeg) - (ri h1 a1 ((x6 - x5)).toNatClampNeg))] n h1 (fun v2 h2 => (CallI g m_X0_times d [.int v1, .int v2] n h2 (fun v3 h3 => (vp_in x6 L2 ∧ ∀ h4, h4 = wi h3 a2 (x6).toNatClampNeg v3 → (W_X1_interpolate g d av Q n 14 [some (.ref 1), some (.ref a1), some (.ref a2), some (.int x3), some (.ref a4), some (.int x5), some (.int (x6 + (-1 : Int32)))] [] h4)))))))))))))) : W_X1_interpolate g d av Q n 14 [some (.ref 1), some (.ref a1), some (.ref a2), some (.int x3), some (.ref a4), some (.int x5), some (.int x6)] [] h := by
  refine r_iload dX1_interpolate_14 rfl ?_
  refine r_iload dX1_interpolate_16 rfl ?_
  refine r_icmp_lt (tgt := 63) dX1_interpolate_18 rfl (fun cH => ?_) (fun cH => ?_)
  · replace H := H.1 cH
    refine r_iinc (v := (x5 + (1 : Int32))) (ls2 := [some (.ref 1), some (.ref a1), some (.ref a2), some (.int x3), some (.ref a4), some (.int (x5 + (1 : Int32))), some (.int x6)]) dX1_interpolate_63 rfl rfl (by decide) rfl ?_
    refine r_goto (tgt := 3) dX1_interpolate_66 rfl ?_
    refine r_prune [true, true, true, true, true, true, false] (ls2 := [some (.ref 1), some (.ref a1), some (.ref a2), some (.int x3), some (.ref a4), some (.int (x5 + (1 : Int32))), none]) rfl ?_
    exact H
  · replace H := H.2 cH
    refine r_aload_n dX1_interpolate_21 rfl rfl ?_
    refine r_iload dX1_interpolate_22 rfl ?_
    refine r_aload_n dX1_interpolate_24 rfl rfl ?_
    refine r_iload dX1_interpolate_25 rfl ?_
    refine m_iald hp dX1_interpolate_27 t2 H.1 ?_
    replace H := H.2
    refine r_aload_n dX1_interpolate_28 rfl rfl ?_
    refine r_iload dX1_interpolate_29 rfl ?_
    refine r_iconst (v := (1 : Int32)) dX1_interpolate_31 rfl ?_
    refine r_isub dX1_interpolate_32 ?_
    refine m_iald hp dX1_interpolate_33 t2 H.1 ?_
    replace H := H.2
    refine k_SI (As := [.int (ri h a2 (x6).toNatClampNeg), .int (ri h a2 ((x6 - (1 : Int32))).toNatClampNeg)]) (stk := [.int x6, .ref a2]) cs_X1_148 dX1_interpolate_34 rfl (Nat.le_of_ble_eq_true rfl) (H.mono (fun v1 h1 H => ?_)) ⟨Nat.le_refl _, Nat.le_refl _⟩
    refine r_aload_n dX1_interpolate_37 rfl rfl ?_
    refine r_aload_n dX1_interpolate_38 rfl rfl ?_
    refine r_iload dX1_interpolate_39 rfl ?_
    refine m_iald hp dX1_interpolate_41 t1 H.1 ?_
    replace H := H.2
    refine r_aload_n dX1_interpolate_42 rfl rfl ?_
    refine r_iload dX1_interpolate_43 rfl ?_
    refine r_iload dX1_interpolate_45 rfl ?_
    refine r_isub dX1_interpolate_47 ?_
    refine m_iald hp dX1_interpolate_48 t1 H.1 ?_
    replace H := H.2
    refine r_isub dX1_interpolate_49 ?_
    refine k_VI (As := [.int ((ri h1 a1 (x6).toNatClampNeg) - (ri h1 a1 ((x6 - x5)).toNatClampNeg))]) (stk := [.int v1, .int x6, .ref a2]) hp cv_X1_218 dX1_interpolate_50 rfl (Nat.le_of_ble_eq_true rfl) ly_1 (H.mono (fun v2 h2 H => ?_)) ⟨Nat.le_refl _, Nat.le_refl _⟩
    refine k_SI (As := [.int v1, .int v2]) (stk := [.int x6, .ref a2]) cs_X1_211 dX1_interpolate_53 rfl (Nat.le_of_ble_eq_true rfl) (H.mono (fun v3 h3 H => ?_)) ⟨Nat.le_refl _, Nat.le_refl _⟩
    refine m_iast hp dX1_interpolate_56 t2 H.1 (fun h4 eh4 => ?_)
    replace H := H.2 h4 eh4
    refine r_iinc (v := (x6 + (-1 : Int32))) (ls2 := [some (.ref 1), some (.ref a1), some (.ref a2), some (.int x3), some (.ref a4), some (.int x5), some (.int (x6 + (-1 : Int32)))]) dX1_interpolate_57 rfl rfl (by decide) rfl ?_
    refine r_goto (tgt := 14) dX1_interpolate_60 rfl ?_
    exact H
theorem s_X1_interpolate_79 {g : GX} {d : Nat} {av : List Value} {Q : QT} {n : Nat} {h : Hp} {a1 : Nat} {L1 : Nat} {a2 : Nat} {L2 : Nat} {a4 : Nat} {x5 : Int32} (hp : g.2.2.2.2 = true) (t1 : lay a1 = (1, L1, 0)) (t2 : lay a2 = (1, L2, 0)) (t4 : lay a4 = (0, 3, 2)) (H : ((x5 < (0 : Int32)) → (CallV g m_X3_trim d [.ref a4] n h (fun h1 => (Q none n h1)))) ∧ ((¬ x5 < (0 : Int32)) → (W_X1_interpolate g d av Q n 91 [none, some (.ref a1), some (.ref a2), none, some (.ref a4), some (.int x5), some (.int (ri h a4 1))] [] h))) : W_X1_interpolate g d av Q n 79 [none, some (.ref a1), some (.ref a2), none, some (.ref a4), some (.int x5), none] [] h := by
  refine r_iload dX1_interpolate_79 rfl ?_
  refine r_if_lt (tgt := 252) dX1_interpolate_81 rfl (fun cH => ?_) (fun cH => ?_)
  · replace H := H.1 cH
    refine r_aload dX1_interpolate_252 rfl ?_
    refine k_VV (As := []) (stk := []) hp cv_X1_227 dX1_interpolate_254 rfl (Nat.le_of_ble_eq_true rfl) t4 (H.mono (fun h1 H => ?_)) ⟨Nat.le_refl _, Nat.le_refl _⟩
    exact r_vret dX1_interpolate_257 rfl (Nat.le_refl _) (Nat.le_refl _) H
  · replace H := H.2 cH
    refine r_aload dX1_interpolate_84 rfl ?_
    refine m_getI hp fw_X1_88 dX1_interpolate_86 rfl t4 ?_
    refine r_istore (ls2 := [none, some (.ref a1), some (.ref a2), none, some (.ref a4), some (.int x5), some (.int (ri h a4 1))]) dX1_interpolate_89 (by decide) rfl ?_
    exact H
theorem s_X1_interpolate_91 {g : GX} {d : Nat} {av : List Value} {Q : QT} {n : Nat} {h : Hp} {a1 : Nat} {L1 : Nat} {a2 : Nat} {L2 : Nat} {a4 : Nat} {x5 : Int32} {x6 : Int32} (hp : g.2.2.2.2 = true) (t1 : lay a1 = (1, L1, 0)) (t2 : lay a2 = (1, L2, 0)) (t4 : lay a4 = (0, 3, 2)) (H : ((x6 ≤ (0 : Int32)) → ((((ri h a4 1) ≤ (0 : Int32)) → (W_X1_interpolate g d av Q n 196 [none, some (.ref a1), some (.ref a2), none, some (.ref a4), some (.int x5), none] [] h)) ∧ ((¬ (ri h a4 1) ≤ (0 : Int32)) → (vp_in (0 : Int32) (rm (a4 + 1)) ∧ (vp_in x5 L1 ∧ (CallI g m_X0_times d [.int (ri h (a4 + 1) ((0 : Int32)).toNatClampNeg), .int (ri h a1 (x5).toNatClampNeg)] n h (fun v1 h1 => (CallI g m_X0_less d [.int (0 : Int32), .int v1] n h1 (fun v2 h2 => (vp_in (0 : Int32) (rm (a4 + 1)) ∧ ∀ h3, h3 = wi h2 (a4 + 1) ((0 : Int32)).toNatClampNeg v2 → (∀ h4, h4 = wi h3 a4 1 ((ri h3 a4 1) + (1 : Int32)) → (W_X1_interpolate g d av Q n 196 [none, some (.ref a1), some (.ref a2), none, some (.ref a4), some (.int x5), none] [] h4)))))))))))) ∧ ((¬ x6 ≤ (0 : Int32)) → (vp_in (x6 - (1 : Int32)) (rm (a4 + 1)) ∧ ((((ri h a4 1) ≤ x6) → (W_X1_interpolate g d av Q n 142 [none, some (.ref a1), some (.ref a2), none, some (.ref a4), some (.int x5), some (.int x6)] [.int (0 : Int32), .int (ri h (a4 + 1) ((x6 - (1 : Int32))).toNatClampNeg), .int x6, .ref (a4 + 1)] h)) ∧ ((¬ (ri h a4 1) ≤ x6) → (vp_in x6 (rm (a4 + 1)) ∧ (vp_in x5 L1 ∧ (CallI g m_X0_times d [.int (ri h (a4 + 1) (x6).toNatClampNeg), .int (ri h a1 (x5).toNatClampNeg)] n h (fun v5 h5 => (W_X1_interpolate g d av Q n 142 [none, some (.ref a1), some (.ref a2), none, some (.ref a4), some (.int x5), some (.int x6)] [.int v5, .int (ri h (a4 + 1) ((x6 - (1 : Int32))).toNatClampNeg), .int x6, .ref (a4 + 1)] h5)))))))))) : W_X1_interpolate g d av Q n 91 [none, some (.ref a1), some (.ref a2), none, some (.ref a4), some (.int x5), some (.int x6)] [] h := by
  refine r_iload dX1_interpolate_91 rfl ?_
  refine r_if_le (tgt := 152) dX1_interpolate_93 rfl (fun cH => ?_) (fun cH => ?_)
  · replace H := H.1 cH
    refine r_aload dX1_interpolate_152 rfl ?_
    refine m_getI hp fw_X1_88 dX1_interpolate_154 rfl t4 ?_
    refine r_if_le (tgt := 196) dX1_interpolate_157 rfl (fun cH => ?_) (fun cH => ?_)
    · replace H := H.1 cH
      refine r_prune [false, true, true, false, true, true, false] (ls2 := [none, some (.ref a1), some (.ref a2), none, some (.ref a4), some (.int x5), none]) rfl ?_
      exact H
    · replace H := H.2 cH
      refine r_aload dX1_interpolate_160 rfl ?_
      refine m_getF (x := (a4 + 1)) hp fw_X1_99 dX1_interpolate_162 rfl t4 (ff_3_0 t4) ?_
      refine r_iconst (v := (0 : Int32)) dX1_interpolate_165 rfl ?_
      refine r_iconst (v := (0 : Int32)) dX1_interpolate_166 rfl ?_
      refine r_aload dX1_interpolate_167 rfl ?_
      refine m_getF (x := (a4 + 1)) hp fw_X1_99 dX1_interpolate_169 rfl t4 (ff_3_0 t4) ?_
      refine r_iconst (v := (0 : Int32)) dX1_interpolate_172 rfl ?_
      refine m_iald hp dX1_interpolate_173 (lf_3_0 t4) H.1 ?_
      replace H := H.2
      refine r_aload_n dX1_interpolate_174 rfl rfl ?_
      refine r_iload dX1_interpolate_175 rfl ?_
      refine m_iald hp dX1_interpolate_177 t1 H.1 ?_
      replace H := H.2
      refine k_SI (As := [.int (ri h (a4 + 1) ((0 : Int32)).toNatClampNeg), .int (ri h a1 (x5).toNatClampNeg)]) (stk := [.int (0 : Int32), .int (0 : Int32), .ref (a4 + 1)]) cs_X1_211 dX1_interpolate_178 rfl (Nat.le_of_ble_eq_true rfl) (H.mono (fun v1 h1 H => ?_)) ⟨Nat.le_refl _, Nat.le_refl _⟩
      refine k_SI (As := [.int (0 : Int32), .int v1]) (stk := [.int (0 : Int32), .ref (a4 + 1)]) cs_X1_148 dX1_interpolate_181 rfl (Nat.le_of_ble_eq_true rfl) (H.mono (fun v2 h2 H => ?_)) ⟨Nat.le_refl _, Nat.le_refl _⟩
      refine m_iast hp dX1_interpolate_184 (lf_3_0 t4) H.1 (fun h3 eh3 => ?_)
      replace H := H.2 h3 eh3
      refine r_aload dX1_interpolate_185 rfl ?_
      refine r_dup dX1_interpolate_187 rfl ?_
      refine m_getI hp fw_X1_88 dX1_interpolate_188 rfl t4 ?_
      refine r_iconst (v := (1 : Int32)) dX1_interpolate_191 rfl ?_
      refine r_iadd dX1_interpolate_192 ?_
      refine m_putI hp fw_X1_88 dX1_interpolate_193 rfl rfl t4 (fun h4 eh4 => ?_)
      replace H := H h4 eh4
      refine r_prune [false, true, true, false, true, true, false] (ls2 := [none, some (.ref a1), some (.ref a2), none, some (.ref a4), some (.int x5), none]) rfl ?_
      exact H
  · replace H := H.2 cH
    refine r_aload dX1_interpolate_96 rfl ?_
    refine m_getF (x := (a4 + 1)) hp fw_X1_99 dX1_interpolate_98 rfl t4 (ff_3_0 t4) ?_
    refine r_iload dX1_interpolate_101 rfl ?_
    refine r_aload dX1_interpolate_103 rfl ?_
    refine m_getF (x := (a4 + 1)) hp fw_X1_99 dX1_interpolate_105 rfl t4 (ff_3_0 t4) ?_
    refine r_iload dX1_interpolate_108 rfl ?_
    refine r_iconst (v := (1 : Int32)) dX1_interpolate_110 rfl ?_
    refine r_isub dX1_interpolate_111 ?_
    refine m_iald hp dX1_interpolate_112 (lf_3_0 t4) H.1 ?_
    replace H := H.2
    refine r_iload dX1_interpolate_113 rfl ?_
    refine r_aload dX1_interpolate_115 rfl ?_
    refine m_getI hp fw_X1_88 dX1_interpolate_117 rfl t4 ?_
    refine r_icmp_ge (tgt := 141) dX1_interpolate_120 rfl (fun cH => ?_) (fun cH => ?_)
    · replace H := H.1 cH
      refine r_iconst (v := (0 : Int32)) dX1_interpolate_141 rfl ?_
      exact H
    · replace H := H.2 cH
      refine r_aload dX1_interpolate_123 rfl ?_
      refine m_getF (x := (a4 + 1)) hp fw_X1_99 dX1_interpolate_125 rfl t4 (ff_3_0 t4) ?_
      refine r_iload dX1_interpolate_128 rfl ?_
      refine m_iald hp dX1_interpolate_130 (lf_3_0 t4) H.1 ?_
      replace H := H.2
      refine r_aload_n dX1_interpolate_131 rfl rfl ?_
      refine r_iload dX1_interpolate_132 rfl ?_
      refine m_iald hp dX1_interpolate_134 t1 H.1 ?_
      replace H := H.2
      refine k_SI (As := [.int (ri h (a4 + 1) (x6).toNatClampNeg), .int (ri h a1 (x5).toNatClampNeg)]) (stk := [.int (ri h (a4 + 1) ((x6 - (1 : Int32))).toNatClampNeg), .int x6, .ref (a4 + 1)]) cs_X1_211 dX1_interpolate_135 rfl (Nat.le_of_ble_eq_true rfl) (H.mono (fun v5 h5 H => ?_)) ⟨Nat.le_refl _, Nat.le_refl _⟩
      refine r_goto (tgt := 142) dX1_interpolate_138 rfl ?_
      exact H
theorem s_X1_interpolate_142 {g : GX} {d : Nat} {av : List Value} {Q : QT} {n : Nat} {h : Hp} {a1 : Nat} {L1 : Nat} {a2 : Nat} {L2 : Nat} {a4 : Nat} {x5 : Int32} {x6 : Int32} {xs0 : Int32} {xs1 : Int32} {xs2 : Int32} {as3 : Nat} {Ls3 : Nat} (hp : g.2.2.2.2 = true) (t1 : lay a1 = (1, L1, 0)) (t2 : lay a2 = (1, L2, 0)) (t4 : lay a4 = (0, 3, 2)) (ts3 : lay as3 = (1, Ls3, 0)) (H : CallI g m_X0_less d [.int xs1, .int xs0] n h (fun v1 h1 => (vp_in xs2 Ls3 ∧ ∀ h2, h2 = wi h1 as3 (xs2).toNatClampNeg v1 → (W_X1_interpolate g d av Q n 91 [none, some (.ref a1), some (.ref a2), none, some (.ref a4), some (.int x5), some (.int (x6 + (-1 : Int32)))] [] h2)))) : W_X1_interpolate g d av Q n 142 [none, some (.ref a1), some (.ref a2), none, some (.ref a4), some (.int x5), some (.int x6)] [.int xs0, .int xs1, .int xs2, .ref as3] h := by
  refine k_SI (As := [.int xs1, .int xs0]) (stk := [.int xs2, .ref as3]) cs_X1_148 dX1_interpolate_142 rfl (Nat.le_of_ble_eq_true rfl) (H.mono (fun v1 h1 H => ?_)) ⟨Nat.le_refl _, Nat.le_refl _⟩
  refine m_iast hp dX1_interpolate_145 ts3 H.1 (fun h2 eh2 => ?_)
  replace H := H.2 h2 eh2
  refine r_iinc (v := (x6 + (-1 : Int32))) (ls2 := [none, some (.ref a1), some (.ref a2), none, some (.ref a4), some (.int x5), some (.int (x6 + (-1 : Int32)))]) dX1_interpolate_146 rfl rfl (by decide) rfl ?_
  refine r_goto (tgt := 91) dX1_interpolate_149 rfl ?_
  exact H
theorem s_X1_interpolate_196 {g : GX} {d : Nat} {av : List Value} {Q : QT} {n : Nat} {h : Hp} {a1 : Nat} {L1 : Nat} {a2 : Nat} {L2 : Nat} {a4 : Nat} {x5 : Int32} (hp : g.2.2.2.2 = true) (t1 : lay a1 = (1, L1, 0)) (t2 : lay a2 = (1, L2, 0)) (t4 : lay a4 = (0, 3, 2)) (H : ((¬ (ri h a4 1) = (0 : Int32)) → (vp_in (0 : Int32) (rm (a4 + 1)) ∧ (vp_in x5 L2 ∧ (CallI g m_X0_sum d [.int (ri h (a4 + 1) ((0 : Int32)).toNatClampNeg), .int (ri h a2 (x5).toNatClampNeg)] n h (fun v1 h1 => (W_X1_interpolate g d av Q n 231 [none, some (.ref a1), some (.ref a2), none, some (.ref a4), some (.int x5), none] [.int v1, .int (0 : Int32), .ref (a4 + 1)] h1)))))) ∧ (((ri h a4 1) = (0 : Int32)) → (vp_in x5 L2 ∧ (W_X1_interpolate g d av Q n 231 [none, some (.ref a1), some (.ref a2), none, some (.ref a4), some (.int x5), none] [.int (ri h a2 (x5).toNatClampNeg), .int (0 : Int32), .ref (a4 + 1)] h)))) : W_X1_interpolate g d av Q n 196 [none, some (.ref a1), some (.ref a2), none, some (.ref a4), some (.int x5), none] [] h := by
  refine r_aload dX1_interpolate_196 rfl ?_
  refine m_getF (x := (a4 + 1)) hp fw_X1_99 dX1_interpolate_198 rfl t4 (ff_3_0 t4) ?_
  refine r_iconst (v := (0 : Int32)) dX1_interpolate_201 rfl ?_
  refine r_aload dX1_interpolate_202 rfl ?_
  refine m_getI hp fw_X1_88 dX1_interpolate_204 rfl t4 ?_
  refine r_if_ne (tgt := 217) dX1_interpolate_207 rfl (fun cH => ?_) (fun cH => ?_)
  · replace H := H.1 cH
    refine r_aload dX1_interpolate_217 rfl ?_
    refine m_getF (x := (a4 + 1)) hp fw_X1_99 dX1_interpolate_219 rfl t4 (ff_3_0 t4) ?_
    refine r_iconst (v := (0 : Int32)) dX1_interpolate_222 rfl ?_
    refine m_iald hp dX1_interpolate_223 (lf_3_0 t4) H.1 ?_
    replace H := H.2
    refine r_aload_n dX1_interpolate_224 rfl rfl ?_
    refine r_iload dX1_interpolate_225 rfl ?_
    refine m_iald hp dX1_interpolate_227 t2 H.1 ?_
    replace H := H.2
    refine k_SI (As := [.int (ri h (a4 + 1) ((0 : Int32)).toNatClampNeg), .int (ri h a2 (x5).toNatClampNeg)]) (stk := [.int (0 : Int32), .ref (a4 + 1)]) cs_X1_221 dX1_interpolate_228 rfl (Nat.le_of_ble_eq_true rfl) (H.mono (fun v1 h1 H => ?_)) ⟨Nat.le_refl _, Nat.le_refl _⟩
    exact H
  · replace H := H.2 cH
    refine r_aload_n dX1_interpolate_210 rfl rfl ?_
    refine r_iload dX1_interpolate_211 rfl ?_
    refine m_iald hp dX1_interpolate_213 t2 H.1 ?_
    replace H := H.2
    refine r_goto (tgt := 231) dX1_interpolate_214 rfl ?_
    exact H
theorem s_X1_interpolate_231 {g : GX} {d : Nat} {av : List Value} {Q : QT} {n : Nat} {h : Hp} {a1 : Nat} {L1 : Nat} {a2 : Nat} {L2 : Nat} {a4 : Nat} {x5 : Int32} {xs0 : Int32} {xs1 : Int32} {as2 : Nat} {Ls2 : Nat} (hp : g.2.2.2.2 = true) (t1 : lay a1 = (1, L1, 0)) (t2 : lay a2 = (1, L2, 0)) (t4 : lay a4 = (0, 3, 2)) (ts2 : lay as2 = (1, Ls2, 0)) (H : vp_in xs1 Ls2 ∧ ∀ h1, h1 = wi h as2 (xs1).toNatClampNeg xs0 → (CallI g m_J3_max d [.int (ri h1 a4 1), .int (1 : Int32)] n h1 (fun v2 h2 => (∀ h3, h3 = wi h2 a4 1 v2 → (W_X1_interpolate g d av Q n 79 [none, some (.ref a1), some (.ref a2), none, some (.ref a4), some (.int (x5 + (-1 : Int32))), none] [] h3))))) : W_X1_interpolate g d av Q n 231 [none, some (.ref a1), some (.ref a2), none, some (.ref a4), some (.int x5), none] [.int xs0, .int xs1, .ref as2] h := by
  refine m_iast hp dX1_interpolate_231 ts2 H.1 (fun h1 eh1 => ?_)
  replace H := H.2 h1 eh1
  refine r_aload dX1_interpolate_232 rfl ?_
  refine r_aload dX1_interpolate_234 rfl ?_
  refine m_getI hp fw_X1_88 dX1_interpolate_236 rfl t4 ?_
  refine r_iconst (v := (1 : Int32)) dX1_interpolate_239 rfl ?_
  refine k_SI (As := [.int (ri h1 a4 1), .int (1 : Int32)]) (stk := [.ref a4]) cs_X1_224 dX1_interpolate_240 rfl (Nat.le_of_ble_eq_true rfl) (H.mono (fun v2 h2 H => ?_)) ⟨Nat.le_refl _, Nat.le_refl _⟩
  refine m_putI hp fw_X1_88 dX1_interpolate_243 rfl rfl t4 (fun h3 eh3 => ?_)
  replace H := H h3 eh3
  refine r_iinc (v := (x5 + (-1 : Int32))) (ls2 := [none, some (.ref a1), some (.ref a2), none, some (.ref a4), some (.int (x5 + (-1 : Int32))), none]) dX1_interpolate_246 rfl rfl (by decide) rfl ?_
  refine r_goto (tgt := 79) dX1_interpolate_249 rfl ?_
  exact H
abbrev W_X1_parted (g : GX) (d : Nat) (av : List Value) (Q : QT) (n : Nat) (pc : Nat) (ls : LV) (stk : List Value) (h : Hp) : Prop := RJ g m_X1_parted (d + 1) 0 0 av Q pc ls stk n h 0 0
theorem s_X1_parted_0 {g : GX} {d : Nat} {av : List Value} {Q : QT} {n : Nat} {h : Hp} {x1 : Int32} (hp : g.2.2.2.2 = true)  (H : ((x1 < (2000 : Int32)) → (vp_in x1 2000 ∧ (((¬ (ri h 38 (x1).toNatClampNeg) = (0 : Int32)) → (vp_in x1 2000 ∧ (Q (some (.int (ri h 38 (x1).toNatClampNeg))) n h))) ∧ (((ri h 38 (x1).toNatClampNeg) = (0 : Int32)) → (CallI g m_X0_inverse d [.int x1] n h (fun v1 h1 => (vp_in x1 2000 ∧ ∀ h2, h2 = wi h1 38 (x1).toNatClampNeg v1 → (vp_in x1 2000 ∧ (Q (some (.int (ri h2 38 (x1).toNatClampNeg))) n h2))))))))) ∧ ((¬ x1 < (2000 : Int32)) → (CallI g m_X0_inverse d [.int x1] n h (fun v3 h3 => (Q (some (.int v3)) n h3))))) : W_X1_parted g d av Q n 0 [some (.ref 1), some (.int x1)] [] h := by
  refine r_iload_n dX1_parted_0 rfl rfl ?_
  refine r_sipush (v := (2000 : Int32)) dX1_parted_1 rfl ?_
  refine r_icmp_lt (tgt := 12) dX1_parted_4 rfl (fun cH => ?_) (fun cH => ?_)
  · replace H := H.1 cH
    refine r_aload_n dX1_parted_12 rfl rfl ?_
    refine m_getF (x := 38) hp fw_X1_78 dX1_parted_13 rfl ly_1 (ff_1_17 ly_1) ?_
    refine r_iload_n dX1_parted_16 rfl rfl ?_
    refine m_iald hp dX1_parted_17 (lf_1_17 ly_1) H.1 ?_
    replace H := H.2
    refine r_if_ne (tgt := 31) dX1_parted_18 rfl (fun cH => ?_) (fun cH => ?_)
    · replace H := H.1 cH
      refine r_aload_n dX1_parted_31 rfl rfl ?_
      refine m_getF (x := 38) hp fw_X1_78 dX1_parted_32 rfl ly_1 (ff_1_17 ly_1) ?_
      refine r_iload_n dX1_parted_35 rfl rfl ?_
      refine m_iald hp dX1_parted_36 (lf_1_17 ly_1) H.1 ?_
      replace H := H.2
      exact r_zret dX1_parted_37 rfl rfl (Nat.le_refl _) (Nat.le_refl _) H
    · replace H := H.2 cH
      refine r_aload_n dX1_parted_21 rfl rfl ?_
      refine m_getF (x := 38) hp fw_X1_78 dX1_parted_22 rfl ly_1 (ff_1_17 ly_1) ?_
      refine r_iload_n dX1_parted_25 rfl rfl ?_
      refine r_iload_n dX1_parted_26 rfl rfl ?_
      refine k_SI (As := [.int x1]) (stk := [.int x1, .ref 38]) cs_X1_171 dX1_parted_27 rfl (Nat.le_of_ble_eq_true rfl) (H.mono (fun v1 h1 H => ?_)) ⟨Nat.le_refl _, Nat.le_refl _⟩
      refine m_iast hp dX1_parted_30 (lf_1_17 ly_1) H.1 (fun h2 eh2 => ?_)
      replace H := H.2 h2 eh2
      refine r_aload_n dX1_parted_31 rfl rfl ?_
      refine m_getF (x := 38) hp fw_X1_78 dX1_parted_32 rfl ly_1 (ff_1_17 ly_1) ?_
      refine r_iload_n dX1_parted_35 rfl rfl ?_
      refine m_iald hp dX1_parted_36 (lf_1_17 ly_1) H.1 ?_
      replace H := H.2
      exact r_zret dX1_parted_37 rfl rfl (Nat.le_refl _) (Nat.le_refl _) H
  · replace H := H.2 cH
    refine r_iload_n dX1_parted_7 rfl rfl ?_
    refine k_SI (As := [.int x1]) (stk := []) cs_X1_171 dX1_parted_8 rfl (Nat.le_of_ble_eq_true rfl) (H.mono (fun v3 h3 H => ?_)) ⟨Nat.le_refl _, Nat.le_refl _⟩
    exact r_zret dX1_parted_11 rfl rfl (Nat.le_refl _) (Nat.le_refl _) H
abbrev W_X1_divides (g : GX) (d : Nat) (av : List Value) (Q : QT) (n : Nat) (pc : Nat) (ls : LV) (stk : List Value) (h : Hp) : Prop := RJ g m_X1_divides (d + 1) 0 0 av Q pc ls stk n h 0 0
theorem s_X1_divides_0 {g : GX} {d : Nat} {av : List Value} {Q : QT} {n : Nat} {h : Hp} {a1 : Nat} {a2 : Nat} {a3 : Nat} (hp : g.2.2.2.2 = true) (t1 : lay a1 = (0, 4, 4)) (t2 : lay a2 = (0, 4, 4)) (t3 : lay a3 = (0, 4, 4)) (H : CallV g m_X4_clear d [.ref a3] n h (fun h1 => (CallV g m_X4_copy d [.ref 29, .ref a2] n h1 (fun h2 => (((((ri h2 a2 3) - (ri h2 a1 3)) < (0 : Int32)) → (W_X1_divides g d av Q n 39 [none, none, some (.ref a2), none, none, none, none] [] h2)) ∧ ((¬ ((ri h2 a2 3) - (ri h2 a1 3)) < (0 : Int32)) → ((((ri h2 a1 2) ≤ (ri h2 a2 2)) → (CallV g m_X4_open d [.ref a3, .int (ri h2 a2 2), .int (((ri h2 a2 3) - (ri h2 a1 3)) + (1 : Int32))] n h2 (fun h3 => (CallV g m_X4_row d [.ref a1, .int ((ri h3 a1 3) - (1 : Int32)), .ref 11] n h3 (fun h4 => (W_X1_divides g d av Q n 74 [some (.ref 1), some (.ref a1), none, some (.ref a3), none, some (.int ((ri h2 a2 3) - (ri h2 a1 3))), none] [] h4)))))) ∧ ((¬ (ri h2 a1 2) ≤ (ri h2 a2 2)) → (W_X1_divides g d av Q n 39 [none, none, some (.ref a2), none, none, none, none] [] h2))))))))) : W_X1_divides g d av Q n 0 [some (.ref 1), some (.ref a1), some (.ref a2), some (.ref a3), none, none, none] [] h := by
  refine r_aload_n dX1_divides_0 rfl rfl ?_
  refine k_VV (As := []) (stk := []) hp cv_X1_123 dX1_divides_1 rfl (Nat.le_of_ble_eq_true rfl) t3 (H.mono (fun h1 H => ?_)) ⟨Nat.le_refl _, Nat.le_refl _⟩
  refine r_aload_n dX1_divides_4 rfl rfl ?_
  refine m_getF (x := 29) hp fw_X1_58 dX1_divides_5 rfl ly_1 (ff_1_11 ly_1) ?_
  refine r_aload_n dX1_divides_8 rfl rfl ?_
  refine k_VV (As := [.ref a2]) (stk := []) hp cv_X1_124 dX1_divides_9 rfl (Nat.le_of_ble_eq_true rfl) (lf_1_11 ly_1) (H.mono (fun h2 H => ?_)) ⟨Nat.le_refl _, Nat.le_refl _⟩
  refine r_aload_n dX1_divides_12 rfl rfl ?_
  refine m_getI hp fw_X1_84 dX1_divides_13 rfl t2 ?_
  refine r_aload_n dX1_divides_16 rfl rfl ?_
  refine m_getI hp fw_X1_84 dX1_divides_17 rfl t1 ?_
  refine r_isub dX1_divides_20 ?_
  refine r_istore (ls2 := [some (.ref 1), some (.ref a1), some (.ref a2), some (.ref a3), some (.int ((ri h2 a2 3) - (ri h2 a1 3))), none, none]) dX1_divides_21 (by decide) rfl ?_
  refine r_iload dX1_divides_23 rfl ?_
  refine r_if_lt (tgt := 39) dX1_divides_25 rfl (fun cH => ?_) (fun cH => ?_)
  · replace H := H.1 cH
    refine r_prune [false, false, true, false, false, false, false] (ls2 := [none, none, some (.ref a2), none, none, none, none]) rfl ?_
    exact H
  · replace H := H.2 cH
    refine r_aload_n dX1_divides_28 rfl rfl ?_
    refine m_getI hp fw_X1_128 dX1_divides_29 rfl t2 ?_
    refine r_aload_n dX1_divides_32 rfl rfl ?_
    refine m_getI hp fw_X1_128 dX1_divides_33 rfl t1 ?_
    refine r_icmp_ge (tgt := 44) dX1_divides_36 rfl (fun cH => ?_) (fun cH => ?_)
    · replace H := H.1 cH
      refine r_aload_n dX1_divides_44 rfl rfl ?_
      refine r_aload_n dX1_divides_45 rfl rfl ?_
      refine m_getI hp fw_X1_128 dX1_divides_46 rfl t2 ?_
      refine r_iload dX1_divides_49 rfl ?_
      refine r_iconst (v := (1 : Int32)) dX1_divides_51 rfl ?_
      refine r_iadd dX1_divides_52 ?_
      refine k_VV (As := [.int (ri h2 a2 2), .int (((ri h2 a2 3) - (ri h2 a1 3)) + (1 : Int32))]) (stk := []) hp cv_X1_131 dX1_divides_53 rfl (Nat.le_of_ble_eq_true rfl) t3 (H.mono (fun h3 H => ?_)) ⟨Nat.le_refl _, Nat.le_refl _⟩
      refine r_aload_n dX1_divides_56 rfl rfl ?_
      refine r_aload_n dX1_divides_57 rfl rfl ?_
      refine m_getI hp fw_X1_84 dX1_divides_58 rfl t1 ?_
      refine r_iconst (v := (1 : Int32)) dX1_divides_61 rfl ?_
      refine r_isub dX1_divides_62 ?_
      refine r_aload_n dX1_divides_63 rfl rfl ?_
      refine m_getF (x := 11) hp fw_X1_25 dX1_divides_64 rfl ly_1 (ff_1_2 ly_1) ?_
      refine k_VV (As := [.int ((ri h3 a1 3) - (1 : Int32)), .ref 11]) (stk := []) hp cv_X1_91 dX1_divides_67 rfl (Nat.le_of_ble_eq_true rfl) t1 (H.mono (fun h4 H => ?_)) ⟨Nat.le_refl _, Nat.le_refl _⟩
      refine r_iload dX1_divides_70 rfl ?_
      refine r_istore (ls2 := [some (.ref 1), some (.ref a1), some (.ref a2), some (.ref a3), some (.int ((ri h2 a2 3) - (ri h2 a1 3))), some (.int ((ri h2 a2 3) - (ri h2 a1 3))), none]) dX1_divides_72 (by decide) rfl ?_
      refine r_prune [true, true, false, true, false, true, false] (ls2 := [some (.ref 1), some (.ref a1), none, some (.ref a3), none, some (.int ((ri h2 a2 3) - (ri h2 a1 3))), none]) rfl ?_
      exact H
    · replace H := H.2 cH
      refine r_prune [false, false, true, false, false, false, false] (ls2 := [none, none, some (.ref a2), none, none, none, none]) rfl ?_
      exact H
theorem s_X1_divides_39 {g : GX} {d : Nat} {av : List Value} {Q : QT} {n : Nat} {h : Hp} {a2 : Nat} (hp : g.2.2.2.2 = true) (t2 : lay a2 = (0, 4, 4)) (H : CallI g m_X4_isZero d [.ref a2] n h (fun v1 h1 => ((v1 = 0 ∨ v1 = 1) ∧ Q (some (.int v1)) n h1))) : W_X1_divides g d av Q n 39 [none, none, some (.ref a2), none, none, none, none] [] h := by
  refine r_aload_n dX1_divides_39 rfl rfl ?_
  refine k_VI (As := []) (stk := []) hp cv_X1_116 dX1_divides_40 rfl (Nat.le_of_ble_eq_true rfl) t2 (H.mono (fun v1 h1 H => ?_)) ⟨Nat.le_refl _, Nat.le_refl _⟩
  exact r_zret dX1_divides_43 rfl (nar01 H.1) (Nat.le_refl _) (Nat.le_refl _) H.2
theorem s_X1_divides_74 {g : GX} {d : Nat} {av : List Value} {Q : QT} {n : Nat} {h : Hp} {a1 : Nat} {a3 : Nat} {x5 : Int32} (hp : g.2.2.2.2 = true) (t1 : lay a1 = (0, 4, 4)) (t3 : lay a3 = (0, 4, 4)) (H : ((x5 < (0 : Int32)) → (CallV g m_X4_trim d [.ref a3] n h (fun h1 => (CallV g m_X4_trim d [.ref 29] n h1 (fun h2 => (CallI g m_X4_isZero d [.ref 29] n h2 (fun v3 h3 => ((v3 = 0 ∨ v3 = 1) ∧ Q (some (.int v3)) n h3)))))))) ∧ ((¬ x5 < (0 : Int32)) → (CallV g m_X4_row d [.ref 29, .int ((x5 + (ri h a1 3)) - (1 : Int32)), .ref 9] n h (fun h4 => (CallV g m_X3_divide d [.ref 9, .ref 11, .ref 19] n h4 (fun h5 => (CallI g m_X3_isZero d [.ref 9] n h5 (fun v6 h6 => (((v6 = (0 : Int32)) → (Q (some (.int (0 : Int32))) n h6)) ∧ ((¬ v6 = (0 : Int32)) → ((((ri h6 19 1) ≤ (ri h6 a3 2)) → (CallV g m_X4_putRow d [.ref a3, .int x5, .ref 19] n h6 (fun h7 => (W_X1_divides g d av Q n 153 [some (.ref 1), some (.ref a1), none, some (.ref a3), none, some (.int x5), some (.int (0 : Int32))] [] h7)))) ∧ ((¬ (ri h6 19 1) ≤ (ri h6 a3 2)) → (Q (some (.int (0 : Int32))) n h6))))))))))))) : W_X1_divides g d av Q n 74 [some (.ref 1), some (.ref a1), none, some (.ref a3), none, some (.int x5), none] [] h := by
  refine r_iload dX1_divides_74 rfl ?_
  refine r_if_lt (tgt := 201) dX1_divides_76 rfl (fun cH => ?_) (fun cH => ?_)
  · replace H := H.1 cH
    refine r_aload_n dX1_divides_201 rfl rfl ?_
    refine k_VV (As := []) (stk := []) hp cv_X1_109 dX1_divides_202 rfl (Nat.le_of_ble_eq_true rfl) t3 (H.mono (fun h1 H => ?_)) ⟨Nat.le_refl _, Nat.le_refl _⟩
    refine r_aload_n dX1_divides_205 rfl rfl ?_
    refine m_getF (x := 29) hp fw_X1_58 dX1_divides_206 rfl ly_1 (ff_1_11 ly_1) ?_
    refine k_VV (As := []) (stk := []) hp cv_X1_109 dX1_divides_209 rfl (Nat.le_of_ble_eq_true rfl) (lf_1_11 ly_1) (H.mono (fun h2 H => ?_)) ⟨Nat.le_refl _, Nat.le_refl _⟩
    refine r_aload_n dX1_divides_212 rfl rfl ?_
    refine m_getF (x := 29) hp fw_X1_58 dX1_divides_213 rfl ly_1 (ff_1_11 ly_1) ?_
    refine k_VI (As := []) (stk := []) hp cv_X1_116 dX1_divides_216 rfl (Nat.le_of_ble_eq_true rfl) (lf_1_11 ly_1) (H.mono (fun v3 h3 H => ?_)) ⟨Nat.le_refl _, Nat.le_refl _⟩
    exact r_zret dX1_divides_219 rfl (nar01 H.1) (Nat.le_refl _) (Nat.le_refl _) H.2
  · replace H := H.2 cH
    refine r_aload_n dX1_divides_79 rfl rfl ?_
    refine m_getF (x := 29) hp fw_X1_58 dX1_divides_80 rfl ly_1 (ff_1_11 ly_1) ?_
    refine r_iload dX1_divides_83 rfl ?_
    refine r_aload_n dX1_divides_85 rfl rfl ?_
    refine m_getI hp fw_X1_84 dX1_divides_86 rfl t1 ?_
    refine r_iadd dX1_divides_89 ?_
    refine r_iconst (v := (1 : Int32)) dX1_divides_90 rfl ?_
    refine r_isub dX1_divides_91 ?_
    refine r_aload_n dX1_divides_92 rfl rfl ?_
    refine m_getF (x := 9) hp fw_X1_21 dX1_divides_93 rfl ly_1 (ff_1_1 ly_1) ?_
    refine k_VV (As := [.int ((x5 + (ri h a1 3)) - (1 : Int32)), .ref 9]) (stk := []) hp cv_X1_91 dX1_divides_96 rfl (Nat.le_of_ble_eq_true rfl) (lf_1_11 ly_1) (H.mono (fun h4 H => ?_)) ⟨Nat.le_refl _, Nat.le_refl _⟩
    refine r_aload_n dX1_divides_99 rfl rfl ?_
    refine m_getF (x := 9) hp fw_X1_21 dX1_divides_100 rfl ly_1 (ff_1_1 ly_1) ?_
    refine r_aload_n dX1_divides_103 rfl rfl ?_
    refine m_getF (x := 11) hp fw_X1_25 dX1_divides_104 rfl ly_1 (ff_1_2 ly_1) ?_
    refine r_aload_n dX1_divides_107 rfl rfl ?_
    refine m_getF (x := 19) hp fw_X1_37 dX1_divides_108 rfl ly_1 (ff_1_6 ly_1) ?_
    refine k_VV (As := [.ref 11, .ref 19]) (stk := []) hp cv_X1_134 dX1_divides_111 rfl (Nat.le_of_ble_eq_true rfl) (lf_1_1 ly_1) (H.mono (fun h5 H => ?_)) ⟨Nat.le_refl _, Nat.le_refl _⟩
    refine r_aload_n dX1_divides_114 rfl rfl ?_
    refine m_getF (x := 9) hp fw_X1_21 dX1_divides_115 rfl ly_1 (ff_1_1 ly_1) ?_
    refine k_VI (As := []) (stk := []) hp cv_X1_137 dX1_divides_118 rfl (Nat.le_of_ble_eq_true rfl) (lf_1_1 ly_1) (H.mono (fun v6 h6 H => ?_)) ⟨Nat.le_refl _, Nat.le_refl _⟩
    refine r_if_eq (tgt := 138) dX1_divides_121 rfl (fun cH => ?_) (fun cH => ?_)
    · replace H := H.1 cH
      refine r_iconst (v := (0 : Int32)) dX1_divides_138 rfl ?_
      exact r_zret dX1_divides_139 rfl rfl (Nat.le_refl _) (Nat.le_refl _) H
    · replace H := H.2 cH
      refine r_aload_n dX1_divides_124 rfl rfl ?_
      refine m_getF (x := 19) hp fw_X1_37 dX1_divides_125 rfl ly_1 (ff_1_6 ly_1) ?_
      refine m_getI hp fw_X1_88 dX1_divides_128 rfl (lf_1_6 ly_1) ?_
      refine r_aload_n dX1_divides_131 rfl rfl ?_
      refine m_getI hp fw_X1_128 dX1_divides_132 rfl t3 ?_
      refine r_icmp_le (tgt := 140) dX1_divides_135 rfl (fun cH => ?_) (fun cH => ?_)
      · replace H := H.1 cH
        refine r_aload_n dX1_divides_140 rfl rfl ?_
        refine r_iload dX1_divides_141 rfl ?_
        refine r_aload_n dX1_divides_143 rfl rfl ?_
        refine m_getF (x := 19) hp fw_X1_37 dX1_divides_144 rfl ly_1 (ff_1_6 ly_1) ?_
        refine k_VV (As := [.int x5, .ref 19]) (stk := []) hp cv_X1_106 dX1_divides_147 rfl (Nat.le_of_ble_eq_true rfl) t3 (H.mono (fun h7 H => ?_)) ⟨Nat.le_refl _, Nat.le_refl _⟩
        refine r_iconst (v := (0 : Int32)) dX1_divides_150 rfl ?_
        refine r_istore (ls2 := [some (.ref 1), some (.ref a1), none, some (.ref a3), none, some (.int x5), some (.int (0 : Int32))]) dX1_divides_151 (by decide) rfl ?_
        exact H
      · replace H := H.2 cH
        refine r_iconst (v := (0 : Int32)) dX1_divides_138 rfl ?_
        exact r_zret dX1_divides_139 rfl rfl (Nat.le_refl _) (Nat.le_refl _) H
theorem s_X1_divides_153 {g : GX} {d : Nat} {av : List Value} {Q : QT} {n : Nat} {h : Hp} {a1 : Nat} {a3 : Nat} {x5 : Int32} {x6 : Int32} (hp : g.2.2.2.2 = true) (t1 : lay a1 = (0, 4, 4)) (t3 : lay a3 = (0, 4, 4)) (H : (((ri h a1 3) ≤ x6) → (W_X1_divides g d av Q n 195 [some (.ref 1), some (.ref a1), none, some (.ref a3), none, some (.int x5), none] [] h)) ∧ ((¬ (ri h a1 3) ≤ x6) → (CallI g m_X3_isZero d [.ref 19] n h (fun v1 h1 => (((¬ v1 = (0 : Int32)) → (W_X1_divides g d av Q n 195 [some (.ref 1), some (.ref a1), none, some (.ref a3), none, some (.int x5), none] [] h1)) ∧ ((v1 = (0 : Int32)) → (CallI g m_X1_takeAway d [.ref 1, .ref a1, .int x6, .int (x6 + x5)] n h1 (fun v2 h2 => (((¬ v2 = (0 : Int32)) → (W_X1_divides g d av Q n 153 [some (.ref 1), some (.ref a1), none, some (.ref a3), none, some (.int x5), some (.int (x6 + (1 : Int32)))] [] h2)) ∧ ((v2 = (0 : Int32)) → (Q (some (.int (0 : Int32))) n h2))))))))))) : W_X1_divides g d av Q n 153 [some (.ref 1), some (.ref a1), none, some (.ref a3), none, some (.int x5), some (.int x6)] [] h := by
  refine r_iload dX1_divides_153 rfl ?_
  refine r_aload_n dX1_divides_155 rfl rfl ?_
  refine m_getI hp fw_X1_84 dX1_divides_156 rfl t1 ?_
  refine r_icmp_ge (tgt := 195) dX1_divides_159 rfl (fun cH => ?_) (fun cH => ?_)
  · replace H := H.1 cH
    refine r_prune [true, true, false, true, false, true, false] (ls2 := [some (.ref 1), some (.ref a1), none, some (.ref a3), none, some (.int x5), none]) rfl ?_
    exact H
  · replace H := H.2 cH
    refine r_aload_n dX1_divides_162 rfl rfl ?_
    refine m_getF (x := 19) hp fw_X1_37 dX1_divides_163 rfl ly_1 (ff_1_6 ly_1) ?_
    refine k_VI (As := []) (stk := []) hp cv_X1_137 dX1_divides_166 rfl (Nat.le_of_ble_eq_true rfl) (lf_1_6 ly_1) (H.mono (fun v1 h1 H => ?_)) ⟨Nat.le_refl _, Nat.le_refl _⟩
    refine r_if_ne (tgt := 195) dX1_divides_169 rfl (fun cH => ?_) (fun cH => ?_)
    · replace H := H.1 cH
      refine r_prune [true, true, false, true, false, true, false] (ls2 := [some (.ref 1), some (.ref a1), none, some (.ref a3), none, some (.int x5), none]) rfl ?_
      exact H
    · replace H := H.2 cH
      refine r_aload_n dX1_divides_172 rfl rfl ?_
      refine r_aload_n dX1_divides_173 rfl rfl ?_
      refine r_iload dX1_divides_174 rfl ?_
      refine r_iload dX1_divides_176 rfl ?_
      refine r_iload dX1_divides_178 rfl ?_
      refine r_iadd dX1_divides_180 ?_
      refine k_VI (As := [.ref a1, .int x6, .int (x6 + x5)]) (stk := []) hp cv_X1_138 dX1_divides_181 rfl (Nat.le_of_ble_eq_true rfl) ly_1 (H.mono (fun v2 h2 H => ?_)) ⟨Nat.le_refl _, Nat.le_refl _⟩
      refine r_if_ne (tgt := 189) dX1_divides_184 rfl (fun cH => ?_) (fun cH => ?_)
      · replace H := H.1 cH
        refine r_iinc (v := (x6 + (1 : Int32))) (ls2 := [some (.ref 1), some (.ref a1), none, some (.ref a3), none, some (.int x5), some (.int (x6 + (1 : Int32)))]) dX1_divides_189 rfl rfl (by decide) rfl ?_
        refine r_goto (tgt := 153) dX1_divides_192 rfl ?_
        exact H
      · replace H := H.2 cH
        refine r_iconst (v := (0 : Int32)) dX1_divides_187 rfl ?_
        exact r_zret dX1_divides_188 rfl rfl (Nat.le_refl _) (Nat.le_refl _) H
theorem s_X1_divides_195 {g : GX} {d : Nat} {av : List Value} {Q : QT} {n : Nat} {h : Hp} {a1 : Nat} {a3 : Nat} {x5 : Int32} (hp : g.2.2.2.2 = true) (t1 : lay a1 = (0, 4, 4)) (t3 : lay a3 = (0, 4, 4)) (H : W_X1_divides g d av Q n 74 [some (.ref 1), some (.ref a1), none, some (.ref a3), none, some (.int (x5 + (-1 : Int32))), none] [] h) : W_X1_divides g d av Q n 195 [some (.ref 1), some (.ref a1), none, some (.ref a3), none, some (.int x5), none] [] h := by
  refine r_iinc (v := (x5 + (-1 : Int32))) (ls2 := [some (.ref 1), some (.ref a1), none, some (.ref a3), none, some (.int (x5 + (-1 : Int32))), none]) dX1_divides_195 rfl rfl (by decide) rfl ?_
  refine r_goto (tgt := 74) dX1_divides_198 rfl ?_
  exact H
abbrev W_X1_takeAway (g : GX) (d : Nat) (av : List Value) (Q : QT) (n : Nat) (pc : Nat) (ls : LV) (stk : List Value) (h : Hp) : Prop := RJ g m_X1_takeAway (d + 1) 0 0 av Q pc ls stk n h 0 0
theorem s_X1_takeAway_0 {g : GX} {d : Nat} {av : List Value} {Q : QT} {n : Nat} {h : Hp} {a1 : Nat} {x2 : Int32} {x3 : Int32} (hp : g.2.2.2.2 = true) (t1 : lay a1 = (0, 4, 4)) (H : CallV g m_X4_row d [.ref a1, .int x2, .ref 9] n h (fun h1 => (CallV g m_X3_product d [.ref 21, .ref 9, .ref 19] n h1 (fun h2 => ((((ri h2 21 1) ≤ (ri h2 29 2)) → (W_X1_takeAway g d av Q n 46 [some (.ref 1), none, none, some (.int x3), some (.int (0 : Int32)), none] [] h2)) ∧ ((¬ (ri h2 21 1) ≤ (ri h2 29 2)) → (Q (some (.int (0 : Int32))) n h2))))))) : W_X1_takeAway g d av Q n 0 [some (.ref 1), some (.ref a1), some (.int x2), some (.int x3), none, none] [] h := by
  refine r_aload_n dX1_takeAway_0 rfl rfl ?_
  refine r_iload_n dX1_takeAway_1 rfl rfl ?_
  refine r_aload_n dX1_takeAway_2 rfl rfl ?_
  refine m_getF (x := 9) hp fw_X1_21 dX1_takeAway_3 rfl ly_1 (ff_1_1 ly_1) ?_
  refine k_VV (As := [.int x2, .ref 9]) (stk := []) hp cv_X1_91 dX1_takeAway_6 rfl (Nat.le_of_ble_eq_true rfl) t1 (H.mono (fun h1 H => ?_)) ⟨Nat.le_refl _, Nat.le_refl _⟩
  refine r_aload_n dX1_takeAway_9 rfl rfl ?_
  refine m_getF (x := 21) hp fw_X1_40 dX1_takeAway_10 rfl ly_1 (ff_1_7 ly_1) ?_
  refine r_aload_n dX1_takeAway_13 rfl rfl ?_
  refine m_getF (x := 9) hp fw_X1_21 dX1_takeAway_14 rfl ly_1 (ff_1_1 ly_1) ?_
  refine r_aload_n dX1_takeAway_17 rfl rfl ?_
  refine m_getF (x := 19) hp fw_X1_37 dX1_takeAway_18 rfl ly_1 (ff_1_6 ly_1) ?_
  refine k_VV (As := [.ref 9, .ref 19]) (stk := []) hp cv_X1_142 dX1_takeAway_21 rfl (Nat.le_of_ble_eq_true rfl) (lf_1_7 ly_1) (H.mono (fun h2 H => ?_)) ⟨Nat.le_refl _, Nat.le_refl _⟩
  refine r_aload_n dX1_takeAway_24 rfl rfl ?_
  refine m_getF (x := 21) hp fw_X1_40 dX1_takeAway_25 rfl ly_1 (ff_1_7 ly_1) ?_
  refine m_getI hp fw_X1_88 dX1_takeAway_28 rfl (lf_1_7 ly_1) ?_
  refine r_aload_n dX1_takeAway_31 rfl rfl ?_
  refine m_getF (x := 29) hp fw_X1_58 dX1_takeAway_32 rfl ly_1 (ff_1_11 ly_1) ?_
  refine m_getI hp fw_X1_128 dX1_takeAway_35 rfl (lf_1_11 ly_1) ?_
  refine r_icmp_le (tgt := 43) dX1_takeAway_38 rfl (fun cH => ?_) (fun cH => ?_)
  · replace H := H.1 cH
    refine r_iconst (v := (0 : Int32)) dX1_takeAway_43 rfl ?_
    refine r_istore (ls2 := [some (.ref 1), some (.ref a1), some (.int x2), some (.int x3), some (.int (0 : Int32)), none]) dX1_takeAway_44 (by decide) rfl ?_
    refine r_prune [true, false, false, true, true, false] (ls2 := [some (.ref 1), none, none, some (.int x3), some (.int (0 : Int32)), none]) rfl ?_
    exact H
  · replace H := H.2 cH
    refine r_iconst (v := (0 : Int32)) dX1_takeAway_41 rfl ?_
    exact r_zret dX1_takeAway_42 rfl rfl (Nat.le_refl _) (Nat.le_refl _) H
theorem s_X1_takeAway_46 {g : GX} {d : Nat} {av : List Value} {Q : QT} {n : Nat} {h : Hp} {x3 : Int32} {x4 : Int32} (hp : g.2.2.2.2 = true)  (H : (((ri h 21 1) ≤ x4) → (Q (some (.int (1 : Int32))) n h)) ∧ ((¬ (ri h 21 1) ≤ x4) → (vp_in ((x3 * (ri h 29 0)) + x4) (rm 30) ∧ (vp_in x4 (rm 22) ∧ (CallI g m_X0_less d [.int (ri h 30 (((x3 * (ri h 29 0)) + x4)).toNatClampNeg), .int (ri h 22 (x4).toNatClampNeg)] n h (fun v1 h1 => (vp_in ((x3 * (ri h 29 0)) + x4) (rm 30) ∧ ∀ h2, h2 = wi h1 30 (((x3 * (ri h 29 0)) + x4)).toNatClampNeg v1 → (W_X1_takeAway g d av Q n 46 [some (.ref 1), none, none, some (.int x3), some (.int (x4 + (1 : Int32))), none] [] h2)))))))) : W_X1_takeAway g d av Q n 46 [some (.ref 1), none, none, some (.int x3), some (.int x4), none] [] h := by
  refine r_iload dX1_takeAway_46 rfl ?_
  refine r_aload_n dX1_takeAway_48 rfl rfl ?_
  refine m_getF (x := 21) hp fw_X1_40 dX1_takeAway_49 rfl ly_1 (ff_1_7 ly_1) ?_
  refine m_getI hp fw_X1_88 dX1_takeAway_52 rfl (lf_1_7 ly_1) ?_
  refine r_icmp_ge (tgt := 111) dX1_takeAway_55 rfl (fun cH => ?_) (fun cH => ?_)
  · replace H := H.1 cH
    refine r_iconst (v := (1 : Int32)) dX1_takeAway_111 rfl ?_
    exact r_zret dX1_takeAway_112 rfl rfl (Nat.le_refl _) (Nat.le_refl _) H
  · replace H := H.2 cH
    refine r_iload_n dX1_takeAway_58 rfl rfl ?_
    refine r_aload_n dX1_takeAway_59 rfl rfl ?_
    refine m_getF (x := 29) hp fw_X1_58 dX1_takeAway_60 rfl ly_1 (ff_1_11 ly_1) ?_
    refine m_getI hp fw_X1_144 dX1_takeAway_63 rfl (lf_1_11 ly_1) ?_
    refine r_imul dX1_takeAway_66 ?_
    refine r_iload dX1_takeAway_67 rfl ?_
    refine r_iadd dX1_takeAway_69 ?_
    refine r_istore (ls2 := [some (.ref 1), none, none, some (.int x3), some (.int x4), some (.int ((x3 * (ri h 29 0)) + x4))]) dX1_takeAway_70 (by decide) rfl ?_
    refine r_aload_n dX1_takeAway_72 rfl rfl ?_
    refine m_getF (x := 29) hp fw_X1_58 dX1_takeAway_73 rfl ly_1 (ff_1_11 ly_1) ?_
    refine m_getF (x := 30) hp fw_X1_147 dX1_takeAway_76 rfl (lf_1_11 ly_1) (ff_4_1 (lf_1_11 ly_1)) ?_
    refine r_iload dX1_takeAway_79 rfl ?_
    refine r_aload_n dX1_takeAway_81 rfl rfl ?_
    refine m_getF (x := 29) hp fw_X1_58 dX1_takeAway_82 rfl ly_1 (ff_1_11 ly_1) ?_
    refine m_getF (x := 30) hp fw_X1_147 dX1_takeAway_85 rfl (lf_1_11 ly_1) (ff_4_1 (lf_1_11 ly_1)) ?_
    refine r_iload dX1_takeAway_88 rfl ?_
    refine m_iald hp dX1_takeAway_90 (lf_4_1 (lf_1_11 ly_1)) H.1 ?_
    replace H := H.2
    refine r_aload_n dX1_takeAway_91 rfl rfl ?_
    refine m_getF (x := 21) hp fw_X1_40 dX1_takeAway_92 rfl ly_1 (ff_1_7 ly_1) ?_
    refine m_getF (x := 22) hp fw_X1_99 dX1_takeAway_95 rfl (lf_1_7 ly_1) (ff_3_0 (lf_1_7 ly_1)) ?_
    refine r_iload dX1_takeAway_98 rfl ?_
    refine m_iald hp dX1_takeAway_100 (lf_3_0 (lf_1_7 ly_1)) H.1 ?_
    replace H := H.2
    refine k_SI (As := [.int (ri h 30 (((x3 * (ri h 29 0)) + x4)).toNatClampNeg), .int (ri h 22 (x4).toNatClampNeg)]) (stk := [.int ((x3 * (ri h 29 0)) + x4), .ref 30]) cs_X1_148 dX1_takeAway_101 rfl (Nat.le_of_ble_eq_true rfl) (H.mono (fun v1 h1 H => ?_)) ⟨Nat.le_refl _, Nat.le_refl _⟩
    refine m_iast hp dX1_takeAway_104 (lf_4_1 (lf_1_11 ly_1)) H.1 (fun h2 eh2 => ?_)
    replace H := H.2 h2 eh2
    refine r_iinc (v := (x4 + (1 : Int32))) (ls2 := [some (.ref 1), none, none, some (.int x3), some (.int (x4 + (1 : Int32))), some (.int ((x3 * (ri h 29 0)) + x4))]) dX1_takeAway_105 rfl rfl (by decide) rfl ?_
    refine r_goto (tgt := 46) dX1_takeAway_108 rfl ?_
    refine r_prune [true, false, false, true, true, false] (ls2 := [some (.ref 1), none, none, some (.int x3), some (.int (x4 + (1 : Int32))), none]) rfl ?_
    exact H
theorem dX7_open_0 : decode cX7_open 0 = .ok (.aload_n 0, 1) := by decide +kernel
theorem dX7_open_1 : decode cX7_open 1 = .ok (.iload_n 1, 1) := by decide +kernel
theorem dX7_open_2 : decode cX7_open 2 = .ok (.putfield 39, 3) := by decide +kernel
theorem dX7_open_5 : decode cX7_open 5 = .ok (.aload_n 0, 1) := by decide +kernel
theorem dX7_open_6 : decode cX7_open 6 = .ok (.iload_n 2, 1) := by decide +kernel
theorem dX7_open_7 : decode cX7_open 7 = .ok (.putfield 43, 3) := by decide +kernel
theorem dX7_open_10 : decode cX7_open 10 = .ok (.iconst 0, 1) := by decide +kernel
theorem dX7_open_11 : decode cX7_open 11 = .ok (.istore_n 3, 1) := by decide +kernel
theorem dX7_open_12 : decode cX7_open 12 = .ok (.iload_n 3, 1) := by decide +kernel
theorem dX7_open_13 : decode cX7_open 13 = .ok (.aload_n 0, 1) := by decide +kernel
theorem dX7_open_14 : decode cX7_open 14 = .ok (.getfield 39, 3) := by decide +kernel
theorem dX7_open_17 : decode cX7_open 17 = .ok (.if_icmp .ge 39, 3) := by decide +kernel
theorem dX7_open_20 : decode cX7_open 20 = .ok (.iconst 0, 1) := by decide +kernel
theorem dX7_open_21 : decode cX7_open 21 = .ok (.istore 4, 2) := by decide +kernel
theorem dX7_open_23 : decode cX7_open 23 = .ok (.iload 4, 2) := by decide +kernel
theorem dX7_open_25 : decode cX7_open 25 = .ok (.aload_n 0, 1) := by decide +kernel
theorem dX7_open_26 : decode cX7_open 26 = .ok (.getfield 43, 3) := by decide +kernel
theorem dX7_open_29 : decode cX7_open 29 = .ok (.if_icmp .ge 21, 3) := by decide +kernel
theorem dX7_open_32 : decode cX7_open 32 = .ok (.aload_n 0, 1) := by decide +kernel
theorem dX7_open_33 : decode cX7_open 33 = .ok (.getfield 13, 3) := by decide +kernel
theorem dX7_open_36 : decode cX7_open 36 = .ok (.iload_n 3, 1) := by decide +kernel
theorem dX7_open_37 : decode cX7_open 37 = .ok (.aaload, 1) := by decide +kernel
theorem dX7_open_38 : decode cX7_open 38 = .ok (.iload 4, 2) := by decide +kernel
theorem dX7_open_40 : decode cX7_open 40 = .ok (.aaload, 1) := by decide +kernel
theorem dX7_open_41 : decode cX7_open 41 = .ok (.invokevirtual 46, 3) := by decide +kernel
theorem dX7_open_44 : decode cX7_open 44 = .ok (.iinc 4 1, 3) := by decide +kernel
theorem dX7_open_47 : decode cX7_open 47 = .ok (.goto (-24), 3) := by decide +kernel
theorem dX7_open_50 : decode cX7_open 50 = .ok (.iinc 3 1, 3) := by decide +kernel
theorem dX7_open_53 : decode cX7_open 53 = .ok (.goto (-41), 3) := by decide +kernel
theorem dX7_open_56 : decode cX7_open 56 = .ok (.return_, 1) := by decide +kernel
theorem dX7_tidy_0 : decode cX7_tidy 0 = .ok (.iconst 0, 1) := by decide +kernel
theorem dX7_tidy_1 : decode cX7_tidy 1 = .ok (.istore_n 1, 1) := by decide +kernel
theorem dX7_tidy_2 : decode cX7_tidy 2 = .ok (.iload_n 1, 1) := by decide +kernel
theorem dX7_tidy_3 : decode cX7_tidy 3 = .ok (.aload_n 0, 1) := by decide +kernel
theorem dX7_tidy_4 : decode cX7_tidy 4 = .ok (.getfield 39, 3) := by decide +kernel
theorem dX7_tidy_7 : decode cX7_tidy 7 = .ok (.if_icmp .ge 118, 3) := by decide +kernel
theorem dX7_tidy_10 : decode cX7_tidy 10 = .ok (.aload_n 0, 1) := by decide +kernel
theorem dX7_tidy_11 : decode cX7_tidy 11 = .ok (.getfield 21, 3) := by decide +kernel
theorem dX7_tidy_14 : decode cX7_tidy 14 = .ok (.invokevirtual 46, 3) := by decide +kernel
theorem dX7_tidy_17 : decode cX7_tidy 17 = .ok (.iconst 0, 1) := by decide +kernel
theorem dX7_tidy_18 : decode cX7_tidy 18 = .ok (.istore_n 2, 1) := by decide +kernel
theorem dX7_tidy_19 : decode cX7_tidy 19 = .ok (.iload_n 2, 1) := by decide +kernel
theorem dX7_tidy_20 : decode cX7_tidy 20 = .ok (.aload_n 0, 1) := by decide +kernel
theorem dX7_tidy_21 : decode cX7_tidy 21 = .ok (.getfield 43, 3) := by decide +kernel
theorem dX7_tidy_24 : decode cX7_tidy 24 = .ok (.if_icmp .ge 46, 3) := by decide +kernel
theorem dX7_tidy_27 : decode cX7_tidy 27 = .ok (.aload_n 0, 1) := by decide +kernel
theorem dX7_tidy_28 : decode cX7_tidy 28 = .ok (.getfield 21, 3) := by decide +kernel
theorem dX7_tidy_31 : decode cX7_tidy 31 = .ok (.getfield 49, 3) := by decide +kernel
theorem dX7_tidy_34 : decode cX7_tidy 34 = .ok (.iconst 1, 1) := by decide +kernel
theorem dX7_tidy_35 : decode cX7_tidy 35 = .ok (.if_icmp .eq 35, 3) := by decide +kernel
theorem dX7_tidy_38 : decode cX7_tidy 38 = .ok (.aload_n 0, 1) := by decide +kernel
theorem dX7_tidy_39 : decode cX7_tidy 39 = .ok (.getfield 35, 3) := by decide +kernel
theorem dX7_tidy_42 : decode cX7_tidy 42 = .ok (.getfield 52, 3) := by decide +kernel
theorem dX7_tidy_45 : decode cX7_tidy 45 = .ok (.aload_n 0, 1) := by decide +kernel
theorem dX7_tidy_46 : decode cX7_tidy 46 = .ok (.getfield 21, 3) := by decide +kernel
theorem dX7_tidy_49 : decode cX7_tidy 49 = .ok (.aload_n 0, 1) := by decide +kernel
theorem dX7_tidy_50 : decode cX7_tidy 50 = .ok (.getfield 13, 3) := by decide +kernel
theorem dX7_tidy_53 : decode cX7_tidy 53 = .ok (.iload_n 1, 1) := by decide +kernel
theorem dX7_tidy_54 : decode cX7_tidy 54 = .ok (.aaload, 1) := by decide +kernel
theorem dX7_tidy_55 : decode cX7_tidy 55 = .ok (.iload_n 2, 1) := by decide +kernel
theorem dX7_tidy_56 : decode cX7_tidy 56 = .ok (.aaload, 1) := by decide +kernel
theorem dX7_tidy_57 : decode cX7_tidy 57 = .ok (.aload_n 0, 1) := by decide +kernel
theorem dX7_tidy_58 : decode cX7_tidy 58 = .ok (.getfield 21, 3) := by decide +kernel
theorem dX7_tidy_61 : decode cX7_tidy 61 = .ok (.invokevirtual 58, 3) := by decide +kernel
theorem dX7_tidy_64 : decode cX7_tidy 64 = .ok (.iinc 2 1, 3) := by decide +kernel
theorem dX7_tidy_67 : decode cX7_tidy 67 = .ok (.goto (-48), 3) := by decide +kernel
theorem dX7_tidy_70 : decode cX7_tidy 70 = .ok (.iconst 0, 1) := by decide +kernel
theorem dX7_tidy_71 : decode cX7_tidy 71 = .ok (.istore_n 2, 1) := by decide +kernel
theorem dX7_tidy_72 : decode cX7_tidy 72 = .ok (.iload_n 2, 1) := by decide +kernel
theorem dX7_tidy_73 : decode cX7_tidy 73 = .ok (.aload_n 0, 1) := by decide +kernel
theorem dX7_tidy_74 : decode cX7_tidy 74 = .ok (.getfield 43, 3) := by decide +kernel
theorem dX7_tidy_77 : decode cX7_tidy 77 = .ok (.if_icmp .ge 42, 3) := by decide +kernel
theorem dX7_tidy_80 : decode cX7_tidy 80 = .ok (.aload_n 0, 1) := by decide +kernel
theorem dX7_tidy_81 : decode cX7_tidy 81 = .ok (.getfield 21, 3) := by decide +kernel
theorem dX7_tidy_84 : decode cX7_tidy 84 = .ok (.getfield 49, 3) := by decide +kernel
theorem dX7_tidy_87 : decode cX7_tidy 87 = .ok (.iconst 1, 1) := by decide +kernel
theorem dX7_tidy_88 : decode cX7_tidy 88 = .ok (.if_icmp .le 31, 3) := by decide +kernel
theorem dX7_tidy_91 : decode cX7_tidy 91 = .ok (.aload_n 0, 1) := by decide +kernel
theorem dX7_tidy_92 : decode cX7_tidy 92 = .ok (.getfield 35, 3) := by decide +kernel
theorem dX7_tidy_95 : decode cX7_tidy 95 = .ok (.getfield 52, 3) := by decide +kernel
theorem dX7_tidy_98 : decode cX7_tidy 98 = .ok (.aload_n 0, 1) := by decide +kernel
theorem dX7_tidy_99 : decode cX7_tidy 99 = .ok (.getfield 13, 3) := by decide +kernel
theorem dX7_tidy_102 : decode cX7_tidy 102 = .ok (.iload_n 1, 1) := by decide +kernel
theorem dX7_tidy_103 : decode cX7_tidy 103 = .ok (.aaload, 1) := by decide +kernel
theorem dX7_tidy_104 : decode cX7_tidy 104 = .ok (.iload_n 2, 1) := by decide +kernel
theorem dX7_tidy_105 : decode cX7_tidy 105 = .ok (.aaload, 1) := by decide +kernel
theorem dX7_tidy_106 : decode cX7_tidy 106 = .ok (.aload_n 0, 1) := by decide +kernel
theorem dX7_tidy_107 : decode cX7_tidy 107 = .ok (.getfield 21, 3) := by decide +kernel
theorem dX7_tidy_110 : decode cX7_tidy 110 = .ok (.invokevirtual 64, 3) := by decide +kernel
theorem dX7_tidy_113 : decode cX7_tidy 113 = .ok (.iinc 2 1, 3) := by decide +kernel
theorem dX7_tidy_116 : decode cX7_tidy 116 = .ok (.goto (-44), 3) := by decide +kernel
theorem dX7_tidy_119 : decode cX7_tidy 119 = .ok (.iinc 1 1, 3) := by decide +kernel
theorem dX7_tidy_122 : decode cX7_tidy 122 = .ok (.goto (-120), 3) := by decide +kernel
theorem dX7_tidy_125 : decode cX7_tidy 125 = .ok (.return_, 1) := by decide +kernel
theorem dX7_pivot_0 : decode cX7_pivot 0 = .ok (.iconst (-1), 1) := by decide +kernel
theorem dX7_pivot_1 : decode cX7_pivot 1 = .ok (.istore_n 2, 1) := by decide +kernel
theorem dX7_pivot_2 : decode cX7_pivot 2 = .ok (.aload_n 0, 1) := by decide +kernel
theorem dX7_pivot_3 : decode cX7_pivot 3 = .ok (.getfield 71, 3) := by decide +kernel
theorem dX7_pivot_6 : decode cX7_pivot 6 = .ok (.istore_n 3, 1) := by decide +kernel
theorem dX7_pivot_7 : decode cX7_pivot 7 = .ok (.iload_n 3, 1) := by decide +kernel
theorem dX7_pivot_8 : decode cX7_pivot 8 = .ok (.aload_n 0, 1) := by decide +kernel
theorem dX7_pivot_9 : decode cX7_pivot 9 = .ok (.getfield 39, 3) := by decide +kernel
theorem dX7_pivot_12 : decode cX7_pivot 12 = .ok (.if_icmp .ge 54, 3) := by decide +kernel
theorem dX7_pivot_15 : decode cX7_pivot 15 = .ok (.aload_n 0, 1) := by decide +kernel
theorem dX7_pivot_16 : decode cX7_pivot 16 = .ok (.getfield 13, 3) := by decide +kernel
theorem dX7_pivot_19 : decode cX7_pivot 19 = .ok (.iload_n 3, 1) := by decide +kernel
theorem dX7_pivot_20 : decode cX7_pivot 20 = .ok (.aaload, 1) := by decide +kernel
theorem dX7_pivot_21 : decode cX7_pivot 21 = .ok (.iload_n 1, 1) := by decide +kernel
theorem dX7_pivot_22 : decode cX7_pivot 22 = .ok (.aaload, 1) := by decide +kernel
theorem dX7_pivot_23 : decode cX7_pivot 23 = .ok (.invokevirtual 89, 3) := by decide +kernel
theorem dX7_pivot_26 : decode cX7_pivot 26 = .ok (.ifCond .ne 34, 3) := by decide +kernel
theorem dX7_pivot_29 : decode cX7_pivot 29 = .ok (.iload_n 2, 1) := by decide +kernel
theorem dX7_pivot_30 : decode cX7_pivot 30 = .ok (.ifCond .lt 28, 3) := by decide +kernel
theorem dX7_pivot_33 : decode cX7_pivot 33 = .ok (.aload_n 0, 1) := by decide +kernel
theorem dX7_pivot_34 : decode cX7_pivot 34 = .ok (.getfield 13, 3) := by decide +kernel
theorem dX7_pivot_37 : decode cX7_pivot 37 = .ok (.iload_n 3, 1) := by decide +kernel
theorem dX7_pivot_38 : decode cX7_pivot 38 = .ok (.aaload, 1) := by decide +kernel
theorem dX7_pivot_39 : decode cX7_pivot 39 = .ok (.iload_n 1, 1) := by decide +kernel
theorem dX7_pivot_40 : decode cX7_pivot 40 = .ok (.aaload, 1) := by decide +kernel
theorem dX7_pivot_41 : decode cX7_pivot 41 = .ok (.getfield 49, 3) := by decide +kernel
theorem dX7_pivot_44 : decode cX7_pivot 44 = .ok (.aload_n 0, 1) := by decide +kernel
theorem dX7_pivot_45 : decode cX7_pivot 45 = .ok (.getfield 13, 3) := by decide +kernel
theorem dX7_pivot_48 : decode cX7_pivot 48 = .ok (.iload_n 2, 1) := by decide +kernel
theorem dX7_pivot_49 : decode cX7_pivot 49 = .ok (.aaload, 1) := by decide +kernel
theorem dX7_pivot_50 : decode cX7_pivot 50 = .ok (.iload_n 1, 1) := by decide +kernel
theorem dX7_pivot_51 : decode cX7_pivot 51 = .ok (.aaload, 1) := by decide +kernel
theorem dX7_pivot_52 : decode cX7_pivot 52 = .ok (.getfield 49, 3) := by decide +kernel
theorem dX7_pivot_55 : decode cX7_pivot 55 = .ok (.if_icmp .ge 5, 3) := by decide +kernel
theorem dX7_pivot_58 : decode cX7_pivot 58 = .ok (.iload_n 3, 1) := by decide +kernel
theorem dX7_pivot_59 : decode cX7_pivot 59 = .ok (.istore_n 2, 1) := by decide +kernel
theorem dX7_pivot_60 : decode cX7_pivot 60 = .ok (.iinc 3 1, 3) := by decide +kernel
theorem dX7_pivot_63 : decode cX7_pivot 63 = .ok (.goto (-56), 3) := by decide +kernel
theorem dX7_pivot_66 : decode cX7_pivot 66 = .ok (.iload_n 2, 1) := by decide +kernel
theorem dX7_pivot_67 : decode cX7_pivot 67 = .ok (.ireturn, 1) := by decide +kernel
theorem dX7_takeAway_0 : decode cX7_takeAway 0 = .ok (.aload_n 0, 1) := by decide +kernel
theorem dX7_takeAway_1 : decode cX7_takeAway 1 = .ok (.getfield 13, 3) := by decide +kernel
theorem dX7_takeAway_4 : decode cX7_takeAway 4 = .ok (.aload_n 0, 1) := by decide +kernel
theorem dX7_takeAway_5 : decode cX7_takeAway 5 = .ok (.getfield 71, 3) := by decide +kernel
theorem dX7_takeAway_8 : decode cX7_takeAway 8 = .ok (.aaload, 1) := by decide +kernel
theorem dX7_takeAway_9 : decode cX7_takeAway 9 = .ok (.iload_n 2, 1) := by decide +kernel
theorem dX7_takeAway_10 : decode cX7_takeAway 10 = .ok (.aaload, 1) := by decide +kernel
theorem dX7_takeAway_11 : decode cX7_takeAway 11 = .ok (.astore_n 3, 1) := by decide +kernel
theorem dX7_takeAway_12 : decode cX7_takeAway 12 = .ok (.iload_n 2, 1) := by decide +kernel
theorem dX7_takeAway_13 : decode cX7_takeAway 13 = .ok (.iconst 1, 1) := by decide +kernel
theorem dX7_takeAway_14 : decode cX7_takeAway 14 = .ok (.iadd, 1) := by decide +kernel
theorem dX7_takeAway_15 : decode cX7_takeAway 15 = .ok (.istore 4, 2) := by decide +kernel
theorem dX7_takeAway_17 : decode cX7_takeAway 17 = .ok (.iload 4, 2) := by decide +kernel
theorem dX7_takeAway_19 : decode cX7_takeAway 19 = .ok (.aload_n 0, 1) := by decide +kernel
theorem dX7_takeAway_20 : decode cX7_takeAway 20 = .ok (.getfield 43, 3) := by decide +kernel
theorem dX7_takeAway_23 : decode cX7_takeAway 23 = .ok (.if_icmp .ge 86, 3) := by decide +kernel
theorem dX7_takeAway_26 : decode cX7_takeAway 26 = .ok (.aload_n 0, 1) := by decide +kernel
theorem dX7_takeAway_27 : decode cX7_takeAway 27 = .ok (.getfield 21, 3) := by decide +kernel
theorem dX7_takeAway_30 : decode cX7_takeAway 30 = .ok (.aload_n 3, 1) := by decide +kernel
theorem dX7_takeAway_31 : decode cX7_takeAway 31 = .ok (.aload_n 0, 1) := by decide +kernel
theorem dX7_takeAway_32 : decode cX7_takeAway 32 = .ok (.getfield 13, 3) := by decide +kernel
theorem dX7_takeAway_35 : decode cX7_takeAway 35 = .ok (.iload_n 1, 1) := by decide +kernel
theorem dX7_takeAway_36 : decode cX7_takeAway 36 = .ok (.aaload, 1) := by decide +kernel
theorem dX7_takeAway_37 : decode cX7_takeAway 37 = .ok (.iload 4, 2) := by decide +kernel
theorem dX7_takeAway_39 : decode cX7_takeAway 39 = .ok (.aaload, 1) := by decide +kernel
theorem dX7_takeAway_40 : decode cX7_takeAway 40 = .ok (.invokevirtual 93, 3) := by decide +kernel
theorem dX7_takeAway_43 : decode cX7_takeAway 43 = .ok (.aload_n 0, 1) := by decide +kernel
theorem dX7_takeAway_44 : decode cX7_takeAway 44 = .ok (.getfield 21, 3) := by decide +kernel
theorem dX7_takeAway_47 : decode cX7_takeAway 47 = .ok (.aload_n 0, 1) := by decide +kernel
theorem dX7_takeAway_48 : decode cX7_takeAway 48 = .ok (.getfield 13, 3) := by decide +kernel
theorem dX7_takeAway_51 : decode cX7_takeAway 51 = .ok (.iload_n 1, 1) := by decide +kernel
theorem dX7_takeAway_52 : decode cX7_takeAway 52 = .ok (.aaload, 1) := by decide +kernel
theorem dX7_takeAway_53 : decode cX7_takeAway 53 = .ok (.iload_n 2, 1) := by decide +kernel
theorem dX7_takeAway_54 : decode cX7_takeAway 54 = .ok (.aaload, 1) := by decide +kernel
theorem dX7_takeAway_55 : decode cX7_takeAway 55 = .ok (.aload_n 0, 1) := by decide +kernel
theorem dX7_takeAway_56 : decode cX7_takeAway 56 = .ok (.getfield 13, 3) := by decide +kernel
theorem dX7_takeAway_59 : decode cX7_takeAway 59 = .ok (.aload_n 0, 1) := by decide +kernel
theorem dX7_takeAway_60 : decode cX7_takeAway 60 = .ok (.getfield 71, 3) := by decide +kernel
theorem dX7_takeAway_63 : decode cX7_takeAway 63 = .ok (.aaload, 1) := by decide +kernel
theorem dX7_takeAway_64 : decode cX7_takeAway 64 = .ok (.iload 4, 2) := by decide +kernel
theorem dX7_takeAway_66 : decode cX7_takeAway 66 = .ok (.aaload, 1) := by decide +kernel
theorem dX7_takeAway_67 : decode cX7_takeAway 67 = .ok (.ldc 96, 2) := by decide +kernel
theorem dX7_takeAway_69 : decode cX7_takeAway 69 = .ok (.invokevirtual 97, 3) := by decide +kernel
theorem dX7_takeAway_72 : decode cX7_takeAway 72 = .ok (.aload_n 0, 1) := by decide +kernel
theorem dX7_takeAway_73 : decode cX7_takeAway 73 = .ok (.getfield 21, 3) := by decide +kernel
theorem dX7_takeAway_76 : decode cX7_takeAway 76 = .ok (.aload_n 0, 1) := by decide +kernel
theorem dX7_takeAway_77 : decode cX7_takeAway 77 = .ok (.getfield 28, 3) := by decide +kernel
theorem dX7_takeAway_80 : decode cX7_takeAway 80 = .ok (.aload_n 0, 1) := by decide +kernel
theorem dX7_takeAway_81 : decode cX7_takeAway 81 = .ok (.getfield 25, 3) := by decide +kernel
theorem dX7_takeAway_84 : decode cX7_takeAway 84 = .ok (.invokevirtual 101, 3) := by decide +kernel
theorem dX7_takeAway_87 : decode cX7_takeAway 87 = .ok (.aload_n 0, 1) := by decide +kernel
theorem dX7_takeAway_88 : decode cX7_takeAway 88 = .ok (.getfield 13, 3) := by decide +kernel
theorem dX7_takeAway_91 : decode cX7_takeAway 91 = .ok (.iload_n 1, 1) := by decide +kernel
theorem dX7_takeAway_92 : decode cX7_takeAway 92 = .ok (.aaload, 1) := by decide +kernel
theorem dX7_takeAway_93 : decode cX7_takeAway 93 = .ok (.iload 4, 2) := by decide +kernel
theorem dX7_takeAway_95 : decode cX7_takeAway 95 = .ok (.aaload, 1) := by decide +kernel
theorem dX7_takeAway_96 : decode cX7_takeAway 96 = .ok (.aload_n 0, 1) := by decide +kernel
theorem dX7_takeAway_97 : decode cX7_takeAway 97 = .ok (.getfield 25, 3) := by decide +kernel
theorem dX7_takeAway_100 : decode cX7_takeAway 100 = .ok (.invokevirtual 85, 3) := by decide +kernel
theorem dX7_takeAway_103 : decode cX7_takeAway 103 = .ok (.iinc 4 1, 3) := by decide +kernel
theorem dX7_takeAway_106 : decode cX7_takeAway 106 = .ok (.goto (-89), 3) := by decide +kernel
theorem dX7_takeAway_109 : decode cX7_takeAway 109 = .ok (.aload_n 0, 1) := by decide +kernel
theorem dX7_takeAway_110 : decode cX7_takeAway 110 = .ok (.getfield 13, 3) := by decide +kernel
theorem dX7_takeAway_113 : decode cX7_takeAway 113 = .ok (.iload_n 1, 1) := by decide +kernel
theorem dX7_takeAway_114 : decode cX7_takeAway 114 = .ok (.aaload, 1) := by decide +kernel
theorem dX7_takeAway_115 : decode cX7_takeAway 115 = .ok (.iload_n 2, 1) := by decide +kernel
theorem dX7_takeAway_116 : decode cX7_takeAway 116 = .ok (.aaload, 1) := by decide +kernel
theorem dX7_takeAway_117 : decode cX7_takeAway 117 = .ok (.invokevirtual 46, 3) := by decide +kernel
theorem dX7_takeAway_120 : decode cX7_takeAway 120 = .ok (.return_, 1) := by decide +kernel
theorem dX7_number_0 : decode cX7_number 0 = .ok (.aload_n 3, 1) := by decide +kernel
theorem dX7_number_1 : decode cX7_number 1 = .ok (.invokevirtual 46, 3) := by decide +kernel
theorem dX7_number_4 : decode cX7_number 4 = .ok (.iload_n 1, 1) := by decide +kernel
theorem dX7_number_5 : decode cX7_number 5 = .ok (.iload_n 2, 1) := by decide +kernel
theorem dX7_number_6 : decode cX7_number 6 = .ok (.if_icmp .ne 14, 3) := by decide +kernel
theorem dX7_number_9 : decode cX7_number 9 = .ok (.aload_n 3, 1) := by decide +kernel
theorem dX7_number_10 : decode cX7_number 10 = .ok (.aload_n 0, 1) := by decide +kernel
theorem dX7_number_11 : decode cX7_number 11 = .ok (.getfield 28, 3) := by decide +kernel
theorem dX7_number_14 : decode cX7_number 14 = .ok (.invokevirtual 85, 3) := by decide +kernel
theorem dX7_number_17 : decode cX7_number 17 = .ok (.goto 40, 3) := by decide +kernel
theorem dX7_number_20 : decode cX7_number 20 = .ok (.iload_n 1, 1) := by decide +kernel
theorem dX7_number_21 : decode cX7_number 21 = .ok (.iload_n 2, 1) := by decide +kernel
theorem dX7_number_22 : decode cX7_number 22 = .ok (.if_icmp .ge 35, 3) := by decide +kernel
theorem dX7_number_25 : decode cX7_number 25 = .ok (.aload_n 0, 1) := by decide +kernel
theorem dX7_number_26 : decode cX7_number 26 = .ok (.getfield 31, 3) := by decide +kernel
theorem dX7_number_29 : decode cX7_number 29 = .ok (.iload_n 1, 1) := by decide +kernel
theorem dX7_number_30 : decode cX7_number 30 = .ok (.iaload, 1) := by decide +kernel
theorem dX7_number_31 : decode cX7_number 31 = .ok (.ifCond .lt 26, 3) := by decide +kernel
theorem dX7_number_34 : decode cX7_number 34 = .ok (.aload_n 3, 1) := by decide +kernel
theorem dX7_number_35 : decode cX7_number 35 = .ok (.aload_n 0, 1) := by decide +kernel
theorem dX7_number_36 : decode cX7_number 36 = .ok (.getfield 13, 3) := by decide +kernel
theorem dX7_number_39 : decode cX7_number 39 = .ok (.aload_n 0, 1) := by decide +kernel
theorem dX7_number_40 : decode cX7_number 40 = .ok (.getfield 31, 3) := by decide +kernel
theorem dX7_number_43 : decode cX7_number 43 = .ok (.iload_n 1, 1) := by decide +kernel
theorem dX7_number_44 : decode cX7_number 44 = .ok (.iaload, 1) := by decide +kernel
theorem dX7_number_45 : decode cX7_number 45 = .ok (.aaload, 1) := by decide +kernel
theorem dX7_number_46 : decode cX7_number 46 = .ok (.iload_n 2, 1) := by decide +kernel
theorem dX7_number_47 : decode cX7_number 47 = .ok (.aaload, 1) := by decide +kernel
theorem dX7_number_48 : decode cX7_number 48 = .ok (.invokevirtual 85, 3) := by decide +kernel
theorem dX7_number_51 : decode cX7_number 51 = .ok (.aload_n 3, 1) := by decide +kernel
theorem dX7_number_52 : decode cX7_number 52 = .ok (.ldc 96, 2) := by decide +kernel
theorem dX7_number_54 : decode cX7_number 54 = .ok (.invokevirtual 104, 3) := by decide +kernel
theorem dX7_number_57 : decode cX7_number 57 = .ok (.return_, 1) := by decide +kernel
abbrev W_X7_open (g : GX) (d : Nat) (av : List Value) (Q : QT) (n : Nat) (pc : Nat) (ls : LV) (stk : List Value) (h : Hp) : Prop := RJ g m_X7_open (d + 1) 0 0 av Q pc ls stk n h 0 0
theorem s_X7_open_0 {g : GX} {d : Nat} {av : List Value} {Q : QT} {n : Nat} {h : Hp} {x1 : Int32} {x2 : Int32} (hp : g.2.2.2.2 = true)  (H : ∀ h1, h1 = wi h 113 5 x1 → (∀ h2, h2 = wi h1 113 6 x2 → (W_X7_open g d av Q n 12 [some (.ref 113), none, none, some (.int (0 : Int32)), none] [] h2))) : W_X7_open g d av Q n 0 [some (.ref 113), some (.int x1), some (.int x2), none, none] [] h := by
  refine r_aload_n dX7_open_0 rfl rfl ?_
  refine r_iload_n dX7_open_1 rfl rfl ?_
  refine m_putI hp fw_X7_39 dX7_open_2 rfl rfl ly_7 (fun h1 eh1 => ?_)
  replace H := H h1 eh1
  refine r_aload_n dX7_open_5 rfl rfl ?_
  refine r_iload_n dX7_open_6 rfl rfl ?_
  refine m_putI hp fw_X7_43 dX7_open_7 rfl rfl ly_7 (fun h2 eh2 => ?_)
  replace H := H h2 eh2
  refine r_iconst (v := (0 : Int32)) dX7_open_10 rfl ?_
  refine r_istore_n (ls2 := [some (.ref 113), some (.int x1), some (.int x2), some (.int (0 : Int32)), none]) dX7_open_11 rfl (by decide) rfl ?_
  refine r_prune [true, false, false, true, false] (ls2 := [some (.ref 113), none, none, some (.int (0 : Int32)), none]) rfl ?_
  exact H
theorem s_X7_open_12 {g : GX} {d : Nat} {av : List Value} {Q : QT} {n : Nat} {h : Hp} {x3 : Int32} (hp : g.2.2.2.2 = true)  (H : (((ri h 113 5) ≤ x3) → (Q none n h)) ∧ ((¬ (ri h 113 5) ≤ x3) → (W_X7_open g d av Q n 23 [some (.ref 113), none, none, some (.int x3), some (.int (0 : Int32))] [] h))) : W_X7_open g d av Q n 12 [some (.ref 113), none, none, some (.int x3), none] [] h := by
  refine r_iload_n dX7_open_12 rfl rfl ?_
  refine r_aload_n dX7_open_13 rfl rfl ?_
  refine m_getI hp fw_X7_39 dX7_open_14 rfl ly_7 ?_
  refine r_icmp_ge (tgt := 56) dX7_open_17 rfl (fun cH => ?_) (fun cH => ?_)
  · replace H := H.1 cH
    exact r_vret dX7_open_56 rfl (Nat.le_refl _) (Nat.le_refl _) H
  · replace H := H.2 cH
    refine r_iconst (v := (0 : Int32)) dX7_open_20 rfl ?_
    refine r_istore (ls2 := [some (.ref 113), none, none, some (.int x3), some (.int (0 : Int32))]) dX7_open_21 (by decide) rfl ?_
    exact H
theorem s_X7_open_23 {g : GX} {d : Nat} {av : List Value} {Q : QT} {n : Nat} {h : Hp} {x3 : Int32} {x4 : Int32} (hp : g.2.2.2.2 = true)  (H : (((ri h 113 6) ≤ x4) → (W_X7_open g d av Q n 12 [some (.ref 113), none, none, some (.int (x3 + (1 : Int32))), none] [] h)) ∧ ((¬ (ri h 113 6) ≤ x4) → (vp_in x3 24 ∧ ∃ r1 Lr1, rr h 114 (x3).toNatClampNeg = some r1 ∧ (lay r1 = (2, Lr1, 3) ∧ r1 < N0) ∧ (vp_in x4 Lr1 ∧ ∃ r2, rr h r1 (x4).toNatClampNeg = some r2 ∧ lay r2 = (0, 3, 2) ∧ (CallV g m_X3_clear d [.ref r2] n h (fun h3 => (W_X7_open g d av Q n 23 [some (.ref 113), none, none, some (.int x3), some (.int (x4 + (1 : Int32)))] [] h3))))))) : W_X7_open g d av Q n 23 [some (.ref 113), none, none, some (.int x3), some (.int x4)] [] h := by
  refine r_iload dX7_open_23 rfl ?_
  refine r_aload_n dX7_open_25 rfl rfl ?_
  refine m_getI hp fw_X7_43 dX7_open_26 rfl ly_7 ?_
  refine r_icmp_ge (tgt := 50) dX7_open_29 rfl (fun cH => ?_) (fun cH => ?_)
  · replace H := H.1 cH
    refine r_iinc (v := (x3 + (1 : Int32))) (ls2 := [some (.ref 113), none, none, some (.int (x3 + (1 : Int32))), some (.int x4)]) dX7_open_50 rfl rfl (by decide) rfl ?_
    refine r_goto (tgt := 12) dX7_open_53 rfl ?_
    refine r_prune [true, false, false, true, false] (ls2 := [some (.ref 113), none, none, some (.int (x3 + (1 : Int32))), none]) rfl ?_
    exact H
  · replace H := H.2 cH
    refine r_aload_n dX7_open_32 rfl rfl ?_
    refine m_getF (x := 114) hp fw_X7_13 dX7_open_33 rfl ly_7 (ff_7_1 ly_7) ?_
    refine r_iload_n dX7_open_36 rfl rfl ?_
    have hir1 := H.1
    obtain ⟨r1, Lr1, er1, tr1, H⟩ := H.2
    refine m_aalM (x := r1) hp dX7_open_37 (lf_7_1 ly_7) rfl rfl (lu_7_1 ly_7) hir1 er1 ?_
    refine r_iload dX7_open_38 rfl ?_
    have hir2 := H.1
    obtain ⟨r2, er2, tr2, H⟩ := H.2
    refine m_aalM (x := r2) hp dX7_open_40 tr1.1 rfl rfl tr1.2 hir2 er2 ?_
    refine k_VV (As := []) (stk := []) hp cv_X7_46 dX7_open_41 rfl (Nat.le_of_ble_eq_true rfl) tr2 (H.mono (fun h3 H => ?_)) ⟨Nat.le_refl _, Nat.le_refl _⟩
    refine r_iinc (v := (x4 + (1 : Int32))) (ls2 := [some (.ref 113), none, none, some (.int x3), some (.int (x4 + (1 : Int32)))]) dX7_open_44 rfl rfl (by decide) rfl ?_
    refine r_goto (tgt := 23) dX7_open_47 rfl ?_
    exact H
abbrev W_X7_tidy (g : GX) (d : Nat) (av : List Value) (Q : QT) (n : Nat) (pc : Nat) (ls : LV) (stk : List Value) (h : Hp) : Prop := RJ g m_X7_tidy (d + 1) 0 0 av Q pc ls stk n h 0 0
theorem s_X7_tidy_0 {g : GX} {d : Nat} {av : List Value} {Q : QT} {n : Nat} {h : Hp}  (hp : g.2.2.2.2 = true)  (H : W_X7_tidy g d av Q n 2 [some (.ref 113), some (.int (0 : Int32)), none] [] h) : W_X7_tidy g d av Q n 0 [some (.ref 113), none, none] [] h := by
  refine r_iconst (v := (0 : Int32)) dX7_tidy_0 rfl ?_
  refine r_istore_n (ls2 := [some (.ref 113), some (.int (0 : Int32)), none]) dX7_tidy_1 rfl (by decide) rfl ?_
  exact H
theorem s_X7_tidy_2 {g : GX} {d : Nat} {av : List Value} {Q : QT} {n : Nat} {h : Hp} {x1 : Int32} (hp : g.2.2.2.2 = true)  (H : (((ri h 113 5) ≤ x1) → (Q none n h)) ∧ ((¬ (ri h 113 5) ≤ x1) → (CallV g m_X3_clear d [.ref 139] n h (fun h1 => (W_X7_tidy g d av Q n 19 [some (.ref 113), some (.int x1), some (.int (0 : Int32))] [] h1))))) : W_X7_tidy g d av Q n 2 [some (.ref 113), some (.int x1), none] [] h := by
  refine r_iload_n dX7_tidy_2 rfl rfl ?_
  refine r_aload_n dX7_tidy_3 rfl rfl ?_
  refine m_getI hp fw_X7_39 dX7_tidy_4 rfl ly_7 ?_
  refine r_icmp_ge (tgt := 125) dX7_tidy_7 rfl (fun cH => ?_) (fun cH => ?_)
  · replace H := H.1 cH
    exact r_vret dX7_tidy_125 rfl (Nat.le_refl _) (Nat.le_refl _) H
  · replace H := H.2 cH
    refine r_aload_n dX7_tidy_10 rfl rfl ?_
    refine m_getF (x := 139) hp fw_X7_21 dX7_tidy_11 rfl ly_7 (ff_7_2 ly_7) ?_
    refine k_VV (As := []) (stk := []) hp cv_X7_46 dX7_tidy_14 rfl (Nat.le_of_ble_eq_true rfl) (lf_7_2 ly_7) (H.mono (fun h1 H => ?_)) ⟨Nat.le_refl _, Nat.le_refl _⟩
    refine r_iconst (v := (0 : Int32)) dX7_tidy_17 rfl ?_
    refine r_istore_n (ls2 := [some (.ref 113), some (.int x1), some (.int (0 : Int32))]) dX7_tidy_18 rfl (by decide) rfl ?_
    exact H
theorem s_X7_tidy_19 {g : GX} {d : Nat} {av : List Value} {Q : QT} {n : Nat} {h : Hp} {x1 : Int32} {x2 : Int32} (hp : g.2.2.2.2 = true)  (H : (((ri h 113 6) ≤ x2) → (W_X7_tidy g d av Q n 70 [some (.ref 113), some (.int x1), none] [] h)) ∧ ((¬ (ri h 113 6) ≤ x2) → ((((ri h 139 1) = (1 : Int32)) → (W_X7_tidy g d av Q n 70 [some (.ref 113), some (.int x1), none] [] h)) ∧ ((¬ (ri h 139 1) = (1 : Int32)) → (vp_in x1 24 ∧ ∃ r1 Lr1, rr h 114 (x1).toNatClampNeg = some r1 ∧ (lay r1 = (2, Lr1, 3) ∧ r1 < N0) ∧ (vp_in x2 Lr1 ∧ ∃ r2, rr h r1 (x2).toNatClampNeg = some r2 ∧ lay r2 = (0, 3, 2) ∧ (CallV g m_X2_common d [.ref 2, .ref 139, .ref r2, .ref 139] n h (fun h3 => (W_X7_tidy g d av Q n 19 [some (.ref 113), some (.int x1), some (.int (x2 + (1 : Int32)))] [] h3))))))))) : W_X7_tidy g d av Q n 19 [some (.ref 113), some (.int x1), some (.int x2)] [] h := by
  refine r_iload_n dX7_tidy_19 rfl rfl ?_
  refine r_aload_n dX7_tidy_20 rfl rfl ?_
  refine m_getI hp fw_X7_43 dX7_tidy_21 rfl ly_7 ?_
  refine r_icmp_ge (tgt := 70) dX7_tidy_24 rfl (fun cH => ?_) (fun cH => ?_)
  · replace H := H.1 cH
    refine r_prune [true, true, false] (ls2 := [some (.ref 113), some (.int x1), none]) rfl ?_
    exact H
  · replace H := H.2 cH
    refine r_aload_n dX7_tidy_27 rfl rfl ?_
    refine m_getF (x := 139) hp fw_X7_21 dX7_tidy_28 rfl ly_7 (ff_7_2 ly_7) ?_
    refine m_getI hp fw_X7_49 dX7_tidy_31 rfl (lf_7_2 ly_7) ?_
    refine r_iconst (v := (1 : Int32)) dX7_tidy_34 rfl ?_
    refine r_icmp_eq (tgt := 70) dX7_tidy_35 rfl (fun cH => ?_) (fun cH => ?_)
    · replace H := H.1 cH
      refine r_prune [true, true, false] (ls2 := [some (.ref 113), some (.int x1), none]) rfl ?_
      exact H
    · replace H := H.2 cH
      refine r_aload_n dX7_tidy_38 rfl rfl ?_
      refine m_getF (x := 1) hp fw_X7_35 dX7_tidy_39 rfl ly_7 (ff_7_0 ly_7) ?_
      refine m_getF (x := 2) hp fw_X7_52 dX7_tidy_42 rfl (lf_7_0 ly_7) (ff_1_0 (lf_7_0 ly_7)) ?_
      refine r_aload_n dX7_tidy_45 rfl rfl ?_
      refine m_getF (x := 139) hp fw_X7_21 dX7_tidy_46 rfl ly_7 (ff_7_2 ly_7) ?_
      refine r_aload_n dX7_tidy_49 rfl rfl ?_
      refine m_getF (x := 114) hp fw_X7_13 dX7_tidy_50 rfl ly_7 (ff_7_1 ly_7) ?_
      refine r_iload_n dX7_tidy_53 rfl rfl ?_
      have hir1 := H.1
      obtain ⟨r1, Lr1, er1, tr1, H⟩ := H.2
      refine m_aalM (x := r1) hp dX7_tidy_54 (lf_7_1 ly_7) rfl rfl (lu_7_1 ly_7) hir1 er1 ?_
      refine r_iload_n dX7_tidy_55 rfl rfl ?_
      have hir2 := H.1
      obtain ⟨r2, er2, tr2, H⟩ := H.2
      refine m_aalM (x := r2) hp dX7_tidy_56 tr1.1 rfl rfl tr1.2 hir2 er2 ?_
      refine r_aload_n dX7_tidy_57 rfl rfl ?_
      refine m_getF (x := 139) hp fw_X7_21 dX7_tidy_58 rfl ly_7 (ff_7_2 ly_7) ?_
      refine k_VV (As := [.ref 139, .ref r2, .ref 139]) (stk := []) hp cv_X7_58 dX7_tidy_61 rfl (Nat.le_of_ble_eq_true rfl) (lf_1_0 (lf_7_0 ly_7)) (H.mono (fun h3 H => ?_)) ⟨Nat.le_refl _, Nat.le_refl _⟩
      refine r_iinc (v := (x2 + (1 : Int32))) (ls2 := [some (.ref 113), some (.int x1), some (.int (x2 + (1 : Int32)))]) dX7_tidy_64 rfl rfl (by decide) rfl ?_
      refine r_goto (tgt := 19) dX7_tidy_67 rfl ?_
      exact H
theorem s_X7_tidy_70 {g : GX} {d : Nat} {av : List Value} {Q : QT} {n : Nat} {h : Hp} {x1 : Int32} (hp : g.2.2.2.2 = true)  (H : W_X7_tidy g d av Q n 72 [some (.ref 113), some (.int x1), some (.int (0 : Int32))] [] h) : W_X7_tidy g d av Q n 70 [some (.ref 113), some (.int x1), none] [] h := by
  refine r_iconst (v := (0 : Int32)) dX7_tidy_70 rfl ?_
  refine r_istore_n (ls2 := [some (.ref 113), some (.int x1), some (.int (0 : Int32))]) dX7_tidy_71 rfl (by decide) rfl ?_
  exact H
theorem s_X7_tidy_72 {g : GX} {d : Nat} {av : List Value} {Q : QT} {n : Nat} {h : Hp} {x1 : Int32} {x2 : Int32} (hp : g.2.2.2.2 = true)  (H : (((ri h 113 6) ≤ x2) → (W_X7_tidy g d av Q n 119 [some (.ref 113), some (.int x1), none] [] h)) ∧ ((¬ (ri h 113 6) ≤ x2) → ((((ri h 139 1) ≤ (1 : Int32)) → (W_X7_tidy g d av Q n 119 [some (.ref 113), some (.int x1), none] [] h)) ∧ ((¬ (ri h 139 1) ≤ (1 : Int32)) → (vp_in x1 24 ∧ ∃ r1 Lr1, rr h 114 (x1).toNatClampNeg = some r1 ∧ (lay r1 = (2, Lr1, 3) ∧ r1 < N0) ∧ (vp_in x2 Lr1 ∧ ∃ r2, rr h r1 (x2).toNatClampNeg = some r2 ∧ lay r2 = (0, 3, 2) ∧ (CallV g m_X2_divideExactly d [.ref 2, .ref r2, .ref 139] n h (fun h3 => (W_X7_tidy g d av Q n 72 [some (.ref 113), some (.int x1), some (.int (x2 + (1 : Int32)))] [] h3))))))))) : W_X7_tidy g d av Q n 72 [some (.ref 113), some (.int x1), some (.int x2)] [] h := by
  refine r_iload_n dX7_tidy_72 rfl rfl ?_
  refine r_aload_n dX7_tidy_73 rfl rfl ?_
  refine m_getI hp fw_X7_43 dX7_tidy_74 rfl ly_7 ?_
  refine r_icmp_ge (tgt := 119) dX7_tidy_77 rfl (fun cH => ?_) (fun cH => ?_)
  · replace H := H.1 cH
    refine r_prune [true, true, false] (ls2 := [some (.ref 113), some (.int x1), none]) rfl ?_
    exact H
  · replace H := H.2 cH
    refine r_aload_n dX7_tidy_80 rfl rfl ?_
    refine m_getF (x := 139) hp fw_X7_21 dX7_tidy_81 rfl ly_7 (ff_7_2 ly_7) ?_
    refine m_getI hp fw_X7_49 dX7_tidy_84 rfl (lf_7_2 ly_7) ?_
    refine r_iconst (v := (1 : Int32)) dX7_tidy_87 rfl ?_
    refine r_icmp_le (tgt := 119) dX7_tidy_88 rfl (fun cH => ?_) (fun cH => ?_)
    · replace H := H.1 cH
      refine r_prune [true, true, false] (ls2 := [some (.ref 113), some (.int x1), none]) rfl ?_
      exact H
    · replace H := H.2 cH
      refine r_aload_n dX7_tidy_91 rfl rfl ?_
      refine m_getF (x := 1) hp fw_X7_35 dX7_tidy_92 rfl ly_7 (ff_7_0 ly_7) ?_
      refine m_getF (x := 2) hp fw_X7_52 dX7_tidy_95 rfl (lf_7_0 ly_7) (ff_1_0 (lf_7_0 ly_7)) ?_
      refine r_aload_n dX7_tidy_98 rfl rfl ?_
      refine m_getF (x := 114) hp fw_X7_13 dX7_tidy_99 rfl ly_7 (ff_7_1 ly_7) ?_
      refine r_iload_n dX7_tidy_102 rfl rfl ?_
      have hir1 := H.1
      obtain ⟨r1, Lr1, er1, tr1, H⟩ := H.2
      refine m_aalM (x := r1) hp dX7_tidy_103 (lf_7_1 ly_7) rfl rfl (lu_7_1 ly_7) hir1 er1 ?_
      refine r_iload_n dX7_tidy_104 rfl rfl ?_
      have hir2 := H.1
      obtain ⟨r2, er2, tr2, H⟩ := H.2
      refine m_aalM (x := r2) hp dX7_tidy_105 tr1.1 rfl rfl tr1.2 hir2 er2 ?_
      refine r_aload_n dX7_tidy_106 rfl rfl ?_
      refine m_getF (x := 139) hp fw_X7_21 dX7_tidy_107 rfl ly_7 (ff_7_2 ly_7) ?_
      refine k_VV (As := [.ref r2, .ref 139]) (stk := []) hp cv_X7_64 dX7_tidy_110 rfl (Nat.le_of_ble_eq_true rfl) (lf_1_0 (lf_7_0 ly_7)) (H.mono (fun h3 H => ?_)) ⟨Nat.le_refl _, Nat.le_refl _⟩
      refine r_iinc (v := (x2 + (1 : Int32))) (ls2 := [some (.ref 113), some (.int x1), some (.int (x2 + (1 : Int32)))]) dX7_tidy_113 rfl rfl (by decide) rfl ?_
      refine r_goto (tgt := 72) dX7_tidy_116 rfl ?_
      exact H
theorem s_X7_tidy_119 {g : GX} {d : Nat} {av : List Value} {Q : QT} {n : Nat} {h : Hp} {x1 : Int32} (hp : g.2.2.2.2 = true)  (H : W_X7_tidy g d av Q n 2 [some (.ref 113), some (.int (x1 + (1 : Int32))), none] [] h) : W_X7_tidy g d av Q n 119 [some (.ref 113), some (.int x1), none] [] h := by
  refine r_iinc (v := (x1 + (1 : Int32))) (ls2 := [some (.ref 113), some (.int (x1 + (1 : Int32))), none]) dX7_tidy_119 rfl rfl (by decide) rfl ?_
  refine r_goto (tgt := 2) dX7_tidy_122 rfl ?_
  exact H
abbrev W_X7_pivot (g : GX) (d : Nat) (av : List Value) (Q : QT) (n : Nat) (pc : Nat) (ls : LV) (stk : List Value) (h : Hp) : Prop := RJ g m_X7_pivot (d + 1) 0 0 av Q pc ls stk n h 0 0
theorem s_X7_pivot_0 {g : GX} {d : Nat} {av : List Value} {Q : QT} {n : Nat} {h : Hp} {x1 : Int32} (hp : g.2.2.2.2 = true)  (H : W_X7_pivot g d av Q n 7 [some (.ref 113), some (.int x1), some (.int (-1 : Int32)), some (.int (ri h 113 8))] [] h) : W_X7_pivot g d av Q n 0 [some (.ref 113), some (.int x1), none, none] [] h := by
  refine r_iconst (v := (-1 : Int32)) dX7_pivot_0 rfl ?_
  refine r_istore_n (ls2 := [some (.ref 113), some (.int x1), some (.int (-1 : Int32)), none]) dX7_pivot_1 rfl (by decide) rfl ?_
  refine r_aload_n dX7_pivot_2 rfl rfl ?_
  refine m_getI hp fw_X7_71 dX7_pivot_3 rfl ly_7 ?_
  refine r_istore_n (ls2 := [some (.ref 113), some (.int x1), some (.int (-1 : Int32)), some (.int (ri h 113 8))]) dX7_pivot_6 rfl (by decide) rfl ?_
  exact H
theorem s_X7_pivot_7 {g : GX} {d : Nat} {av : List Value} {Q : QT} {n : Nat} {h : Hp} {x1 : Int32} {x2 : Int32} {x3 : Int32} (hp : g.2.2.2.2 = true)  (H : (((ri h 113 5) ≤ x3) → (Q (some (.int x2)) n h)) ∧ ((¬ (ri h 113 5) ≤ x3) → (vp_in x3 24 ∧ ∃ r1 Lr1, rr h 114 (x3).toNatClampNeg = some r1 ∧ (lay r1 = (2, Lr1, 3) ∧ r1 < N0) ∧ (vp_in x1 Lr1 ∧ ∃ r2, rr h r1 (x1).toNatClampNeg = some r2 ∧ lay r2 = (0, 3, 2) ∧ (CallI g m_X3_isZero d [.ref r2] n h (fun v3 h3 => (((¬ v3 = (0 : Int32)) → (W_X7_pivot g d av Q n 60 [some (.ref 113), some (.int x1), some (.int x2), some (.int x3)] [] h3)) ∧ ((v3 = (0 : Int32)) → (((x2 < (0 : Int32)) → (W_X7_pivot g d av Q n 58 [some (.ref 113), some (.int x1), none, some (.int x3)] [] h3)) ∧ ((¬ x2 < (0 : Int32)) → (vp_in x3 24 ∧ ∃ r4 Lr4, rr h3 114 (x3).toNatClampNeg = some r4 ∧ (lay r4 = (2, Lr4, 3) ∧ r4 < N0) ∧ (vp_in x1 Lr4 ∧ ∃ r5, rr h3 r4 (x1).toNatClampNeg = some r5 ∧ lay r5 = (0, 3, 2) ∧ (vp_in x2 24 ∧ ∃ r6 Lr6, rr h3 114 (x2).toNatClampNeg = some r6 ∧ (lay r6 = (2, Lr6, 3) ∧ r6 < N0) ∧ (vp_in x1 Lr6 ∧ ∃ r7, rr h3 r6 (x1).toNatClampNeg = some r7 ∧ lay r7 = (0, 3, 2) ∧ ((((ri h3 r7 1) ≤ (ri h3 r5 1)) → (W_X7_pivot g d av Q n 60 [some (.ref 113), some (.int x1), some (.int x2), some (.int x3)] [] h3)) ∧ ((¬ (ri h3 r7 1) ≤ (ri h3 r5 1)) → (W_X7_pivot g d av Q n 58 [some (.ref 113), some (.int x1), none, some (.int x3)] [] h3))))))))))))))))) : W_X7_pivot g d av Q n 7 [some (.ref 113), some (.int x1), some (.int x2), some (.int x3)] [] h := by
  refine r_iload_n dX7_pivot_7 rfl rfl ?_
  refine r_aload_n dX7_pivot_8 rfl rfl ?_
  refine m_getI hp fw_X7_39 dX7_pivot_9 rfl ly_7 ?_
  refine r_icmp_ge (tgt := 66) dX7_pivot_12 rfl (fun cH => ?_) (fun cH => ?_)
  · replace H := H.1 cH
    refine r_iload_n dX7_pivot_66 rfl rfl ?_
    exact r_zret dX7_pivot_67 rfl rfl (Nat.le_refl _) (Nat.le_refl _) H
  · replace H := H.2 cH
    refine r_aload_n dX7_pivot_15 rfl rfl ?_
    refine m_getF (x := 114) hp fw_X7_13 dX7_pivot_16 rfl ly_7 (ff_7_1 ly_7) ?_
    refine r_iload_n dX7_pivot_19 rfl rfl ?_
    have hir1 := H.1
    obtain ⟨r1, Lr1, er1, tr1, H⟩ := H.2
    refine m_aalM (x := r1) hp dX7_pivot_20 (lf_7_1 ly_7) rfl rfl (lu_7_1 ly_7) hir1 er1 ?_
    refine r_iload_n dX7_pivot_21 rfl rfl ?_
    have hir2 := H.1
    obtain ⟨r2, er2, tr2, H⟩ := H.2
    refine m_aalM (x := r2) hp dX7_pivot_22 tr1.1 rfl rfl tr1.2 hir2 er2 ?_
    refine k_VI (As := []) (stk := []) hp cv_X7_89 dX7_pivot_23 rfl (Nat.le_of_ble_eq_true rfl) tr2 (H.mono (fun v3 h3 H => ?_)) ⟨Nat.le_refl _, Nat.le_refl _⟩
    refine r_if_ne (tgt := 60) dX7_pivot_26 rfl (fun cH => ?_) (fun cH => ?_)
    · replace H := H.1 cH
      exact H
    · replace H := H.2 cH
      refine r_iload_n dX7_pivot_29 rfl rfl ?_
      refine r_if_lt (tgt := 58) dX7_pivot_30 rfl (fun cH => ?_) (fun cH => ?_)
      · replace H := H.1 cH
        refine r_prune [true, true, false, true] (ls2 := [some (.ref 113), some (.int x1), none, some (.int x3)]) rfl ?_
        exact H
      · replace H := H.2 cH
        refine r_aload_n dX7_pivot_33 rfl rfl ?_
        refine m_getF (x := 114) hp fw_X7_13 dX7_pivot_34 rfl ly_7 (ff_7_1 ly_7) ?_
        refine r_iload_n dX7_pivot_37 rfl rfl ?_
        have hir4 := H.1
        obtain ⟨r4, Lr4, er4, tr4, H⟩ := H.2
        refine m_aalM (x := r4) hp dX7_pivot_38 (lf_7_1 ly_7) rfl rfl (lu_7_1 ly_7) hir4 er4 ?_
        refine r_iload_n dX7_pivot_39 rfl rfl ?_
        have hir5 := H.1
        obtain ⟨r5, er5, tr5, H⟩ := H.2
        refine m_aalM (x := r5) hp dX7_pivot_40 tr4.1 rfl rfl tr4.2 hir5 er5 ?_
        refine m_getI hp fw_X7_49 dX7_pivot_41 rfl tr5 ?_
        refine r_aload_n dX7_pivot_44 rfl rfl ?_
        refine m_getF (x := 114) hp fw_X7_13 dX7_pivot_45 rfl ly_7 (ff_7_1 ly_7) ?_
        refine r_iload_n dX7_pivot_48 rfl rfl ?_
        have hir6 := H.1
        obtain ⟨r6, Lr6, er6, tr6, H⟩ := H.2
        refine m_aalM (x := r6) hp dX7_pivot_49 (lf_7_1 ly_7) rfl rfl (lu_7_1 ly_7) hir6 er6 ?_
        refine r_iload_n dX7_pivot_50 rfl rfl ?_
        have hir7 := H.1
        obtain ⟨r7, er7, tr7, H⟩ := H.2
        refine m_aalM (x := r7) hp dX7_pivot_51 tr6.1 rfl rfl tr6.2 hir7 er7 ?_
        refine m_getI hp fw_X7_49 dX7_pivot_52 rfl tr7 ?_
        refine r_icmp_ge (tgt := 60) dX7_pivot_55 rfl (fun cH => ?_) (fun cH => ?_)
        · replace H := H.1 cH
          exact H
        · replace H := H.2 cH
          refine r_prune [true, true, false, true] (ls2 := [some (.ref 113), some (.int x1), none, some (.int x3)]) rfl ?_
          exact H
theorem s_X7_pivot_58 {g : GX} {d : Nat} {av : List Value} {Q : QT} {n : Nat} {h : Hp} {x1 : Int32} {x3 : Int32} (hp : g.2.2.2.2 = true)  (H : W_X7_pivot g d av Q n 60 [some (.ref 113), some (.int x1), some (.int x3), some (.int x3)] [] h) : W_X7_pivot g d av Q n 58 [some (.ref 113), some (.int x1), none, some (.int x3)] [] h := by
  refine r_iload_n dX7_pivot_58 rfl rfl ?_
  refine r_istore_n (ls2 := [some (.ref 113), some (.int x1), some (.int x3), some (.int x3)]) dX7_pivot_59 rfl (by decide) rfl ?_
  exact H
theorem s_X7_pivot_60 {g : GX} {d : Nat} {av : List Value} {Q : QT} {n : Nat} {h : Hp} {x1 : Int32} {x2 : Int32} {x3 : Int32} (hp : g.2.2.2.2 = true)  (H : W_X7_pivot g d av Q n 7 [some (.ref 113), some (.int x1), some (.int x2), some (.int (x3 + (1 : Int32)))] [] h) : W_X7_pivot g d av Q n 60 [some (.ref 113), some (.int x1), some (.int x2), some (.int x3)] [] h := by
  refine r_iinc (v := (x3 + (1 : Int32))) (ls2 := [some (.ref 113), some (.int x1), some (.int x2), some (.int (x3 + (1 : Int32)))]) dX7_pivot_60 rfl rfl (by decide) rfl ?_
  refine r_goto (tgt := 7) dX7_pivot_63 rfl ?_
  exact H
abbrev W_X7_takeAway (g : GX) (d : Nat) (av : List Value) (Q : QT) (n : Nat) (pc : Nat) (ls : LV) (stk : List Value) (h : Hp) : Prop := RJ g m_X7_takeAway (d + 1) 0 0 av Q pc ls stk n h 0 0
theorem s_X7_takeAway_0 {g : GX} {d : Nat} {av : List Value} {Q : QT} {n : Nat} {h : Hp} {x1 : Int32} {x2 : Int32} (hp : g.2.2.2.2 = true)  (H : vp_in (ri h 113 8) 24 ∧ ∃ r1 Lr1, rr h 114 ((ri h 113 8)).toNatClampNeg = some r1 ∧ (lay r1 = (2, Lr1, 3) ∧ r1 < N0) ∧ (vp_in x2 Lr1 ∧ ∃ r2, rr h r1 (x2).toNatClampNeg = some r2 ∧ lay r2 = (0, 3, 2) ∧ (W_X7_takeAway g d av Q n 17 [some (.ref 113), some (.int x1), some (.int x2), some (.ref r2), some (.int (x2 + (1 : Int32)))] [] h))) : W_X7_takeAway g d av Q n 0 [some (.ref 113), some (.int x1), some (.int x2), none, none] [] h := by
  refine r_aload_n dX7_takeAway_0 rfl rfl ?_
  refine m_getF (x := 114) hp fw_X7_13 dX7_takeAway_1 rfl ly_7 (ff_7_1 ly_7) ?_
  refine r_aload_n dX7_takeAway_4 rfl rfl ?_
  refine m_getI hp fw_X7_71 dX7_takeAway_5 rfl ly_7 ?_
  have hir1 := H.1
  obtain ⟨r1, Lr1, er1, tr1, H⟩ := H.2
  refine m_aalM (x := r1) hp dX7_takeAway_8 (lf_7_1 ly_7) rfl rfl (lu_7_1 ly_7) hir1 er1 ?_
  refine r_iload_n dX7_takeAway_9 rfl rfl ?_
  have hir2 := H.1
  obtain ⟨r2, er2, tr2, H⟩ := H.2
  refine m_aalM (x := r2) hp dX7_takeAway_10 tr1.1 rfl rfl tr1.2 hir2 er2 ?_
  refine r_astore_n (ls2 := [some (.ref 113), some (.int x1), some (.int x2), some (.ref r2), none]) dX7_takeAway_11 rfl (by decide) rfl ?_
  refine r_iload_n dX7_takeAway_12 rfl rfl ?_
  refine r_iconst (v := (1 : Int32)) dX7_takeAway_13 rfl ?_
  refine r_iadd dX7_takeAway_14 ?_
  refine r_istore (ls2 := [some (.ref 113), some (.int x1), some (.int x2), some (.ref r2), some (.int (x2 + (1 : Int32)))]) dX7_takeAway_15 (by decide) rfl ?_
  exact H
theorem s_X7_takeAway_17 {g : GX} {d : Nat} {av : List Value} {Q : QT} {n : Nat} {h : Hp} {x1 : Int32} {x2 : Int32} {a3 : Nat} {x4 : Int32} (hp : g.2.2.2.2 = true) (t3 : lay a3 = (0, 3, 2)) (H : (((ri h 113 6) ≤ x4) → (vp_in x1 24 ∧ ∃ r1 Lr1, rr h 114 (x1).toNatClampNeg = some r1 ∧ (lay r1 = (2, Lr1, 3) ∧ r1 < N0) ∧ (vp_in x2 Lr1 ∧ ∃ r2, rr h r1 (x2).toNatClampNeg = some r2 ∧ lay r2 = (0, 3, 2) ∧ (CallV g m_X3_clear d [.ref r2] n h (fun h3 => (Q none n h3)))))) ∧ ((¬ (ri h 113 6) ≤ x4) → (vp_in x1 24 ∧ ∃ r4 Lr4, rr h 114 (x1).toNatClampNeg = some r4 ∧ (lay r4 = (2, Lr4, 3) ∧ r4 < N0) ∧ (vp_in x4 Lr4 ∧ ∃ r5, rr h r4 (x4).toNatClampNeg = some r5 ∧ lay r5 = (0, 3, 2) ∧ (CallV g m_X3_product d [.ref 139, .ref a3, .ref r5] n h (fun h6 => (vp_in x1 24 ∧ ∃ r7 Lr7, rr h6 114 (x1).toNatClampNeg = some r7 ∧ (lay r7 = (2, Lr7, 3) ∧ r7 < N0) ∧ (vp_in x2 Lr7 ∧ ∃ r8, rr h6 r7 (x2).toNatClampNeg = some r8 ∧ lay r8 = (0, 3, 2) ∧ (vp_in (ri h6 113 8) 24 ∧ ∃ r9 Lr9, rr h6 114 ((ri h6 113 8)).toNatClampNeg = some r9 ∧ (lay r9 = (2, Lr9, 3) ∧ r9 < N0) ∧ (vp_in x4 Lr9 ∧ ∃ r10, rr h6 r9 (x4).toNatClampNeg = some r10 ∧ lay r10 = (0, 3, 2) ∧ (CallV g m_X3_addProduct d [.ref 139, .ref r8, .ref r10, .int (2147483646 : Int32)] n h6 (fun h11 => (CallV g m_X3_divide d [.ref 139, .ref 143, .ref 141] n h11 (fun h12 => (vp_in x1 24 ∧ ∃ r13 Lr13, rr h12 114 (x1).toNatClampNeg = some r13 ∧ (lay r13 = (2, Lr13, 3) ∧ r13 < N0) ∧ (vp_in x4 Lr13 ∧ ∃ r14, rr h12 r13 (x4).toNatClampNeg = some r14 ∧ lay r14 = (0, 3, 2) ∧ (CallV g m_X3_copy d [.ref r14, .ref 141] n h12 (fun h15 => (W_X7_takeAway g d av Q n 17 [some (.ref 113), some (.int x1), some (.int x2), some (.ref a3), some (.int (x4 + (1 : Int32)))] [] h15))))))))))))))))))) : W_X7_takeAway g d av Q n 17 [some (.ref 113), some (.int x1), some (.int x2), some (.ref a3), some (.int x4)] [] h := by
  refine r_iload dX7_takeAway_17 rfl ?_
  refine r_aload_n dX7_takeAway_19 rfl rfl ?_
  refine m_getI hp fw_X7_43 dX7_takeAway_20 rfl ly_7 ?_
  refine r_icmp_ge (tgt := 109) dX7_takeAway_23 rfl (fun cH => ?_) (fun cH => ?_)
  · replace H := H.1 cH
    refine r_aload_n dX7_takeAway_109 rfl rfl ?_
    refine m_getF (x := 114) hp fw_X7_13 dX7_takeAway_110 rfl ly_7 (ff_7_1 ly_7) ?_
    refine r_iload_n dX7_takeAway_113 rfl rfl ?_
    have hir1 := H.1
    obtain ⟨r1, Lr1, er1, tr1, H⟩ := H.2
    refine m_aalM (x := r1) hp dX7_takeAway_114 (lf_7_1 ly_7) rfl rfl (lu_7_1 ly_7) hir1 er1 ?_
    refine r_iload_n dX7_takeAway_115 rfl rfl ?_
    have hir2 := H.1
    obtain ⟨r2, er2, tr2, H⟩ := H.2
    refine m_aalM (x := r2) hp dX7_takeAway_116 tr1.1 rfl rfl tr1.2 hir2 er2 ?_
    refine k_VV (As := []) (stk := []) hp cv_X7_46 dX7_takeAway_117 rfl (Nat.le_of_ble_eq_true rfl) tr2 (H.mono (fun h3 H => ?_)) ⟨Nat.le_refl _, Nat.le_refl _⟩
    exact r_vret dX7_takeAway_120 rfl (Nat.le_refl _) (Nat.le_refl _) H
  · replace H := H.2 cH
    refine r_aload_n dX7_takeAway_26 rfl rfl ?_
    refine m_getF (x := 139) hp fw_X7_21 dX7_takeAway_27 rfl ly_7 (ff_7_2 ly_7) ?_
    refine r_aload_n dX7_takeAway_30 rfl rfl ?_
    refine r_aload_n dX7_takeAway_31 rfl rfl ?_
    refine m_getF (x := 114) hp fw_X7_13 dX7_takeAway_32 rfl ly_7 (ff_7_1 ly_7) ?_
    refine r_iload_n dX7_takeAway_35 rfl rfl ?_
    have hir4 := H.1
    obtain ⟨r4, Lr4, er4, tr4, H⟩ := H.2
    refine m_aalM (x := r4) hp dX7_takeAway_36 (lf_7_1 ly_7) rfl rfl (lu_7_1 ly_7) hir4 er4 ?_
    refine r_iload dX7_takeAway_37 rfl ?_
    have hir5 := H.1
    obtain ⟨r5, er5, tr5, H⟩ := H.2
    refine m_aalM (x := r5) hp dX7_takeAway_39 tr4.1 rfl rfl tr4.2 hir5 er5 ?_
    refine k_VV (As := [.ref a3, .ref r5]) (stk := []) hp cv_X7_93 dX7_takeAway_40 rfl (Nat.le_of_ble_eq_true rfl) (lf_7_2 ly_7) (H.mono (fun h6 H => ?_)) ⟨Nat.le_refl _, Nat.le_refl _⟩
    refine r_aload_n dX7_takeAway_43 rfl rfl ?_
    refine m_getF (x := 139) hp fw_X7_21 dX7_takeAway_44 rfl ly_7 (ff_7_2 ly_7) ?_
    refine r_aload_n dX7_takeAway_47 rfl rfl ?_
    refine m_getF (x := 114) hp fw_X7_13 dX7_takeAway_48 rfl ly_7 (ff_7_1 ly_7) ?_
    refine r_iload_n dX7_takeAway_51 rfl rfl ?_
    have hir7 := H.1
    obtain ⟨r7, Lr7, er7, tr7, H⟩ := H.2
    refine m_aalM (x := r7) hp dX7_takeAway_52 (lf_7_1 ly_7) rfl rfl (lu_7_1 ly_7) hir7 er7 ?_
    refine r_iload_n dX7_takeAway_53 rfl rfl ?_
    have hir8 := H.1
    obtain ⟨r8, er8, tr8, H⟩ := H.2
    refine m_aalM (x := r8) hp dX7_takeAway_54 tr7.1 rfl rfl tr7.2 hir8 er8 ?_
    refine r_aload_n dX7_takeAway_55 rfl rfl ?_
    refine m_getF (x := 114) hp fw_X7_13 dX7_takeAway_56 rfl ly_7 (ff_7_1 ly_7) ?_
    refine r_aload_n dX7_takeAway_59 rfl rfl ?_
    refine m_getI hp fw_X7_71 dX7_takeAway_60 rfl ly_7 ?_
    have hir9 := H.1
    obtain ⟨r9, Lr9, er9, tr9, H⟩ := H.2
    refine m_aalM (x := r9) hp dX7_takeAway_63 (lf_7_1 ly_7) rfl rfl (lu_7_1 ly_7) hir9 er9 ?_
    refine r_iload dX7_takeAway_64 rfl ?_
    have hir10 := H.1
    obtain ⟨r10, er10, tr10, H⟩ := H.2
    refine m_aalM (x := r10) hp dX7_takeAway_66 tr9.1 rfl rfl tr9.2 hir10 er10 ?_
    refine r_ldc (own := "") (v := (2147483646 : Int32)) dX7_takeAway_67 q1462 ?_
    refine k_VV (As := [.ref r8, .ref r10, .int (2147483646 : Int32)]) (stk := []) hp cv_X7_97 dX7_takeAway_69 rfl (Nat.le_of_ble_eq_true rfl) (lf_7_2 ly_7) (H.mono (fun h11 H => ?_)) ⟨Nat.le_refl _, Nat.le_refl _⟩
    refine r_aload_n dX7_takeAway_72 rfl rfl ?_
    refine m_getF (x := 139) hp fw_X7_21 dX7_takeAway_73 rfl ly_7 (ff_7_2 ly_7) ?_
    refine r_aload_n dX7_takeAway_76 rfl rfl ?_
    refine m_getF (x := 143) hp fw_X7_28 dX7_takeAway_77 rfl ly_7 (ff_7_4 ly_7) ?_
    refine r_aload_n dX7_takeAway_80 rfl rfl ?_
    refine m_getF (x := 141) hp fw_X7_25 dX7_takeAway_81 rfl ly_7 (ff_7_3 ly_7) ?_
    refine k_VV (As := [.ref 143, .ref 141]) (stk := []) hp cv_X7_101 dX7_takeAway_84 rfl (Nat.le_of_ble_eq_true rfl) (lf_7_2 ly_7) (H.mono (fun h12 H => ?_)) ⟨Nat.le_refl _, Nat.le_refl _⟩
    refine r_aload_n dX7_takeAway_87 rfl rfl ?_
    refine m_getF (x := 114) hp fw_X7_13 dX7_takeAway_88 rfl ly_7 (ff_7_1 ly_7) ?_
    refine r_iload_n dX7_takeAway_91 rfl rfl ?_
    have hir13 := H.1
    obtain ⟨r13, Lr13, er13, tr13, H⟩ := H.2
    refine m_aalM (x := r13) hp dX7_takeAway_92 (lf_7_1 ly_7) rfl rfl (lu_7_1 ly_7) hir13 er13 ?_
    refine r_iload dX7_takeAway_93 rfl ?_
    have hir14 := H.1
    obtain ⟨r14, er14, tr14, H⟩ := H.2
    refine m_aalM (x := r14) hp dX7_takeAway_95 tr13.1 rfl rfl tr13.2 hir14 er14 ?_
    refine r_aload_n dX7_takeAway_96 rfl rfl ?_
    refine m_getF (x := 141) hp fw_X7_25 dX7_takeAway_97 rfl ly_7 (ff_7_3 ly_7) ?_
    refine k_VV (As := [.ref 141]) (stk := []) hp cv_X7_85 dX7_takeAway_100 rfl (Nat.le_of_ble_eq_true rfl) tr14 (H.mono (fun h15 H => ?_)) ⟨Nat.le_refl _, Nat.le_refl _⟩
    refine r_iinc (v := (x4 + (1 : Int32))) (ls2 := [some (.ref 113), some (.int x1), some (.int x2), some (.ref a3), some (.int (x4 + (1 : Int32)))]) dX7_takeAway_103 rfl rfl (by decide) rfl ?_
    refine r_goto (tgt := 17) dX7_takeAway_106 rfl ?_
    exact H
abbrev W_X7_number (g : GX) (d : Nat) (av : List Value) (Q : QT) (n : Nat) (pc : Nat) (ls : LV) (stk : List Value) (h : Hp) : Prop := RJ g m_X7_number (d + 1) 0 0 av Q pc ls stk n h 0 0
theorem s_X7_number_0 {g : GX} {d : Nat} {av : List Value} {Q : QT} {n : Nat} {h : Hp} {x1 : Int32} {x2 : Int32} {a3 : Nat} (hp : g.2.2.2.2 = true) (t3 : lay a3 = (0, 3, 2)) (H : CallV g m_X3_clear d [.ref a3] n h (fun h1 => (((¬ x1 = x2) → (((x2 ≤ x1) → (Q none n h1)) ∧ ((¬ x2 ≤ x1) → (vp_in x1 14 ∧ ((((ri h1 145 (x1).toNatClampNeg) < (0 : Int32)) → (Q none n h1)) ∧ ((¬ (ri h1 145 (x1).toNatClampNeg) < (0 : Int32)) → (vp_in x1 14 ∧ (vp_in (ri h1 145 (x1).toNatClampNeg) 24 ∧ ∃ r2 Lr2, rr h1 114 ((ri h1 145 (x1).toNatClampNeg)).toNatClampNeg = some r2 ∧ (lay r2 = (2, Lr2, 3) ∧ r2 < N0) ∧ (vp_in x2 Lr2 ∧ ∃ r3, rr h1 r2 (x2).toNatClampNeg = some r3 ∧ lay r3 = (0, 3, 2) ∧ (CallV g m_X3_copy d [.ref a3, .ref r3] n h1 (fun h4 => (CallV g m_X3_scale d [.ref a3, .int (2147483646 : Int32)] n h4 (fun h5 => (Q none n h5)))))))))))))) ∧ ((x1 = x2) → (CallV g m_X3_copy d [.ref a3, .ref 143] n h1 (fun h6 => (Q none n h6))))))) : W_X7_number g d av Q n 0 [some (.ref 113), some (.int x1), some (.int x2), some (.ref a3)] [] h := by
  refine r_aload_n dX7_number_0 rfl rfl ?_
  refine k_VV (As := []) (stk := []) hp cv_X7_46 dX7_number_1 rfl (Nat.le_of_ble_eq_true rfl) t3 (H.mono (fun h1 H => ?_)) ⟨Nat.le_refl _, Nat.le_refl _⟩
  refine r_iload_n dX7_number_4 rfl rfl ?_
  refine r_iload_n dX7_number_5 rfl rfl ?_
  refine r_icmp_ne (tgt := 20) dX7_number_6 rfl (fun cH => ?_) (fun cH => ?_)
  · replace H := H.1 cH
    refine r_iload_n dX7_number_20 rfl rfl ?_
    refine r_iload_n dX7_number_21 rfl rfl ?_
    refine r_icmp_ge (tgt := 57) dX7_number_22 rfl (fun cH => ?_) (fun cH => ?_)
    · replace H := H.1 cH
      exact r_vret dX7_number_57 rfl (Nat.le_refl _) (Nat.le_refl _) H
    · replace H := H.2 cH
      refine r_aload_n dX7_number_25 rfl rfl ?_
      refine m_getF (x := 145) hp fw_X7_31 dX7_number_26 rfl ly_7 (ff_7_7 ly_7) ?_
      refine r_iload_n dX7_number_29 rfl rfl ?_
      refine m_iald hp dX7_number_30 (lf_7_7 ly_7) H.1 ?_
      replace H := H.2
      refine r_if_lt (tgt := 57) dX7_number_31 rfl (fun cH => ?_) (fun cH => ?_)
      · replace H := H.1 cH
        exact r_vret dX7_number_57 rfl (Nat.le_refl _) (Nat.le_refl _) H
      · replace H := H.2 cH
        refine r_aload_n dX7_number_34 rfl rfl ?_
        refine r_aload_n dX7_number_35 rfl rfl ?_
        refine m_getF (x := 114) hp fw_X7_13 dX7_number_36 rfl ly_7 (ff_7_1 ly_7) ?_
        refine r_aload_n dX7_number_39 rfl rfl ?_
        refine m_getF (x := 145) hp fw_X7_31 dX7_number_40 rfl ly_7 (ff_7_7 ly_7) ?_
        refine r_iload_n dX7_number_43 rfl rfl ?_
        refine m_iald hp dX7_number_44 (lf_7_7 ly_7) H.1 ?_
        replace H := H.2
        have hir2 := H.1
        obtain ⟨r2, Lr2, er2, tr2, H⟩ := H.2
        refine m_aalM (x := r2) hp dX7_number_45 (lf_7_1 ly_7) rfl rfl (lu_7_1 ly_7) hir2 er2 ?_
        refine r_iload_n dX7_number_46 rfl rfl ?_
        have hir3 := H.1
        obtain ⟨r3, er3, tr3, H⟩ := H.2
        refine m_aalM (x := r3) hp dX7_number_47 tr2.1 rfl rfl tr2.2 hir3 er3 ?_
        refine k_VV (As := [.ref r3]) (stk := []) hp cv_X7_85 dX7_number_48 rfl (Nat.le_of_ble_eq_true rfl) t3 (H.mono (fun h4 H => ?_)) ⟨Nat.le_refl _, Nat.le_refl _⟩
        refine r_aload_n dX7_number_51 rfl rfl ?_
        refine r_ldc (own := "") (v := (2147483646 : Int32)) dX7_number_52 q1462 ?_
        refine k_VV (As := [.int (2147483646 : Int32)]) (stk := []) hp cv_X7_104 dX7_number_54 rfl (Nat.le_of_ble_eq_true rfl) t3 (H.mono (fun h5 H => ?_)) ⟨Nat.le_refl _, Nat.le_refl _⟩
        exact r_vret dX7_number_57 rfl (Nat.le_refl _) (Nat.le_refl _) H
  · replace H := H.2 cH
    refine r_aload_n dX7_number_9 rfl rfl ?_
    refine r_aload_n dX7_number_10 rfl rfl ?_
    refine m_getF (x := 143) hp fw_X7_28 dX7_number_11 rfl ly_7 (ff_7_4 ly_7) ?_
    refine k_VV (As := [.ref 143]) (stk := []) hp cv_X7_85 dX7_number_14 rfl (Nat.le_of_ble_eq_true rfl) t3 (H.mono (fun h6 H => ?_)) ⟨Nat.le_refl _, Nat.le_refl _⟩
    refine r_goto (tgt := 57) dX7_number_17 rfl ?_
    exact r_vret dX7_number_57 rfl (Nat.le_refl _) (Nat.le_refl _) H
theorem dX8_find_0 : decode cX8_find 0 = .ok (.aload_n 0, 1) := by decide +kernel
theorem dX8_find_1 : decode cX8_find 1 = .ok (.aload_n 1, 1) := by decide +kernel
theorem dX8_find_2 : decode cX8_find 2 = .ok (.getfield 39, 3) := by decide +kernel
theorem dX8_find_5 : decode cX8_find 5 = .ok (.putfield 45, 3) := by decide +kernel
theorem dX8_find_8 : decode cX8_find 8 = .ok (.iconst 0, 1) := by decide +kernel
theorem dX8_find_9 : decode cX8_find 9 = .ok (.istore_n 2, 1) := by decide +kernel
theorem dX8_find_10 : decode cX8_find 10 = .ok (.iload_n 2, 1) := by decide +kernel
theorem dX8_find_11 : decode cX8_find 11 = .ok (.bipush 6, 2) := by decide +kernel
theorem dX8_find_13 : decode cX8_find 13 = .ok (.if_icmp .gt 70, 3) := by decide +kernel
theorem dX8_find_16 : decode cX8_find 16 = .ok (.iconst 0, 1) := by decide +kernel
theorem dX8_find_17 : decode cX8_find 17 = .ok (.istore_n 3, 1) := by decide +kernel
theorem dX8_find_18 : decode cX8_find 18 = .ok (.iload_n 3, 1) := by decide +kernel
theorem dX8_find_19 : decode cX8_find 19 = .ok (.aload_n 0, 1) := by decide +kernel
theorem dX8_find_20 : decode cX8_find 20 = .ok (.getfield 45, 3) := by decide +kernel
theorem dX8_find_23 : decode cX8_find 23 = .ok (.if_icmp .ge 30, 3) := by decide +kernel
theorem dX8_find_26 : decode cX8_find 26 = .ok (.aload_n 0, 1) := by decide +kernel
theorem dX8_find_27 : decode cX8_find 27 = .ok (.getfield 17, 3) := by decide +kernel
theorem dX8_find_30 : decode cX8_find 30 = .ok (.iload_n 2, 1) := by decide +kernel
theorem dX8_find_31 : decode cX8_find 31 = .ok (.aaload, 1) := by decide +kernel
theorem dX8_find_32 : decode cX8_find 32 = .ok (.iload_n 3, 1) := by decide +kernel
theorem dX8_find_33 : decode cX8_find 33 = .ok (.aaload, 1) := by decide +kernel
theorem dX8_find_34 : decode cX8_find 34 = .ok (.iload_n 2, 1) := by decide +kernel
theorem dX8_find_35 : decode cX8_find 35 = .ok (.iload_n 3, 1) := by decide +kernel
theorem dX8_find_36 : decode cX8_find 36 = .ok (.if_icmp .ne 7, 3) := by decide +kernel
theorem dX8_find_39 : decode cX8_find 39 = .ok (.iconst 1, 1) := by decide +kernel
theorem dX8_find_40 : decode cX8_find 40 = .ok (.goto 4, 3) := by decide +kernel
theorem dX8_find_43 : decode cX8_find 43 = .ok (.iconst 0, 1) := by decide +kernel
theorem dX8_find_44 : decode cX8_find 44 = .ok (.invokevirtual 46, 3) := by decide +kernel
theorem dX8_find_47 : decode cX8_find 47 = .ok (.iinc 3 1, 3) := by decide +kernel
theorem dX8_find_50 : decode cX8_find 50 = .ok (.goto (-32), 3) := by decide +kernel
theorem dX8_find_53 : decode cX8_find 53 = .ok (.aload_n 0, 1) := by decide +kernel
theorem dX8_find_54 : decode cX8_find 54 = .ok (.getfield 22, 3) := by decide +kernel
theorem dX8_find_57 : decode cX8_find 57 = .ok (.iload_n 2, 1) := by decide +kernel
theorem dX8_find_58 : decode cX8_find 58 = .ok (.aaload, 1) := by decide +kernel
theorem dX8_find_59 : decode cX8_find 59 = .ok (.iconst 1, 1) := by decide +kernel
theorem dX8_find_60 : decode cX8_find 60 = .ok (.invokevirtual 46, 3) := by decide +kernel
theorem dX8_find_63 : decode cX8_find 63 = .ok (.iload_n 2, 1) := by decide +kernel
theorem dX8_find_64 : decode cX8_find 64 = .ok (.aload_n 0, 1) := by decide +kernel
theorem dX8_find_65 : decode cX8_find 65 = .ok (.getfield 45, 3) := by decide +kernel
theorem dX8_find_68 : decode cX8_find 68 = .ok (.if_icmp .lt 9, 3) := by decide +kernel
theorem dX8_find_71 : decode cX8_find 71 = .ok (.aload_n 0, 1) := by decide +kernel
theorem dX8_find_72 : decode cX8_find 72 = .ok (.aload_n 1, 1) := by decide +kernel
theorem dX8_find_73 : decode cX8_find 73 = .ok (.iload_n 2, 1) := by decide +kernel
theorem dX8_find_74 : decode cX8_find 74 = .ok (.invokevirtual 49, 3) := by decide +kernel
theorem dX8_find_77 : decode cX8_find 77 = .ok (.iinc 2 1, 3) := by decide +kernel
theorem dX8_find_80 : decode cX8_find 80 = .ok (.goto (-70), 3) := by decide +kernel
theorem dX8_find_83 : decode cX8_find 83 = .ok (.return_, 1) := by decide +kernel
theorem dX8_findShift_0 : decode cX8_findShift 0 = .ok (.iconst 0, 1) := by decide +kernel
theorem dX8_findShift_1 : decode cX8_findShift 1 = .ok (.istore_n 3, 1) := by decide +kernel
theorem dX8_findShift_2 : decode cX8_findShift 2 = .ok (.iload_n 3, 1) := by decide +kernel
theorem dX8_findShift_3 : decode cX8_findShift 3 = .ok (.aload_n 0, 1) := by decide +kernel
theorem dX8_findShift_4 : decode cX8_findShift 4 = .ok (.getfield 45, 3) := by decide +kernel
theorem dX8_findShift_7 : decode cX8_findShift 7 = .ok (.if_icmp .gt 42, 3) := by decide +kernel
theorem dX8_findShift_10 : decode cX8_findShift 10 = .ok (.aload_n 0, 1) := by decide +kernel
theorem dX8_findShift_11 : decode cX8_findShift 11 = .ok (.getfield 26, 3) := by decide +kernel
theorem dX8_findShift_14 : decode cX8_findShift 14 = .ok (.iload_n 3, 1) := by decide +kernel
theorem dX8_findShift_15 : decode cX8_findShift 15 = .ok (.aaload, 1) := by decide +kernel
theorem dX8_findShift_16 : decode cX8_findShift 16 = .ok (.aload_n 1, 1) := by decide +kernel
theorem dX8_findShift_17 : decode cX8_findShift 17 = .ok (.getfield 53, 3) := by decide +kernel
theorem dX8_findShift_20 : decode cX8_findShift 20 = .ok (.iload_n 3, 1) := by decide +kernel
theorem dX8_findShift_21 : decode cX8_findShift 21 = .ok (.aaload, 1) := by decide +kernel
theorem dX8_findShift_22 : decode cX8_findShift 22 = .ok (.invokevirtual 56, 3) := by decide +kernel
theorem dX8_findShift_25 : decode cX8_findShift 25 = .ok (.aload_n 0, 1) := by decide +kernel
theorem dX8_findShift_26 : decode cX8_findShift 26 = .ok (.getfield 26, 3) := by decide +kernel
theorem dX8_findShift_29 : decode cX8_findShift 29 = .ok (.iload_n 3, 1) := by decide +kernel
theorem dX8_findShift_30 : decode cX8_findShift 30 = .ok (.aaload, 1) := by decide +kernel
theorem dX8_findShift_31 : decode cX8_findShift 31 = .ok (.iload_n 2, 1) := by decide +kernel
theorem dX8_findShift_32 : decode cX8_findShift 32 = .ok (.aload_n 0, 1) := by decide +kernel
theorem dX8_findShift_33 : decode cX8_findShift 33 = .ok (.getfield 45, 3) := by decide +kernel
theorem dX8_findShift_36 : decode cX8_findShift 36 = .ok (.isub, 1) := by decide +kernel
theorem dX8_findShift_37 : decode cX8_findShift 37 = .ok (.invokestatic 60, 3) := by decide +kernel
theorem dX8_findShift_40 : decode cX8_findShift 40 = .ok (.invokevirtual 64, 3) := by decide +kernel
theorem dX8_findShift_43 : decode cX8_findShift 43 = .ok (.iinc 3 1, 3) := by decide +kernel
theorem dX8_findShift_46 : decode cX8_findShift 46 = .ok (.goto (-44), 3) := by decide +kernel
theorem dX8_findShift_49 : decode cX8_findShift 49 = .ok (.aload_n 0, 1) := by decide +kernel
theorem dX8_findShift_50 : decode cX8_findShift 50 = .ok (.getfield 22, 3) := by decide +kernel
theorem dX8_findShift_53 : decode cX8_findShift 53 = .ok (.iload_n 2, 1) := by decide +kernel
theorem dX8_findShift_54 : decode cX8_findShift 54 = .ok (.aaload, 1) := by decide +kernel
theorem dX8_findShift_55 : decode cX8_findShift 55 = .ok (.aload_n 0, 1) := by decide +kernel
theorem dX8_findShift_56 : decode cX8_findShift 56 = .ok (.getfield 26, 3) := by decide +kernel
theorem dX8_findShift_59 : decode cX8_findShift 59 = .ok (.aload_n 0, 1) := by decide +kernel
theorem dX8_findShift_60 : decode cX8_findShift 60 = .ok (.getfield 45, 3) := by decide +kernel
theorem dX8_findShift_63 : decode cX8_findShift 63 = .ok (.aaload, 1) := by decide +kernel
theorem dX8_findShift_64 : decode cX8_findShift 64 = .ok (.invokevirtual 56, 3) := by decide +kernel
theorem dX8_findShift_67 : decode cX8_findShift 67 = .ok (.iconst 0, 1) := by decide +kernel
theorem dX8_findShift_68 : decode cX8_findShift 68 = .ok (.istore_n 3, 1) := by decide +kernel
theorem dX8_findShift_69 : decode cX8_findShift 69 = .ok (.iload_n 3, 1) := by decide +kernel
theorem dX8_findShift_70 : decode cX8_findShift 70 = .ok (.aload_n 0, 1) := by decide +kernel
theorem dX8_findShift_71 : decode cX8_findShift 71 = .ok (.getfield 45, 3) := by decide +kernel
theorem dX8_findShift_74 : decode cX8_findShift 74 = .ok (.if_icmp .ge 48, 3) := by decide +kernel
theorem dX8_findShift_77 : decode cX8_findShift 77 = .ok (.aload_n 0, 1) := by decide +kernel
theorem dX8_findShift_78 : decode cX8_findShift 78 = .ok (.getfield 32, 3) := by decide +kernel
theorem dX8_findShift_81 : decode cX8_findShift 81 = .ok (.aload_n 0, 1) := by decide +kernel
theorem dX8_findShift_82 : decode cX8_findShift 82 = .ok (.getfield 22, 3) := by decide +kernel
theorem dX8_findShift_85 : decode cX8_findShift 85 = .ok (.iload_n 2, 1) := by decide +kernel
theorem dX8_findShift_86 : decode cX8_findShift 86 = .ok (.aaload, 1) := by decide +kernel
theorem dX8_findShift_87 : decode cX8_findShift 87 = .ok (.aload_n 0, 1) := by decide +kernel
theorem dX8_findShift_88 : decode cX8_findShift 88 = .ok (.getfield 22, 3) := by decide +kernel
theorem dX8_findShift_91 : decode cX8_findShift 91 = .ok (.iload_n 2, 1) := by decide +kernel
theorem dX8_findShift_92 : decode cX8_findShift 92 = .ok (.aload_n 0, 1) := by decide +kernel
theorem dX8_findShift_93 : decode cX8_findShift 93 = .ok (.getfield 45, 3) := by decide +kernel
theorem dX8_findShift_96 : decode cX8_findShift 96 = .ok (.isub, 1) := by decide +kernel
theorem dX8_findShift_97 : decode cX8_findShift 97 = .ok (.iload_n 3, 1) := by decide +kernel
theorem dX8_findShift_98 : decode cX8_findShift 98 = .ok (.iadd, 1) := by decide +kernel
theorem dX8_findShift_99 : decode cX8_findShift 99 = .ok (.aaload, 1) := by decide +kernel
theorem dX8_findShift_100 : decode cX8_findShift 100 = .ok (.invokevirtual 67, 3) := by decide +kernel
theorem dX8_findShift_103 : decode cX8_findShift 103 = .ok (.aload_n 0, 1) := by decide +kernel
theorem dX8_findShift_104 : decode cX8_findShift 104 = .ok (.getfield 22, 3) := by decide +kernel
theorem dX8_findShift_107 : decode cX8_findShift 107 = .ok (.iload_n 2, 1) := by decide +kernel
theorem dX8_findShift_108 : decode cX8_findShift 108 = .ok (.aaload, 1) := by decide +kernel
theorem dX8_findShift_109 : decode cX8_findShift 109 = .ok (.aload_n 0, 1) := by decide +kernel
theorem dX8_findShift_110 : decode cX8_findShift 110 = .ok (.getfield 32, 3) := by decide +kernel
theorem dX8_findShift_113 : decode cX8_findShift 113 = .ok (.invokevirtual 56, 3) := by decide +kernel
theorem dX8_findShift_116 : decode cX8_findShift 116 = .ok (.iinc 3 1, 3) := by decide +kernel
theorem dX8_findShift_119 : decode cX8_findShift 119 = .ok (.goto (-50), 3) := by decide +kernel
theorem dX8_findShift_122 : decode cX8_findShift 122 = .ok (.iconst 0, 1) := by decide +kernel
theorem dX8_findShift_123 : decode cX8_findShift 123 = .ok (.istore_n 3, 1) := by decide +kernel
theorem dX8_findShift_124 : decode cX8_findShift 124 = .ok (.iload_n 3, 1) := by decide +kernel
theorem dX8_findShift_125 : decode cX8_findShift 125 = .ok (.aload_n 0, 1) := by decide +kernel
theorem dX8_findShift_126 : decode cX8_findShift 126 = .ok (.getfield 45, 3) := by decide +kernel
theorem dX8_findShift_129 : decode cX8_findShift 129 = .ok (.if_icmp .ge 20, 3) := by decide +kernel
theorem dX8_findShift_132 : decode cX8_findShift 132 = .ok (.aload_n 0, 1) := by decide +kernel
theorem dX8_findShift_133 : decode cX8_findShift 133 = .ok (.getfield 17, 3) := by decide +kernel
theorem dX8_findShift_136 : decode cX8_findShift 136 = .ok (.iload_n 2, 1) := by decide +kernel
theorem dX8_findShift_137 : decode cX8_findShift 137 = .ok (.aaload, 1) := by decide +kernel
theorem dX8_findShift_138 : decode cX8_findShift 138 = .ok (.iload_n 3, 1) := by decide +kernel
theorem dX8_findShift_139 : decode cX8_findShift 139 = .ok (.aaload, 1) := by decide +kernel
theorem dX8_findShift_140 : decode cX8_findShift 140 = .ok (.invokevirtual 71, 3) := by decide +kernel
theorem dX8_findShift_143 : decode cX8_findShift 143 = .ok (.iinc 3 1, 3) := by decide +kernel
theorem dX8_findShift_146 : decode cX8_findShift 146 = .ok (.goto (-22), 3) := by decide +kernel
theorem dX8_findShift_149 : decode cX8_findShift 149 = .ok (.iconst 0, 1) := by decide +kernel
theorem dX8_findShift_150 : decode cX8_findShift 150 = .ok (.istore_n 3, 1) := by decide +kernel
theorem dX8_findShift_151 : decode cX8_findShift 151 = .ok (.iload_n 3, 1) := by decide +kernel
theorem dX8_findShift_152 : decode cX8_findShift 152 = .ok (.aload_n 0, 1) := by decide +kernel
theorem dX8_findShift_153 : decode cX8_findShift 153 = .ok (.getfield 45, 3) := by decide +kernel
theorem dX8_findShift_156 : decode cX8_findShift 156 = .ok (.if_icmp .ge 135, 3) := by decide +kernel
theorem dX8_findShift_159 : decode cX8_findShift 159 = .ok (.iconst 0, 1) := by decide +kernel
theorem dX8_findShift_160 : decode cX8_findShift 160 = .ok (.istore 4, 2) := by decide +kernel
theorem dX8_findShift_162 : decode cX8_findShift 162 = .ok (.iload 4, 2) := by decide +kernel
theorem dX8_findShift_164 : decode cX8_findShift 164 = .ok (.aload_n 0, 1) := by decide +kernel
theorem dX8_findShift_165 : decode cX8_findShift 165 = .ok (.getfield 45, 3) := by decide +kernel
theorem dX8_findShift_168 : decode cX8_findShift 168 = .ok (.if_icmp .ge 117, 3) := by decide +kernel
theorem dX8_findShift_171 : decode cX8_findShift 171 = .ok (.aload_n 0, 1) := by decide +kernel
theorem dX8_findShift_172 : decode cX8_findShift 172 = .ok (.getfield 32, 3) := by decide +kernel
theorem dX8_findShift_175 : decode cX8_findShift 175 = .ok (.aload_n 0, 1) := by decide +kernel
theorem dX8_findShift_176 : decode cX8_findShift 176 = .ok (.getfield 26, 3) := by decide +kernel
theorem dX8_findShift_179 : decode cX8_findShift 179 = .ok (.iload_n 3, 1) := by decide +kernel
theorem dX8_findShift_180 : decode cX8_findShift 180 = .ok (.aaload, 1) := by decide +kernel
theorem dX8_findShift_181 : decode cX8_findShift 181 = .ok (.aload_n 0, 1) := by decide +kernel
theorem dX8_findShift_182 : decode cX8_findShift 182 = .ok (.getfield 17, 3) := by decide +kernel
theorem dX8_findShift_185 : decode cX8_findShift 185 = .ok (.iload_n 2, 1) := by decide +kernel
theorem dX8_findShift_186 : decode cX8_findShift 186 = .ok (.aload_n 0, 1) := by decide +kernel
theorem dX8_findShift_187 : decode cX8_findShift 187 = .ok (.getfield 45, 3) := by decide +kernel
theorem dX8_findShift_190 : decode cX8_findShift 190 = .ok (.isub, 1) := by decide +kernel
theorem dX8_findShift_191 : decode cX8_findShift 191 = .ok (.iload_n 3, 1) := by decide +kernel
theorem dX8_findShift_192 : decode cX8_findShift 192 = .ok (.iadd, 1) := by decide +kernel
theorem dX8_findShift_193 : decode cX8_findShift 193 = .ok (.aaload, 1) := by decide +kernel
theorem dX8_findShift_194 : decode cX8_findShift 194 = .ok (.iload 4, 2) := by decide +kernel
theorem dX8_findShift_196 : decode cX8_findShift 196 = .ok (.aaload, 1) := by decide +kernel
theorem dX8_findShift_197 : decode cX8_findShift 197 = .ok (.invokevirtual 67, 3) := by decide +kernel
theorem dX8_findShift_200 : decode cX8_findShift 200 = .ok (.iconst 0, 1) := by decide +kernel
theorem dX8_findShift_201 : decode cX8_findShift 201 = .ok (.istore 5, 2) := by decide +kernel
theorem dX8_findShift_203 : decode cX8_findShift 203 = .ok (.iload 5, 2) := by decide +kernel
theorem dX8_findShift_205 : decode cX8_findShift 205 = .ok (.aload_n 0, 1) := by decide +kernel
theorem dX8_findShift_206 : decode cX8_findShift 206 = .ok (.getfield 45, 3) := by decide +kernel
theorem dX8_findShift_209 : decode cX8_findShift 209 = .ok (.if_icmp .ge 51, 3) := by decide +kernel
theorem dX8_findShift_212 : decode cX8_findShift 212 = .ok (.iload 5, 2) := by decide +kernel
theorem dX8_findShift_214 : decode cX8_findShift 214 = .ok (.iload_n 3, 1) := by decide +kernel
theorem dX8_findShift_215 : decode cX8_findShift 215 = .ok (.if_icmp .eq 39, 3) := by decide +kernel
theorem dX8_findShift_218 : decode cX8_findShift 218 = .ok (.aload_n 0, 1) := by decide +kernel
theorem dX8_findShift_219 : decode cX8_findShift 219 = .ok (.getfield 36, 3) := by decide +kernel
theorem dX8_findShift_222 : decode cX8_findShift 222 = .ok (.aload_n 0, 1) := by decide +kernel
theorem dX8_findShift_223 : decode cX8_findShift 223 = .ok (.getfield 32, 3) := by decide +kernel
theorem dX8_findShift_226 : decode cX8_findShift 226 = .ok (.aload_n 0, 1) := by decide +kernel
theorem dX8_findShift_227 : decode cX8_findShift 227 = .ok (.getfield 22, 3) := by decide +kernel
theorem dX8_findShift_230 : decode cX8_findShift 230 = .ok (.iload_n 2, 1) := by decide +kernel
theorem dX8_findShift_231 : decode cX8_findShift 231 = .ok (.aload_n 0, 1) := by decide +kernel
theorem dX8_findShift_232 : decode cX8_findShift 232 = .ok (.getfield 45, 3) := by decide +kernel
theorem dX8_findShift_235 : decode cX8_findShift 235 = .ok (.isub, 1) := by decide +kernel
theorem dX8_findShift_236 : decode cX8_findShift 236 = .ok (.iload 5, 2) := by decide +kernel
theorem dX8_findShift_238 : decode cX8_findShift 238 = .ok (.iadd, 1) := by decide +kernel
theorem dX8_findShift_239 : decode cX8_findShift 239 = .ok (.aaload, 1) := by decide +kernel
theorem dX8_findShift_240 : decode cX8_findShift 240 = .ok (.invokevirtual 67, 3) := by decide +kernel
theorem dX8_findShift_243 : decode cX8_findShift 243 = .ok (.aload_n 0, 1) := by decide +kernel
theorem dX8_findShift_244 : decode cX8_findShift 244 = .ok (.getfield 32, 3) := by decide +kernel
theorem dX8_findShift_247 : decode cX8_findShift 247 = .ok (.aload_n 0, 1) := by decide +kernel
theorem dX8_findShift_248 : decode cX8_findShift 248 = .ok (.getfield 36, 3) := by decide +kernel
theorem dX8_findShift_251 : decode cX8_findShift 251 = .ok (.invokevirtual 56, 3) := by decide +kernel
theorem dX8_findShift_254 : decode cX8_findShift 254 = .ok (.iinc 5 1, 3) := by decide +kernel
theorem dX8_findShift_257 : decode cX8_findShift 257 = .ok (.goto (-54), 3) := by decide +kernel
theorem dX8_findShift_260 : decode cX8_findShift 260 = .ok (.aload_n 0, 1) := by decide +kernel
theorem dX8_findShift_261 : decode cX8_findShift 261 = .ok (.getfield 17, 3) := by decide +kernel
theorem dX8_findShift_264 : decode cX8_findShift 264 = .ok (.iload_n 2, 1) := by decide +kernel
theorem dX8_findShift_265 : decode cX8_findShift 265 = .ok (.aaload, 1) := by decide +kernel
theorem dX8_findShift_266 : decode cX8_findShift 266 = .ok (.iload 4, 2) := by decide +kernel
theorem dX8_findShift_268 : decode cX8_findShift 268 = .ok (.aaload, 1) := by decide +kernel
theorem dX8_findShift_269 : decode cX8_findShift 269 = .ok (.aload_n 0, 1) := by decide +kernel
theorem dX8_findShift_270 : decode cX8_findShift 270 = .ok (.getfield 32, 3) := by decide +kernel
theorem dX8_findShift_273 : decode cX8_findShift 273 = .ok (.ldc 74, 2) := by decide +kernel
theorem dX8_findShift_275 : decode cX8_findShift 275 = .ok (.iconst 0, 1) := by decide +kernel
theorem dX8_findShift_276 : decode cX8_findShift 276 = .ok (.invokevirtual 75, 3) := by decide +kernel
theorem dX8_findShift_279 : decode cX8_findShift 279 = .ok (.iinc 4 1, 3) := by decide +kernel
theorem dX8_findShift_282 : decode cX8_findShift 282 = .ok (.goto (-120), 3) := by decide +kernel
theorem dX8_findShift_285 : decode cX8_findShift 285 = .ok (.iinc 3 1, 3) := by decide +kernel
theorem dX8_findShift_288 : decode cX8_findShift 288 = .ok (.goto (-137), 3) := by decide +kernel
theorem dX8_findShift_291 : decode cX8_findShift 291 = .ok (.aload_n 0, 1) := by decide +kernel
theorem dX8_findShift_292 : decode cX8_findShift 292 = .ok (.iload_n 2, 1) := by decide +kernel
theorem dX8_findShift_293 : decode cX8_findShift 293 = .ok (.invokevirtual 79, 3) := by decide +kernel
theorem dX8_findShift_296 : decode cX8_findShift 296 = .ok (.return_, 1) := by decide +kernel
theorem dX8_lower_0 : decode cX8_lower 0 = .ok (.aload_n 0, 1) := by decide +kernel
theorem dX8_lower_1 : decode cX8_lower 1 = .ok (.getfield 3, 3) := by decide +kernel
theorem dX8_lower_4 : decode cX8_lower 4 = .ok (.getfield 82, 3) := by decide +kernel
theorem dX8_lower_7 : decode cX8_lower 7 = .ok (.aload_n 0, 1) := by decide +kernel
theorem dX8_lower_8 : decode cX8_lower 8 = .ok (.getfield 22, 3) := by decide +kernel
theorem dX8_lower_11 : decode cX8_lower 11 = .ok (.iload_n 1, 1) := by decide +kernel
theorem dX8_lower_12 : decode cX8_lower 12 = .ok (.aaload, 1) := by decide +kernel
theorem dX8_lower_13 : decode cX8_lower 13 = .ok (.invokevirtual 56, 3) := by decide +kernel
theorem dX8_lower_16 : decode cX8_lower 16 = .ok (.iconst 0, 1) := by decide +kernel
theorem dX8_lower_17 : decode cX8_lower 17 = .ok (.istore_n 2, 1) := by decide +kernel
theorem dX8_lower_18 : decode cX8_lower 18 = .ok (.iload_n 2, 1) := by decide +kernel
theorem dX8_lower_19 : decode cX8_lower 19 = .ok (.aload_n 0, 1) := by decide +kernel
theorem dX8_lower_20 : decode cX8_lower 20 = .ok (.getfield 45, 3) := by decide +kernel
theorem dX8_lower_23 : decode cX8_lower 23 = .ok (.if_icmp .ge 58, 3) := by decide +kernel
theorem dX8_lower_26 : decode cX8_lower 26 = .ok (.aload_n 0, 1) := by decide +kernel
theorem dX8_lower_27 : decode cX8_lower 27 = .ok (.getfield 3, 3) := by decide +kernel
theorem dX8_lower_30 : decode cX8_lower 30 = .ok (.getfield 82, 3) := by decide +kernel
theorem dX8_lower_33 : decode cX8_lower 33 = .ok (.getfield 85, 3) := by decide +kernel
theorem dX8_lower_36 : decode cX8_lower 36 = .ok (.iconst 1, 1) := by decide +kernel
theorem dX8_lower_37 : decode cX8_lower 37 = .ok (.if_icmp .le 44, 3) := by decide +kernel
theorem dX8_lower_40 : decode cX8_lower 40 = .ok (.aload_n 0, 1) := by decide +kernel
theorem dX8_lower_41 : decode cX8_lower 41 = .ok (.getfield 3, 3) := by decide +kernel
theorem dX8_lower_44 : decode cX8_lower 44 = .ok (.getfield 88, 3) := by decide +kernel
theorem dX8_lower_47 : decode cX8_lower 47 = .ok (.getfield 92, 3) := by decide +kernel
theorem dX8_lower_50 : decode cX8_lower 50 = .ok (.aload_n 0, 1) := by decide +kernel
theorem dX8_lower_51 : decode cX8_lower 51 = .ok (.getfield 3, 3) := by decide +kernel
theorem dX8_lower_54 : decode cX8_lower 54 = .ok (.getfield 82, 3) := by decide +kernel
theorem dX8_lower_57 : decode cX8_lower 57 = .ok (.aload_n 0, 1) := by decide +kernel
theorem dX8_lower_58 : decode cX8_lower 58 = .ok (.getfield 17, 3) := by decide +kernel
theorem dX8_lower_61 : decode cX8_lower 61 = .ok (.iload_n 1, 1) := by decide +kernel
theorem dX8_lower_62 : decode cX8_lower 62 = .ok (.aaload, 1) := by decide +kernel
theorem dX8_lower_63 : decode cX8_lower 63 = .ok (.iload_n 2, 1) := by decide +kernel
theorem dX8_lower_64 : decode cX8_lower 64 = .ok (.aaload, 1) := by decide +kernel
theorem dX8_lower_65 : decode cX8_lower 65 = .ok (.aload_n 0, 1) := by decide +kernel
theorem dX8_lower_66 : decode cX8_lower 66 = .ok (.getfield 3, 3) := by decide +kernel
theorem dX8_lower_69 : decode cX8_lower 69 = .ok (.getfield 82, 3) := by decide +kernel
theorem dX8_lower_72 : decode cX8_lower 72 = .ok (.invokevirtual 98, 3) := by decide +kernel
theorem dX8_lower_75 : decode cX8_lower 75 = .ok (.iinc 2 1, 3) := by decide +kernel
theorem dX8_lower_78 : decode cX8_lower 78 = .ok (.goto (-60), 3) := by decide +kernel
theorem dX8_lower_81 : decode cX8_lower 81 = .ok (.aload_n 0, 1) := by decide +kernel
theorem dX8_lower_82 : decode cX8_lower 82 = .ok (.getfield 3, 3) := by decide +kernel
theorem dX8_lower_85 : decode cX8_lower 85 = .ok (.getfield 82, 3) := by decide +kernel
theorem dX8_lower_88 : decode cX8_lower 88 = .ok (.getfield 85, 3) := by decide +kernel
theorem dX8_lower_91 : decode cX8_lower 91 = .ok (.iconst 1, 1) := by decide +kernel
theorem dX8_lower_92 : decode cX8_lower 92 = .ok (.if_icmp .le 73, 3) := by decide +kernel
theorem dX8_lower_95 : decode cX8_lower 95 = .ok (.aload_n 0, 1) := by decide +kernel
theorem dX8_lower_96 : decode cX8_lower 96 = .ok (.getfield 3, 3) := by decide +kernel
theorem dX8_lower_99 : decode cX8_lower 99 = .ok (.getfield 88, 3) := by decide +kernel
theorem dX8_lower_102 : decode cX8_lower 102 = .ok (.getfield 92, 3) := by decide +kernel
theorem dX8_lower_105 : decode cX8_lower 105 = .ok (.aload_n 0, 1) := by decide +kernel
theorem dX8_lower_106 : decode cX8_lower 106 = .ok (.getfield 22, 3) := by decide +kernel
theorem dX8_lower_109 : decode cX8_lower 109 = .ok (.iload_n 1, 1) := by decide +kernel
theorem dX8_lower_110 : decode cX8_lower 110 = .ok (.aaload, 1) := by decide +kernel
theorem dX8_lower_111 : decode cX8_lower 111 = .ok (.aload_n 0, 1) := by decide +kernel
theorem dX8_lower_112 : decode cX8_lower 112 = .ok (.getfield 3, 3) := by decide +kernel
theorem dX8_lower_115 : decode cX8_lower 115 = .ok (.getfield 82, 3) := by decide +kernel
theorem dX8_lower_118 : decode cX8_lower 118 = .ok (.invokevirtual 104, 3) := by decide +kernel
theorem dX8_lower_121 : decode cX8_lower 121 = .ok (.iconst 0, 1) := by decide +kernel
theorem dX8_lower_122 : decode cX8_lower 122 = .ok (.istore_n 2, 1) := by decide +kernel
theorem dX8_lower_123 : decode cX8_lower 123 = .ok (.iload_n 2, 1) := by decide +kernel
theorem dX8_lower_124 : decode cX8_lower 124 = .ok (.aload_n 0, 1) := by decide +kernel
theorem dX8_lower_125 : decode cX8_lower 125 = .ok (.getfield 45, 3) := by decide +kernel
theorem dX8_lower_128 : decode cX8_lower 128 = .ok (.if_icmp .ge 37, 3) := by decide +kernel
theorem dX8_lower_131 : decode cX8_lower 131 = .ok (.aload_n 0, 1) := by decide +kernel
theorem dX8_lower_132 : decode cX8_lower 132 = .ok (.getfield 3, 3) := by decide +kernel
theorem dX8_lower_135 : decode cX8_lower 135 = .ok (.getfield 88, 3) := by decide +kernel
theorem dX8_lower_138 : decode cX8_lower 138 = .ok (.getfield 92, 3) := by decide +kernel
theorem dX8_lower_141 : decode cX8_lower 141 = .ok (.aload_n 0, 1) := by decide +kernel
theorem dX8_lower_142 : decode cX8_lower 142 = .ok (.getfield 17, 3) := by decide +kernel
theorem dX8_lower_145 : decode cX8_lower 145 = .ok (.iload_n 1, 1) := by decide +kernel
theorem dX8_lower_146 : decode cX8_lower 146 = .ok (.aaload, 1) := by decide +kernel
theorem dX8_lower_147 : decode cX8_lower 147 = .ok (.iload_n 2, 1) := by decide +kernel
theorem dX8_lower_148 : decode cX8_lower 148 = .ok (.aaload, 1) := by decide +kernel
theorem dX8_lower_149 : decode cX8_lower 149 = .ok (.aload_n 0, 1) := by decide +kernel
theorem dX8_lower_150 : decode cX8_lower 150 = .ok (.getfield 3, 3) := by decide +kernel
theorem dX8_lower_153 : decode cX8_lower 153 = .ok (.getfield 82, 3) := by decide +kernel
theorem dX8_lower_156 : decode cX8_lower 156 = .ok (.invokevirtual 104, 3) := by decide +kernel
theorem dX8_lower_159 : decode cX8_lower 159 = .ok (.iinc 2 1, 3) := by decide +kernel
theorem dX8_lower_162 : decode cX8_lower 162 = .ok (.goto (-39), 3) := by decide +kernel
theorem dX8_lower_165 : decode cX8_lower 165 = .ok (.return_, 1) := by decide +kernel
abbrev W_X8_find (g : GX) (d : Nat) (av : List Value) (Q : QT) (n : Nat) (pc : Nat) (ls : LV) (stk : List Value) (h : Hp) : Prop := RJ g m_X8_find (d + 1) 0 0 av Q pc ls stk n h 0 0
theorem s_X8_find_0 {g : GX} {d : Nat} {av : List Value} {Q : QT} {n : Nat} {h : Hp} {a0 : Nat} {a1 : Nat} (hp : g.2.2.2.2 = true) (t0 : isSh a0) (t1 : lay a1 = (0, 9, 8)) (H : ∀ h1, h1 = wi h a0 4 (ri h a1 3) → (W_X8_find g d av Q n 10 [some (.ref a0), some (.ref a1), some (.int (0 : Int32)), none] [] h1)) : W_X8_find g d av Q n 0 [some (.ref a0), some (.ref a1), none, none] [] h := by
  refine r_aload_n dX8_find_0 rfl rfl ?_
  refine r_aload_n dX8_find_1 rfl rfl ?_
  refine m_getI hp fw_X8_39 dX8_find_2 rfl t1 ?_
  refine m_putI hp fw_X8_45 dX8_find_5 rfl rfl (lsh t0) (fun h1 eh1 => ?_)
  replace H := H h1 eh1
  refine r_iconst (v := (0 : Int32)) dX8_find_8 rfl ?_
  refine r_istore_n (ls2 := [some (.ref a0), some (.ref a1), some (.int (0 : Int32)), none]) dX8_find_9 rfl (by decide) rfl ?_
  exact H
theorem s_X8_find_10 {g : GX} {d : Nat} {av : List Value} {Q : QT} {n : Nat} {h : Hp} {a0 : Nat} {a1 : Nat} {x2 : Int32} (hp : g.2.2.2.2 = true) (t0 : isSh a0) (t1 : lay a1 = (0, 9, 8)) (H : (((6 : Int32) < x2) → (Q none n h)) ∧ ((¬ (6 : Int32) < x2) → (W_X8_find g d av Q n 18 [some (.ref a0), some (.ref a1), some (.int x2), some (.int (0 : Int32))] [] h))) : W_X8_find g d av Q n 10 [some (.ref a0), some (.ref a1), some (.int x2), none] [] h := by
  refine r_iload_n dX8_find_10 rfl rfl ?_
  refine r_bipush (v := (6 : Int32)) dX8_find_11 rfl ?_
  refine r_icmp_gt (tgt := 83) dX8_find_13 rfl (fun cH => ?_) (fun cH => ?_)
  · replace H := H.1 cH
    exact r_vret dX8_find_83 rfl (Nat.le_refl _) (Nat.le_refl _) H
  · replace H := H.2 cH
    refine r_iconst (v := (0 : Int32)) dX8_find_16 rfl ?_
    refine r_istore_n (ls2 := [some (.ref a0), some (.ref a1), some (.int x2), some (.int (0 : Int32))]) dX8_find_17 rfl (by decide) rfl ?_
    exact H
theorem s_X8_find_18 {g : GX} {d : Nat} {av : List Value} {Q : QT} {n : Nat} {h : Hp} {a0 : Nat} {a1 : Nat} {x2 : Int32} {x3 : Int32} (hp : g.2.2.2.2 = true) (t0 : isSh a0) (t1 : lay a1 = (0, 9, 8)) (H : (((ri h a0 4) ≤ x3) → (vp_in x2 7 ∧ ∃ r1, rr h (a0 + 9) (x2).toNatClampNeg = some r1 ∧ lay r1 = (0, 3, 2) ∧ (CallV g m_X3_set d [.ref r1, .int (1 : Int32)] n h (fun h2 => (((x2 < (ri h2 a0 4)) → (W_X8_find g d av Q n 77 [some (.ref a0), some (.ref a1), some (.int x2), none] [] h2)) ∧ ((¬ x2 < (ri h2 a0 4)) → (CallV g m_X8_findShift d [.ref a0, .ref a1, .int x2] n h2 (fun h3 => (W_X8_find g d av Q n 77 [some (.ref a0), some (.ref a1), some (.int x2), none] [] h3))))))))) ∧ ((¬ (ri h a0 4) ≤ x3) → (vp_in x2 7 ∧ ∃ r4 Lr4, rr h (a0 + 1) (x2).toNatClampNeg = some r4 ∧ (lay r4 = (2, Lr4, 3) ∧ r4 < N0) ∧ (vp_in x3 Lr4 ∧ ∃ r5, rr h r4 (x3).toNatClampNeg = some r5 ∧ lay r5 = (0, 3, 2) ∧ (((¬ x2 = x3) → (W_X8_find g d av Q n 44 [some (.ref a0), some (.ref a1), some (.int x2), some (.int x3)] [.int (0 : Int32), .ref r5] h)) ∧ ((x2 = x3) → (W_X8_find g d av Q n 44 [some (.ref a0), some (.ref a1), some (.int x2), some (.int x3)] [.int (1 : Int32), .ref r5] h))))))) : W_X8_find g d av Q n 18 [some (.ref a0), some (.ref a1), some (.int x2), some (.int x3)] [] h := by
  refine r_iload_n dX8_find_18 rfl rfl ?_
  refine r_aload_n dX8_find_19 rfl rfl ?_
  refine m_getI hp fw_X8_45 dX8_find_20 rfl (lsh t0) ?_
  refine r_icmp_ge (tgt := 53) dX8_find_23 rfl (fun cH => ?_) (fun cH => ?_)
  · replace H := H.1 cH
    refine r_aload_n dX8_find_53 rfl rfl ?_
    refine m_getF (x := (a0 + 9)) hp fw_X8_22 dX8_find_54 rfl (lsh t0) (ff_8_1 t0) ?_
    refine r_iload_n dX8_find_57 rfl rfl ?_
    have hir1 := H.1
    obtain ⟨r1, er1, tr1, H⟩ := H.2
    refine m_aalM (x := r1) hp dX8_find_58 (lf_8_1 t0) rfl rfl (lu_8_1 t0) hir1 er1 ?_
    refine r_iconst (v := (1 : Int32)) dX8_find_59 rfl ?_
    refine k_VV (As := [.int (1 : Int32)]) (stk := []) hp cv_X8_46 dX8_find_60 rfl (Nat.le_of_ble_eq_true rfl) tr1 (H.mono (fun h2 H => ?_)) ⟨Nat.le_refl _, Nat.le_refl _⟩
    refine r_iload_n dX8_find_63 rfl rfl ?_
    refine r_aload_n dX8_find_64 rfl rfl ?_
    refine m_getI hp fw_X8_45 dX8_find_65 rfl (lsh t0) ?_
    refine r_icmp_lt (tgt := 77) dX8_find_68 rfl (fun cH => ?_) (fun cH => ?_)
    · replace H := H.1 cH
      refine r_prune [true, true, true, false] (ls2 := [some (.ref a0), some (.ref a1), some (.int x2), none]) rfl ?_
      exact H
    · replace H := H.2 cH
      refine r_aload_n dX8_find_71 rfl rfl ?_
      refine r_aload_n dX8_find_72 rfl rfl ?_
      refine r_iload_n dX8_find_73 rfl rfl ?_
      refine k_VV (As := [.ref a1, .int x2]) (stk := []) hp cv_X8_49 dX8_find_74 rfl (Nat.le_of_ble_eq_true rfl) (lsh t0) (H.mono (fun h3 H => ?_)) ⟨Nat.le_refl _, Nat.le_refl _⟩
      refine r_prune [true, true, true, false] (ls2 := [some (.ref a0), some (.ref a1), some (.int x2), none]) rfl ?_
      exact H
  · replace H := H.2 cH
    refine r_aload_n dX8_find_26 rfl rfl ?_
    refine m_getF (x := (a0 + 1)) hp fw_X8_17 dX8_find_27 rfl (lsh t0) (ff_8_0 t0) ?_
    refine r_iload_n dX8_find_30 rfl rfl ?_
    have hir4 := H.1
    obtain ⟨r4, Lr4, er4, tr4, H⟩ := H.2
    refine m_aalM (x := r4) hp dX8_find_31 (lf_8_0 t0) rfl rfl (lu_8_0 t0) hir4 er4 ?_
    refine r_iload_n dX8_find_32 rfl rfl ?_
    have hir5 := H.1
    obtain ⟨r5, er5, tr5, H⟩ := H.2
    refine m_aalM (x := r5) hp dX8_find_33 tr4.1 rfl rfl tr4.2 hir5 er5 ?_
    refine r_iload_n dX8_find_34 rfl rfl ?_
    refine r_iload_n dX8_find_35 rfl rfl ?_
    refine r_icmp_ne (tgt := 43) dX8_find_36 rfl (fun cH => ?_) (fun cH => ?_)
    · replace H := H.1 cH
      refine r_iconst (v := (0 : Int32)) dX8_find_43 rfl ?_
      exact H
    · replace H := H.2 cH
      refine r_iconst (v := (1 : Int32)) dX8_find_39 rfl ?_
      refine r_goto (tgt := 44) dX8_find_40 rfl ?_
      exact H
theorem s_X8_find_44 {g : GX} {d : Nat} {av : List Value} {Q : QT} {n : Nat} {h : Hp} {a0 : Nat} {a1 : Nat} {x2 : Int32} {x3 : Int32} {xs0 : Int32} {as1 : Nat} (hp : g.2.2.2.2 = true) (t0 : isSh a0) (t1 : lay a1 = (0, 9, 8)) (ts1 : lay as1 = (0, 3, 2)) (H : CallV g m_X3_set d [.ref as1, .int xs0] n h (fun h1 => (W_X8_find g d av Q n 18 [some (.ref a0), some (.ref a1), some (.int x2), some (.int (x3 + (1 : Int32)))] [] h1))) : W_X8_find g d av Q n 44 [some (.ref a0), some (.ref a1), some (.int x2), some (.int x3)] [.int xs0, .ref as1] h := by
  refine k_VV (As := [.int xs0]) (stk := []) hp cv_X8_46 dX8_find_44 rfl (Nat.le_of_ble_eq_true rfl) ts1 (H.mono (fun h1 H => ?_)) ⟨Nat.le_refl _, Nat.le_refl _⟩
  refine r_iinc (v := (x3 + (1 : Int32))) (ls2 := [some (.ref a0), some (.ref a1), some (.int x2), some (.int (x3 + (1 : Int32)))]) dX8_find_47 rfl rfl (by decide) rfl ?_
  refine r_goto (tgt := 18) dX8_find_50 rfl ?_
  exact H
theorem s_X8_find_77 {g : GX} {d : Nat} {av : List Value} {Q : QT} {n : Nat} {h : Hp} {a0 : Nat} {a1 : Nat} {x2 : Int32} (hp : g.2.2.2.2 = true) (t0 : isSh a0) (t1 : lay a1 = (0, 9, 8)) (H : W_X8_find g d av Q n 10 [some (.ref a0), some (.ref a1), some (.int (x2 + (1 : Int32))), none] [] h) : W_X8_find g d av Q n 77 [some (.ref a0), some (.ref a1), some (.int x2), none] [] h := by
  refine r_iinc (v := (x2 + (1 : Int32))) (ls2 := [some (.ref a0), some (.ref a1), some (.int (x2 + (1 : Int32))), none]) dX8_find_77 rfl rfl (by decide) rfl ?_
  refine r_goto (tgt := 10) dX8_find_80 rfl ?_
  exact H
abbrev W_X8_findShift (g : GX) (d : Nat) (av : List Value) (Q : QT) (n : Nat) (pc : Nat) (ls : LV) (stk : List Value) (h : Hp) : Prop := RJ g m_X8_findShift (d + 1) 0 0 av Q pc ls stk n h 0 0
theorem s_X8_findShift_0 {g : GX} {d : Nat} {av : List Value} {Q : QT} {n : Nat} {h : Hp} {a0 : Nat} {a1 : Nat} {x2 : Int32} (hp : g.2.2.2.2 = true) (t0 : isSh a0) (t1 : lay a1 = (0, 9, 8)) (H : W_X8_findShift g d av Q n 2 [some (.ref a0), some (.ref a1), some (.int x2), some (.int (0 : Int32)), none, none] [] h) : W_X8_findShift g d av Q n 0 [some (.ref a0), some (.ref a1), some (.int x2), none, none, none] [] h := by
  refine r_iconst (v := (0 : Int32)) dX8_findShift_0 rfl ?_
  refine r_istore_n (ls2 := [some (.ref a0), some (.ref a1), some (.int x2), some (.int (0 : Int32)), none, none]) dX8_findShift_1 rfl (by decide) rfl ?_
  exact H
theorem s_X8_findShift_2 {g : GX} {d : Nat} {av : List Value} {Q : QT} {n : Nat} {h : Hp} {a0 : Nat} {a1 : Nat} {x2 : Int32} {x3 : Int32} (hp : g.2.2.2.2 = true) (t0 : isSh a0) (t1 : lay a1 = (0, 9, 8)) (H : (((ri h a0 4) < x3) → (vp_in x2 7 ∧ ∃ r1, rr h (a0 + 9) (x2).toNatClampNeg = some r1 ∧ lay r1 = (0, 3, 2) ∧ (vp_in (ri h a0 4) 7 ∧ ∃ r2, rr h (a0 + 10) ((ri h a0 4)).toNatClampNeg = some r2 ∧ lay r2 = (0, 3, 2) ∧ (CallV g m_X3_copy d [.ref r1, .ref r2] n h (fun h3 => (W_X8_findShift g d av Q n 69 [some (.ref a0), none, some (.int x2), some (.int (0 : Int32)), none, none] [] h3)))))) ∧ ((¬ (ri h a0 4) < x3) → (vp_in x3 7 ∧ ∃ r4, rr h (a0 + 10) (x3).toNatClampNeg = some r4 ∧ lay r4 = (0, 3, 2) ∧ (vp_in x3 7 ∧ ∀ r5, r5 = (a1 + 13) + 2 * (x3).toNatClampNeg → (CallV g m_X3_copy d [.ref r4, .ref r5] n h (fun h6 => (vp_in x3 7 ∧ ∃ r7, rr h6 (a0 + 10) (x3).toNatClampNeg = some r7 ∧ lay r7 = (0, 3, 2) ∧ (CallI g m_X0_rest d [.int (x2 - (ri h6 a0 4))] n h6 (fun v8 h8 => (CallV g m_X3_shift d [.ref r7, .int v8] n h8 (fun h9 => (W_X8_findShift g d av Q n 2 [some (.ref a0), some (.ref a1), some (.int x2), some (.int (x3 + (1 : Int32))), none, none] [] h9)))))))))))) : W_X8_findShift g d av Q n 2 [some (.ref a0), some (.ref a1), some (.int x2), some (.int x3), none, none] [] h := by
  refine r_iload_n dX8_findShift_2 rfl rfl ?_
  refine r_aload_n dX8_findShift_3 rfl rfl ?_
  refine m_getI hp fw_X8_45 dX8_findShift_4 rfl (lsh t0) ?_
  refine r_icmp_gt (tgt := 49) dX8_findShift_7 rfl (fun cH => ?_) (fun cH => ?_)
  · replace H := H.1 cH
    refine r_aload_n dX8_findShift_49 rfl rfl ?_
    refine m_getF (x := (a0 + 9)) hp fw_X8_22 dX8_findShift_50 rfl (lsh t0) (ff_8_1 t0) ?_
    refine r_iload_n dX8_findShift_53 rfl rfl ?_
    have hir1 := H.1
    obtain ⟨r1, er1, tr1, H⟩ := H.2
    refine m_aalM (x := r1) hp dX8_findShift_54 (lf_8_1 t0) rfl rfl (lu_8_1 t0) hir1 er1 ?_
    refine r_aload_n dX8_findShift_55 rfl rfl ?_
    refine m_getF (x := (a0 + 10)) hp fw_X8_26 dX8_findShift_56 rfl (lsh t0) (ff_8_2 t0) ?_
    refine r_aload_n dX8_findShift_59 rfl rfl ?_
    refine m_getI hp fw_X8_45 dX8_findShift_60 rfl (lsh t0) ?_
    have hir2 := H.1
    obtain ⟨r2, er2, tr2, H⟩ := H.2
    refine m_aalM (x := r2) hp dX8_findShift_63 (lf_8_2 t0) rfl rfl (lu_8_2 t0) hir2 er2 ?_
    refine k_VV (As := [.ref r2]) (stk := []) hp cv_X8_56 dX8_findShift_64 rfl (Nat.le_of_ble_eq_true rfl) tr1 (H.mono (fun h3 H => ?_)) ⟨Nat.le_refl _, Nat.le_refl _⟩
    refine r_iconst (v := (0 : Int32)) dX8_findShift_67 rfl ?_
    refine r_istore_n (ls2 := [some (.ref a0), some (.ref a1), some (.int x2), some (.int (0 : Int32)), none, none]) dX8_findShift_68 rfl (by decide) rfl ?_
    refine r_prune [true, false, true, true, false, false] (ls2 := [some (.ref a0), none, some (.int x2), some (.int (0 : Int32)), none, none]) rfl ?_
    exact H
  · replace H := H.2 cH
    refine r_aload_n dX8_findShift_10 rfl rfl ?_
    refine m_getF (x := (a0 + 10)) hp fw_X8_26 dX8_findShift_11 rfl (lsh t0) (ff_8_2 t0) ?_
    refine r_iload_n dX8_findShift_14 rfl rfl ?_
    have hir4 := H.1
    obtain ⟨r4, er4, tr4, H⟩ := H.2
    refine m_aalM (x := r4) hp dX8_findShift_15 (lf_8_2 t0) rfl rfl (lu_8_2 t0) hir4 er4 ?_
    refine r_aload_n dX8_findShift_16 rfl rfl ?_
    refine m_getF (x := (a1 + 11)) hp fw_X8_53 dX8_findShift_17 rfl t1 (ff_9_2 t1) ?_
    refine r_iload_n dX8_findShift_20 rfl rfl ?_
    obtain ⟨r5, er5⟩ : ∃ y, y = (a1 + 13) + 2 * (x3).toNatClampNeg := ⟨_, rfl⟩
    have hir5 := H.1
    replace H := H.2 r5 er5
    have tLr5 := le_9 t1 hir5 er5
    refine m_aalF (x := r5) hp dX8_findShift_21 (lf_9_2 t1) rfl rfl (lu_9_2 t1) hir5 (fe_9 t1 hir5 er5) ?_
    refine k_VV (As := [.ref r5]) (stk := []) hp cv_X8_56 dX8_findShift_22 rfl (Nat.le_of_ble_eq_true rfl) tr4 (H.mono (fun h6 H => ?_)) ⟨Nat.le_refl _, Nat.le_refl _⟩
    refine r_aload_n dX8_findShift_25 rfl rfl ?_
    refine m_getF (x := (a0 + 10)) hp fw_X8_26 dX8_findShift_26 rfl (lsh t0) (ff_8_2 t0) ?_
    refine r_iload_n dX8_findShift_29 rfl rfl ?_
    have hir7 := H.1
    obtain ⟨r7, er7, tr7, H⟩ := H.2
    refine m_aalM (x := r7) hp dX8_findShift_30 (lf_8_2 t0) rfl rfl (lu_8_2 t0) hir7 er7 ?_
    refine r_iload_n dX8_findShift_31 rfl rfl ?_
    refine r_aload_n dX8_findShift_32 rfl rfl ?_
    refine m_getI hp fw_X8_45 dX8_findShift_33 rfl (lsh t0) ?_
    refine r_isub dX8_findShift_36 ?_
    refine k_SI (As := [.int (x2 - (ri h6 a0 4))]) (stk := [.ref r7]) cs_X8_60 dX8_findShift_37 rfl (Nat.le_of_ble_eq_true rfl) (H.mono (fun v8 h8 H => ?_)) ⟨Nat.le_refl _, Nat.le_refl _⟩
    refine k_VV (As := [.int v8]) (stk := []) hp cv_X8_64 dX8_findShift_40 rfl (Nat.le_of_ble_eq_true rfl) tr7 (H.mono (fun h9 H => ?_)) ⟨Nat.le_refl _, Nat.le_refl _⟩
    refine r_iinc (v := (x3 + (1 : Int32))) (ls2 := [some (.ref a0), some (.ref a1), some (.int x2), some (.int (x3 + (1 : Int32))), none, none]) dX8_findShift_43 rfl rfl (by decide) rfl ?_
    refine r_goto (tgt := 2) dX8_findShift_46 rfl ?_
    exact H
theorem s_X8_findShift_69 {g : GX} {d : Nat} {av : List Value} {Q : QT} {n : Nat} {h : Hp} {a0 : Nat} {x2 : Int32} {x3 : Int32} (hp : g.2.2.2.2 = true) (t0 : isSh a0) (H : (((ri h a0 4) ≤ x3) → (W_X8_findShift g d av Q n 124 [some (.ref a0), none, some (.int x2), some (.int (0 : Int32)), none, none] [] h)) ∧ ((¬ (ri h a0 4) ≤ x3) → (vp_in x2 7 ∧ ∃ r1, rr h (a0 + 9) (x2).toNatClampNeg = some r1 ∧ lay r1 = (0, 3, 2) ∧ (vp_in ((x2 - (ri h a0 4)) + x3) 7 ∧ ∃ r2, rr h (a0 + 9) (((x2 - (ri h a0 4)) + x3)).toNatClampNeg = some r2 ∧ lay r2 = (0, 3, 2) ∧ (CallV g m_X3_product d [.ref (a0 + 11), .ref r1, .ref r2] n h (fun h3 => (vp_in x2 7 ∧ ∃ r4, rr h3 (a0 + 9) (x2).toNatClampNeg = some r4 ∧ lay r4 = (0, 3, 2) ∧ (CallV g m_X3_copy d [.ref r4, .ref (a0 + 11)] n h3 (fun h5 => (W_X8_findShift g d av Q n 69 [some (.ref a0), none, some (.int x2), some (.int (x3 + (1 : Int32))), none, none] [] h5)))))))))) : W_X8_findShift g d av Q n 69 [some (.ref a0), none, some (.int x2), some (.int x3), none, none] [] h := by
  refine r_iload_n dX8_findShift_69 rfl rfl ?_
  refine r_aload_n dX8_findShift_70 rfl rfl ?_
  refine m_getI hp fw_X8_45 dX8_findShift_71 rfl (lsh t0) ?_
  refine r_icmp_ge (tgt := 122) dX8_findShift_74 rfl (fun cH => ?_) (fun cH => ?_)
  · replace H := H.1 cH
    refine r_iconst (v := (0 : Int32)) dX8_findShift_122 rfl ?_
    refine r_istore_n (ls2 := [some (.ref a0), none, some (.int x2), some (.int (0 : Int32)), none, none]) dX8_findShift_123 rfl (by decide) rfl ?_
    exact H
  · replace H := H.2 cH
    refine r_aload_n dX8_findShift_77 rfl rfl ?_
    refine m_getF (x := (a0 + 11)) hp fw_X8_32 dX8_findShift_78 rfl (lsh t0) (ff_8_3 t0) ?_
    refine r_aload_n dX8_findShift_81 rfl rfl ?_
    refine m_getF (x := (a0 + 9)) hp fw_X8_22 dX8_findShift_82 rfl (lsh t0) (ff_8_1 t0) ?_
    refine r_iload_n dX8_findShift_85 rfl rfl ?_
    have hir1 := H.1
    obtain ⟨r1, er1, tr1, H⟩ := H.2
    refine m_aalM (x := r1) hp dX8_findShift_86 (lf_8_1 t0) rfl rfl (lu_8_1 t0) hir1 er1 ?_
    refine r_aload_n dX8_findShift_87 rfl rfl ?_
    refine m_getF (x := (a0 + 9)) hp fw_X8_22 dX8_findShift_88 rfl (lsh t0) (ff_8_1 t0) ?_
    refine r_iload_n dX8_findShift_91 rfl rfl ?_
    refine r_aload_n dX8_findShift_92 rfl rfl ?_
    refine m_getI hp fw_X8_45 dX8_findShift_93 rfl (lsh t0) ?_
    refine r_isub dX8_findShift_96 ?_
    refine r_iload_n dX8_findShift_97 rfl rfl ?_
    refine r_iadd dX8_findShift_98 ?_
    have hir2 := H.1
    obtain ⟨r2, er2, tr2, H⟩ := H.2
    refine m_aalM (x := r2) hp dX8_findShift_99 (lf_8_1 t0) rfl rfl (lu_8_1 t0) hir2 er2 ?_
    refine k_VV (As := [.ref r1, .ref r2]) (stk := []) hp cv_X8_67 dX8_findShift_100 rfl (Nat.le_of_ble_eq_true rfl) (lf_8_3 t0) (H.mono (fun h3 H => ?_)) ⟨Nat.le_refl _, Nat.le_refl _⟩
    refine r_aload_n dX8_findShift_103 rfl rfl ?_
    refine m_getF (x := (a0 + 9)) hp fw_X8_22 dX8_findShift_104 rfl (lsh t0) (ff_8_1 t0) ?_
    refine r_iload_n dX8_findShift_107 rfl rfl ?_
    have hir4 := H.1
    obtain ⟨r4, er4, tr4, H⟩ := H.2
    refine m_aalM (x := r4) hp dX8_findShift_108 (lf_8_1 t0) rfl rfl (lu_8_1 t0) hir4 er4 ?_
    refine r_aload_n dX8_findShift_109 rfl rfl ?_
    refine m_getF (x := (a0 + 11)) hp fw_X8_32 dX8_findShift_110 rfl (lsh t0) (ff_8_3 t0) ?_
    refine k_VV (As := [.ref (a0 + 11)]) (stk := []) hp cv_X8_56 dX8_findShift_113 rfl (Nat.le_of_ble_eq_true rfl) tr4 (H.mono (fun h5 H => ?_)) ⟨Nat.le_refl _, Nat.le_refl _⟩
    refine r_iinc (v := (x3 + (1 : Int32))) (ls2 := [some (.ref a0), none, some (.int x2), some (.int (x3 + (1 : Int32))), none, none]) dX8_findShift_116 rfl rfl (by decide) rfl ?_
    refine r_goto (tgt := 69) dX8_findShift_119 rfl ?_
    exact H
theorem s_X8_findShift_124 {g : GX} {d : Nat} {av : List Value} {Q : QT} {n : Nat} {h : Hp} {a0 : Nat} {x2 : Int32} {x3 : Int32} (hp : g.2.2.2.2 = true) (t0 : isSh a0) (H : (((ri h a0 4) ≤ x3) → (W_X8_findShift g d av Q n 151 [some (.ref a0), none, some (.int x2), some (.int (0 : Int32)), none, none] [] h)) ∧ ((¬ (ri h a0 4) ≤ x3) → (vp_in x2 7 ∧ ∃ r1 Lr1, rr h (a0 + 1) (x2).toNatClampNeg = some r1 ∧ (lay r1 = (2, Lr1, 3) ∧ r1 < N0) ∧ (vp_in x3 Lr1 ∧ ∃ r2, rr h r1 (x3).toNatClampNeg = some r2 ∧ lay r2 = (0, 3, 2) ∧ (CallV g m_X3_clear d [.ref r2] n h (fun h3 => (W_X8_findShift g d av Q n 124 [some (.ref a0), none, some (.int x2), some (.int (x3 + (1 : Int32))), none, none] [] h3))))))) : W_X8_findShift g d av Q n 124 [some (.ref a0), none, some (.int x2), some (.int x3), none, none] [] h := by
  refine r_iload_n dX8_findShift_124 rfl rfl ?_
  refine r_aload_n dX8_findShift_125 rfl rfl ?_
  refine m_getI hp fw_X8_45 dX8_findShift_126 rfl (lsh t0) ?_
  refine r_icmp_ge (tgt := 149) dX8_findShift_129 rfl (fun cH => ?_) (fun cH => ?_)
  · replace H := H.1 cH
    refine r_iconst (v := (0 : Int32)) dX8_findShift_149 rfl ?_
    refine r_istore_n (ls2 := [some (.ref a0), none, some (.int x2), some (.int (0 : Int32)), none, none]) dX8_findShift_150 rfl (by decide) rfl ?_
    exact H
  · replace H := H.2 cH
    refine r_aload_n dX8_findShift_132 rfl rfl ?_
    refine m_getF (x := (a0 + 1)) hp fw_X8_17 dX8_findShift_133 rfl (lsh t0) (ff_8_0 t0) ?_
    refine r_iload_n dX8_findShift_136 rfl rfl ?_
    have hir1 := H.1
    obtain ⟨r1, Lr1, er1, tr1, H⟩ := H.2
    refine m_aalM (x := r1) hp dX8_findShift_137 (lf_8_0 t0) rfl rfl (lu_8_0 t0) hir1 er1 ?_
    refine r_iload_n dX8_findShift_138 rfl rfl ?_
    have hir2 := H.1
    obtain ⟨r2, er2, tr2, H⟩ := H.2
    refine m_aalM (x := r2) hp dX8_findShift_139 tr1.1 rfl rfl tr1.2 hir2 er2 ?_
    refine k_VV (As := []) (stk := []) hp cv_X8_71 dX8_findShift_140 rfl (Nat.le_of_ble_eq_true rfl) tr2 (H.mono (fun h3 H => ?_)) ⟨Nat.le_refl _, Nat.le_refl _⟩
    refine r_iinc (v := (x3 + (1 : Int32))) (ls2 := [some (.ref a0), none, some (.int x2), some (.int (x3 + (1 : Int32))), none, none]) dX8_findShift_143 rfl rfl (by decide) rfl ?_
    refine r_goto (tgt := 124) dX8_findShift_146 rfl ?_
    exact H
theorem s_X8_findShift_151 {g : GX} {d : Nat} {av : List Value} {Q : QT} {n : Nat} {h : Hp} {a0 : Nat} {x2 : Int32} {x3 : Int32} (hp : g.2.2.2.2 = true) (t0 : isSh a0) (H : (((ri h a0 4) ≤ x3) → (CallV g m_X8_lower d [.ref a0, .int x2] n h (fun h1 => (Q none n h1)))) ∧ ((¬ (ri h a0 4) ≤ x3) → (W_X8_findShift g d av Q n 162 [some (.ref a0), none, some (.int x2), some (.int x3), some (.int (0 : Int32)), none] [] h))) : W_X8_findShift g d av Q n 151 [some (.ref a0), none, some (.int x2), some (.int x3), none, none] [] h := by
  refine r_iload_n dX8_findShift_151 rfl rfl ?_
  refine r_aload_n dX8_findShift_152 rfl rfl ?_
  refine m_getI hp fw_X8_45 dX8_findShift_153 rfl (lsh t0) ?_
  refine r_icmp_ge (tgt := 291) dX8_findShift_156 rfl (fun cH => ?_) (fun cH => ?_)
  · replace H := H.1 cH
    refine r_aload_n dX8_findShift_291 rfl rfl ?_
    refine r_iload_n dX8_findShift_292 rfl rfl ?_
    refine k_VV (As := [.int x2]) (stk := []) hp cv_X8_79 dX8_findShift_293 rfl (Nat.le_of_ble_eq_true rfl) (lsh t0) (H.mono (fun h1 H => ?_)) ⟨Nat.le_refl _, Nat.le_refl _⟩
    exact r_vret dX8_findShift_296 rfl (Nat.le_refl _) (Nat.le_refl _) H
  · replace H := H.2 cH
    refine r_iconst (v := (0 : Int32)) dX8_findShift_159 rfl ?_
    refine r_istore (ls2 := [some (.ref a0), none, some (.int x2), some (.int x3), some (.int (0 : Int32)), none]) dX8_findShift_160 (by decide) rfl ?_
    exact H
theorem s_X8_findShift_162 {g : GX} {d : Nat} {av : List Value} {Q : QT} {n : Nat} {h : Hp} {a0 : Nat} {x2 : Int32} {x3 : Int32} {x4 : Int32} (hp : g.2.2.2.2 = true) (t0 : isSh a0) (H : (((ri h a0 4) ≤ x4) → (W_X8_findShift g d av Q n 151 [some (.ref a0), none, some (.int x2), some (.int (x3 + (1 : Int32))), none, none] [] h)) ∧ ((¬ (ri h a0 4) ≤ x4) → (vp_in x3 7 ∧ ∃ r1, rr h (a0 + 10) (x3).toNatClampNeg = some r1 ∧ lay r1 = (0, 3, 2) ∧ (vp_in ((x2 - (ri h a0 4)) + x3) 7 ∧ ∃ r2 Lr2, rr h (a0 + 1) (((x2 - (ri h a0 4)) + x3)).toNatClampNeg = some r2 ∧ (lay r2 = (2, Lr2, 3) ∧ r2 < N0) ∧ (vp_in x4 Lr2 ∧ ∃ r3, rr h r2 (x4).toNatClampNeg = some r3 ∧ lay r3 = (0, 3, 2) ∧ (CallV g m_X3_product d [.ref (a0 + 11), .ref r1, .ref r3] n h (fun h4 => (W_X8_findShift g d av Q n 203 [some (.ref a0), none, some (.int x2), some (.int x3), some (.int x4), some (.int (0 : Int32))] [] h4)))))))) : W_X8_findShift g d av Q n 162 [some (.ref a0), none, some (.int x2), some (.int x3), some (.int x4), none] [] h := by
  refine r_iload dX8_findShift_162 rfl ?_
  refine r_aload_n dX8_findShift_164 rfl rfl ?_
  refine m_getI hp fw_X8_45 dX8_findShift_165 rfl (lsh t0) ?_
  refine r_icmp_ge (tgt := 285) dX8_findShift_168 rfl (fun cH => ?_) (fun cH => ?_)
  · replace H := H.1 cH
    refine r_iinc (v := (x3 + (1 : Int32))) (ls2 := [some (.ref a0), none, some (.int x2), some (.int (x3 + (1 : Int32))), some (.int x4), none]) dX8_findShift_285 rfl rfl (by decide) rfl ?_
    refine r_goto (tgt := 151) dX8_findShift_288 rfl ?_
    refine r_prune [true, false, true, true, false, false] (ls2 := [some (.ref a0), none, some (.int x2), some (.int (x3 + (1 : Int32))), none, none]) rfl ?_
    exact H
  · replace H := H.2 cH
    refine r_aload_n dX8_findShift_171 rfl rfl ?_
    refine m_getF (x := (a0 + 11)) hp fw_X8_32 dX8_findShift_172 rfl (lsh t0) (ff_8_3 t0) ?_
    refine r_aload_n dX8_findShift_175 rfl rfl ?_
    refine m_getF (x := (a0 + 10)) hp fw_X8_26 dX8_findShift_176 rfl (lsh t0) (ff_8_2 t0) ?_
    refine r_iload_n dX8_findShift_179 rfl rfl ?_
    have hir1 := H.1
    obtain ⟨r1, er1, tr1, H⟩ := H.2
    refine m_aalM (x := r1) hp dX8_findShift_180 (lf_8_2 t0) rfl rfl (lu_8_2 t0) hir1 er1 ?_
    refine r_aload_n dX8_findShift_181 rfl rfl ?_
    refine m_getF (x := (a0 + 1)) hp fw_X8_17 dX8_findShift_182 rfl (lsh t0) (ff_8_0 t0) ?_
    refine r_iload_n dX8_findShift_185 rfl rfl ?_
    refine r_aload_n dX8_findShift_186 rfl rfl ?_
    refine m_getI hp fw_X8_45 dX8_findShift_187 rfl (lsh t0) ?_
    refine r_isub dX8_findShift_190 ?_
    refine r_iload_n dX8_findShift_191 rfl rfl ?_
    refine r_iadd dX8_findShift_192 ?_
    have hir2 := H.1
    obtain ⟨r2, Lr2, er2, tr2, H⟩ := H.2
    refine m_aalM (x := r2) hp dX8_findShift_193 (lf_8_0 t0) rfl rfl (lu_8_0 t0) hir2 er2 ?_
    refine r_iload dX8_findShift_194 rfl ?_
    have hir3 := H.1
    obtain ⟨r3, er3, tr3, H⟩ := H.2
    refine m_aalM (x := r3) hp dX8_findShift_196 tr2.1 rfl rfl tr2.2 hir3 er3 ?_
    refine k_VV (As := [.ref r1, .ref r3]) (stk := []) hp cv_X8_67 dX8_findShift_197 rfl (Nat.le_of_ble_eq_true rfl) (lf_8_3 t0) (H.mono (fun h4 H => ?_)) ⟨Nat.le_refl _, Nat.le_refl _⟩
    refine r_iconst (v := (0 : Int32)) dX8_findShift_200 rfl ?_
    refine r_istore (ls2 := [some (.ref a0), none, some (.int x2), some (.int x3), some (.int x4), some (.int (0 : Int32))]) dX8_findShift_201 (by decide) rfl ?_
    exact H
theorem s_X8_findShift_203 {g : GX} {d : Nat} {av : List Value} {Q : QT} {n : Nat} {h : Hp} {a0 : Nat} {x2 : Int32} {x3 : Int32} {x4 : Int32} {x5 : Int32} (hp : g.2.2.2.2 = true) (t0 : isSh a0) (H : (((ri h a0 4) ≤ x5) → (vp_in x2 7 ∧ ∃ r1 Lr1, rr h (a0 + 1) (x2).toNatClampNeg = some r1 ∧ (lay r1 = (2, Lr1, 3) ∧ r1 < N0) ∧ (vp_in x4 Lr1 ∧ ∃ r2, rr h r1 (x4).toNatClampNeg = some r2 ∧ lay r2 = (0, 3, 2) ∧ (CallV g m_X3_add d [.ref r2, .ref (a0 + 11), .int (2147483646 : Int32), .int (0 : Int32)] n h (fun h3 => (W_X8_findShift g d av Q n 162 [some (.ref a0), none, some (.int x2), some (.int x3), some (.int (x4 + (1 : Int32))), none] [] h3)))))) ∧ ((¬ (ri h a0 4) ≤ x5) → (((x5 = x3) → (W_X8_findShift g d av Q n 254 [some (.ref a0), none, some (.int x2), some (.int x3), some (.int x4), some (.int x5)] [] h)) ∧ ((¬ x5 = x3) → (vp_in ((x2 - (ri h a0 4)) + x5) 7 ∧ ∃ r4, rr h (a0 + 9) (((x2 - (ri h a0 4)) + x5)).toNatClampNeg = some r4 ∧ lay r4 = (0, 3, 2) ∧ (CallV g m_X3_product d [.ref (a0 + 13), .ref (a0 + 11), .ref r4] n h (fun h5 => (CallV g m_X3_copy d [.ref (a0 + 11), .ref (a0 + 13)] n h5 (fun h6 => (W_X8_findShift g d av Q n 254 [some (.ref a0), none, some (.int x2), some (.int x3), some (.int x4), some (.int x5)] [] h6)))))))))) : W_X8_findShift g d av Q n 203 [some (.ref a0), none, some (.int x2), some (.int x3), some (.int x4), some (.int x5)] [] h := by
  refine r_iload dX8_findShift_203 rfl ?_
  refine r_aload_n dX8_findShift_205 rfl rfl ?_
  refine m_getI hp fw_X8_45 dX8_findShift_206 rfl (lsh t0) ?_
  refine r_icmp_ge (tgt := 260) dX8_findShift_209 rfl (fun cH => ?_) (fun cH => ?_)
  · replace H := H.1 cH
    refine r_aload_n dX8_findShift_260 rfl rfl ?_
    refine m_getF (x := (a0 + 1)) hp fw_X8_17 dX8_findShift_261 rfl (lsh t0) (ff_8_0 t0) ?_
    refine r_iload_n dX8_findShift_264 rfl rfl ?_
    have hir1 := H.1
    obtain ⟨r1, Lr1, er1, tr1, H⟩ := H.2
    refine m_aalM (x := r1) hp dX8_findShift_265 (lf_8_0 t0) rfl rfl (lu_8_0 t0) hir1 er1 ?_
    refine r_iload dX8_findShift_266 rfl ?_
    have hir2 := H.1
    obtain ⟨r2, er2, tr2, H⟩ := H.2
    refine m_aalM (x := r2) hp dX8_findShift_268 tr1.1 rfl rfl tr1.2 hir2 er2 ?_
    refine r_aload_n dX8_findShift_269 rfl rfl ?_
    refine m_getF (x := (a0 + 11)) hp fw_X8_32 dX8_findShift_270 rfl (lsh t0) (ff_8_3 t0) ?_
    refine r_ldc (own := "") (v := (2147483646 : Int32)) dX8_findShift_273 q1617 ?_
    refine r_iconst (v := (0 : Int32)) dX8_findShift_275 rfl ?_
    refine k_VV (As := [.ref (a0 + 11), .int (2147483646 : Int32), .int (0 : Int32)]) (stk := []) hp cv_X8_75 dX8_findShift_276 rfl (Nat.le_of_ble_eq_true rfl) tr2 (H.mono (fun h3 H => ?_)) ⟨Nat.le_refl _, Nat.le_refl _⟩
    refine r_iinc (v := (x4 + (1 : Int32))) (ls2 := [some (.ref a0), none, some (.int x2), some (.int x3), some (.int (x4 + (1 : Int32))), some (.int x5)]) dX8_findShift_279 rfl rfl (by decide) rfl ?_
    refine r_goto (tgt := 162) dX8_findShift_282 rfl ?_
    refine r_prune [true, false, true, true, true, false] (ls2 := [some (.ref a0), none, some (.int x2), some (.int x3), some (.int (x4 + (1 : Int32))), none]) rfl ?_
    exact H
  · replace H := H.2 cH
    refine r_iload dX8_findShift_212 rfl ?_
    refine r_iload_n dX8_findShift_214 rfl rfl ?_
    refine r_icmp_eq (tgt := 254) dX8_findShift_215 rfl (fun cH => ?_) (fun cH => ?_)
    · replace H := H.1 cH
      exact H
    · replace H := H.2 cH
      refine r_aload_n dX8_findShift_218 rfl rfl ?_
      refine m_getF (x := (a0 + 13)) hp fw_X8_36 dX8_findShift_219 rfl (lsh t0) (ff_8_5 t0) ?_
      refine r_aload_n dX8_findShift_222 rfl rfl ?_
      refine m_getF (x := (a0 + 11)) hp fw_X8_32 dX8_findShift_223 rfl (lsh t0) (ff_8_3 t0) ?_
      refine r_aload_n dX8_findShift_226 rfl rfl ?_
      refine m_getF (x := (a0 + 9)) hp fw_X8_22 dX8_findShift_227 rfl (lsh t0) (ff_8_1 t0) ?_
      refine r_iload_n dX8_findShift_230 rfl rfl ?_
      refine r_aload_n dX8_findShift_231 rfl rfl ?_
      refine m_getI hp fw_X8_45 dX8_findShift_232 rfl (lsh t0) ?_
      refine r_isub dX8_findShift_235 ?_
      refine r_iload dX8_findShift_236 rfl ?_
      refine r_iadd dX8_findShift_238 ?_
      have hir4 := H.1
      obtain ⟨r4, er4, tr4, H⟩ := H.2
      refine m_aalM (x := r4) hp dX8_findShift_239 (lf_8_1 t0) rfl rfl (lu_8_1 t0) hir4 er4 ?_
      refine k_VV (As := [.ref (a0 + 11), .ref r4]) (stk := []) hp cv_X8_67 dX8_findShift_240 rfl (Nat.le_of_ble_eq_true rfl) (lf_8_5 t0) (H.mono (fun h5 H => ?_)) ⟨Nat.le_refl _, Nat.le_refl _⟩
      refine r_aload_n dX8_findShift_243 rfl rfl ?_
      refine m_getF (x := (a0 + 11)) hp fw_X8_32 dX8_findShift_244 rfl (lsh t0) (ff_8_3 t0) ?_
      refine r_aload_n dX8_findShift_247 rfl rfl ?_
      refine m_getF (x := (a0 + 13)) hp fw_X8_36 dX8_findShift_248 rfl (lsh t0) (ff_8_5 t0) ?_
      refine k_VV (As := [.ref (a0 + 13)]) (stk := []) hp cv_X8_56 dX8_findShift_251 rfl (Nat.le_of_ble_eq_true rfl) (lf_8_3 t0) (H.mono (fun h6 H => ?_)) ⟨Nat.le_refl _, Nat.le_refl _⟩
      exact H
theorem s_X8_findShift_254 {g : GX} {d : Nat} {av : List Value} {Q : QT} {n : Nat} {h : Hp} {a0 : Nat} {x2 : Int32} {x3 : Int32} {x4 : Int32} {x5 : Int32} (hp : g.2.2.2.2 = true) (t0 : isSh a0) (H : W_X8_findShift g d av Q n 203 [some (.ref a0), none, some (.int x2), some (.int x3), some (.int x4), some (.int (x5 + (1 : Int32)))] [] h) : W_X8_findShift g d av Q n 254 [some (.ref a0), none, some (.int x2), some (.int x3), some (.int x4), some (.int x5)] [] h := by
  refine r_iinc (v := (x5 + (1 : Int32))) (ls2 := [some (.ref a0), none, some (.int x2), some (.int x3), some (.int x4), some (.int (x5 + (1 : Int32)))]) dX8_findShift_254 rfl rfl (by decide) rfl ?_
  refine r_goto (tgt := 203) dX8_findShift_257 rfl ?_
  exact H
abbrev W_X8_lower (g : GX) (d : Nat) (av : List Value) (Q : QT) (n : Nat) (pc : Nat) (ls : LV) (stk : List Value) (h : Hp) : Prop := RJ g m_X8_lower (d + 1) 0 0 av Q pc ls stk n h 0 0
theorem s_X8_lower_0 {g : GX} {d : Nat} {av : List Value} {Q : QT} {n : Nat} {h : Hp} {a0 : Nat} {x1 : Int32} (hp : g.2.2.2.2 = true) (t0 : isSh a0) (H : vp_in x1 7 ∧ ∃ r1, rr h (a0 + 9) (x1).toNatClampNeg = some r1 ∧ lay r1 = (0, 3, 2) ∧ (CallV g m_X3_copy d [.ref 103, .ref r1] n h (fun h2 => (W_X8_lower g d av Q n 18 [some (.ref a0), some (.int x1), some (.int (0 : Int32))] [] h2)))) : W_X8_lower g d av Q n 0 [some (.ref a0), some (.int x1), none] [] h := by
  refine r_aload_n dX8_lower_0 rfl rfl ?_
  refine m_getF (x := 0) hp fw_X8_3 dX8_lower_1 rfl (lsh t0) (ff_8_6 t0) ?_
  refine m_getF (x := 103) hp fw_X8_82 dX8_lower_4 rfl (lf_8_6 t0) (ff_0_32 (lf_8_6 t0)) ?_
  refine r_aload_n dX8_lower_7 rfl rfl ?_
  refine m_getF (x := (a0 + 9)) hp fw_X8_22 dX8_lower_8 rfl (lsh t0) (ff_8_1 t0) ?_
  refine r_iload_n dX8_lower_11 rfl rfl ?_
  have hir1 := H.1
  obtain ⟨r1, er1, tr1, H⟩ := H.2
  refine m_aalM (x := r1) hp dX8_lower_12 (lf_8_1 t0) rfl rfl (lu_8_1 t0) hir1 er1 ?_
  refine k_VV (As := [.ref r1]) (stk := []) hp cv_X8_56 dX8_lower_13 rfl (Nat.le_of_ble_eq_true rfl) (lf_0_32 (lf_8_6 t0)) (H.mono (fun h2 H => ?_)) ⟨Nat.le_refl _, Nat.le_refl _⟩
  refine r_iconst (v := (0 : Int32)) dX8_lower_16 rfl ?_
  refine r_istore_n (ls2 := [some (.ref a0), some (.int x1), some (.int (0 : Int32))]) dX8_lower_17 rfl (by decide) rfl ?_
  exact H
theorem s_X8_lower_18 {g : GX} {d : Nat} {av : List Value} {Q : QT} {n : Nat} {h : Hp} {a0 : Nat} {x1 : Int32} {x2 : Int32} (hp : g.2.2.2.2 = true) (t0 : isSh a0) (H : (((ri h a0 4) ≤ x2) → (W_X8_lower g d av Q n 81 [some (.ref a0), some (.int x1), none] [] h)) ∧ ((¬ (ri h a0 4) ≤ x2) → ((((ri h 103 1) ≤ (1 : Int32)) → (W_X8_lower g d av Q n 81 [some (.ref a0), some (.int x1), none] [] h)) ∧ ((¬ (ri h 103 1) ≤ (1 : Int32)) → (vp_in x1 7 ∧ ∃ r1 Lr1, rr h (a0 + 1) (x1).toNatClampNeg = some r1 ∧ (lay r1 = (2, Lr1, 3) ∧ r1 < N0) ∧ (vp_in x2 Lr1 ∧ ∃ r2, rr h r1 (x2).toNatClampNeg = some r2 ∧ lay r2 = (0, 3, 2) ∧ (CallV g m_X2_common d [.ref 2, .ref 103, .ref r2, .ref 103] n h (fun h3 => (W_X8_lower g d av Q n 18 [some (.ref a0), some (.int x1), some (.int (x2 + (1 : Int32)))] [] h3))))))))) : W_X8_lower g d av Q n 18 [some (.ref a0), some (.int x1), some (.int x2)] [] h := by
  refine r_iload_n dX8_lower_18 rfl rfl ?_
  refine r_aload_n dX8_lower_19 rfl rfl ?_
  refine m_getI hp fw_X8_45 dX8_lower_20 rfl (lsh t0) ?_
  refine r_icmp_ge (tgt := 81) dX8_lower_23 rfl (fun cH => ?_) (fun cH => ?_)
  · replace H := H.1 cH
    refine r_prune [true, true, false] (ls2 := [some (.ref a0), some (.int x1), none]) rfl ?_
    exact H
  · replace H := H.2 cH
    refine r_aload_n dX8_lower_26 rfl rfl ?_
    refine m_getF (x := 0) hp fw_X8_3 dX8_lower_27 rfl (lsh t0) (ff_8_6 t0) ?_
    refine m_getF (x := 103) hp fw_X8_82 dX8_lower_30 rfl (lf_8_6 t0) (ff_0_32 (lf_8_6 t0)) ?_
    refine m_getI hp fw_X8_85 dX8_lower_33 rfl (lf_0_32 (lf_8_6 t0)) ?_
    refine r_iconst (v := (1 : Int32)) dX8_lower_36 rfl ?_
    refine r_icmp_le (tgt := 81) dX8_lower_37 rfl (fun cH => ?_) (fun cH => ?_)
    · replace H := H.1 cH
      refine r_prune [true, true, false] (ls2 := [some (.ref a0), some (.int x1), none]) rfl ?_
      exact H
    · replace H := H.2 cH
      refine r_aload_n dX8_lower_40 rfl rfl ?_
      refine m_getF (x := 0) hp fw_X8_3 dX8_lower_41 rfl (lsh t0) (ff_8_6 t0) ?_
      refine m_getF (x := 1) hp fw_X8_88 dX8_lower_44 rfl (lf_8_6 t0) (ff_0_0 (lf_8_6 t0)) ?_
      refine m_getF (x := 2) hp fw_X8_92 dX8_lower_47 rfl (lf_0_0 (lf_8_6 t0)) (ff_1_0 (lf_0_0 (lf_8_6 t0))) ?_
      refine r_aload_n dX8_lower_50 rfl rfl ?_
      refine m_getF (x := 0) hp fw_X8_3 dX8_lower_51 rfl (lsh t0) (ff_8_6 t0) ?_
      refine m_getF (x := 103) hp fw_X8_82 dX8_lower_54 rfl (lf_8_6 t0) (ff_0_32 (lf_8_6 t0)) ?_
      refine r_aload_n dX8_lower_57 rfl rfl ?_
      refine m_getF (x := (a0 + 1)) hp fw_X8_17 dX8_lower_58 rfl (lsh t0) (ff_8_0 t0) ?_
      refine r_iload_n dX8_lower_61 rfl rfl ?_
      have hir1 := H.1
      obtain ⟨r1, Lr1, er1, tr1, H⟩ := H.2
      refine m_aalM (x := r1) hp dX8_lower_62 (lf_8_0 t0) rfl rfl (lu_8_0 t0) hir1 er1 ?_
      refine r_iload_n dX8_lower_63 rfl rfl ?_
      have hir2 := H.1
      obtain ⟨r2, er2, tr2, H⟩ := H.2
      refine m_aalM (x := r2) hp dX8_lower_64 tr1.1 rfl rfl tr1.2 hir2 er2 ?_
      refine r_aload_n dX8_lower_65 rfl rfl ?_
      refine m_getF (x := 0) hp fw_X8_3 dX8_lower_66 rfl (lsh t0) (ff_8_6 t0) ?_
      refine m_getF (x := 103) hp fw_X8_82 dX8_lower_69 rfl (lf_8_6 t0) (ff_0_32 (lf_8_6 t0)) ?_
      refine k_VV (As := [.ref 103, .ref r2, .ref 103]) (stk := []) hp cv_X8_98 dX8_lower_72 rfl (Nat.le_of_ble_eq_true rfl) (lf_1_0 (lf_0_0 (lf_8_6 t0))) (H.mono (fun h3 H => ?_)) ⟨Nat.le_refl _, Nat.le_refl _⟩
      refine r_iinc (v := (x2 + (1 : Int32))) (ls2 := [some (.ref a0), some (.int x1), some (.int (x2 + (1 : Int32)))]) dX8_lower_75 rfl rfl (by decide) rfl ?_
      refine r_goto (tgt := 18) dX8_lower_78 rfl ?_
      exact H
theorem s_X8_lower_81 {g : GX} {d : Nat} {av : List Value} {Q : QT} {n : Nat} {h : Hp} {a0 : Nat} {x1 : Int32} (hp : g.2.2.2.2 = true) (t0 : isSh a0) (H : (((ri h 103 1) ≤ (1 : Int32)) → (Q none n h)) ∧ ((¬ (ri h 103 1) ≤ (1 : Int32)) → (vp_in x1 7 ∧ ∃ r1, rr h (a0 + 9) (x1).toNatClampNeg = some r1 ∧ lay r1 = (0, 3, 2) ∧ (CallV g m_X2_divideExactly d [.ref 2, .ref r1, .ref 103] n h (fun h2 => (W_X8_lower g d av Q n 123 [some (.ref a0), some (.int x1), some (.int (0 : Int32))] [] h2)))))) : W_X8_lower g d av Q n 81 [some (.ref a0), some (.int x1), none] [] h := by
  refine r_aload_n dX8_lower_81 rfl rfl ?_
  refine m_getF (x := 0) hp fw_X8_3 dX8_lower_82 rfl (lsh t0) (ff_8_6 t0) ?_
  refine m_getF (x := 103) hp fw_X8_82 dX8_lower_85 rfl (lf_8_6 t0) (ff_0_32 (lf_8_6 t0)) ?_
  refine m_getI hp fw_X8_85 dX8_lower_88 rfl (lf_0_32 (lf_8_6 t0)) ?_
  refine r_iconst (v := (1 : Int32)) dX8_lower_91 rfl ?_
  refine r_icmp_le (tgt := 165) dX8_lower_92 rfl (fun cH => ?_) (fun cH => ?_)
  · replace H := H.1 cH
    exact r_vret dX8_lower_165 rfl (Nat.le_refl _) (Nat.le_refl _) H
  · replace H := H.2 cH
    refine r_aload_n dX8_lower_95 rfl rfl ?_
    refine m_getF (x := 0) hp fw_X8_3 dX8_lower_96 rfl (lsh t0) (ff_8_6 t0) ?_
    refine m_getF (x := 1) hp fw_X8_88 dX8_lower_99 rfl (lf_8_6 t0) (ff_0_0 (lf_8_6 t0)) ?_
    refine m_getF (x := 2) hp fw_X8_92 dX8_lower_102 rfl (lf_0_0 (lf_8_6 t0)) (ff_1_0 (lf_0_0 (lf_8_6 t0))) ?_
    refine r_aload_n dX8_lower_105 rfl rfl ?_
    refine m_getF (x := (a0 + 9)) hp fw_X8_22 dX8_lower_106 rfl (lsh t0) (ff_8_1 t0) ?_
    refine r_iload_n dX8_lower_109 rfl rfl ?_
    have hir1 := H.1
    obtain ⟨r1, er1, tr1, H⟩ := H.2
    refine m_aalM (x := r1) hp dX8_lower_110 (lf_8_1 t0) rfl rfl (lu_8_1 t0) hir1 er1 ?_
    refine r_aload_n dX8_lower_111 rfl rfl ?_
    refine m_getF (x := 0) hp fw_X8_3 dX8_lower_112 rfl (lsh t0) (ff_8_6 t0) ?_
    refine m_getF (x := 103) hp fw_X8_82 dX8_lower_115 rfl (lf_8_6 t0) (ff_0_32 (lf_8_6 t0)) ?_
    refine k_VV (As := [.ref r1, .ref 103]) (stk := []) hp cv_X8_104 dX8_lower_118 rfl (Nat.le_of_ble_eq_true rfl) (lf_1_0 (lf_0_0 (lf_8_6 t0))) (H.mono (fun h2 H => ?_)) ⟨Nat.le_refl _, Nat.le_refl _⟩
    refine r_iconst (v := (0 : Int32)) dX8_lower_121 rfl ?_
    refine r_istore_n (ls2 := [some (.ref a0), some (.int x1), some (.int (0 : Int32))]) dX8_lower_122 rfl (by decide) rfl ?_
    exact H
theorem s_X8_lower_123 {g : GX} {d : Nat} {av : List Value} {Q : QT} {n : Nat} {h : Hp} {a0 : Nat} {x1 : Int32} {x2 : Int32} (hp : g.2.2.2.2 = true) (t0 : isSh a0) (H : (((ri h a0 4) ≤ x2) → (Q none n h)) ∧ ((¬ (ri h a0 4) ≤ x2) → (vp_in x1 7 ∧ ∃ r1 Lr1, rr h (a0 + 1) (x1).toNatClampNeg = some r1 ∧ (lay r1 = (2, Lr1, 3) ∧ r1 < N0) ∧ (vp_in x2 Lr1 ∧ ∃ r2, rr h r1 (x2).toNatClampNeg = some r2 ∧ lay r2 = (0, 3, 2) ∧ (CallV g m_X2_divideExactly d [.ref 2, .ref r2, .ref 103] n h (fun h3 => (W_X8_lower g d av Q n 123 [some (.ref a0), some (.int x1), some (.int (x2 + (1 : Int32)))] [] h3))))))) : W_X8_lower g d av Q n 123 [some (.ref a0), some (.int x1), some (.int x2)] [] h := by
  refine r_iload_n dX8_lower_123 rfl rfl ?_
  refine r_aload_n dX8_lower_124 rfl rfl ?_
  refine m_getI hp fw_X8_45 dX8_lower_125 rfl (lsh t0) ?_
  refine r_icmp_ge (tgt := 165) dX8_lower_128 rfl (fun cH => ?_) (fun cH => ?_)
  · replace H := H.1 cH
    exact r_vret dX8_lower_165 rfl (Nat.le_refl _) (Nat.le_refl _) H
  · replace H := H.2 cH
    refine r_aload_n dX8_lower_131 rfl rfl ?_
    refine m_getF (x := 0) hp fw_X8_3 dX8_lower_132 rfl (lsh t0) (ff_8_6 t0) ?_
    refine m_getF (x := 1) hp fw_X8_88 dX8_lower_135 rfl (lf_8_6 t0) (ff_0_0 (lf_8_6 t0)) ?_
    refine m_getF (x := 2) hp fw_X8_92 dX8_lower_138 rfl (lf_0_0 (lf_8_6 t0)) (ff_1_0 (lf_0_0 (lf_8_6 t0))) ?_
    refine r_aload_n dX8_lower_141 rfl rfl ?_
    refine m_getF (x := (a0 + 1)) hp fw_X8_17 dX8_lower_142 rfl (lsh t0) (ff_8_0 t0) ?_
    refine r_iload_n dX8_lower_145 rfl rfl ?_
    have hir1 := H.1
    obtain ⟨r1, Lr1, er1, tr1, H⟩ := H.2
    refine m_aalM (x := r1) hp dX8_lower_146 (lf_8_0 t0) rfl rfl (lu_8_0 t0) hir1 er1 ?_
    refine r_iload_n dX8_lower_147 rfl rfl ?_
    have hir2 := H.1
    obtain ⟨r2, er2, tr2, H⟩ := H.2
    refine m_aalM (x := r2) hp dX8_lower_148 tr1.1 rfl rfl tr1.2 hir2 er2 ?_
    refine r_aload_n dX8_lower_149 rfl rfl ?_
    refine m_getF (x := 0) hp fw_X8_3 dX8_lower_150 rfl (lsh t0) (ff_8_6 t0) ?_
    refine m_getF (x := 103) hp fw_X8_82 dX8_lower_153 rfl (lf_8_6 t0) (ff_0_32 (lf_8_6 t0)) ?_
    refine k_VV (As := [.ref r2, .ref 103]) (stk := []) hp cv_X8_104 dX8_lower_156 rfl (Nat.le_of_ble_eq_true rfl) (lf_1_0 (lf_0_0 (lf_8_6 t0))) (H.mono (fun h3 H => ?_)) ⟨Nat.le_refl _, Nat.le_refl _⟩
    refine r_iinc (v := (x2 + (1 : Int32))) (ls2 := [some (.ref a0), some (.int x1), some (.int (x2 + (1 : Int32)))]) dX8_lower_159 rfl rfl (by decide) rfl ?_
    refine r_goto (tgt := 123) dX8_lower_162 rfl ?_
    exact H
