set_option maxRecDepth 100000
theorem dX0_factorial_2_0 : decode cX0_factorial_2 0 = .ok (.iload_n 1, 1) := by decide +kernel
theorem dX0_factorial_2_1 : decode cX0_factorial_2 1 = .ok (.invokestatic 519, 3) := by decide +kernel
theorem dX0_factorial_2_4 : decode cX0_factorial_2 4 = .ok (.ifCond .ne 5, 3) := by decide +kernel
theorem dX0_factorial_2_7 : decode cX0_factorial_2 7 = .ok (.iconst (-1), 1) := by decide +kernel
theorem dX0_factorial_2_8 : decode cX0_factorial_2 8 = .ok (.ireturn, 1) := by decide +kernel
theorem dX0_factorial_2_9 : decode cX0_factorial_2 9 = .ok (.aload_n 0, 1) := by decide +kernel
theorem dX0_factorial_2_10 : decode cX0_factorial_2 10 = .ok (.getfield 326, 3) := by decide +kernel
theorem dX0_factorial_2_13 : decode cX0_factorial_2 13 = .ok (.iload_n 1, 1) := by decide +kernel
theorem dX0_factorial_2_14 : decode cX0_factorial_2 14 = .ok (.aaload, 1) := by decide +kernel
theorem dX0_factorial_2_15 : decode cX0_factorial_2 15 = .ok (.getfield 509, 3) := by decide +kernel
theorem dX0_factorial_2_18 : decode cX0_factorial_2 18 = .ok (.iconst 2, 1) := by decide +kernel
theorem dX0_factorial_2_19 : decode cX0_factorial_2 19 = .ok (.if_icmp .eq 5, 3) := by decide +kernel
theorem dX0_factorial_2_22 : decode cX0_factorial_2 22 = .ok (.iconst 0, 1) := by decide +kernel
theorem dX0_factorial_2_23 : decode cX0_factorial_2 23 = .ok (.ireturn, 1) := by decide +kernel
theorem dX0_factorial_2_24 : decode cX0_factorial_2 24 = .ok (.aload_n 0, 1) := by decide +kernel
theorem dX0_factorial_2_25 : decode cX0_factorial_2 25 = .ok (.getfield 326, 3) := by decide +kernel
theorem dX0_factorial_2_28 : decode cX0_factorial_2 28 = .ok (.iload_n 1, 1) := by decide +kernel
theorem dX0_factorial_2_29 : decode cX0_factorial_2 29 = .ok (.aaload, 1) := by decide +kernel
theorem dX0_factorial_2_30 : decode cX0_factorial_2 30 = .ok (.getfield 512, 3) := by decide +kernel
theorem dX0_factorial_2_33 : decode cX0_factorial_2 33 = .ok (.astore 4, 2) := by decide +kernel
theorem dX0_factorial_2_35 : decode cX0_factorial_2 35 = .ok (.iload_n 2, 1) := by decide +kernel
theorem dX0_factorial_2_36 : decode cX0_factorial_2 36 = .ok (.ifCond .lt 12, 3) := by decide +kernel
theorem dX0_factorial_2_39 : decode cX0_factorial_2 39 = .ok (.iload_n 2, 1) := by decide +kernel
theorem dX0_factorial_2_40 : decode cX0_factorial_2 40 = .ok (.aload 4, 2) := by decide +kernel
theorem dX0_factorial_2_42 : decode cX0_factorial_2 42 = .ok (.getfield 136, 3) := by decide +kernel
theorem dX0_factorial_2_45 : decode cX0_factorial_2 45 = .ok (.if_icmp .lt 5, 3) := by decide +kernel
theorem dX0_factorial_2_48 : decode cX0_factorial_2 48 = .ok (.iconst 0, 1) := by decide +kernel
theorem dX0_factorial_2_49 : decode cX0_factorial_2 49 = .ok (.ireturn, 1) := by decide +kernel
theorem dX0_factorial_2_50 : decode cX0_factorial_2 50 = .ok (.iload_n 3, 1) := by decide +kernel
theorem dX0_factorial_2_51 : decode cX0_factorial_2 51 = .ok (.ifCond .ne 13, 3) := by decide +kernel
theorem dX0_factorial_2_54 : decode cX0_factorial_2 54 = .ok (.aload 4, 2) := by decide +kernel
theorem dX0_factorial_2_56 : decode cX0_factorial_2 56 = .ok (.getfield 139, 3) := by decide +kernel
theorem dX0_factorial_2_59 : decode cX0_factorial_2 59 = .ok (.iload_n 2, 1) := by decide +kernel
theorem dX0_factorial_2_60 : decode cX0_factorial_2 60 = .ok (.iaload, 1) := by decide +kernel
theorem dX0_factorial_2_61 : decode cX0_factorial_2 61 = .ok (.goto 49, 3) := by decide +kernel
theorem dX0_factorial_2_64 : decode cX0_factorial_2 64 = .ok (.iload_n 3, 1) := by decide +kernel
theorem dX0_factorial_2_65 : decode cX0_factorial_2 65 = .ok (.iconst 1, 1) := by decide +kernel
theorem dX0_factorial_2_66 : decode cX0_factorial_2 66 = .ok (.if_icmp .ne 13, 3) := by decide +kernel
theorem dX0_factorial_2_69 : decode cX0_factorial_2 69 = .ok (.aload 4, 2) := by decide +kernel
theorem dX0_factorial_2_71 : decode cX0_factorial_2 71 = .ok (.getfield 143, 3) := by decide +kernel
theorem dX0_factorial_2_74 : decode cX0_factorial_2 74 = .ok (.iload_n 2, 1) := by decide +kernel
theorem dX0_factorial_2_75 : decode cX0_factorial_2 75 = .ok (.iaload, 1) := by decide +kernel
theorem dX0_factorial_2_76 : decode cX0_factorial_2 76 = .ok (.goto 34, 3) := by decide +kernel
theorem dX0_factorial_2_79 : decode cX0_factorial_2 79 = .ok (.iload_n 3, 1) := by decide +kernel
theorem dX0_factorial_2_80 : decode cX0_factorial_2 80 = .ok (.iconst 2, 1) := by decide +kernel
theorem dX0_factorial_2_81 : decode cX0_factorial_2 81 = .ok (.if_icmp .ne 13, 3) := by decide +kernel
theorem dX0_factorial_2_84 : decode cX0_factorial_2 84 = .ok (.aload 4, 2) := by decide +kernel
theorem dX0_factorial_2_86 : decode cX0_factorial_2 86 = .ok (.getfield 146, 3) := by decide +kernel
theorem dX0_factorial_2_89 : decode cX0_factorial_2 89 = .ok (.iload_n 2, 1) := by decide +kernel
theorem dX0_factorial_2_90 : decode cX0_factorial_2 90 = .ok (.iaload, 1) := by decide +kernel
theorem dX0_factorial_2_91 : decode cX0_factorial_2 91 = .ok (.goto 19, 3) := by decide +kernel
theorem dX0_factorial_2_94 : decode cX0_factorial_2 94 = .ok (.iload_n 3, 1) := by decide +kernel
theorem dX0_factorial_2_95 : decode cX0_factorial_2 95 = .ok (.iconst 3, 1) := by decide +kernel
theorem dX0_factorial_2_96 : decode cX0_factorial_2 96 = .ok (.if_icmp .ne 13, 3) := by decide +kernel
theorem dX0_factorial_2_99 : decode cX0_factorial_2 99 = .ok (.aload 4, 2) := by decide +kernel
theorem dX0_factorial_2_101 : decode cX0_factorial_2 101 = .ok (.getfield 149, 3) := by decide +kernel
theorem dX0_factorial_2_104 : decode cX0_factorial_2 104 = .ok (.iload_n 2, 1) := by decide +kernel
theorem dX0_factorial_2_105 : decode cX0_factorial_2 105 = .ok (.iaload, 1) := by decide +kernel
theorem dX0_factorial_2_106 : decode cX0_factorial_2 106 = .ok (.goto 4, 3) := by decide +kernel
theorem dX0_factorial_2_109 : decode cX0_factorial_2 109 = .ok (.iconst 0, 1) := by decide +kernel
theorem dX0_factorial_2_110 : decode cX0_factorial_2 110 = .ok (.ireturn, 1) := by decide +kernel
theorem dX0_value_0 : decode cX0_value 0 = .ok (.iload_n 1, 1) := by decide +kernel
theorem dX0_value_1 : decode cX0_value 1 = .ok (.invokestatic 519, 3) := by decide +kernel
theorem dX0_value_4 : decode cX0_value 4 = .ok (.ifCond .ne 5, 3) := by decide +kernel
theorem dX0_value_7 : decode cX0_value 7 = .ok (.iconst (-1), 1) := by decide +kernel
theorem dX0_value_8 : decode cX0_value 8 = .ok (.ireturn, 1) := by decide +kernel
theorem dX0_value_9 : decode cX0_value 9 = .ok (.aload_n 0, 1) := by decide +kernel
theorem dX0_value_10 : decode cX0_value 10 = .ok (.iload_n 1, 1) := by decide +kernel
theorem dX0_value_11 : decode cX0_value 11 = .ok (.invokevirtual 546, 3) := by decide +kernel
theorem dX0_value_14 : decode cX0_value 14 = .ok (.ifCond .ne 8, 3) := by decide +kernel
theorem dX0_value_17 : decode cX0_value 17 = .ok (.bipush (-3), 2) := by decide +kernel
theorem dX0_value_19 : decode cX0_value 19 = .ok (.goto 18, 3) := by decide +kernel
theorem dX0_value_22 : decode cX0_value 22 = .ok (.aload_n 0, 1) := by decide +kernel
theorem dX0_value_23 : decode cX0_value 23 = .ok (.aload_n 0, 1) := by decide +kernel
theorem dX0_value_24 : decode cX0_value 24 = .ok (.getfield 326, 3) := by decide +kernel
theorem dX0_value_27 : decode cX0_value 27 = .ok (.iload_n 1, 1) := by decide +kernel
theorem dX0_value_28 : decode cX0_value 28 = .ok (.aaload, 1) := by decide +kernel
theorem dX0_value_29 : decode cX0_value 29 = .ok (.getfield 512, 3) := by decide +kernel
theorem dX0_value_32 : decode cX0_value 32 = .ok (.iload_n 2, 1) := by decide +kernel
theorem dX0_value_33 : decode cX0_value 33 = .ok (.iload_n 3, 1) := by decide +kernel
theorem dX0_value_34 : decode cX0_value 34 = .ok (.invokevirtual 595, 3) := by decide +kernel
theorem dX0_value_37 : decode cX0_value 37 = .ok (.ireturn, 1) := by decide +kernel
theorem dX0_valueOf_0 : decode cX0_valueOf 0 = .ok (.aload_n 1, 1) := by decide +kernel
theorem dX0_valueOf_1 : decode cX0_valueOf 1 = .ok (.invokevirtual 177, 3) := by decide +kernel
theorem dX0_valueOf_4 : decode cX0_valueOf 4 = .ok (.ifCond .ne 19, 3) := by decide +kernel
theorem dX0_valueOf_7 : decode cX0_valueOf 7 = .ok (.aload_n 1, 1) := by decide +kernel
theorem dX0_valueOf_8 : decode cX0_valueOf 8 = .ok (.getfield 110, 3) := by decide +kernel
theorem dX0_valueOf_11 : decode cX0_valueOf 11 = .ok (.iload_n 2, 1) := by decide +kernel
theorem dX0_valueOf_12 : decode cX0_valueOf 12 = .ok (.invokestatic 543, 3) := by decide +kernel
theorem dX0_valueOf_15 : decode cX0_valueOf 15 = .ok (.iload_n 3, 1) := by decide +kernel
theorem dX0_valueOf_16 : decode cX0_valueOf 16 = .ok (.invokestatic 543, 3) := by decide +kernel
theorem dX0_valueOf_19 : decode cX0_valueOf 19 = .ok (.invokestatic 588, 3) := by decide +kernel
theorem dX0_valueOf_22 : decode cX0_valueOf 22 = .ok (.ireturn, 1) := by decide +kernel
theorem dX0_valueOf_23 : decode cX0_valueOf 23 = .ok (.iload_n 2, 1) := by decide +kernel
theorem dX0_valueOf_24 : decode cX0_valueOf 24 = .ok (.iconst 0, 1) := by decide +kernel
theorem dX0_valueOf_25 : decode cX0_valueOf 25 = .ok (.sipush 500, 3) := by decide +kernel
theorem dX0_valueOf_28 : decode cX0_valueOf 28 = .ok (.invokestatic 173, 3) := by decide +kernel
theorem dX0_valueOf_31 : decode cX0_valueOf 31 = .ok (.ifCond .eq 14, 3) := by decide +kernel
theorem dX0_valueOf_34 : decode cX0_valueOf 34 = .ok (.iload_n 3, 1) := by decide +kernel
theorem dX0_valueOf_35 : decode cX0_valueOf 35 = .ok (.iconst 0, 1) := by decide +kernel
theorem dX0_valueOf_36 : decode cX0_valueOf 36 = .ok (.sipush 500, 3) := by decide +kernel
theorem dX0_valueOf_39 : decode cX0_valueOf 39 = .ok (.invokestatic 173, 3) := by decide +kernel
theorem dX0_valueOf_42 : decode cX0_valueOf 42 = .ok (.ifCond .ne 5, 3) := by decide +kernel
theorem dX0_valueOf_45 : decode cX0_valueOf 45 = .ok (.iconst (-1), 1) := by decide +kernel
theorem dX0_valueOf_46 : decode cX0_valueOf 46 = .ok (.ireturn, 1) := by decide +kernel
theorem dX0_valueOf_47 : decode cX0_valueOf 47 = .ok (.aload_n 1, 1) := by decide +kernel
theorem dX0_valueOf_48 : decode cX0_valueOf 48 = .ok (.getfield 110, 3) := by decide +kernel
theorem dX0_valueOf_51 : decode cX0_valueOf 51 = .ok (.iload_n 2, 1) := by decide +kernel
theorem dX0_valueOf_52 : decode cX0_valueOf 52 = .ok (.iload_n 3, 1) := by decide +kernel
theorem dX0_valueOf_53 : decode cX0_valueOf 53 = .ok (.invokestatic 588, 3) := by decide +kernel
theorem dX0_valueOf_56 : decode cX0_valueOf 56 = .ok (.istore 4, 2) := by decide +kernel
theorem dX0_valueOf_58 : decode cX0_valueOf 58 = .ok (.iconst 0, 1) := by decide +kernel
theorem dX0_valueOf_59 : decode cX0_valueOf 59 = .ok (.istore 5, 2) := by decide +kernel
theorem dX0_valueOf_61 : decode cX0_valueOf 61 = .ok (.iconst 0, 1) := by decide +kernel
theorem dX0_valueOf_62 : decode cX0_valueOf 62 = .ok (.istore 6, 2) := by decide +kernel
theorem dX0_valueOf_64 : decode cX0_valueOf 64 = .ok (.iload 6, 2) := by decide +kernel
theorem dX0_valueOf_66 : decode cX0_valueOf 66 = .ok (.aload_n 1, 1) := by decide +kernel
theorem dX0_valueOf_67 : decode cX0_valueOf 67 = .ok (.getfield 136, 3) := by decide +kernel
theorem dX0_valueOf_70 : decode cX0_valueOf 70 = .ok (.if_icmp .ge 111, 3) := by decide +kernel
theorem dX0_valueOf_73 : decode cX0_valueOf 73 = .ok (.iload 4, 2) := by decide +kernel
theorem dX0_valueOf_75 : decode cX0_valueOf 75 = .ok (.iconst (-1), 1) := by decide +kernel
theorem dX0_valueOf_76 : decode cX0_valueOf 76 = .ok (.if_icmp .eq 105, 3) := by decide +kernel
theorem dX0_valueOf_79 : decode cX0_valueOf 79 = .ok (.aload_n 1, 1) := by decide +kernel
theorem dX0_valueOf_80 : decode cX0_valueOf 80 = .ok (.getfield 139, 3) := by decide +kernel
theorem dX0_valueOf_83 : decode cX0_valueOf 83 = .ok (.iload 6, 2) := by decide +kernel
theorem dX0_valueOf_85 : decode cX0_valueOf 85 = .ok (.iaload, 1) := by decide +kernel
theorem dX0_valueOf_86 : decode cX0_valueOf 86 = .ok (.iload_n 2, 1) := by decide +kernel
theorem dX0_valueOf_87 : decode cX0_valueOf 87 = .ok (.imul, 1) := by decide +kernel
theorem dX0_valueOf_88 : decode cX0_valueOf 88 = .ok (.aload_n 1, 1) := by decide +kernel
theorem dX0_valueOf_89 : decode cX0_valueOf 89 = .ok (.getfield 143, 3) := by decide +kernel
theorem dX0_valueOf_92 : decode cX0_valueOf 92 = .ok (.iload 6, 2) := by decide +kernel
theorem dX0_valueOf_94 : decode cX0_valueOf 94 = .ok (.iaload, 1) := by decide +kernel
theorem dX0_valueOf_95 : decode cX0_valueOf 95 = .ok (.iload_n 3, 1) := by decide +kernel
theorem dX0_valueOf_96 : decode cX0_valueOf 96 = .ok (.imul, 1) := by decide +kernel
theorem dX0_valueOf_97 : decode cX0_valueOf 97 = .ok (.iadd, 1) := by decide +kernel
theorem dX0_valueOf_98 : decode cX0_valueOf 98 = .ok (.aload_n 1, 1) := by decide +kernel
theorem dX0_valueOf_99 : decode cX0_valueOf 99 = .ok (.getfield 146, 3) := by decide +kernel
theorem dX0_valueOf_102 : decode cX0_valueOf 102 = .ok (.iload 6, 2) := by decide +kernel
theorem dX0_valueOf_104 : decode cX0_valueOf 104 = .ok (.iaload, 1) := by decide +kernel
theorem dX0_valueOf_105 : decode cX0_valueOf 105 = .ok (.iadd, 1) := by decide +kernel
theorem dX0_valueOf_106 : decode cX0_valueOf 106 = .ok (.istore 7, 2) := by decide +kernel
theorem dX0_valueOf_108 : decode cX0_valueOf 108 = .ok (.iload 7, 2) := by decide +kernel
theorem dX0_valueOf_110 : decode cX0_valueOf 110 = .ok (.ifCond .ge 15, 3) := by decide +kernel
theorem dX0_valueOf_113 : decode cX0_valueOf 113 = .ok (.aload_n 1, 1) := by decide +kernel
theorem dX0_valueOf_114 : decode cX0_valueOf 114 = .ok (.getfield 149, 3) := by decide +kernel
theorem dX0_valueOf_117 : decode cX0_valueOf 117 = .ok (.iload 6, 2) := by decide +kernel
theorem dX0_valueOf_119 : decode cX0_valueOf 119 = .ok (.iaload, 1) := by decide +kernel
theorem dX0_valueOf_120 : decode cX0_valueOf 120 = .ok (.ifCond .le 5, 3) := by decide +kernel
theorem dX0_valueOf_123 : decode cX0_valueOf 123 = .ok (.iconst (-1), 1) := by decide +kernel
theorem dX0_valueOf_124 : decode cX0_valueOf 124 = .ok (.ireturn, 1) := by decide +kernel
theorem dX0_valueOf_125 : decode cX0_valueOf 125 = .ok (.iload 5, 2) := by decide +kernel
theorem dX0_valueOf_127 : decode cX0_valueOf 127 = .ok (.ifCond .ne 8, 3) := by decide +kernel
theorem dX0_valueOf_130 : decode cX0_valueOf 130 = .ok (.iload 7, 2) := by decide +kernel
theorem dX0_valueOf_132 : decode cX0_valueOf 132 = .ok (.ifCond .ge 7, 3) := by decide +kernel
theorem dX0_valueOf_135 : decode cX0_valueOf 135 = .ok (.iconst 1, 1) := by decide +kernel
theorem dX0_valueOf_136 : decode cX0_valueOf 136 = .ok (.goto 4, 3) := by decide +kernel
theorem dX0_valueOf_139 : decode cX0_valueOf 139 = .ok (.iconst 0, 1) := by decide +kernel
theorem dX0_valueOf_140 : decode cX0_valueOf 140 = .ok (.istore 5, 2) := by decide +kernel
theorem dX0_valueOf_142 : decode cX0_valueOf 142 = .ok (.iload 7, 2) := by decide +kernel
theorem dX0_valueOf_144 : decode cX0_valueOf 144 = .ok (.ifCond .ge 8, 3) := by decide +kernel
theorem dX0_valueOf_147 : decode cX0_valueOf 147 = .ok (.iload 4, 2) := by decide +kernel
theorem dX0_valueOf_149 : decode cX0_valueOf 149 = .ok (.goto 24, 3) := by decide +kernel
theorem dX0_valueOf_152 : decode cX0_valueOf 152 = .ok (.iload 4, 2) := by decide +kernel
theorem dX0_valueOf_154 : decode cX0_valueOf 154 = .ok (.aload_n 0, 1) := by decide +kernel
theorem dX0_valueOf_155 : decode cX0_valueOf 155 = .ok (.iload 7, 2) := by decide +kernel
theorem dX0_valueOf_157 : decode cX0_valueOf 157 = .ok (.invokevirtual 592, 3) := by decide +kernel
theorem dX0_valueOf_160 : decode cX0_valueOf 160 = .ok (.aload_n 1, 1) := by decide +kernel
theorem dX0_valueOf_161 : decode cX0_valueOf 161 = .ok (.getfield 149, 3) := by decide +kernel
theorem dX0_valueOf_164 : decode cX0_valueOf 164 = .ok (.iload 6, 2) := by decide +kernel
theorem dX0_valueOf_166 : decode cX0_valueOf 166 = .ok (.iaload, 1) := by decide +kernel
theorem dX0_valueOf_167 : decode cX0_valueOf 167 = .ok (.invokestatic 290, 3) := by decide +kernel
theorem dX0_valueOf_170 : decode cX0_valueOf 170 = .ok (.invokestatic 6, 3) := by decide +kernel
theorem dX0_valueOf_173 : decode cX0_valueOf 173 = .ok (.istore 4, 2) := by decide +kernel
theorem dX0_valueOf_175 : decode cX0_valueOf 175 = .ok (.iinc 6 1, 3) := by decide +kernel
theorem dX0_valueOf_178 : decode cX0_valueOf 178 = .ok (.goto (-114), 3) := by decide +kernel
theorem dX0_valueOf_181 : decode cX0_valueOf 181 = .ok (.iload 4, 2) := by decide +kernel
theorem dX0_valueOf_183 : decode cX0_valueOf 183 = .ok (.iconst (-1), 1) := by decide +kernel
theorem dX0_valueOf_184 : decode cX0_valueOf 184 = .ok (.if_icmp .ne 5, 3) := by decide +kernel
theorem dX0_valueOf_187 : decode cX0_valueOf 187 = .ok (.iconst (-1), 1) := by decide +kernel
theorem dX0_valueOf_188 : decode cX0_valueOf 188 = .ok (.ireturn, 1) := by decide +kernel
theorem dX0_valueOf_189 : decode cX0_valueOf 189 = .ok (.iload 5, 2) := by decide +kernel
theorem dX0_valueOf_191 : decode cX0_valueOf 191 = .ok (.ifCond .eq 7, 3) := by decide +kernel
theorem dX0_valueOf_194 : decode cX0_valueOf 194 = .ok (.iconst 0, 1) := by decide +kernel
theorem dX0_valueOf_195 : decode cX0_valueOf 195 = .ok (.goto 29, 3) := by decide +kernel
theorem dX0_valueOf_198 : decode cX0_valueOf 198 = .ok (.iload 4, 2) := by decide +kernel
theorem dX0_valueOf_200 : decode cX0_valueOf 200 = .ok (.aload_n 1, 1) := by decide +kernel
theorem dX0_valueOf_201 : decode cX0_valueOf 201 = .ok (.getfield 130, 3) := by decide +kernel
theorem dX0_valueOf_204 : decode cX0_valueOf 204 = .ok (.iload_n 2, 1) := by decide +kernel
theorem dX0_valueOf_205 : decode cX0_valueOf 205 = .ok (.i2l, 1) := by decide +kernel
theorem dX0_valueOf_206 : decode cX0_valueOf 206 = .ok (.invokestatic 12, 3) := by decide +kernel
theorem dX0_valueOf_209 : decode cX0_valueOf 209 = .ok (.aload_n 1, 1) := by decide +kernel
theorem dX0_valueOf_210 : decode cX0_valueOf 210 = .ok (.getfield 133, 3) := by decide +kernel
theorem dX0_valueOf_213 : decode cX0_valueOf 213 = .ok (.iload_n 3, 1) := by decide +kernel
theorem dX0_valueOf_214 : decode cX0_valueOf 214 = .ok (.i2l, 1) := by decide +kernel
theorem dX0_valueOf_215 : decode cX0_valueOf 215 = .ok (.invokestatic 12, 3) := by decide +kernel
theorem dX0_valueOf_218 : decode cX0_valueOf 218 = .ok (.invokestatic 6, 3) := by decide +kernel
theorem dX0_valueOf_221 : decode cX0_valueOf 221 = .ok (.invokestatic 6, 3) := by decide +kernel
theorem dX0_valueOf_224 : decode cX0_valueOf 224 = .ok (.ireturn, 1) := by decide +kernel
theorem dX0_valueOf_2_0 : decode cX0_valueOf_2 0 = .ok (.aload_n 0, 1) := by decide +kernel
theorem dX0_valueOf_2_1 : decode cX0_valueOf_2 1 = .ok (.getfield 94, 3) := by decide +kernel
theorem dX0_valueOf_2_4 : decode cX0_valueOf_2 4 = .ok (.iload_n 1, 1) := by decide +kernel
theorem dX0_valueOf_2_5 : decode cX0_valueOf_2 5 = .ok (.iload_n 2, 1) := by decide +kernel
theorem dX0_valueOf_2_6 : decode cX0_valueOf_2 6 = .ok (.invokevirtual 585, 3) := by decide +kernel
theorem dX0_valueOf_2_9 : decode cX0_valueOf_2 9 = .ok (.istore_n 3, 1) := by decide +kernel
theorem dX0_valueOf_2_10 : decode cX0_valueOf_2 10 = .ok (.iload_n 3, 1) := by decide +kernel
theorem dX0_valueOf_2_11 : decode cX0_valueOf_2 11 = .ok (.ifCond .ne 7, 3) := by decide +kernel
theorem dX0_valueOf_2_14 : decode cX0_valueOf_2 14 = .ok (.iconst (-1), 1) := by decide +kernel
theorem dX0_valueOf_2_15 : decode cX0_valueOf_2 15 = .ok (.goto 19, 3) := by decide +kernel
theorem dX0_valueOf_2_18 : decode cX0_valueOf_2 18 = .ok (.aload_n 0, 1) := by decide +kernel
theorem dX0_valueOf_2_19 : decode cX0_valueOf_2 19 = .ok (.getfield 89, 3) := by decide +kernel
theorem dX0_valueOf_2_22 : decode cX0_valueOf_2 22 = .ok (.iload_n 1, 1) := by decide +kernel
theorem dX0_valueOf_2_23 : decode cX0_valueOf_2 23 = .ok (.iload_n 2, 1) := by decide +kernel
theorem dX0_valueOf_2_24 : decode cX0_valueOf_2 24 = .ok (.invokevirtual 585, 3) := by decide +kernel
theorem dX0_valueOf_2_27 : decode cX0_valueOf_2 27 = .ok (.iload_n 3, 1) := by decide +kernel
theorem dX0_valueOf_2_28 : decode cX0_valueOf_2 28 = .ok (.invokestatic 74, 3) := by decide +kernel
theorem dX0_valueOf_2_31 : decode cX0_valueOf_2 31 = .ok (.invokestatic 6, 3) := by decide +kernel
theorem dX0_valueOf_2_34 : decode cX0_valueOf_2 34 = .ok (.ireturn, 1) := by decide +kernel
theorem dX0_factorialOf_0 : decode cX0_factorialOf 0 = .ok (.aload_n 0, 1) := by decide +kernel
theorem dX0_factorialOf_1 : decode cX0_factorialOf 1 = .ok (.getfield 339, 3) := by decide +kernel
theorem dX0_factorialOf_4 : decode cX0_factorialOf 4 = .ok (.iconst 0, 1) := by decide +kernel
theorem dX0_factorialOf_5 : decode cX0_factorialOf 5 = .ok (.iaload, 1) := by decide +kernel
theorem dX0_factorialOf_6 : decode cX0_factorialOf 6 = .ok (.ifCond .ne 45, 3) := by decide +kernel
theorem dX0_factorialOf_9 : decode cX0_factorialOf 9 = .ok (.aload_n 0, 1) := by decide +kernel
theorem dX0_factorialOf_10 : decode cX0_factorialOf 10 = .ok (.getfield 339, 3) := by decide +kernel
theorem dX0_factorialOf_13 : decode cX0_factorialOf 13 = .ok (.iconst 0, 1) := by decide +kernel
theorem dX0_factorialOf_14 : decode cX0_factorialOf 14 = .ok (.iconst 1, 1) := by decide +kernel
theorem dX0_factorialOf_15 : decode cX0_factorialOf 15 = .ok (.iastore, 1) := by decide +kernel
theorem dX0_factorialOf_16 : decode cX0_factorialOf 16 = .ok (.iconst 1, 1) := by decide +kernel
theorem dX0_factorialOf_17 : decode cX0_factorialOf 17 = .ok (.istore_n 2, 1) := by decide +kernel
theorem dX0_factorialOf_18 : decode cX0_factorialOf 18 = .ok (.iload_n 2, 1) := by decide +kernel
theorem dX0_factorialOf_19 : decode cX0_factorialOf 19 = .ok (.aload_n 0, 1) := by decide +kernel
theorem dX0_factorialOf_20 : decode cX0_factorialOf 20 = .ok (.getfield 339, 3) := by decide +kernel
theorem dX0_factorialOf_23 : decode cX0_factorialOf 23 = .ok (.arraylength, 1) := by decide +kernel
theorem dX0_factorialOf_24 : decode cX0_factorialOf 24 = .ok (.if_icmp .ge 27, 3) := by decide +kernel
theorem dX0_factorialOf_27 : decode cX0_factorialOf 27 = .ok (.aload_n 0, 1) := by decide +kernel
theorem dX0_factorialOf_28 : decode cX0_factorialOf 28 = .ok (.getfield 339, 3) := by decide +kernel
theorem dX0_factorialOf_31 : decode cX0_factorialOf 31 = .ok (.iload_n 2, 1) := by decide +kernel
theorem dX0_factorialOf_32 : decode cX0_factorialOf 32 = .ok (.aload_n 0, 1) := by decide +kernel
theorem dX0_factorialOf_33 : decode cX0_factorialOf 33 = .ok (.getfield 339, 3) := by decide +kernel
theorem dX0_factorialOf_36 : decode cX0_factorialOf 36 = .ok (.iload_n 2, 1) := by decide +kernel
theorem dX0_factorialOf_37 : decode cX0_factorialOf 37 = .ok (.iconst 1, 1) := by decide +kernel
theorem dX0_factorialOf_38 : decode cX0_factorialOf 38 = .ok (.isub, 1) := by decide +kernel
theorem dX0_factorialOf_39 : decode cX0_factorialOf 39 = .ok (.iaload, 1) := by decide +kernel
theorem dX0_factorialOf_40 : decode cX0_factorialOf 40 = .ok (.iload_n 2, 1) := by decide +kernel
theorem dX0_factorialOf_41 : decode cX0_factorialOf 41 = .ok (.invokestatic 6, 3) := by decide +kernel
theorem dX0_factorialOf_44 : decode cX0_factorialOf 44 = .ok (.iastore, 1) := by decide +kernel
theorem dX0_factorialOf_45 : decode cX0_factorialOf 45 = .ok (.iinc 2 1, 3) := by decide +kernel
theorem dX0_factorialOf_48 : decode cX0_factorialOf 48 = .ok (.goto (-30), 3) := by decide +kernel
theorem dX0_factorialOf_51 : decode cX0_factorialOf 51 = .ok (.aload_n 0, 1) := by decide +kernel
theorem dX0_factorialOf_52 : decode cX0_factorialOf 52 = .ok (.getfield 339, 3) := by decide +kernel
theorem dX0_factorialOf_55 : decode cX0_factorialOf 55 = .ok (.iload_n 1, 1) := by decide +kernel
theorem dX0_factorialOf_56 : decode cX0_factorialOf 56 = .ok (.iaload, 1) := by decide +kernel
theorem dX0_factorialOf_57 : decode cX0_factorialOf 57 = .ok (.ireturn, 1) := by decide +kernel
theorem dX0_sum_2_0 : decode cX0_sum_2 0 = .ok (.iload_n 1, 1) := by decide +kernel
theorem dX0_sum_2_1 : decode cX0_sum_2 1 = .ok (.invokestatic 519, 3) := by decide +kernel
theorem dX0_sum_2_4 : decode cX0_sum_2 4 = .ok (.ifCond .ne 5, 3) := by decide +kernel
theorem dX0_sum_2_7 : decode cX0_sum_2 7 = .ok (.iconst (-1), 1) := by decide +kernel
theorem dX0_sum_2_8 : decode cX0_sum_2 8 = .ok (.ireturn, 1) := by decide +kernel
theorem dX0_sum_2_9 : decode cX0_sum_2 9 = .ok (.aload_n 0, 1) := by decide +kernel
theorem dX0_sum_2_10 : decode cX0_sum_2 10 = .ok (.iload_n 1, 1) := by decide +kernel
theorem dX0_sum_2_11 : decode cX0_sum_2 11 = .ok (.invokevirtual 546, 3) := by decide +kernel
theorem dX0_sum_2_14 : decode cX0_sum_2 14 = .ok (.ifCond .ne 6, 3) := by decide +kernel
theorem dX0_sum_2_17 : decode cX0_sum_2 17 = .ok (.bipush (-3), 2) := by decide +kernel
theorem dX0_sum_2_19 : decode cX0_sum_2 19 = .ok (.ireturn, 1) := by decide +kernel
theorem dX0_sum_2_20 : decode cX0_sum_2 20 = .ok (.iload_n 2, 1) := by decide +kernel
theorem dX0_sum_2_21 : decode cX0_sum_2 21 = .ok (.iload_n 3, 1) := by decide +kernel
theorem dX0_sum_2_22 : decode cX0_sum_2 22 = .ok (.iload 4, 2) := by decide +kernel
theorem dX0_sum_2_24 : decode cX0_sum_2 24 = .ok (.invokestatic 601, 3) := by decide +kernel
theorem dX0_sum_2_27 : decode cX0_sum_2 27 = .ok (.ifCond .eq 23, 3) := by decide +kernel
theorem dX0_sum_2_30 : decode cX0_sum_2 30 = .ok (.aload_n 0, 1) := by decide +kernel
theorem dX0_sum_2_31 : decode cX0_sum_2 31 = .ok (.aload_n 0, 1) := by decide +kernel
theorem dX0_sum_2_32 : decode cX0_sum_2 32 = .ok (.getfield 326, 3) := by decide +kernel
theorem dX0_sum_2_35 : decode cX0_sum_2 35 = .ok (.iload_n 1, 1) := by decide +kernel
theorem dX0_sum_2_36 : decode cX0_sum_2 36 = .ok (.aaload, 1) := by decide +kernel
theorem dX0_sum_2_37 : decode cX0_sum_2 37 = .ok (.getfield 512, 3) := by decide +kernel
theorem dX0_sum_2_40 : decode cX0_sum_2 40 = .ok (.iload_n 2, 1) := by decide +kernel
theorem dX0_sum_2_41 : decode cX0_sum_2 41 = .ok (.iload_n 3, 1) := by decide +kernel
theorem dX0_sum_2_42 : decode cX0_sum_2 42 = .ok (.iload 4, 2) := by decide +kernel
theorem dX0_sum_2_44 : decode cX0_sum_2 44 = .ok (.invokevirtual 604, 3) := by decide +kernel
theorem dX0_sum_2_47 : decode cX0_sum_2 47 = .ok (.goto 4, 3) := by decide +kernel
theorem dX0_sum_2_50 : decode cX0_sum_2 50 = .ok (.iconst (-1), 1) := by decide +kernel
theorem dX0_sum_2_51 : decode cX0_sum_2 51 = .ok (.ireturn, 1) := by decide +kernel
theorem dX0_arePlaces_0 : decode cX0_arePlaces 0 = .ok (.iload_n 0, 1) := by decide +kernel
theorem dX0_arePlaces_1 : decode cX0_arePlaces 1 = .ok (.iconst 0, 1) := by decide +kernel
theorem dX0_arePlaces_2 : decode cX0_arePlaces 2 = .ok (.sipush 500, 3) := by decide +kernel
theorem dX0_arePlaces_5 : decode cX0_arePlaces 5 = .ok (.invokestatic 173, 3) := by decide +kernel
theorem dX0_arePlaces_8 : decode cX0_arePlaces 8 = .ok (.ifCond .eq 29, 3) := by decide +kernel
theorem dX0_arePlaces_11 : decode cX0_arePlaces 11 = .ok (.iload_n 1, 1) := by decide +kernel
theorem dX0_arePlaces_12 : decode cX0_arePlaces 12 = .ok (.iconst 0, 1) := by decide +kernel
theorem dX0_arePlaces_13 : decode cX0_arePlaces 13 = .ok (.sipush 500, 3) := by decide +kernel
theorem dX0_arePlaces_16 : decode cX0_arePlaces 16 = .ok (.invokestatic 173, 3) := by decide +kernel
theorem dX0_arePlaces_19 : decode cX0_arePlaces 19 = .ok (.ifCond .eq 18, 3) := by decide +kernel
theorem dX0_arePlaces_22 : decode cX0_arePlaces 22 = .ok (.iload_n 2, 1) := by decide +kernel
theorem dX0_arePlaces_23 : decode cX0_arePlaces 23 = .ok (.iconst 0, 1) := by decide +kernel
theorem dX0_arePlaces_24 : decode cX0_arePlaces 24 = .ok (.sipush 500, 3) := by decide +kernel
theorem dX0_arePlaces_27 : decode cX0_arePlaces 27 = .ok (.invokestatic 173, 3) := by decide +kernel
theorem dX0_arePlaces_30 : decode cX0_arePlaces 30 = .ok (.ifCond .eq 7, 3) := by decide +kernel
theorem dX0_arePlaces_33 : decode cX0_arePlaces 33 = .ok (.iconst 1, 1) := by decide +kernel
theorem dX0_arePlaces_34 : decode cX0_arePlaces 34 = .ok (.goto 4, 3) := by decide +kernel
theorem dX0_arePlaces_37 : decode cX0_arePlaces 37 = .ok (.iconst 0, 1) := by decide +kernel
theorem dX0_arePlaces_38 : decode cX0_arePlaces 38 = .ok (.ireturn, 1) := by decide +kernel
theorem dX0_sumOf_0 : decode cX0_sumOf 0 = .ok (.iconst 0, 1) := by decide +kernel
theorem dX0_sumOf_1 : decode cX0_sumOf 1 = .ok (.istore 5, 2) := by decide +kernel
theorem dX0_sumOf_3 : decode cX0_sumOf 3 = .ok (.iload_n 3, 1) := by decide +kernel
theorem dX0_sumOf_4 : decode cX0_sumOf 4 = .ok (.istore 6, 2) := by decide +kernel
theorem dX0_sumOf_6 : decode cX0_sumOf 6 = .ok (.iload 6, 2) := by decide +kernel
theorem dX0_sumOf_8 : decode cX0_sumOf 8 = .ok (.iload 4, 2) := by decide +kernel
theorem dX0_sumOf_10 : decode cX0_sumOf 10 = .ok (.if_icmp .gt 36, 3) := by decide +kernel
theorem dX0_sumOf_13 : decode cX0_sumOf 13 = .ok (.aload_n 0, 1) := by decide +kernel
theorem dX0_sumOf_14 : decode cX0_sumOf 14 = .ok (.aload_n 1, 1) := by decide +kernel
theorem dX0_sumOf_15 : decode cX0_sumOf 15 = .ok (.iload_n 2, 1) := by decide +kernel
theorem dX0_sumOf_16 : decode cX0_sumOf 16 = .ok (.iload 6, 2) := by decide +kernel
theorem dX0_sumOf_18 : decode cX0_sumOf 18 = .ok (.invokevirtual 595, 3) := by decide +kernel
theorem dX0_sumOf_21 : decode cX0_sumOf 21 = .ok (.istore 7, 2) := by decide +kernel
theorem dX0_sumOf_23 : decode cX0_sumOf 23 = .ok (.iload 7, 2) := by decide +kernel
theorem dX0_sumOf_25 : decode cX0_sumOf 25 = .ok (.iconst (-1), 1) := by decide +kernel
theorem dX0_sumOf_26 : decode cX0_sumOf 26 = .ok (.if_icmp .ne 5, 3) := by decide +kernel
theorem dX0_sumOf_29 : decode cX0_sumOf 29 = .ok (.iconst (-1), 1) := by decide +kernel
theorem dX0_sumOf_30 : decode cX0_sumOf 30 = .ok (.ireturn, 1) := by decide +kernel
theorem dX0_sumOf_31 : decode cX0_sumOf 31 = .ok (.iload 5, 2) := by decide +kernel
theorem dX0_sumOf_33 : decode cX0_sumOf 33 = .ok (.iload 7, 2) := by decide +kernel
theorem dX0_sumOf_35 : decode cX0_sumOf 35 = .ok (.invokestatic 598, 3) := by decide +kernel
theorem dX0_sumOf_38 : decode cX0_sumOf 38 = .ok (.istore 5, 2) := by decide +kernel
theorem dX0_sumOf_40 : decode cX0_sumOf 40 = .ok (.iinc 6 1, 3) := by decide +kernel
theorem dX0_sumOf_43 : decode cX0_sumOf 43 = .ok (.goto (-37), 3) := by decide +kernel
theorem dX0_sumOf_46 : decode cX0_sumOf 46 = .ok (.iload 5, 2) := by decide +kernel
theorem dX0_sumOf_48 : decode cX0_sumOf 48 = .ok (.ireturn, 1) := by decide +kernel
theorem dX0_quotient_0 : decode cX0_quotient 0 = .ok (.iload_n 1, 1) := by decide +kernel
theorem dX0_quotient_1 : decode cX0_quotient 1 = .ok (.invokestatic 519, 3) := by decide +kernel
theorem dX0_quotient_4 : decode cX0_quotient 4 = .ok (.ifCond .eq 10, 3) := by decide +kernel
theorem dX0_quotient_7 : decode cX0_quotient 7 = .ok (.iload_n 3, 1) := by decide +kernel
theorem dX0_quotient_8 : decode cX0_quotient 8 = .ok (.invokestatic 519, 3) := by decide +kernel
theorem dX0_quotient_11 : decode cX0_quotient 11 = .ok (.ifCond .ne 5, 3) := by decide +kernel
theorem dX0_quotient_14 : decode cX0_quotient 14 = .ok (.iconst (-1), 1) := by decide +kernel
theorem dX0_quotient_15 : decode cX0_quotient 15 = .ok (.ireturn, 1) := by decide +kernel
theorem dX0_quotient_16 : decode cX0_quotient 16 = .ok (.aload_n 0, 1) := by decide +kernel
theorem dX0_quotient_17 : decode cX0_quotient 17 = .ok (.iload_n 1, 1) := by decide +kernel
theorem dX0_quotient_18 : decode cX0_quotient 18 = .ok (.invokevirtual 546, 3) := by decide +kernel
theorem dX0_quotient_21 : decode cX0_quotient 21 = .ok (.ifCond .ne 6, 3) := by decide +kernel
theorem dX0_quotient_24 : decode cX0_quotient 24 = .ok (.bipush (-3), 2) := by decide +kernel
theorem dX0_quotient_26 : decode cX0_quotient 26 = .ok (.ireturn, 1) := by decide +kernel
theorem dX0_quotient_27 : decode cX0_quotient 27 = .ok (.iload_n 2, 1) := by decide +kernel
theorem dX0_quotient_28 : decode cX0_quotient 28 = .ok (.iconst 0, 1) := by decide +kernel
theorem dX0_quotient_29 : decode cX0_quotient 29 = .ok (.iconst 1, 1) := by decide +kernel
theorem dX0_quotient_30 : decode cX0_quotient 30 = .ok (.invokestatic 173, 3) := by decide +kernel
theorem dX0_quotient_33 : decode cX0_quotient 33 = .ok (.ifCond .eq 21, 3) := by decide +kernel
theorem dX0_quotient_36 : decode cX0_quotient 36 = .ok (.aload_n 0, 1) := by decide +kernel
theorem dX0_quotient_37 : decode cX0_quotient 37 = .ok (.getfield 326, 3) := by decide +kernel
theorem dX0_quotient_40 : decode cX0_quotient 40 = .ok (.iload_n 1, 1) := by decide +kernel
theorem dX0_quotient_41 : decode cX0_quotient 41 = .ok (.aaload, 1) := by decide +kernel
theorem dX0_quotient_42 : decode cX0_quotient 42 = .ok (.getfield 512, 3) := by decide +kernel
theorem dX0_quotient_45 : decode cX0_quotient 45 = .ok (.getfield 110, 3) := by decide +kernel
theorem dX0_quotient_48 : decode cX0_quotient 48 = .ok (.invokevirtual 128, 3) := by decide +kernel
theorem dX0_quotient_51 : decode cX0_quotient 51 = .ok (.ifCond .eq 5, 3) := by decide +kernel
theorem dX0_quotient_54 : decode cX0_quotient 54 = .ok (.iconst (-1), 1) := by decide +kernel
theorem dX0_quotient_55 : decode cX0_quotient 55 = .ok (.ireturn, 1) := by decide +kernel
theorem dX0_quotient_56 : decode cX0_quotient 56 = .ok (.aload_n 0, 1) := by decide +kernel
theorem dX0_quotient_57 : decode cX0_quotient 57 = .ok (.aload_n 0, 1) := by decide +kernel
theorem dX0_quotient_58 : decode cX0_quotient 58 = .ok (.getfield 326, 3) := by decide +kernel
theorem dX0_quotient_61 : decode cX0_quotient 61 = .ok (.iload_n 1, 1) := by decide +kernel
theorem dX0_quotient_62 : decode cX0_quotient 62 = .ok (.aaload, 1) := by decide +kernel
theorem dX0_quotient_63 : decode cX0_quotient 63 = .ok (.getfield 512, 3) := by decide +kernel
theorem dX0_quotient_66 : decode cX0_quotient 66 = .ok (.iload_n 2, 1) := by decide +kernel
theorem dX0_quotient_67 : decode cX0_quotient 67 = .ok (.iconst 1, 1) := by decide +kernel
theorem dX0_quotient_68 : decode cX0_quotient 68 = .ok (.aload_n 0, 1) := by decide +kernel
theorem dX0_quotient_69 : decode cX0_quotient 69 = .ok (.getfield 330, 3) := by decide +kernel
theorem dX0_quotient_72 : decode cX0_quotient 72 = .ok (.getfield 110, 3) := by decide +kernel
theorem dX0_quotient_75 : decode cX0_quotient 75 = .ok (.invokevirtual 624, 3) := by decide +kernel
theorem dX0_quotient_78 : decode cX0_quotient 78 = .ok (.ifCond .ne 6, 3) := by decide +kernel
theorem dX0_quotient_81 : decode cX0_quotient 81 = .ok (.bipush (-2), 2) := by decide +kernel
theorem dX0_quotient_83 : decode cX0_quotient 83 = .ok (.ireturn, 1) := by decide +kernel
theorem dX0_quotient_84 : decode cX0_quotient 84 = .ok (.aload_n 0, 1) := by decide +kernel
theorem dX0_quotient_85 : decode cX0_quotient 85 = .ok (.iload_n 3, 1) := by decide +kernel
theorem dX0_quotient_86 : decode cX0_quotient 86 = .ok (.invokevirtual 628, 3) := by decide +kernel
theorem dX0_quotient_89 : decode cX0_quotient 89 = .ok (.ireturn, 1) := by decide +kernel
theorem dX0_quotientOf_0 : decode cX0_quotientOf 0 = .ok (.aload_n 0, 1) := by decide +kernel
theorem dX0_quotientOf_1 : decode cX0_quotientOf 1 = .ok (.getfield 31, 3) := by decide +kernel
theorem dX0_quotientOf_4 : decode cX0_quotientOf 4 = .ok (.aload_n 1, 1) := by decide +kernel
theorem dX0_quotientOf_5 : decode cX0_quotientOf 5 = .ok (.getfield 110, 3) := by decide +kernel
theorem dX0_quotientOf_8 : decode cX0_quotientOf 8 = .ok (.getfield 89, 3) := by decide +kernel
theorem dX0_quotientOf_11 : decode cX0_quotientOf 11 = .ok (.invokevirtual 66, 3) := by decide +kernel
theorem dX0_quotientOf_14 : decode cX0_quotientOf 14 = .ok (.aload_n 0, 1) := by decide +kernel
theorem dX0_quotientOf_15 : decode cX0_quotientOf 15 = .ok (.getfield 39, 3) := by decide +kernel
theorem dX0_quotientOf_18 : decode cX0_quotientOf 18 = .ok (.aload_n 1, 1) := by decide +kernel
theorem dX0_quotientOf_19 : decode cX0_quotientOf 19 = .ok (.getfield 110, 3) := by decide +kernel
theorem dX0_quotientOf_22 : decode cX0_quotientOf 22 = .ok (.getfield 94, 3) := by decide +kernel
theorem dX0_quotientOf_25 : decode cX0_quotientOf 25 = .ok (.invokevirtual 66, 3) := by decide +kernel
theorem dX0_quotientOf_28 : decode cX0_quotientOf 28 = .ok (.iload_n 2, 1) := by decide +kernel
theorem dX0_quotientOf_29 : decode cX0_quotientOf 29 = .ok (.ifCond .ne 28, 3) := by decide +kernel
theorem dX0_quotientOf_32 : decode cX0_quotientOf 32 = .ok (.aload_n 0, 1) := by decide +kernel
theorem dX0_quotientOf_33 : decode cX0_quotientOf 33 = .ok (.getfield 31, 3) := by decide +kernel
theorem dX0_quotientOf_36 : decode cX0_quotientOf 36 = .ok (.iload_n 3, 1) := by decide +kernel
theorem dX0_quotientOf_37 : decode cX0_quotientOf 37 = .ok (.invokestatic 543, 3) := by decide +kernel
theorem dX0_quotientOf_40 : decode cX0_quotientOf 40 = .ok (.invokevirtual 614, 3) := by decide +kernel
theorem dX0_quotientOf_43 : decode cX0_quotientOf 43 = .ok (.aload_n 0, 1) := by decide +kernel
theorem dX0_quotientOf_44 : decode cX0_quotientOf 44 = .ok (.getfield 39, 3) := by decide +kernel
theorem dX0_quotientOf_47 : decode cX0_quotientOf 47 = .ok (.iload_n 3, 1) := by decide +kernel
theorem dX0_quotientOf_48 : decode cX0_quotientOf 48 = .ok (.invokestatic 543, 3) := by decide +kernel
theorem dX0_quotientOf_51 : decode cX0_quotientOf 51 = .ok (.invokevirtual 614, 3) := by decide +kernel
theorem dX0_quotientOf_54 : decode cX0_quotientOf 54 = .ok (.goto 25, 3) := by decide +kernel
theorem dX0_quotientOf_57 : decode cX0_quotientOf 57 = .ok (.aload_n 0, 1) := by decide +kernel
theorem dX0_quotientOf_58 : decode cX0_quotientOf 58 = .ok (.getfield 31, 3) := by decide +kernel
theorem dX0_quotientOf_61 : decode cX0_quotientOf 61 = .ok (.iload_n 3, 1) := by decide +kernel
theorem dX0_quotientOf_62 : decode cX0_quotientOf 62 = .ok (.invokestatic 543, 3) := by decide +kernel
theorem dX0_quotientOf_65 : decode cX0_quotientOf 65 = .ok (.invokevirtual 617, 3) := by decide +kernel
theorem dX0_quotientOf_68 : decode cX0_quotientOf 68 = .ok (.aload_n 0, 1) := by decide +kernel
theorem dX0_quotientOf_69 : decode cX0_quotientOf 69 = .ok (.getfield 39, 3) := by decide +kernel
theorem dX0_quotientOf_72 : decode cX0_quotientOf 72 = .ok (.iload_n 3, 1) := by decide +kernel
theorem dX0_quotientOf_73 : decode cX0_quotientOf 73 = .ok (.invokestatic 543, 3) := by decide +kernel
theorem dX0_quotientOf_76 : decode cX0_quotientOf 76 = .ok (.invokevirtual 617, 3) := by decide +kernel
theorem dX0_quotientOf_79 : decode cX0_quotientOf 79 = .ok (.aload_n 0, 1) := by decide +kernel
theorem dX0_quotientOf_80 : decode cX0_quotientOf 80 = .ok (.getfield 59, 3) := by decide +kernel
theorem dX0_quotientOf_83 : decode cX0_quotientOf 83 = .ok (.aload_n 0, 1) := by decide +kernel
theorem dX0_quotientOf_84 : decode cX0_quotientOf 84 = .ok (.getfield 31, 3) := by decide +kernel
theorem dX0_quotientOf_87 : decode cX0_quotientOf 87 = .ok (.aload_n 1, 1) := by decide +kernel
theorem dX0_quotientOf_88 : decode cX0_quotientOf 88 = .ok (.getfield 110, 3) := by decide +kernel
theorem dX0_quotientOf_91 : decode cX0_quotientOf 91 = .ok (.getfield 94, 3) := by decide +kernel
theorem dX0_quotientOf_94 : decode cX0_quotientOf 94 = .ok (.invokevirtual 97, 3) := by decide +kernel
theorem dX0_quotientOf_97 : decode cX0_quotientOf 97 = .ok (.aload_n 0, 1) := by decide +kernel
theorem dX0_quotientOf_98 : decode cX0_quotientOf 98 = .ok (.getfield 31, 3) := by decide +kernel
theorem dX0_quotientOf_101 : decode cX0_quotientOf 101 = .ok (.aload_n 0, 1) := by decide +kernel
theorem dX0_quotientOf_102 : decode cX0_quotientOf 102 = .ok (.getfield 59, 3) := by decide +kernel
theorem dX0_quotientOf_105 : decode cX0_quotientOf 105 = .ok (.invokevirtual 66, 3) := by decide +kernel
theorem dX0_quotientOf_108 : decode cX0_quotientOf 108 = .ok (.aload_n 0, 1) := by decide +kernel
theorem dX0_quotientOf_109 : decode cX0_quotientOf 109 = .ok (.getfield 59, 3) := by decide +kernel
theorem dX0_quotientOf_112 : decode cX0_quotientOf 112 = .ok (.aload_n 0, 1) := by decide +kernel
theorem dX0_quotientOf_113 : decode cX0_quotientOf 113 = .ok (.getfield 39, 3) := by decide +kernel
theorem dX0_quotientOf_116 : decode cX0_quotientOf 116 = .ok (.aload_n 1, 1) := by decide +kernel
theorem dX0_quotientOf_117 : decode cX0_quotientOf 117 = .ok (.getfield 110, 3) := by decide +kernel
theorem dX0_quotientOf_120 : decode cX0_quotientOf 120 = .ok (.getfield 89, 3) := by decide +kernel
theorem dX0_quotientOf_123 : decode cX0_quotientOf 123 = .ok (.invokevirtual 97, 3) := by decide +kernel
theorem dX0_quotientOf_126 : decode cX0_quotientOf 126 = .ok (.aload_n 0, 1) := by decide +kernel
theorem dX0_quotientOf_127 : decode cX0_quotientOf 127 = .ok (.getfield 39, 3) := by decide +kernel
theorem dX0_quotientOf_130 : decode cX0_quotientOf 130 = .ok (.aload_n 0, 1) := by decide +kernel
theorem dX0_quotientOf_131 : decode cX0_quotientOf 131 = .ok (.getfield 59, 3) := by decide +kernel
theorem dX0_quotientOf_134 : decode cX0_quotientOf 134 = .ok (.invokevirtual 66, 3) := by decide +kernel
theorem dX0_quotientOf_137 : decode cX0_quotientOf 137 = .ok (.aload_n 0, 1) := by decide +kernel
theorem dX0_quotientOf_138 : decode cX0_quotientOf 138 = .ok (.getfield 31, 3) := by decide +kernel
theorem dX0_quotientOf_141 : decode cX0_quotientOf 141 = .ok (.iload_n 2, 1) := by decide +kernel
theorem dX0_quotientOf_142 : decode cX0_quotientOf 142 = .ok (.ifCond .ne 10, 3) := by decide +kernel
theorem dX0_quotientOf_145 : decode cX0_quotientOf 145 = .ok (.aload_n 1, 1) := by decide +kernel
theorem dX0_quotientOf_146 : decode cX0_quotientOf 146 = .ok (.getfield 130, 3) := by decide +kernel
theorem dX0_quotientOf_149 : decode cX0_quotientOf 149 = .ok (.goto 7, 3) := by decide +kernel
theorem dX0_quotientOf_152 : decode cX0_quotientOf 152 = .ok (.aload_n 1, 1) := by decide +kernel
theorem dX0_quotientOf_153 : decode cX0_quotientOf 153 = .ok (.getfield 133, 3) := by decide +kernel
theorem dX0_quotientOf_156 : decode cX0_quotientOf 156 = .ok (.iload_n 3, 1) := by decide +kernel
theorem dX0_quotientOf_157 : decode cX0_quotientOf 157 = .ok (.invokestatic 290, 3) := by decide +kernel
theorem dX0_quotientOf_160 : decode cX0_quotientOf 160 = .ok (.invokevirtual 78, 3) := by decide +kernel
theorem dX0_quotientOf_163 : decode cX0_quotientOf 163 = .ok (.iconst 0, 1) := by decide +kernel
theorem dX0_quotientOf_164 : decode cX0_quotientOf 164 = .ok (.istore 5, 2) := by decide +kernel
theorem dX0_quotientOf_166 : decode cX0_quotientOf 166 = .ok (.iload 5, 2) := by decide +kernel
theorem dX0_quotientOf_168 : decode cX0_quotientOf 168 = .ok (.aload_n 1, 1) := by decide +kernel
theorem dX0_quotientOf_169 : decode cX0_quotientOf 169 = .ok (.getfield 136, 3) := by decide +kernel
theorem dX0_quotientOf_172 : decode cX0_quotientOf 172 = .ok (.if_icmp .ge 174, 3) := by decide +kernel
theorem dX0_quotientOf_175 : decode cX0_quotientOf 175 = .ok (.iload_n 2, 1) := by decide +kernel
theorem dX0_quotientOf_176 : decode cX0_quotientOf 176 = .ok (.ifCond .ne 13, 3) := by decide +kernel
theorem dX0_quotientOf_179 : decode cX0_quotientOf 179 = .ok (.aload_n 1, 1) := by decide +kernel
theorem dX0_quotientOf_180 : decode cX0_quotientOf 180 = .ok (.getfield 139, 3) := by decide +kernel
theorem dX0_quotientOf_183 : decode cX0_quotientOf 183 = .ok (.iload 5, 2) := by decide +kernel
theorem dX0_quotientOf_185 : decode cX0_quotientOf 185 = .ok (.iaload, 1) := by decide +kernel
theorem dX0_quotientOf_186 : decode cX0_quotientOf 186 = .ok (.goto 10, 3) := by decide +kernel
theorem dX0_quotientOf_189 : decode cX0_quotientOf 189 = .ok (.aload_n 1, 1) := by decide +kernel
theorem dX0_quotientOf_190 : decode cX0_quotientOf 190 = .ok (.getfield 143, 3) := by decide +kernel
theorem dX0_quotientOf_193 : decode cX0_quotientOf 193 = .ok (.iload 5, 2) := by decide +kernel
theorem dX0_quotientOf_195 : decode cX0_quotientOf 195 = .ok (.iaload, 1) := by decide +kernel
theorem dX0_quotientOf_196 : decode cX0_quotientOf 196 = .ok (.iload_n 3, 1) := by decide +kernel
theorem dX0_quotientOf_197 : decode cX0_quotientOf 197 = .ok (.imul, 1) := by decide +kernel
theorem dX0_quotientOf_198 : decode cX0_quotientOf 198 = .ok (.istore 6, 2) := by decide +kernel
theorem dX0_quotientOf_200 : decode cX0_quotientOf 200 = .ok (.aload_n 1, 1) := by decide +kernel
theorem dX0_quotientOf_201 : decode cX0_quotientOf 201 = .ok (.getfield 149, 3) := by decide +kernel
theorem dX0_quotientOf_204 : decode cX0_quotientOf 204 = .ok (.iload 5, 2) := by decide +kernel
theorem dX0_quotientOf_206 : decode cX0_quotientOf 206 = .ok (.iaload, 1) := by decide +kernel
theorem dX0_quotientOf_207 : decode cX0_quotientOf 207 = .ok (.ifCond .le 7, 3) := by decide +kernel
theorem dX0_quotientOf_210 : decode cX0_quotientOf 210 = .ok (.iconst 1, 1) := by decide +kernel
theorem dX0_quotientOf_211 : decode cX0_quotientOf 211 = .ok (.goto 4, 3) := by decide +kernel
theorem dX0_quotientOf_214 : decode cX0_quotientOf 214 = .ok (.iconst 0, 1) := by decide +kernel
theorem dX0_quotientOf_215 : decode cX0_quotientOf 215 = .ok (.iload 6, 2) := by decide +kernel
theorem dX0_quotientOf_217 : decode cX0_quotientOf 217 = .ok (.ifCond .le 7, 3) := by decide +kernel
theorem dX0_quotientOf_220 : decode cX0_quotientOf 220 = .ok (.iconst 1, 1) := by decide +kernel
theorem dX0_quotientOf_221 : decode cX0_quotientOf 221 = .ok (.goto 4, 3) := by decide +kernel
theorem dX0_quotientOf_224 : decode cX0_quotientOf 224 = .ok (.iconst 0, 1) := by decide +kernel
theorem dX0_quotientOf_225 : decode cX0_quotientOf 225 = .ok (.if_icmp .ne 10, 3) := by decide +kernel
theorem dX0_quotientOf_228 : decode cX0_quotientOf 228 = .ok (.aload_n 0, 1) := by decide +kernel
theorem dX0_quotientOf_229 : decode cX0_quotientOf 229 = .ok (.getfield 31, 3) := by decide +kernel
theorem dX0_quotientOf_232 : decode cX0_quotientOf 232 = .ok (.goto 7, 3) := by decide +kernel
theorem dX0_quotientOf_235 : decode cX0_quotientOf 235 = .ok (.aload_n 0, 1) := by decide +kernel
theorem dX0_quotientOf_236 : decode cX0_quotientOf 236 = .ok (.getfield 39, 3) := by decide +kernel
theorem dX0_quotientOf_239 : decode cX0_quotientOf 239 = .ok (.astore 7, 2) := by decide +kernel
theorem dX0_quotientOf_241 : decode cX0_quotientOf 241 = .ok (.iconst 0, 1) := by decide +kernel
theorem dX0_quotientOf_242 : decode cX0_quotientOf 242 = .ok (.istore 8, 2) := by decide +kernel
theorem dX0_quotientOf_244 : decode cX0_quotientOf 244 = .ok (.iload 8, 2) := by decide +kernel
theorem dX0_quotientOf_246 : decode cX0_quotientOf 246 = .ok (.aload_n 1, 1) := by decide +kernel
theorem dX0_quotientOf_247 : decode cX0_quotientOf 247 = .ok (.getfield 149, 3) := by decide +kernel
theorem dX0_quotientOf_250 : decode cX0_quotientOf 250 = .ok (.iload 5, 2) := by decide +kernel
theorem dX0_quotientOf_252 : decode cX0_quotientOf 252 = .ok (.iaload, 1) := by decide +kernel
theorem dX0_quotientOf_253 : decode cX0_quotientOf 253 = .ok (.invokestatic 166, 3) := by decide +kernel
theorem dX0_quotientOf_256 : decode cX0_quotientOf 256 = .ok (.if_icmp .ge 84, 3) := by decide +kernel
theorem dX0_quotientOf_259 : decode cX0_quotientOf 259 = .ok (.iload 6, 2) := by decide +kernel
theorem dX0_quotientOf_261 : decode cX0_quotientOf 261 = .ok (.ifCond .le 36, 3) := by decide +kernel
theorem dX0_quotientOf_264 : decode cX0_quotientOf 264 = .ok (.aload_n 0, 1) := by decide +kernel
theorem dX0_quotientOf_265 : decode cX0_quotientOf 265 = .ok (.aload 7, 2) := by decide +kernel
theorem dX0_quotientOf_267 : decode cX0_quotientOf 267 = .ok (.aload_n 1, 1) := by decide +kernel
theorem dX0_quotientOf_268 : decode cX0_quotientOf 268 = .ok (.getfield 139, 3) := by decide +kernel
theorem dX0_quotientOf_271 : decode cX0_quotientOf 271 = .ok (.iload 5, 2) := by decide +kernel
theorem dX0_quotientOf_273 : decode cX0_quotientOf 273 = .ok (.iaload, 1) := by decide +kernel
theorem dX0_quotientOf_274 : decode cX0_quotientOf 274 = .ok (.aload_n 1, 1) := by decide +kernel
theorem dX0_quotientOf_275 : decode cX0_quotientOf 275 = .ok (.getfield 143, 3) := by decide +kernel
theorem dX0_quotientOf_278 : decode cX0_quotientOf 278 = .ok (.iload 5, 2) := by decide +kernel
theorem dX0_quotientOf_280 : decode cX0_quotientOf 280 = .ok (.iaload, 1) := by decide +kernel
theorem dX0_quotientOf_281 : decode cX0_quotientOf 281 = .ok (.aload_n 1, 1) := by decide +kernel
theorem dX0_quotientOf_282 : decode cX0_quotientOf 282 = .ok (.getfield 146, 3) := by decide +kernel
theorem dX0_quotientOf_285 : decode cX0_quotientOf 285 = .ok (.iload 5, 2) := by decide +kernel
theorem dX0_quotientOf_287 : decode cX0_quotientOf 287 = .ok (.iaload, 1) := by decide +kernel
theorem dX0_quotientOf_288 : decode cX0_quotientOf 288 = .ok (.iconst 1, 1) := by decide +kernel
theorem dX0_quotientOf_289 : decode cX0_quotientOf 289 = .ok (.iload 6, 2) := by decide +kernel
theorem dX0_quotientOf_291 : decode cX0_quotientOf 291 = .ok (.invokevirtual 620, 3) := by decide +kernel
theorem dX0_quotientOf_294 : decode cX0_quotientOf 294 = .ok (.goto 40, 3) := by decide +kernel
theorem dX0_quotientOf_297 : decode cX0_quotientOf 297 = .ok (.iload 6, 2) := by decide +kernel
theorem dX0_quotientOf_299 : decode cX0_quotientOf 299 = .ok (.ifCond .ge 35, 3) := by decide +kernel
theorem dX0_quotientOf_302 : decode cX0_quotientOf 302 = .ok (.aload_n 0, 1) := by decide +kernel
theorem dX0_quotientOf_303 : decode cX0_quotientOf 303 = .ok (.aload 7, 2) := by decide +kernel
theorem dX0_quotientOf_305 : decode cX0_quotientOf 305 = .ok (.aload_n 1, 1) := by decide +kernel
theorem dX0_quotientOf_306 : decode cX0_quotientOf 306 = .ok (.getfield 139, 3) := by decide +kernel
theorem dX0_quotientOf_309 : decode cX0_quotientOf 309 = .ok (.iload 5, 2) := by decide +kernel
theorem dX0_quotientOf_311 : decode cX0_quotientOf 311 = .ok (.iaload, 1) := by decide +kernel
theorem dX0_quotientOf_312 : decode cX0_quotientOf 312 = .ok (.aload_n 1, 1) := by decide +kernel
theorem dX0_quotientOf_313 : decode cX0_quotientOf 313 = .ok (.getfield 143, 3) := by decide +kernel
theorem dX0_quotientOf_316 : decode cX0_quotientOf 316 = .ok (.iload 5, 2) := by decide +kernel
theorem dX0_quotientOf_318 : decode cX0_quotientOf 318 = .ok (.iaload, 1) := by decide +kernel
theorem dX0_quotientOf_319 : decode cX0_quotientOf 319 = .ok (.aload_n 1, 1) := by decide +kernel
theorem dX0_quotientOf_320 : decode cX0_quotientOf 320 = .ok (.getfield 146, 3) := by decide +kernel
theorem dX0_quotientOf_323 : decode cX0_quotientOf 323 = .ok (.iload 5, 2) := by decide +kernel
theorem dX0_quotientOf_325 : decode cX0_quotientOf 325 = .ok (.iaload, 1) := by decide +kernel
theorem dX0_quotientOf_326 : decode cX0_quotientOf 326 = .ok (.iload 6, 2) := by decide +kernel
theorem dX0_quotientOf_328 : decode cX0_quotientOf 328 = .ok (.iconst 1, 1) := by decide +kernel
theorem dX0_quotientOf_329 : decode cX0_quotientOf 329 = .ok (.iadd, 1) := by decide +kernel
theorem dX0_quotientOf_330 : decode cX0_quotientOf 330 = .ok (.iconst 0, 1) := by decide +kernel
theorem dX0_quotientOf_331 : decode cX0_quotientOf 331 = .ok (.invokevirtual 620, 3) := by decide +kernel
theorem dX0_quotientOf_334 : decode cX0_quotientOf 334 = .ok (.iinc 8 1, 3) := by decide +kernel
theorem dX0_quotientOf_337 : decode cX0_quotientOf 337 = .ok (.goto (-93), 3) := by decide +kernel
theorem dX0_quotientOf_340 : decode cX0_quotientOf 340 = .ok (.iinc 5 1, 3) := by decide +kernel
theorem dX0_quotientOf_343 : decode cX0_quotientOf 343 = .ok (.goto (-177), 3) := by decide +kernel
theorem dX0_quotientOf_346 : decode cX0_quotientOf 346 = .ok (.aload_n 0, 1) := by decide +kernel
theorem dX0_quotientOf_347 : decode cX0_quotientOf 347 = .ok (.aload 4, 2) := by decide +kernel
theorem dX0_quotientOf_349 : decode cX0_quotientOf 349 = .ok (.invokevirtual 106, 3) := by decide +kernel
theorem dX0_quotientOf_352 : decode cX0_quotientOf 352 = .ok (.ireturn, 1) := by decide +kernel
theorem dX0_timesLines_0 : decode cX0_timesLines 0 = .ok (.iload 5, 2) := by decide +kernel
theorem dX0_timesLines_2 : decode cX0_timesLines 2 = .ok (.istore 7, 2) := by decide +kernel
theorem dX0_timesLines_4 : decode cX0_timesLines 4 = .ok (.iload 7, 2) := by decide +kernel
theorem dX0_timesLines_6 : decode cX0_timesLines 6 = .ok (.iload 6, 2) := by decide +kernel
theorem dX0_timesLines_8 : decode cX0_timesLines 8 = .ok (.if_icmp .gt 94, 3) := by decide +kernel
theorem dX0_timesLines_11 : decode cX0_timesLines 11 = .ok (.aload_n 0, 1) := by decide +kernel
theorem dX0_timesLines_12 : decode cX0_timesLines 12 = .ok (.getfield 50, 3) := by decide +kernel
theorem dX0_timesLines_15 : decode cX0_timesLines 15 = .ok (.iconst 2, 1) := by decide +kernel
theorem dX0_timesLines_16 : decode cX0_timesLines 16 = .ok (.iconst 2, 1) := by decide +kernel
theorem dX0_timesLines_17 : decode cX0_timesLines 17 = .ok (.invokevirtual 304, 3) := by decide +kernel
theorem dX0_timesLines_20 : decode cX0_timesLines 20 = .ok (.aload_n 0, 1) := by decide +kernel
theorem dX0_timesLines_21 : decode cX0_timesLines 21 = .ok (.getfield 50, 3) := by decide +kernel
theorem dX0_timesLines_24 : decode cX0_timesLines 24 = .ok (.getfield 288, 3) := by decide +kernel
theorem dX0_timesLines_27 : decode cX0_timesLines 27 = .ok (.iconst 0, 1) := by decide +kernel
theorem dX0_timesLines_28 : decode cX0_timesLines 28 = .ok (.iload 4, 2) := by decide +kernel
theorem dX0_timesLines_30 : decode cX0_timesLines 30 = .ok (.iload 7, 2) := by decide +kernel
theorem dX0_timesLines_32 : decode cX0_timesLines 32 = .ok (.iadd, 1) := by decide +kernel
theorem dX0_timesLines_33 : decode cX0_timesLines 33 = .ok (.invokestatic 543, 3) := by decide +kernel
theorem dX0_timesLines_36 : decode cX0_timesLines 36 = .ok (.iastore, 1) := by decide +kernel
theorem dX0_timesLines_37 : decode cX0_timesLines 37 = .ok (.aload_n 0, 1) := by decide +kernel
theorem dX0_timesLines_38 : decode cX0_timesLines 38 = .ok (.getfield 50, 3) := by decide +kernel
theorem dX0_timesLines_41 : decode cX0_timesLines 41 = .ok (.getfield 288, 3) := by decide +kernel
theorem dX0_timesLines_44 : decode cX0_timesLines 44 = .ok (.iconst 1, 1) := by decide +kernel
theorem dX0_timesLines_45 : decode cX0_timesLines 45 = .ok (.iload_n 2, 1) := by decide +kernel
theorem dX0_timesLines_46 : decode cX0_timesLines 46 = .ok (.invokestatic 543, 3) := by decide +kernel
theorem dX0_timesLines_49 : decode cX0_timesLines 49 = .ok (.iastore, 1) := by decide +kernel
theorem dX0_timesLines_50 : decode cX0_timesLines 50 = .ok (.aload_n 0, 1) := by decide +kernel
theorem dX0_timesLines_51 : decode cX0_timesLines 51 = .ok (.getfield 50, 3) := by decide +kernel
theorem dX0_timesLines_54 : decode cX0_timesLines 54 = .ok (.getfield 288, 3) := by decide +kernel
theorem dX0_timesLines_57 : decode cX0_timesLines 57 = .ok (.aload_n 0, 1) := by decide +kernel
theorem dX0_timesLines_58 : decode cX0_timesLines 58 = .ok (.getfield 50, 3) := by decide +kernel
theorem dX0_timesLines_61 : decode cX0_timesLines 61 = .ok (.getfield 608, 3) := by decide +kernel
theorem dX0_timesLines_64 : decode cX0_timesLines 64 = .ok (.iload_n 3, 1) := by decide +kernel
theorem dX0_timesLines_65 : decode cX0_timesLines 65 = .ok (.invokestatic 543, 3) := by decide +kernel
theorem dX0_timesLines_68 : decode cX0_timesLines 68 = .ok (.iastore, 1) := by decide +kernel
theorem dX0_timesLines_69 : decode cX0_timesLines 69 = .ok (.aload_n 0, 1) := by decide +kernel
theorem dX0_timesLines_70 : decode cX0_timesLines 70 = .ok (.getfield 50, 3) := by decide +kernel
theorem dX0_timesLines_73 : decode cX0_timesLines 73 = .ok (.invokevirtual 611, 3) := by decide +kernel
theorem dX0_timesLines_76 : decode cX0_timesLines 76 = .ok (.aload_n 0, 1) := by decide +kernel
theorem dX0_timesLines_77 : decode cX0_timesLines 77 = .ok (.getfield 59, 3) := by decide +kernel
theorem dX0_timesLines_80 : decode cX0_timesLines 80 = .ok (.aload_n 1, 1) := by decide +kernel
theorem dX0_timesLines_81 : decode cX0_timesLines 81 = .ok (.invokevirtual 66, 3) := by decide +kernel
theorem dX0_timesLines_84 : decode cX0_timesLines 84 = .ok (.aload_n 1, 1) := by decide +kernel
theorem dX0_timesLines_85 : decode cX0_timesLines 85 = .ok (.aload_n 0, 1) := by decide +kernel
theorem dX0_timesLines_86 : decode cX0_timesLines 86 = .ok (.getfield 59, 3) := by decide +kernel
theorem dX0_timesLines_89 : decode cX0_timesLines 89 = .ok (.aload_n 0, 1) := by decide +kernel
theorem dX0_timesLines_90 : decode cX0_timesLines 90 = .ok (.getfield 50, 3) := by decide +kernel
theorem dX0_timesLines_93 : decode cX0_timesLines 93 = .ok (.invokevirtual 97, 3) := by decide +kernel
theorem dX0_timesLines_96 : decode cX0_timesLines 96 = .ok (.iinc 7 1, 3) := by decide +kernel
theorem dX0_timesLines_99 : decode cX0_timesLines 99 = .ok (.goto (-95), 3) := by decide +kernel
theorem dX0_timesLines_102 : decode cX0_timesLines 102 = .ok (.return_, 1) := by decide +kernel
theorem dX0_keepResult_0 : decode cX0_keepResult 0 = .ok (.aload_n 0, 1) := by decide +kernel
theorem dX0_keepResult_1 : decode cX0_keepResult 1 = .ok (.getfield 330, 3) := by decide +kernel
theorem dX0_keepResult_4 : decode cX0_keepResult 4 = .ok (.invokevirtual 301, 3) := by decide +kernel
theorem dX0_keepResult_7 : decode cX0_keepResult 7 = .ok (.aload_n 0, 1) := by decide +kernel
theorem dX0_keepResult_8 : decode cX0_keepResult 8 = .ok (.aload_n 0, 1) := by decide +kernel
theorem dX0_keepResult_9 : decode cX0_keepResult 9 = .ok (.getfield 330, 3) := by decide +kernel
theorem dX0_keepResult_12 : decode cX0_keepResult 12 = .ok (.iload_n 1, 1) := by decide +kernel
theorem dX0_keepResult_13 : decode cX0_keepResult 13 = .ok (.invokevirtual 515, 3) := by decide +kernel
theorem dX0_keepResult_16 : decode cX0_keepResult 16 = .ok (.ireturn, 1) := by decide +kernel
theorem dX0_form_0 : decode cX0_form 0 = .ok (.iload_n 1, 1) := by decide +kernel
theorem dX0_form_1 : decode cX0_form 1 = .ok (.invokestatic 519, 3) := by decide +kernel
theorem dX0_form_4 : decode cX0_form 4 = .ok (.ifCond .eq 10, 3) := by decide +kernel
theorem dX0_form_7 : decode cX0_form 7 = .ok (.iload_n 3, 1) := by decide +kernel
theorem dX0_form_8 : decode cX0_form 8 = .ok (.invokestatic 519, 3) := by decide +kernel
theorem dX0_form_11 : decode cX0_form 11 = .ok (.ifCond .ne 5, 3) := by decide +kernel
theorem dX0_form_14 : decode cX0_form 14 = .ok (.iconst (-1), 1) := by decide +kernel
theorem dX0_form_15 : decode cX0_form 15 = .ok (.ireturn, 1) := by decide +kernel
theorem dX0_form_16 : decode cX0_form 16 = .ok (.aload_n 0, 1) := by decide +kernel
theorem dX0_form_17 : decode cX0_form 17 = .ok (.getfield 326, 3) := by decide +kernel
theorem dX0_form_20 : decode cX0_form 20 = .ok (.iload_n 1, 1) := by decide +kernel
theorem dX0_form_21 : decode cX0_form 21 = .ok (.aaload, 1) := by decide +kernel
theorem dX0_form_22 : decode cX0_form 22 = .ok (.getfield 509, 3) := by decide +kernel
theorem dX0_form_25 : decode cX0_form 25 = .ok (.iconst 1, 1) := by decide +kernel
theorem dX0_form_26 : decode cX0_form 26 = .ok (.if_icmp .eq 6, 3) := by decide +kernel
theorem dX0_form_29 : decode cX0_form 29 = .ok (.bipush (-3), 2) := by decide +kernel
theorem dX0_form_31 : decode cX0_form 31 = .ok (.ireturn, 1) := by decide +kernel
theorem dX0_form_32 : decode cX0_form 32 = .ok (.aload_n 0, 1) := by decide +kernel
theorem dX0_form_33 : decode cX0_form 33 = .ok (.getfield 326, 3) := by decide +kernel
theorem dX0_form_36 : decode cX0_form 36 = .ok (.iload_n 1, 1) := by decide +kernel
theorem dX0_form_37 : decode cX0_form 37 = .ok (.aaload, 1) := by decide +kernel
theorem dX0_form_38 : decode cX0_form 38 = .ok (.getfield 512, 3) := by decide +kernel
theorem dX0_form_41 : decode cX0_form 41 = .ok (.getfield 110, 3) := by decide +kernel
theorem dX0_form_44 : decode cX0_form 44 = .ok (.astore 4, 2) := by decide +kernel
theorem dX0_form_46 : decode cX0_form 46 = .ok (.iload_n 2, 1) := by decide +kernel
theorem dX0_form_47 : decode cX0_form 47 = .ok (.iconst 0, 1) := by decide +kernel
theorem dX0_form_48 : decode cX0_form 48 = .ok (.iconst 2, 1) := by decide +kernel
theorem dX0_form_49 : decode cX0_form 49 = .ok (.invokestatic 173, 3) := by decide +kernel
theorem dX0_form_52 : decode cX0_form 52 = .ok (.ifCond .eq 11, 3) := by decide +kernel
theorem dX0_form_55 : decode cX0_form 55 = .ok (.aload 4, 2) := by decide +kernel
theorem dX0_form_57 : decode cX0_form 57 = .ok (.invokevirtual 128, 3) := by decide +kernel
theorem dX0_form_60 : decode cX0_form 60 = .ok (.ifCond .eq 5, 3) := by decide +kernel
theorem dX0_form_63 : decode cX0_form 63 = .ok (.iconst (-1), 1) := by decide +kernel
theorem dX0_form_64 : decode cX0_form 64 = .ok (.ireturn, 1) := by decide +kernel
theorem dX0_form_65 : decode cX0_form 65 = .ok (.aload_n 0, 1) := by decide +kernel
theorem dX0_form_66 : decode cX0_form 66 = .ok (.getfield 31, 3) := by decide +kernel
theorem dX0_form_69 : decode cX0_form 69 = .ok (.aload 4, 2) := by decide +kernel
theorem dX0_form_71 : decode cX0_form 71 = .ok (.getfield 89, 3) := by decide +kernel
theorem dX0_form_74 : decode cX0_form 74 = .ok (.invokevirtual 66, 3) := by decide +kernel
theorem dX0_form_77 : decode cX0_form 77 = .ok (.aload_n 0, 1) := by decide +kernel
theorem dX0_form_78 : decode cX0_form 78 = .ok (.getfield 39, 3) := by decide +kernel
theorem dX0_form_81 : decode cX0_form 81 = .ok (.aload 4, 2) := by decide +kernel
theorem dX0_form_83 : decode cX0_form 83 = .ok (.getfield 94, 3) := by decide +kernel
theorem dX0_form_86 : decode cX0_form 86 = .ok (.invokevirtual 66, 3) := by decide +kernel
theorem dX0_form_89 : decode cX0_form 89 = .ok (.aload_n 0, 1) := by decide +kernel
theorem dX0_form_90 : decode cX0_form 90 = .ok (.invokevirtual 673, 3) := by decide +kernel
theorem dX0_form_93 : decode cX0_form 93 = .ok (.ifCond .eq 10, 3) := by decide +kernel
theorem dX0_form_96 : decode cX0_form 96 = .ok (.aload_n 0, 1) := by decide +kernel
theorem dX0_form_97 : decode cX0_form 97 = .ok (.invokevirtual 676, 3) := by decide +kernel
theorem dX0_form_100 : decode cX0_form 100 = .ok (.ifCond .ne 6, 3) := by decide +kernel
theorem dX0_form_103 : decode cX0_form 103 = .ok (.bipush (-2), 2) := by decide +kernel
theorem dX0_form_105 : decode cX0_form 105 = .ok (.ireturn, 1) := by decide +kernel
theorem dX0_form_106 : decode cX0_form 106 = .ok (.aload_n 0, 1) := by decide +kernel
theorem dX0_form_107 : decode cX0_form 107 = .ok (.iload_n 2, 1) := by decide +kernel
theorem dX0_form_108 : decode cX0_form 108 = .ok (.invokevirtual 667, 3) := by decide +kernel
theorem dX0_form_111 : decode cX0_form 111 = .ok (.aload_n 0, 1) := by decide +kernel
theorem dX0_form_112 : decode cX0_form 112 = .ok (.aload_n 0, 1) := by decide +kernel
theorem dX0_form_113 : decode cX0_form 113 = .ok (.getfield 330, 3) := by decide +kernel
theorem dX0_form_116 : decode cX0_form 116 = .ok (.getfield 110, 3) := by decide +kernel
theorem dX0_form_119 : decode cX0_form 119 = .ok (.invokevirtual 106, 3) := by decide +kernel
theorem dX0_form_122 : decode cX0_form 122 = .ok (.istore 5, 2) := by decide +kernel
theorem dX0_form_124 : decode cX0_form 124 = .ok (.aload_n 0, 1) := by decide +kernel
theorem dX0_form_125 : decode cX0_form 125 = .ok (.iload_n 3, 1) := by decide +kernel
theorem dX0_form_126 : decode cX0_form 126 = .ok (.invokevirtual 628, 3) := by decide +kernel
theorem dX0_form_129 : decode cX0_form 129 = .ok (.ireturn, 1) := by decide +kernel
theorem dX0_findForm_0 : decode cX0_findForm 0 = .ok (.aload_n 0, 1) := by decide +kernel
theorem dX0_findForm_1 : decode cX0_findForm 1 = .ok (.getfield 342, 3) := by decide +kernel
theorem dX0_findForm_4 : decode cX0_findForm 4 = .ok (.aload_n 0, 1) := by decide +kernel
theorem dX0_findForm_5 : decode cX0_findForm 5 = .ok (.getfield 31, 3) := by decide +kernel
theorem dX0_findForm_8 : decode cX0_findForm 8 = .ok (.invokevirtual 66, 3) := by decide +kernel
theorem dX0_findForm_11 : decode cX0_findForm 11 = .ok (.aload_n 0, 1) := by decide +kernel
theorem dX0_findForm_12 : decode cX0_findForm 12 = .ok (.getfield 345, 3) := by decide +kernel
theorem dX0_findForm_15 : decode cX0_findForm 15 = .ok (.aload_n 0, 1) := by decide +kernel
theorem dX0_findForm_16 : decode cX0_findForm 16 = .ok (.getfield 39, 3) := by decide +kernel
theorem dX0_findForm_19 : decode cX0_findForm 19 = .ok (.invokevirtual 66, 3) := by decide +kernel
theorem dX0_findForm_22 : decode cX0_findForm 22 = .ok (.aload_n 0, 1) := by decide +kernel
theorem dX0_findForm_23 : decode cX0_findForm 23 = .ok (.getfield 348, 3) := by decide +kernel
theorem dX0_findForm_26 : decode cX0_findForm 26 = .ok (.iconst 1, 1) := by decide +kernel
theorem dX0_findForm_27 : decode cX0_findForm 27 = .ok (.invokevirtual 42, 3) := by decide +kernel
theorem dX0_findForm_30 : decode cX0_findForm 30 = .ok (.iconst 0, 1) := by decide +kernel
theorem dX0_findForm_31 : decode cX0_findForm 31 = .ok (.istore_n 1, 1) := by decide +kernel
theorem dX0_findForm_32 : decode cX0_findForm 32 = .ok (.iload_n 1, 1) := by decide +kernel
theorem dX0_findForm_33 : decode cX0_findForm 33 = .ok (.bipush 40, 2) := by decide +kernel
theorem dX0_findForm_35 : decode cX0_findForm 35 = .ok (.if_icmp .gt 113, 3) := by decide +kernel
theorem dX0_findForm_38 : decode cX0_findForm 38 = .ok (.aload_n 0, 1) := by decide +kernel
theorem dX0_findForm_39 : decode cX0_findForm 39 = .ok (.getfield 342, 3) := by decide +kernel
theorem dX0_findForm_42 : decode cX0_findForm 42 = .ok (.getfield 28, 3) := by decide +kernel
theorem dX0_findForm_45 : decode cX0_findForm 45 = .ok (.iconst 1, 1) := by decide +kernel
theorem dX0_findForm_46 : decode cX0_findForm 46 = .ok (.if_icmp .le 102, 3) := by decide +kernel
theorem dX0_findForm_49 : decode cX0_findForm 49 = .ok (.aload_n 0, 1) := by decide +kernel
theorem dX0_findForm_50 : decode cX0_findForm 50 = .ok (.getfield 345, 3) := by decide +kernel
theorem dX0_findForm_53 : decode cX0_findForm 53 = .ok (.getfield 28, 3) := by decide +kernel
theorem dX0_findForm_56 : decode cX0_findForm 56 = .ok (.iconst 1, 1) := by decide +kernel
theorem dX0_findForm_57 : decode cX0_findForm 57 = .ok (.if_icmp .le 91, 3) := by decide +kernel
theorem dX0_findForm_60 : decode cX0_findForm 60 = .ok (.aload_n 0, 1) := by decide +kernel
theorem dX0_findForm_61 : decode cX0_findForm 61 = .ok (.iload_n 1, 1) := by decide +kernel
theorem dX0_findForm_62 : decode cX0_findForm 62 = .ok (.invokevirtual 651, 3) := by decide +kernel
theorem dX0_findForm_65 : decode cX0_findForm 65 = .ok (.ifCond .eq 77, 3) := by decide +kernel
theorem dX0_findForm_68 : decode cX0_findForm 68 = .ok (.aload_n 0, 1) := by decide +kernel
theorem dX0_findForm_69 : decode cX0_findForm 69 = .ok (.getfield 351, 3) := by decide +kernel
theorem dX0_findForm_72 : decode cX0_findForm 72 = .ok (.aload_n 0, 1) := by decide +kernel
theorem dX0_findForm_73 : decode cX0_findForm 73 = .ok (.getfield 345, 3) := by decide +kernel
theorem dX0_findForm_76 : decode cX0_findForm 76 = .ok (.invokevirtual 66, 3) := by decide +kernel
theorem dX0_findForm_79 : decode cX0_findForm 79 = .ok (.aload_n 0, 1) := by decide +kernel
theorem dX0_findForm_80 : decode cX0_findForm 80 = .ok (.getfield 351, 3) := by decide +kernel
theorem dX0_findForm_83 : decode cX0_findForm 83 = .ok (.iload_n 1, 1) := by decide +kernel
theorem dX0_findForm_84 : decode cX0_findForm 84 = .ok (.invokevirtual 617, 3) := by decide +kernel
theorem dX0_findForm_87 : decode cX0_findForm 87 = .ok (.aload_n 0, 1) := by decide +kernel
theorem dX0_findForm_88 : decode cX0_findForm 88 = .ok (.getfield 46, 3) := by decide +kernel
theorem dX0_findForm_91 : decode cX0_findForm 91 = .ok (.aload_n 0, 1) := by decide +kernel
theorem dX0_findForm_92 : decode cX0_findForm 92 = .ok (.getfield 342, 3) := by decide +kernel
theorem dX0_findForm_95 : decode cX0_findForm 95 = .ok (.aload_n 0, 1) := by decide +kernel
theorem dX0_findForm_96 : decode cX0_findForm 96 = .ok (.getfield 351, 3) := by decide +kernel
theorem dX0_findForm_99 : decode cX0_findForm 99 = .ok (.aload_n 0, 1) := by decide +kernel
theorem dX0_findForm_100 : decode cX0_findForm 100 = .ok (.getfield 354, 3) := by decide +kernel
theorem dX0_findForm_103 : decode cX0_findForm 103 = .ok (.invokevirtual 53, 3) := by decide +kernel
theorem dX0_findForm_106 : decode cX0_findForm 106 = .ok (.aload_n 0, 1) := by decide +kernel
theorem dX0_findForm_107 : decode cX0_findForm 107 = .ok (.getfield 46, 3) := by decide +kernel
theorem dX0_findForm_110 : decode cX0_findForm 110 = .ok (.aload_n 0, 1) := by decide +kernel
theorem dX0_findForm_111 : decode cX0_findForm 111 = .ok (.getfield 354, 3) := by decide +kernel
theorem dX0_findForm_114 : decode cX0_findForm 114 = .ok (.aload_n 0, 1) := by decide +kernel
theorem dX0_findForm_115 : decode cX0_findForm 115 = .ok (.getfield 361, 3) := by decide +kernel
theorem dX0_findForm_118 : decode cX0_findForm 118 = .ok (.invokevirtual 654, 3) := by decide +kernel
theorem dX0_findForm_121 : decode cX0_findForm 121 = .ok (.aload_n 0, 1) := by decide +kernel
theorem dX0_findForm_122 : decode cX0_findForm 122 = .ok (.getfield 354, 3) := by decide +kernel
theorem dX0_findForm_125 : decode cX0_findForm 125 = .ok (.getfield 28, 3) := by decide +kernel
theorem dX0_findForm_128 : decode cX0_findForm 128 = .ok (.iconst 1, 1) := by decide +kernel
theorem dX0_findForm_129 : decode cX0_findForm 129 = .ok (.if_icmp .le 13, 3) := by decide +kernel
theorem dX0_findForm_132 : decode cX0_findForm 132 = .ok (.aload_n 0, 1) := by decide +kernel
theorem dX0_findForm_133 : decode cX0_findForm 133 = .ok (.iload_n 1, 1) := by decide +kernel
theorem dX0_findForm_134 : decode cX0_findForm 134 = .ok (.invokevirtual 658, 3) := by decide +kernel
theorem dX0_findForm_137 : decode cX0_findForm 137 = .ok (.ifCond .ne 5, 3) := by decide +kernel
theorem dX0_findForm_140 : decode cX0_findForm 140 = .ok (.iconst 0, 1) := by decide +kernel
theorem dX0_findForm_141 : decode cX0_findForm 141 = .ok (.ireturn, 1) := by decide +kernel
theorem dX0_findForm_142 : decode cX0_findForm 142 = .ok (.iinc 1 1, 3) := by decide +kernel
theorem dX0_findForm_145 : decode cX0_findForm 145 = .ok (.goto (-113), 3) := by decide +kernel
theorem dX0_findForm_148 : decode cX0_findForm 148 = .ok (.aload_n 0, 1) := by decide +kernel
theorem dX0_findForm_149 : decode cX0_findForm 149 = .ok (.getfield 345, 3) := by decide +kernel
theorem dX0_findForm_152 : decode cX0_findForm 152 = .ok (.aload_n 0, 1) := by decide +kernel
theorem dX0_findForm_153 : decode cX0_findForm 153 = .ok (.getfield 345, 3) := by decide +kernel
theorem dX0_findForm_156 : decode cX0_findForm 156 = .ok (.getfield 28, 3) := by decide +kernel
theorem dX0_findForm_159 : decode cX0_findForm 159 = .ok (.iconst 1, 1) := by decide +kernel
theorem dX0_findForm_160 : decode cX0_findForm 160 = .ok (.isub, 1) := by decide +kernel
theorem dX0_findForm_161 : decode cX0_findForm 161 = .ok (.aload_n 0, 1) := by decide +kernel
theorem dX0_findForm_162 : decode cX0_findForm 162 = .ok (.getfield 368, 3) := by decide +kernel
theorem dX0_findForm_165 : decode cX0_findForm 165 = .ok (.invokevirtual 661, 3) := by decide +kernel
theorem dX0_findForm_168 : decode cX0_findForm 168 = .ok (.aload_n 0, 1) := by decide +kernel
theorem dX0_findForm_169 : decode cX0_findForm 169 = .ok (.getfield 348, 3) := by decide +kernel
theorem dX0_findForm_172 : decode cX0_findForm 172 = .ok (.aload_n 0, 1) := by decide +kernel
theorem dX0_findForm_173 : decode cX0_findForm 173 = .ok (.getfield 348, 3) := by decide +kernel
theorem dX0_findForm_176 : decode cX0_findForm 176 = .ok (.getfield 28, 3) := by decide +kernel
theorem dX0_findForm_179 : decode cX0_findForm 179 = .ok (.iconst 1, 1) := by decide +kernel
theorem dX0_findForm_180 : decode cX0_findForm 180 = .ok (.isub, 1) := by decide +kernel
theorem dX0_findForm_181 : decode cX0_findForm 181 = .ok (.aload_n 0, 1) := by decide +kernel
theorem dX0_findForm_182 : decode cX0_findForm 182 = .ok (.getfield 371, 3) := by decide +kernel
theorem dX0_findForm_185 : decode cX0_findForm 185 = .ok (.invokevirtual 661, 3) := by decide +kernel
theorem dX0_findForm_188 : decode cX0_findForm 188 = .ok (.iconst 1, 1) := by decide +kernel
theorem dX0_findForm_189 : decode cX0_findForm 189 = .ok (.ireturn, 1) := by decide +kernel
theorem dX0_mayShare_0 : decode cX0_mayShare 0 = .ok (.ldc_w 631, 3) := by decide +kernel
theorem dX0_mayShare_3 : decode cX0_mayShare 3 = .ok (.istore_n 2, 1) := by decide +kernel
theorem dX0_mayShare_4 : decode cX0_mayShare 4 = .ok (.aload_n 0, 1) := by decide +kernel
theorem dX0_mayShare_5 : decode cX0_mayShare 5 = .ok (.getfield 342, 3) := by decide +kernel
theorem dX0_mayShare_8 : decode cX0_mayShare 8 = .ok (.iload_n 2, 1) := by decide +kernel
theorem dX0_mayShare_9 : decode cX0_mayShare 9 = .ok (.aload_n 0, 1) := by decide +kernel
theorem dX0_mayShare_10 : decode cX0_mayShare 10 = .ok (.getfield 361, 3) := by decide +kernel
theorem dX0_mayShare_13 : decode cX0_mayShare 13 = .ok (.invokevirtual 632, 3) := by decide +kernel
theorem dX0_mayShare_16 : decode cX0_mayShare 16 = .ok (.aload_n 0, 1) := by decide +kernel
theorem dX0_mayShare_17 : decode cX0_mayShare 17 = .ok (.getfield 345, 3) := by decide +kernel
theorem dX0_mayShare_20 : decode cX0_mayShare 20 = .ok (.iload_n 2, 1) := by decide +kernel
theorem dX0_mayShare_21 : decode cX0_mayShare 21 = .ok (.aload_n 0, 1) := by decide +kernel
theorem dX0_mayShare_22 : decode cX0_mayShare 22 = .ok (.getfield 365, 3) := by decide +kernel
theorem dX0_mayShare_25 : decode cX0_mayShare 25 = .ok (.invokevirtual 632, 3) := by decide +kernel
theorem dX0_mayShare_28 : decode cX0_mayShare 28 = .ok (.aload_n 0, 1) := by decide +kernel
theorem dX0_mayShare_29 : decode cX0_mayShare 29 = .ok (.getfield 361, 3) := by decide +kernel
theorem dX0_mayShare_32 : decode cX0_mayShare 32 = .ok (.getfield 636, 3) := by decide +kernel
theorem dX0_mayShare_35 : decode cX0_mayShare 35 = .ok (.aload_n 0, 1) := by decide +kernel
theorem dX0_mayShare_36 : decode cX0_mayShare 36 = .ok (.getfield 342, 3) := by decide +kernel
theorem dX0_mayShare_39 : decode cX0_mayShare 39 = .ok (.getfield 28, 3) := by decide +kernel
theorem dX0_mayShare_42 : decode cX0_mayShare 42 = .ok (.if_icmp .ne 67, 3) := by decide +kernel
theorem dX0_mayShare_45 : decode cX0_mayShare 45 = .ok (.aload_n 0, 1) := by decide +kernel
theorem dX0_mayShare_46 : decode cX0_mayShare 46 = .ok (.getfield 365, 3) := by decide +kernel
theorem dX0_mayShare_49 : decode cX0_mayShare 49 = .ok (.getfield 636, 3) := by decide +kernel
theorem dX0_mayShare_52 : decode cX0_mayShare 52 = .ok (.aload_n 0, 1) := by decide +kernel
theorem dX0_mayShare_53 : decode cX0_mayShare 53 = .ok (.getfield 345, 3) := by decide +kernel
theorem dX0_mayShare_56 : decode cX0_mayShare 56 = .ok (.getfield 28, 3) := by decide +kernel
theorem dX0_mayShare_59 : decode cX0_mayShare 59 = .ok (.if_icmp .ne 50, 3) := by decide +kernel
theorem dX0_mayShare_62 : decode cX0_mayShare 62 = .ok (.aload_n 0, 1) := by decide +kernel
theorem dX0_mayShare_63 : decode cX0_mayShare 63 = .ok (.getfield 365, 3) := by decide +kernel
theorem dX0_mayShare_66 : decode cX0_mayShare 66 = .ok (.iload_n 1, 1) := by decide +kernel
theorem dX0_mayShare_67 : decode cX0_mayShare 67 = .ok (.invokevirtual 639, 3) := by decide +kernel
theorem dX0_mayShare_70 : decode cX0_mayShare 70 = .ok (.aload_n 0, 1) := by decide +kernel
theorem dX0_mayShare_71 : decode cX0_mayShare 71 = .ok (.getfield 46, 3) := by decide +kernel
theorem dX0_mayShare_74 : decode cX0_mayShare 74 = .ok (.getfield 642, 3) := by decide +kernel
theorem dX0_mayShare_77 : decode cX0_mayShare 77 = .ok (.aload_n 0, 1) := by decide +kernel
theorem dX0_mayShare_78 : decode cX0_mayShare 78 = .ok (.getfield 361, 3) := by decide +kernel
theorem dX0_mayShare_81 : decode cX0_mayShare 81 = .ok (.aload_n 0, 1) := by decide +kernel
theorem dX0_mayShare_82 : decode cX0_mayShare 82 = .ok (.getfield 365, 3) := by decide +kernel
theorem dX0_mayShare_85 : decode cX0_mayShare 85 = .ok (.aload_n 0, 1) := by decide +kernel
theorem dX0_mayShare_86 : decode cX0_mayShare 86 = .ok (.getfield 361, 3) := by decide +kernel
theorem dX0_mayShare_89 : decode cX0_mayShare 89 = .ok (.invokevirtual 646, 3) := by decide +kernel
theorem dX0_mayShare_92 : decode cX0_mayShare 92 = .ok (.aload_n 0, 1) := by decide +kernel
theorem dX0_mayShare_93 : decode cX0_mayShare 93 = .ok (.getfield 361, 3) := by decide +kernel
theorem dX0_mayShare_96 : decode cX0_mayShare 96 = .ok (.getfield 636, 3) := by decide +kernel
theorem dX0_mayShare_99 : decode cX0_mayShare 99 = .ok (.iconst 1, 1) := by decide +kernel
theorem dX0_mayShare_100 : decode cX0_mayShare 100 = .ok (.if_icmp .le 7, 3) := by decide +kernel
theorem dX0_mayShare_103 : decode cX0_mayShare 103 = .ok (.iconst 1, 1) := by decide +kernel
theorem dX0_mayShare_104 : decode cX0_mayShare 104 = .ok (.goto 4, 3) := by decide +kernel
theorem dX0_mayShare_107 : decode cX0_mayShare 107 = .ok (.iconst 0, 1) := by decide +kernel
theorem dX0_mayShare_108 : decode cX0_mayShare 108 = .ok (.ireturn, 1) := by decide +kernel
theorem dX0_mayShare_109 : decode cX0_mayShare 109 = .ok (.iinc 2 1, 3) := by decide +kernel
theorem dX0_mayShare_112 : decode cX0_mayShare 112 = .ok (.goto (-108), 3) := by decide +kernel
theorem dX0_take_0 : decode cX0_take 0 = .ok (.aload_n 0, 1) := by decide +kernel
theorem dX0_take_1 : decode cX0_take 1 = .ok (.getfield 46, 3) := by decide +kernel
theorem dX0_take_4 : decode cX0_take 4 = .ok (.aload_n 0, 1) := by decide +kernel
theorem dX0_take_5 : decode cX0_take 5 = .ok (.getfield 354, 3) := by decide +kernel
theorem dX0_take_8 : decode cX0_take 8 = .ok (.aload_n 0, 1) := by decide +kernel
theorem dX0_take_9 : decode cX0_take 9 = .ok (.getfield 342, 3) := by decide +kernel
theorem dX0_take_12 : decode cX0_take 12 = .ok (.aload_n 0, 1) := by decide +kernel
theorem dX0_take_13 : decode cX0_take 13 = .ok (.getfield 59, 3) := by decide +kernel
theorem dX0_take_16 : decode cX0_take 16 = .ok (.invokevirtual 62, 3) := by decide +kernel
theorem dX0_take_19 : decode cX0_take 19 = .ok (.istore_n 2, 1) := by decide +kernel
theorem dX0_take_20 : decode cX0_take 20 = .ok (.aload_n 0, 1) := by decide +kernel
theorem dX0_take_21 : decode cX0_take 21 = .ok (.getfield 342, 3) := by decide +kernel
theorem dX0_take_24 : decode cX0_take 24 = .ok (.aload_n 0, 1) := by decide +kernel
theorem dX0_take_25 : decode cX0_take 25 = .ok (.getfield 59, 3) := by decide +kernel
theorem dX0_take_28 : decode cX0_take 28 = .ok (.invokevirtual 66, 3) := by decide +kernel
theorem dX0_take_31 : decode cX0_take 31 = .ok (.aload_n 0, 1) := by decide +kernel
theorem dX0_take_32 : decode cX0_take 32 = .ok (.getfield 351, 3) := by decide +kernel
theorem dX0_take_35 : decode cX0_take 35 = .ok (.aload_n 0, 1) := by decide +kernel
theorem dX0_take_36 : decode cX0_take 36 = .ok (.getfield 354, 3) := by decide +kernel
theorem dX0_take_39 : decode cX0_take 39 = .ok (.invokevirtual 66, 3) := by decide +kernel
theorem dX0_take_42 : decode cX0_take 42 = .ok (.aload_n 0, 1) := by decide +kernel
theorem dX0_take_43 : decode cX0_take 43 = .ok (.getfield 351, 3) := by decide +kernel
theorem dX0_take_46 : decode cX0_take 46 = .ok (.iload_n 1, 1) := by decide +kernel
theorem dX0_take_47 : decode cX0_take 47 = .ok (.ineg, 1) := by decide +kernel
theorem dX0_take_48 : decode cX0_take 48 = .ok (.invokestatic 543, 3) := by decide +kernel
theorem dX0_take_51 : decode cX0_take 51 = .ok (.invokevirtual 617, 3) := by decide +kernel
theorem dX0_take_54 : decode cX0_take 54 = .ok (.aload_n 0, 1) := by decide +kernel
theorem dX0_take_55 : decode cX0_take 55 = .ok (.getfield 46, 3) := by decide +kernel
theorem dX0_take_58 : decode cX0_take 58 = .ok (.aload_n 0, 1) := by decide +kernel
theorem dX0_take_59 : decode cX0_take 59 = .ok (.getfield 351, 3) := by decide +kernel
theorem dX0_take_62 : decode cX0_take 62 = .ok (.aload_n 0, 1) := by decide +kernel
theorem dX0_take_63 : decode cX0_take 63 = .ok (.getfield 345, 3) := by decide +kernel
theorem dX0_take_66 : decode cX0_take 66 = .ok (.aload_n 0, 1) := by decide +kernel
theorem dX0_take_67 : decode cX0_take 67 = .ok (.getfield 59, 3) := by decide +kernel
theorem dX0_take_70 : decode cX0_take 70 = .ok (.invokevirtual 62, 3) := by decide +kernel
theorem dX0_take_73 : decode cX0_take 73 = .ok (.istore_n 3, 1) := by decide +kernel
theorem dX0_take_74 : decode cX0_take 74 = .ok (.aload_n 0, 1) := by decide +kernel
theorem dX0_take_75 : decode cX0_take 75 = .ok (.getfield 345, 3) := by decide +kernel
theorem dX0_take_78 : decode cX0_take 78 = .ok (.aload_n 0, 1) := by decide +kernel
theorem dX0_take_79 : decode cX0_take 79 = .ok (.getfield 59, 3) := by decide +kernel
theorem dX0_take_82 : decode cX0_take 82 = .ok (.invokevirtual 66, 3) := by decide +kernel
theorem dX0_take_85 : decode cX0_take 85 = .ok (.iconst 1, 1) := by decide +kernel
theorem dX0_take_86 : decode cX0_take 86 = .ok (.istore 4, 2) := by decide +kernel
theorem dX0_take_88 : decode cX0_take 88 = .ok (.iload 4, 2) := by decide +kernel
theorem dX0_take_90 : decode cX0_take 90 = .ok (.iload_n 1, 1) := by decide +kernel
theorem dX0_take_91 : decode cX0_take 91 = .ok (.if_icmp .gt 73, 3) := by decide +kernel
theorem dX0_take_94 : decode cX0_take 94 = .ok (.aload_n 0, 1) := by decide +kernel
theorem dX0_take_95 : decode cX0_take 95 = .ok (.getfield 351, 3) := by decide +kernel
theorem dX0_take_98 : decode cX0_take 98 = .ok (.aload_n 0, 1) := by decide +kernel
theorem dX0_take_99 : decode cX0_take 99 = .ok (.getfield 354, 3) := by decide +kernel
theorem dX0_take_102 : decode cX0_take 102 = .ok (.invokevirtual 66, 3) := by decide +kernel
theorem dX0_take_105 : decode cX0_take 105 = .ok (.aload_n 0, 1) := by decide +kernel
theorem dX0_take_106 : decode cX0_take 106 = .ok (.getfield 351, 3) := by decide +kernel
theorem dX0_take_109 : decode cX0_take 109 = .ok (.iload 4, 2) := by decide +kernel
theorem dX0_take_111 : decode cX0_take 111 = .ok (.ineg, 1) := by decide +kernel
theorem dX0_take_112 : decode cX0_take 112 = .ok (.invokestatic 543, 3) := by decide +kernel
theorem dX0_take_115 : decode cX0_take 115 = .ok (.invokevirtual 617, 3) := by decide +kernel
theorem dX0_take_118 : decode cX0_take 118 = .ok (.aload_n 0, 1) := by decide +kernel
theorem dX0_take_119 : decode cX0_take 119 = .ok (.getfield 59, 3) := by decide +kernel
theorem dX0_take_122 : decode cX0_take 122 = .ok (.aload_n 0, 1) := by decide +kernel
theorem dX0_take_123 : decode cX0_take 123 = .ok (.getfield 348, 3) := by decide +kernel
theorem dX0_take_126 : decode cX0_take 126 = .ok (.invokevirtual 66, 3) := by decide +kernel
theorem dX0_take_129 : decode cX0_take 129 = .ok (.aload_n 0, 1) := by decide +kernel
theorem dX0_take_130 : decode cX0_take 130 = .ok (.getfield 348, 3) := by decide +kernel
theorem dX0_take_133 : decode cX0_take 133 = .ok (.aload_n 0, 1) := by decide +kernel
theorem dX0_take_134 : decode cX0_take 134 = .ok (.getfield 59, 3) := by decide +kernel
theorem dX0_take_137 : decode cX0_take 137 = .ok (.aload_n 0, 1) := by decide +kernel
theorem dX0_take_138 : decode cX0_take 138 = .ok (.getfield 351, 3) := by decide +kernel
theorem dX0_take_141 : decode cX0_take 141 = .ok (.invokevirtual 97, 3) := by decide +kernel
theorem dX0_take_144 : decode cX0_take 144 = .ok (.aload_n 0, 1) := by decide +kernel
theorem dX0_take_145 : decode cX0_take 145 = .ok (.getfield 348, 3) := by decide +kernel
theorem dX0_take_148 : decode cX0_take 148 = .ok (.getfield 28, 3) := by decide +kernel
theorem dX0_take_151 : decode cX0_take 151 = .ok (.bipush 9, 2) := by decide +kernel
theorem dX0_take_153 : decode cX0_take 153 = .ok (.if_icmp .le 5, 3) := by decide +kernel
theorem dX0_take_156 : decode cX0_take 156 = .ok (.iconst 0, 1) := by decide +kernel
theorem dX0_take_157 : decode cX0_take 157 = .ok (.ireturn, 1) := by decide +kernel
theorem dX0_take_158 : decode cX0_take 158 = .ok (.iinc 4 1, 3) := by decide +kernel
theorem dX0_take_161 : decode cX0_take 161 = .ok (.goto (-73), 3) := by decide +kernel
theorem dX0_take_164 : decode cX0_take 164 = .ok (.iconst 1, 1) := by decide +kernel
theorem dX0_take_165 : decode cX0_take 165 = .ok (.ireturn, 1) := by decide +kernel
theorem dX0_isModestForm_0 : decode cX0_isModestForm 0 = .ok (.iconst 1, 1) := by decide +kernel
theorem dX0_isModestForm_1 : decode cX0_isModestForm 1 = .ok (.istore_n 1, 1) := by decide +kernel
theorem dX0_isModestForm_2 : decode cX0_isModestForm 2 = .ok (.iconst 0, 1) := by decide +kernel
theorem dX0_isModestForm_3 : decode cX0_isModestForm 3 = .ok (.istore_n 2, 1) := by decide +kernel
theorem dX0_isModestForm_4 : decode cX0_isModestForm 4 = .ok (.iload_n 2, 1) := by decide +kernel
theorem dX0_isModestForm_5 : decode cX0_isModestForm 5 = .ok (.iconst 3, 1) := by decide +kernel
theorem dX0_isModestForm_6 : decode cX0_isModestForm 6 = .ok (.if_icmp .ge 23, 3) := by decide +kernel
theorem dX0_isModestForm_9 : decode cX0_isModestForm 9 = .ok (.iload_n 1, 1) := by decide +kernel
theorem dX0_isModestForm_10 : decode cX0_isModestForm 10 = .ok (.ifCond .eq 19, 3) := by decide +kernel
theorem dX0_isModestForm_13 : decode cX0_isModestForm 13 = .ok (.aload_n 0, 1) := by decide +kernel
theorem dX0_isModestForm_14 : decode cX0_isModestForm 14 = .ok (.iload_n 2, 1) := by decide +kernel
theorem dX0_isModestForm_15 : decode cX0_isModestForm 15 = .ok (.invokevirtual 667, 3) := by decide +kernel
theorem dX0_isModestForm_18 : decode cX0_isModestForm 18 = .ok (.aload_n 0, 1) := by decide +kernel
theorem dX0_isModestForm_19 : decode cX0_isModestForm 19 = .ok (.invokevirtual 670, 3) := by decide +kernel
theorem dX0_isModestForm_22 : decode cX0_isModestForm 22 = .ok (.istore_n 1, 1) := by decide +kernel
theorem dX0_isModestForm_23 : decode cX0_isModestForm 23 = .ok (.iinc 2 1, 3) := by decide +kernel
theorem dX0_isModestForm_26 : decode cX0_isModestForm 26 = .ok (.goto (-22), 3) := by decide +kernel
theorem dX0_isModestForm_29 : decode cX0_isModestForm 29 = .ok (.iload_n 1, 1) := by decide +kernel
theorem dX0_isModestForm_30 : decode cX0_isModestForm 30 = .ok (.ireturn, 1) := by decide +kernel
theorem dX0_layForm_0 : decode cX0_layForm 0 = .ok (.aload_n 0, 1) := by decide +kernel
theorem dX0_layForm_1 : decode cX0_layForm 1 = .ok (.getfield 31, 3) := by decide +kernel
theorem dX0_layForm_4 : decode cX0_layForm 4 = .ok (.iload_n 1, 1) := by decide +kernel
theorem dX0_layForm_5 : decode cX0_layForm 5 = .ok (.ifCond .ne 10, 3) := by decide +kernel
theorem dX0_layForm_8 : decode cX0_layForm 8 = .ok (.aload_n 0, 1) := by decide +kernel
theorem dX0_layForm_9 : decode cX0_layForm 9 = .ok (.getfield 342, 3) := by decide +kernel
theorem dX0_layForm_12 : decode cX0_layForm 12 = .ok (.goto 19, 3) := by decide +kernel
theorem dX0_layForm_15 : decode cX0_layForm 15 = .ok (.iload_n 1, 1) := by decide +kernel
theorem dX0_layForm_16 : decode cX0_layForm 16 = .ok (.iconst 1, 1) := by decide +kernel
theorem dX0_layForm_17 : decode cX0_layForm 17 = .ok (.if_icmp .ne 10, 3) := by decide +kernel
theorem dX0_layForm_20 : decode cX0_layForm 20 = .ok (.aload_n 0, 1) := by decide +kernel
theorem dX0_layForm_21 : decode cX0_layForm 21 = .ok (.getfield 345, 3) := by decide +kernel
theorem dX0_layForm_24 : decode cX0_layForm 24 = .ok (.goto 7, 3) := by decide +kernel
theorem dX0_layForm_27 : decode cX0_layForm 27 = .ok (.aload_n 0, 1) := by decide +kernel
theorem dX0_layForm_28 : decode cX0_layForm 28 = .ok (.getfield 348, 3) := by decide +kernel
theorem dX0_layForm_31 : decode cX0_layForm 31 = .ok (.invokevirtual 66, 3) := by decide +kernel
theorem dX0_layForm_34 : decode cX0_layForm 34 = .ok (.iload_n 1, 1) := by decide +kernel
theorem dX0_layForm_35 : decode cX0_layForm 35 = .ok (.iconst 2, 1) := by decide +kernel
theorem dX0_layForm_36 : decode cX0_layForm 36 = .ok (.if_icmp .ne 10, 3) := by decide +kernel
theorem dX0_layForm_39 : decode cX0_layForm 39 = .ok (.aload_n 0, 1) := by decide +kernel
theorem dX0_layForm_40 : decode cX0_layForm 40 = .ok (.getfield 371, 3) := by decide +kernel
theorem dX0_layForm_43 : decode cX0_layForm 43 = .ok (.goto 7, 3) := by decide +kernel
theorem dX0_layForm_46 : decode cX0_layForm 46 = .ok (.aload_n 0, 1) := by decide +kernel
theorem dX0_layForm_47 : decode cX0_layForm 47 = .ok (.getfield 368, 3) := by decide +kernel
theorem dX0_layForm_50 : decode cX0_layForm 50 = .ok (.astore_n 2, 1) := by decide +kernel
theorem dX0_layForm_51 : decode cX0_layForm 51 = .ok (.aload_n 0, 1) := by decide +kernel
theorem dX0_layForm_52 : decode cX0_layForm 52 = .ok (.getfield 39, 3) := by decide +kernel
theorem dX0_layForm_55 : decode cX0_layForm 55 = .ok (.aload_n 2, 1) := by decide +kernel
theorem dX0_layForm_56 : decode cX0_layForm 56 = .ok (.getfield 636, 3) := by decide +kernel
theorem dX0_layForm_59 : decode cX0_layForm 59 = .ok (.iconst 1, 1) := by decide +kernel
theorem dX0_layForm_60 : decode cX0_layForm 60 = .ok (.invokevirtual 304, 3) := by decide +kernel
theorem dX0_layForm_63 : decode cX0_layForm 63 = .ok (.aload_n 0, 1) := by decide +kernel
theorem dX0_layForm_64 : decode cX0_layForm 64 = .ok (.getfield 39, 3) := by decide +kernel
theorem dX0_layForm_67 : decode cX0_layForm 67 = .ok (.iconst 0, 1) := by decide +kernel
theorem dX0_layForm_68 : decode cX0_layForm 68 = .ok (.aload_n 2, 1) := by decide +kernel
theorem dX0_layForm_69 : decode cX0_layForm 69 = .ok (.invokevirtual 664, 3) := by decide +kernel
theorem dX0_layForm_72 : decode cX0_layForm 72 = .ok (.aload_n 0, 1) := by decide +kernel
theorem dX0_layForm_73 : decode cX0_layForm 73 = .ok (.invokevirtual 81, 3) := by decide +kernel
theorem dX0_layForm_76 : decode cX0_layForm 76 = .ok (.return_, 1) := by decide +kernel
theorem dX0_isModest_0 : decode cX0_isModest 0 = .ok (.aload_n 0, 1) := by decide +kernel
theorem dX0_isModest_1 : decode cX0_isModest 1 = .ok (.getfield 31, 3) := by decide +kernel
theorem dX0_isModest_4 : decode cX0_isModest 4 = .ok (.getfield 28, 3) := by decide +kernel
theorem dX0_isModest_7 : decode cX0_isModest 7 = .ok (.bipush 9, 2) := by decide +kernel
theorem dX0_isModest_9 : decode cX0_isModest 9 = .ok (.if_icmp .gt 43, 3) := by decide +kernel
theorem dX0_isModest_12 : decode cX0_isModest 12 = .ok (.aload_n 0, 1) := by decide +kernel
theorem dX0_isModest_13 : decode cX0_isModest 13 = .ok (.getfield 39, 3) := by decide +kernel
theorem dX0_isModest_16 : decode cX0_isModest 16 = .ok (.getfield 28, 3) := by decide +kernel
theorem dX0_isModest_19 : decode cX0_isModest 19 = .ok (.bipush 9, 2) := by decide +kernel
theorem dX0_isModest_21 : decode cX0_isModest 21 = .ok (.if_icmp .gt 31, 3) := by decide +kernel
theorem dX0_isModest_24 : decode cX0_isModest 24 = .ok (.aload_n 0, 1) := by decide +kernel
theorem dX0_isModest_25 : decode cX0_isModest 25 = .ok (.getfield 31, 3) := by decide +kernel
theorem dX0_isModest_28 : decode cX0_isModest 28 = .ok (.getfield 22, 3) := by decide +kernel
theorem dX0_isModest_31 : decode cX0_isModest 31 = .ok (.bipush 13, 2) := by decide +kernel
theorem dX0_isModest_33 : decode cX0_isModest 33 = .ok (.if_icmp .gt 19, 3) := by decide +kernel
theorem dX0_isModest_36 : decode cX0_isModest 36 = .ok (.aload_n 0, 1) := by decide +kernel
theorem dX0_isModest_37 : decode cX0_isModest 37 = .ok (.getfield 39, 3) := by decide +kernel
theorem dX0_isModest_40 : decode cX0_isModest 40 = .ok (.getfield 22, 3) := by decide +kernel
theorem dX0_isModest_43 : decode cX0_isModest 43 = .ok (.bipush 13, 2) := by decide +kernel
theorem dX0_isModest_45 : decode cX0_isModest 45 = .ok (.if_icmp .gt 7, 3) := by decide +kernel
theorem dX0_isModest_48 : decode cX0_isModest 48 = .ok (.iconst 1, 1) := by decide +kernel
theorem dX0_isModest_49 : decode cX0_isModest 49 = .ok (.goto 4, 3) := by decide +kernel
theorem dX0_isModest_52 : decode cX0_isModest 52 = .ok (.iconst 0, 1) := by decide +kernel
theorem dX0_isModest_53 : decode cX0_isModest 53 = .ok (.ireturn, 1) := by decide +kernel
theorem dX0_close_0 : decode cX0_close 0 = .ok (.iload_n 1, 1) := by decide +kernel
theorem dX0_close_1 : decode cX0_close 1 = .ok (.invokestatic 519, 3) := by decide +kernel
theorem dX0_close_4 : decode cX0_close 4 = .ok (.ifCond .eq 10, 3) := by decide +kernel
theorem dX0_close_7 : decode cX0_close 7 = .ok (.iload_n 2, 1) := by decide +kernel
theorem dX0_close_8 : decode cX0_close 8 = .ok (.invokestatic 519, 3) := by decide +kernel
theorem dX0_close_11 : decode cX0_close 11 = .ok (.ifCond .ne 5, 3) := by decide +kernel
theorem dX0_close_14 : decode cX0_close 14 = .ok (.iconst (-1), 1) := by decide +kernel
theorem dX0_close_15 : decode cX0_close 15 = .ok (.ireturn, 1) := by decide +kernel
theorem dX0_close_16 : decode cX0_close 16 = .ok (.aload_n 0, 1) := by decide +kernel
theorem dX0_close_17 : decode cX0_close 17 = .ok (.iload_n 1, 1) := by decide +kernel
theorem dX0_close_18 : decode cX0_close 18 = .ok (.invokevirtual 546, 3) := by decide +kernel
theorem dX0_close_21 : decode cX0_close 21 = .ok (.ifCond .ne 6, 3) := by decide +kernel
theorem dX0_close_24 : decode cX0_close 24 = .ok (.bipush (-3), 2) := by decide +kernel
theorem dX0_close_26 : decode cX0_close 26 = .ok (.ireturn, 1) := by decide +kernel
theorem dX0_close_27 : decode cX0_close 27 = .ok (.aload_n 0, 1) := by decide +kernel
theorem dX0_close_28 : decode cX0_close 28 = .ok (.getfield 326, 3) := by decide +kernel
theorem dX0_close_31 : decode cX0_close 31 = .ok (.iload_n 1, 1) := by decide +kernel
theorem dX0_close_32 : decode cX0_close 32 = .ok (.aaload, 1) := by decide +kernel
theorem dX0_close_33 : decode cX0_close 33 = .ok (.getfield 512, 3) := by decide +kernel
theorem dX0_close_36 : decode cX0_close 36 = .ok (.astore_n 3, 1) := by decide +kernel
theorem dX0_close_37 : decode cX0_close 37 = .ok (.aload_n 3, 1) := by decide +kernel
theorem dX0_close_38 : decode cX0_close 38 = .ok (.getfield 110, 3) := by decide +kernel
theorem dX0_close_41 : decode cX0_close 41 = .ok (.invokevirtual 128, 3) := by decide +kernel
theorem dX0_close_44 : decode cX0_close 44 = .ok (.ifCond .eq 5, 3) := by decide +kernel
theorem dX0_close_47 : decode cX0_close 47 = .ok (.iconst (-1), 1) := by decide +kernel
theorem dX0_close_48 : decode cX0_close 48 = .ok (.ireturn, 1) := by decide +kernel
theorem dX0_close_49 : decode cX0_close 49 = .ok (.aload_n 0, 1) := by decide +kernel
theorem dX0_close_50 : decode cX0_close 50 = .ok (.aload_n 3, 1) := by decide +kernel
theorem dX0_close_51 : decode cX0_close 51 = .ok (.iconst 1, 1) := by decide +kernel
theorem dX0_close_52 : decode cX0_close 52 = .ok (.iconst 1, 1) := by decide +kernel
theorem dX0_close_53 : decode cX0_close 53 = .ok (.aload_n 0, 1) := by decide +kernel
theorem dX0_close_54 : decode cX0_close 54 = .ok (.getfield 330, 3) := by decide +kernel
theorem dX0_close_57 : decode cX0_close 57 = .ok (.getfield 110, 3) := by decide +kernel
theorem dX0_close_60 : decode cX0_close 60 = .ok (.invokevirtual 624, 3) := by decide +kernel
theorem dX0_close_63 : decode cX0_close 63 = .ok (.ifCond .ne 6, 3) := by decide +kernel
theorem dX0_close_66 : decode cX0_close 66 = .ok (.bipush (-2), 2) := by decide +kernel
theorem dX0_close_68 : decode cX0_close 68 = .ok (.ireturn, 1) := by decide +kernel
theorem dX0_close_69 : decode cX0_close 69 = .ok (.aload_n 0, 1) := by decide +kernel
theorem dX0_close_70 : decode cX0_close 70 = .ok (.getfield 31, 3) := by decide +kernel
theorem dX0_close_73 : decode cX0_close 73 = .ok (.aload_n 0, 1) := by decide +kernel
theorem dX0_close_74 : decode cX0_close 74 = .ok (.getfield 330, 3) := by decide +kernel
theorem dX0_close_77 : decode cX0_close 77 = .ok (.getfield 110, 3) := by decide +kernel
theorem dX0_close_80 : decode cX0_close 80 = .ok (.getfield 89, 3) := by decide +kernel
theorem dX0_close_83 : decode cX0_close 83 = .ok (.invokevirtual 66, 3) := by decide +kernel
theorem dX0_close_86 : decode cX0_close 86 = .ok (.aload_n 0, 1) := by decide +kernel
theorem dX0_close_87 : decode cX0_close 87 = .ok (.getfield 39, 3) := by decide +kernel
theorem dX0_close_90 : decode cX0_close 90 = .ok (.aload_n 0, 1) := by decide +kernel
theorem dX0_close_91 : decode cX0_close 91 = .ok (.getfield 330, 3) := by decide +kernel
theorem dX0_close_94 : decode cX0_close 94 = .ok (.getfield 110, 3) := by decide +kernel
theorem dX0_close_97 : decode cX0_close 97 = .ok (.getfield 94, 3) := by decide +kernel
theorem dX0_close_100 : decode cX0_close 100 = .ok (.invokevirtual 66, 3) := by decide +kernel
theorem dX0_close_103 : decode cX0_close 103 = .ok (.aload_n 0, 1) := by decide +kernel
theorem dX0_close_104 : decode cX0_close 104 = .ok (.invokevirtual 673, 3) := by decide +kernel
theorem dX0_close_107 : decode cX0_close 107 = .ok (.ifCond .eq 10, 3) := by decide +kernel
theorem dX0_close_110 : decode cX0_close 110 = .ok (.aload_n 0, 1) := by decide +kernel
theorem dX0_close_111 : decode cX0_close 111 = .ok (.invokevirtual 676, 3) := by decide +kernel
theorem dX0_close_114 : decode cX0_close 114 = .ok (.ifCond .ne 6, 3) := by decide +kernel
theorem dX0_close_117 : decode cX0_close 117 = .ok (.bipush (-2), 2) := by decide +kernel
theorem dX0_close_119 : decode cX0_close 119 = .ok (.ireturn, 1) := by decide +kernel
theorem dX0_close_120 : decode cX0_close 120 = .ok (.aload_n 0, 1) := by decide +kernel
theorem dX0_close_121 : decode cX0_close 121 = .ok (.aload_n 0, 1) := by decide +kernel
theorem dX0_close_122 : decode cX0_close 122 = .ok (.getfield 348, 3) := by decide +kernel
theorem dX0_close_125 : decode cX0_close 125 = .ok (.invokevirtual 572, 3) := by decide +kernel
theorem dX0_close_128 : decode cX0_close 128 = .ok (.invokevirtual 727, 3) := by decide +kernel
theorem dX0_close_131 : decode cX0_close 131 = .ok (.istore 4, 2) := by decide +kernel
theorem dX0_close_133 : decode cX0_close 133 = .ok (.iload 4, 2) := by decide +kernel
theorem dX0_close_135 : decode cX0_close 135 = .ok (.bipush 8, 2) := by decide +kernel
theorem dX0_close_137 : decode cX0_close 137 = .ok (.if_icmp .le 6, 3) := by decide +kernel
theorem dX0_close_140 : decode cX0_close 140 = .ok (.bipush (-2), 2) := by decide +kernel
theorem dX0_close_142 : decode cX0_close 142 = .ok (.ireturn, 1) := by decide +kernel
theorem dX0_close_143 : decode cX0_close 143 = .ok (.aload_n 0, 1) := by decide +kernel
theorem dX0_close_144 : decode cX0_close 144 = .ok (.getfield 386, 3) := by decide +kernel
theorem dX0_close_147 : decode cX0_close 147 = .ok (.iconst 0, 1) := by decide +kernel
theorem dX0_close_148 : decode cX0_close 148 = .ok (.aaload, 1) := by decide +kernel
theorem dX0_close_149 : decode cX0_close 149 = .ok (.iconst 1, 1) := by decide +kernel
theorem dX0_close_150 : decode cX0_close 150 = .ok (.invokevirtual 42, 3) := by decide +kernel
theorem dX0_close_153 : decode cX0_close 153 = .ok (.iload 4, 2) := by decide +kernel
theorem dX0_close_155 : decode cX0_close 155 = .ok (.ifCond .lt 13, 3) := by decide +kernel
theorem dX0_close_158 : decode cX0_close 158 = .ok (.aload_n 0, 1) := by decide +kernel
theorem dX0_close_159 : decode cX0_close 159 = .ok (.iconst 0, 1) := by decide +kernel
theorem dX0_close_160 : decode cX0_close 160 = .ok (.iload 4, 2) := by decide +kernel
theorem dX0_close_162 : decode cX0_close 162 = .ok (.invokevirtual 730, 3) := by decide +kernel
theorem dX0_close_165 : decode cX0_close 165 = .ok (.ifCond .ne 5, 3) := by decide +kernel
theorem dX0_close_168 : decode cX0_close 168 = .ok (.iconst (-1), 1) := by decide +kernel
theorem dX0_close_169 : decode cX0_close 169 = .ok (.ireturn, 1) := by decide +kernel
theorem dX0_close_170 : decode cX0_close 170 = .ok (.aload_n 0, 1) := by decide +kernel
theorem dX0_close_171 : decode cX0_close 171 = .ok (.getfield 414, 3) := by decide +kernel
theorem dX0_close_174 : decode cX0_close 174 = .ok (.iconst 1, 1) := by decide +kernel
theorem dX0_close_175 : decode cX0_close 175 = .ok (.invokevirtual 734, 3) := by decide +kernel
theorem dX0_close_178 : decode cX0_close 178 = .ok (.aload_n 0, 1) := by decide +kernel
theorem dX0_close_179 : decode cX0_close 179 = .ok (.getfield 417, 3) := by decide +kernel
theorem dX0_close_182 : decode cX0_close 182 = .ok (.iconst 1, 1) := by decide +kernel
theorem dX0_close_183 : decode cX0_close 183 = .ok (.invokevirtual 42, 3) := by decide +kernel
theorem dX0_close_186 : decode cX0_close 186 = .ok (.aload_n 0, 1) := by decide +kernel
theorem dX0_close_187 : decode cX0_close 187 = .ok (.getfield 374, 3) := by decide +kernel
theorem dX0_close_190 : decode cX0_close 190 = .ok (.iconst 1, 1) := by decide +kernel
theorem dX0_close_191 : decode cX0_close 191 = .ok (.invokevirtual 734, 3) := by decide +kernel
theorem dX0_close_194 : decode cX0_close 194 = .ok (.aload_n 0, 1) := by decide +kernel
theorem dX0_close_195 : decode cX0_close 195 = .ok (.aload_n 0, 1) := by decide +kernel
theorem dX0_close_196 : decode cX0_close 196 = .ok (.getfield 417, 3) := by decide +kernel
theorem dX0_close_199 : decode cX0_close 199 = .ok (.aload_n 0, 1) := by decide +kernel
theorem dX0_close_200 : decode cX0_close 200 = .ok (.getfield 414, 3) := by decide +kernel
theorem dX0_close_203 : decode cX0_close 203 = .ok (.aload_n 0, 1) := by decide +kernel
theorem dX0_close_204 : decode cX0_close 204 = .ok (.getfield 330, 3) := by decide +kernel
theorem dX0_close_207 : decode cX0_close 207 = .ok (.getfield 110, 3) := by decide +kernel
theorem dX0_close_210 : decode cX0_close 210 = .ok (.invokevirtual 735, 3) := by decide +kernel
theorem dX0_close_213 : decode cX0_close 213 = .ok (.ifCond .ne 6, 3) := by decide +kernel
theorem dX0_close_216 : decode cX0_close 216 = .ok (.bipush (-2), 2) := by decide +kernel
theorem dX0_close_218 : decode cX0_close 218 = .ok (.ireturn, 1) := by decide +kernel
theorem dX0_close_219 : decode cX0_close 219 = .ok (.aload_n 0, 1) := by decide +kernel
theorem dX0_close_220 : decode cX0_close 220 = .ok (.iload_n 2, 1) := by decide +kernel
theorem dX0_close_221 : decode cX0_close 221 = .ok (.invokevirtual 628, 3) := by decide +kernel
theorem dX0_close_224 : decode cX0_close 224 = .ok (.istore 5, 2) := by decide +kernel
theorem dX0_close_226 : decode cX0_close 226 = .ok (.iconst 1, 1) := by decide +kernel
theorem dX0_close_227 : decode cX0_close 227 = .ok (.ireturn, 1) := by decide +kernel
theorem dX0_depth_0 : decode cX0_depth 0 = .ok (.aload_n 0, 1) := by decide +kernel
theorem dX0_depth_1 : decode cX0_depth 1 = .ok (.getfield 342, 3) := by decide +kernel
theorem dX0_depth_4 : decode cX0_depth 4 = .ok (.invokevirtual 572, 3) := by decide +kernel
theorem dX0_depth_7 : decode cX0_depth 7 = .ok (.aload_n 0, 1) := by decide +kernel
theorem dX0_depth_8 : decode cX0_depth 8 = .ok (.getfield 345, 3) := by decide +kernel
theorem dX0_depth_11 : decode cX0_depth 11 = .ok (.invokevirtual 572, 3) := by decide +kernel
theorem dX0_depth_14 : decode cX0_depth 14 = .ok (.invokestatic 679, 3) := by decide +kernel
theorem dX0_depth_17 : decode cX0_depth 17 = .ok (.istore_n 2, 1) := by decide +kernel
theorem dX0_depth_18 : decode cX0_depth 18 = .ok (.aload_n 0, 1) := by decide +kernel
theorem dX0_depth_19 : decode cX0_depth 19 = .ok (.getfield 390, 3) := by decide +kernel
theorem dX0_depth_22 : decode cX0_depth 22 = .ok (.aload_n 0, 1) := by decide +kernel
theorem dX0_depth_23 : decode cX0_depth 23 = .ok (.getfield 345, 3) := by decide +kernel
theorem dX0_depth_26 : decode cX0_depth 26 = .ok (.invokevirtual 66, 3) := by decide +kernel
theorem dX0_depth_29 : decode cX0_depth 29 = .ok (.aload_n 0, 1) := by decide +kernel
theorem dX0_depth_30 : decode cX0_depth 30 = .ok (.getfield 390, 3) := by decide +kernel
theorem dX0_depth_33 : decode cX0_depth 33 = .ok (.ldc 101, 2) := by decide +kernel
theorem dX0_depth_35 : decode cX0_depth 35 = .ok (.invokevirtual 617, 3) := by decide +kernel
theorem dX0_depth_38 : decode cX0_depth 38 = .ok (.aload_n 0, 1) := by decide +kernel
theorem dX0_depth_39 : decode cX0_depth 39 = .ok (.getfield 342, 3) := by decide +kernel
theorem dX0_depth_42 : decode cX0_depth 42 = .ok (.iload_n 2, 1) := by decide +kernel
theorem dX0_depth_43 : decode cX0_depth 43 = .ok (.aload_n 0, 1) := by decide +kernel
theorem dX0_depth_44 : decode cX0_depth 44 = .ok (.getfield 361, 3) := by decide +kernel
theorem dX0_depth_47 : decode cX0_depth 47 = .ok (.invokevirtual 661, 3) := by decide +kernel
theorem dX0_depth_50 : decode cX0_depth 50 = .ok (.aload_n 0, 1) := by decide +kernel
theorem dX0_depth_51 : decode cX0_depth 51 = .ok (.getfield 390, 3) := by decide +kernel
theorem dX0_depth_54 : decode cX0_depth 54 = .ok (.iload_n 2, 1) := by decide +kernel
theorem dX0_depth_55 : decode cX0_depth 55 = .ok (.aload_n 0, 1) := by decide +kernel
theorem dX0_depth_56 : decode cX0_depth 56 = .ok (.getfield 365, 3) := by decide +kernel
theorem dX0_depth_59 : decode cX0_depth 59 = .ok (.invokevirtual 661, 3) := by decide +kernel
theorem dX0_depth_62 : decode cX0_depth 62 = .ok (.aload_n 0, 1) := by decide +kernel
theorem dX0_depth_63 : decode cX0_depth 63 = .ok (.getfield 361, 3) := by decide +kernel
theorem dX0_depth_66 : decode cX0_depth 66 = .ok (.aload_n 0, 1) := by decide +kernel
theorem dX0_depth_67 : decode cX0_depth 67 = .ok (.getfield 365, 3) := by decide +kernel
theorem dX0_depth_70 : decode cX0_depth 70 = .ok (.invokevirtual 682, 3) := by decide +kernel
theorem dX0_depth_73 : decode cX0_depth 73 = .ok (.ifCond .ne 7, 3) := by decide +kernel
theorem dX0_depth_76 : decode cX0_depth 76 = .ok (.iload_n 1, 1) := by decide +kernel
theorem dX0_depth_77 : decode cX0_depth 77 = .ok (.iload_n 2, 1) := by decide +kernel
theorem dX0_depth_78 : decode cX0_depth 78 = .ok (.isub, 1) := by decide +kernel
theorem dX0_depth_79 : decode cX0_depth 79 = .ok (.ireturn, 1) := by decide +kernel
theorem dX0_depth_80 : decode cX0_depth 80 = .ok (.aload_n 0, 1) := by decide +kernel
theorem dX0_depth_81 : decode cX0_depth 81 = .ok (.getfield 411, 3) := by decide +kernel
theorem dX0_depth_84 : decode cX0_depth 84 = .ok (.aload_n 0, 1) := by decide +kernel
theorem dX0_depth_85 : decode cX0_depth 85 = .ok (.getfield 361, 3) := by decide +kernel
theorem dX0_depth_88 : decode cX0_depth 88 = .ok (.invokevirtual 686, 3) := by decide +kernel
theorem dX0_depth_91 : decode cX0_depth 91 = .ok (.aload_n 0, 1) := by decide +kernel
theorem dX0_depth_92 : decode cX0_depth 92 = .ok (.getfield 342, 3) := by decide +kernel
theorem dX0_depth_95 : decode cX0_depth 95 = .ok (.iload_n 2, 1) := by decide +kernel
theorem dX0_depth_96 : decode cX0_depth 96 = .ok (.iconst 1, 1) := by decide +kernel
theorem dX0_depth_97 : decode cX0_depth 97 = .ok (.isub, 1) := by decide +kernel
theorem dX0_depth_98 : decode cX0_depth 98 = .ok (.aload_n 0, 1) := by decide +kernel
theorem dX0_depth_99 : decode cX0_depth 99 = .ok (.getfield 361, 3) := by decide +kernel
theorem dX0_depth_102 : decode cX0_depth 102 = .ok (.invokevirtual 661, 3) := by decide +kernel
theorem dX0_depth_105 : decode cX0_depth 105 = .ok (.aload_n 0, 1) := by decide +kernel
theorem dX0_depth_106 : decode cX0_depth 106 = .ok (.getfield 390, 3) := by decide +kernel
theorem dX0_depth_109 : decode cX0_depth 109 = .ok (.iload_n 2, 1) := by decide +kernel
theorem dX0_depth_110 : decode cX0_depth 110 = .ok (.iconst 1, 1) := by decide +kernel
theorem dX0_depth_111 : decode cX0_depth 111 = .ok (.isub, 1) := by decide +kernel
theorem dX0_depth_112 : decode cX0_depth 112 = .ok (.aload_n 0, 1) := by decide +kernel
theorem dX0_depth_113 : decode cX0_depth 113 = .ok (.getfield 365, 3) := by decide +kernel
theorem dX0_depth_116 : decode cX0_depth 116 = .ok (.invokevirtual 661, 3) := by decide +kernel
theorem dX0_depth_119 : decode cX0_depth 119 = .ok (.aload_n 0, 1) := by decide +kernel
theorem dX0_depth_120 : decode cX0_depth 120 = .ok (.getfield 365, 3) := by decide +kernel
theorem dX0_depth_123 : decode cX0_depth 123 = .ok (.aload_n 0, 1) := by decide +kernel
theorem dX0_depth_124 : decode cX0_depth 124 = .ok (.getfield 361, 3) := by decide +kernel
theorem dX0_depth_127 : decode cX0_depth 127 = .ok (.ldc 101, 2) := by decide +kernel
theorem dX0_depth_129 : decode cX0_depth 129 = .ok (.iconst 0, 1) := by decide +kernel
theorem dX0_depth_130 : decode cX0_depth 130 = .ok (.invokevirtual 689, 3) := by decide +kernel
theorem dX0_depth_133 : decode cX0_depth 133 = .ok (.iconst (-1), 1) := by decide +kernel
theorem dX0_depth_134 : decode cX0_depth 134 = .ok (.istore_n 3, 1) := by decide +kernel
theorem dX0_depth_135 : decode cX0_depth 135 = .ok (.aload_n 0, 1) := by decide +kernel
theorem dX0_depth_136 : decode cX0_depth 136 = .ok (.getfield 365, 3) := by decide +kernel
theorem dX0_depth_139 : decode cX0_depth 139 = .ok (.invokevirtual 692, 3) := by decide +kernel
theorem dX0_depth_142 : decode cX0_depth 142 = .ok (.ifCond .eq 8, 3) := by decide +kernel
theorem dX0_depth_145 : decode cX0_depth 145 = .ok (.iconst 0, 1) := by decide +kernel
theorem dX0_depth_146 : decode cX0_depth 146 = .ok (.istore_n 3, 1) := by decide +kernel
theorem dX0_depth_147 : decode cX0_depth 147 = .ok (.goto 83, 3) := by decide +kernel
theorem dX0_depth_150 : decode cX0_depth 150 = .ok (.aload_n 0, 1) := by decide +kernel
theorem dX0_depth_151 : decode cX0_depth 151 = .ok (.getfield 365, 3) := by decide +kernel
theorem dX0_depth_154 : decode cX0_depth 154 = .ok (.getfield 636, 3) := by decide +kernel
theorem dX0_depth_157 : decode cX0_depth 157 = .ok (.aload_n 0, 1) := by decide +kernel
theorem dX0_depth_158 : decode cX0_depth 158 = .ok (.getfield 411, 3) := by decide +kernel
theorem dX0_depth_161 : decode cX0_depth 161 = .ok (.getfield 636, 3) := by decide +kernel
theorem dX0_depth_164 : decode cX0_depth 164 = .ok (.if_icmp .ne 66, 3) := by decide +kernel
theorem dX0_depth_167 : decode cX0_depth 167 = .ok (.aload_n 0, 1) := by decide +kernel
theorem dX0_depth_168 : decode cX0_depth 168 = .ok (.getfield 365, 3) := by decide +kernel
theorem dX0_depth_171 : decode cX0_depth 171 = .ok (.invokevirtual 693, 3) := by decide +kernel
theorem dX0_depth_174 : decode cX0_depth 174 = .ok (.aload_n 0, 1) := by decide +kernel
theorem dX0_depth_175 : decode cX0_depth 175 = .ok (.getfield 411, 3) := by decide +kernel
theorem dX0_depth_178 : decode cX0_depth 178 = .ok (.invokevirtual 693, 3) := by decide +kernel
theorem dX0_depth_181 : decode cX0_depth 181 = .ok (.invokestatic 74, 3) := by decide +kernel
theorem dX0_depth_184 : decode cX0_depth 184 = .ok (.invokestatic 6, 3) := by decide +kernel
theorem dX0_depth_187 : decode cX0_depth 187 = .ok (.istore 4, 2) := by decide +kernel
theorem dX0_depth_189 : decode cX0_depth 189 = .ok (.aload_n 0, 1) := by decide +kernel
theorem dX0_depth_190 : decode cX0_depth 190 = .ok (.getfield 365, 3) := by decide +kernel
theorem dX0_depth_193 : decode cX0_depth 193 = .ok (.aload_n 0, 1) := by decide +kernel
theorem dX0_depth_194 : decode cX0_depth 194 = .ok (.getfield 411, 3) := by decide +kernel
theorem dX0_depth_197 : decode cX0_depth 197 = .ok (.ldc 5, 2) := by decide +kernel
theorem dX0_depth_199 : decode cX0_depth 199 = .ok (.iload 4, 2) := by decide +kernel
theorem dX0_depth_201 : decode cX0_depth 201 = .ok (.isub, 1) := by decide +kernel
theorem dX0_depth_202 : decode cX0_depth 202 = .ok (.iconst 0, 1) := by decide +kernel
theorem dX0_depth_203 : decode cX0_depth 203 = .ok (.invokevirtual 689, 3) := by decide +kernel
theorem dX0_depth_206 : decode cX0_depth 206 = .ok (.aload_n 0, 1) := by decide +kernel
theorem dX0_depth_207 : decode cX0_depth 207 = .ok (.getfield 365, 3) := by decide +kernel
theorem dX0_depth_210 : decode cX0_depth 210 = .ok (.invokevirtual 692, 3) := by decide +kernel
theorem dX0_depth_213 : decode cX0_depth 213 = .ok (.ifCond .eq 15, 3) := by decide +kernel
theorem dX0_depth_216 : decode cX0_depth 216 = .ok (.iload 4, 2) := by decide +kernel
theorem dX0_depth_218 : decode cX0_depth 218 = .ok (.bipush 12, 2) := by decide +kernel
theorem dX0_depth_220 : decode cX0_depth 220 = .ok (.if_icmp .gt 8, 3) := by decide +kernel
theorem dX0_depth_223 : decode cX0_depth 223 = .ok (.iload 4, 2) := by decide +kernel
theorem dX0_depth_225 : decode cX0_depth 225 = .ok (.goto 4, 3) := by decide +kernel
theorem dX0_depth_228 : decode cX0_depth 228 = .ok (.iconst (-1), 1) := by decide +kernel
theorem dX0_depth_229 : decode cX0_depth 229 = .ok (.istore_n 3, 1) := by decide +kernel
theorem dX0_depth_230 : decode cX0_depth 230 = .ok (.iload_n 1, 1) := by decide +kernel
theorem dX0_depth_231 : decode cX0_depth 231 = .ok (.iload_n 2, 1) := by decide +kernel
theorem dX0_depth_232 : decode cX0_depth 232 = .ok (.isub, 1) := by decide +kernel
theorem dX0_depth_233 : decode cX0_depth 233 = .ok (.iconst 1, 1) := by decide +kernel
theorem dX0_depth_234 : decode cX0_depth 234 = .ok (.iadd, 1) := by decide +kernel
theorem dX0_depth_235 : decode cX0_depth 235 = .ok (.iload_n 3, 1) := by decide +kernel
theorem dX0_depth_236 : decode cX0_depth 236 = .ok (.invokestatic 679, 3) := by decide +kernel
theorem dX0_depth_239 : decode cX0_depth 239 = .ok (.ireturn, 1) := by decide +kernel
theorem dX0_solveFor_0 : decode cX0_solveFor 0 = .ok (.iconst 0, 1) := by decide +kernel
theorem dX0_solveFor_1 : decode cX0_solveFor 1 = .ok (.iload_n 2, 1) := by decide +kernel
theorem dX0_solveFor_2 : decode cX0_solveFor 2 = .ok (.iconst 1, 1) := by decide +kernel
theorem dX0_solveFor_3 : decode cX0_solveFor 3 = .ok (.iadd, 1) := by decide +kernel
theorem dX0_solveFor_4 : decode cX0_solveFor 4 = .ok (.invokestatic 679, 3) := by decide +kernel
theorem dX0_solveFor_7 : decode cX0_solveFor 7 = .ok (.istore_n 3, 1) := by decide +kernel
theorem dX0_solveFor_8 : decode cX0_solveFor 8 = .ok (.aload_n 0, 1) := by decide +kernel
theorem dX0_solveFor_9 : decode cX0_solveFor 9 = .ok (.getfield 342, 3) := by decide +kernel
theorem dX0_solveFor_12 : decode cX0_solveFor 12 = .ok (.getfield 28, 3) := by decide +kernel
theorem dX0_solveFor_15 : decode cX0_solveFor 15 = .ok (.aload_n 0, 1) := by decide +kernel
theorem dX0_solveFor_16 : decode cX0_solveFor 16 = .ok (.getfield 345, 3) := by decide +kernel
theorem dX0_solveFor_19 : decode cX0_solveFor 19 = .ok (.getfield 28, 3) := by decide +kernel
theorem dX0_solveFor_22 : decode cX0_solveFor 22 = .ok (.invokestatic 679, 3) := by decide +kernel
theorem dX0_solveFor_25 : decode cX0_solveFor 25 = .ok (.iload_n 3, 1) := by decide +kernel
theorem dX0_solveFor_26 : decode cX0_solveFor 26 = .ok (.iadd, 1) := by decide +kernel
theorem dX0_solveFor_27 : decode cX0_solveFor 27 = .ok (.istore 4, 2) := by decide +kernel
theorem dX0_solveFor_29 : decode cX0_solveFor 29 = .ok (.iconst 0, 1) := by decide +kernel
theorem dX0_solveFor_30 : decode cX0_solveFor 30 = .ok (.istore 5, 2) := by decide +kernel
theorem dX0_solveFor_32 : decode cX0_solveFor 32 = .ok (.iload 5, 2) := by decide +kernel
theorem dX0_solveFor_34 : decode cX0_solveFor 34 = .ok (.iload_n 1, 1) := by decide +kernel
theorem dX0_solveFor_35 : decode cX0_solveFor 35 = .ok (.if_icmp .gt 34, 3) := by decide +kernel
theorem dX0_solveFor_38 : decode cX0_solveFor 38 = .ok (.iload 4, 2) := by decide +kernel
theorem dX0_solveFor_40 : decode cX0_solveFor 40 = .ok (.aload_n 0, 1) := by decide +kernel
theorem dX0_solveFor_41 : decode cX0_solveFor 41 = .ok (.getfield 348, 3) := by decide +kernel
theorem dX0_solveFor_44 : decode cX0_solveFor 44 = .ok (.getfield 28, 3) := by decide +kernel
theorem dX0_solveFor_47 : decode cX0_solveFor 47 = .ok (.aload_n 0, 1) := by decide +kernel
theorem dX0_solveFor_48 : decode cX0_solveFor 48 = .ok (.getfield 386, 3) := by decide +kernel
theorem dX0_solveFor_51 : decode cX0_solveFor 51 = .ok (.iload 5, 2) := by decide +kernel
theorem dX0_solveFor_53 : decode cX0_solveFor 53 = .ok (.aaload, 1) := by decide +kernel
theorem dX0_solveFor_54 : decode cX0_solveFor 54 = .ok (.getfield 28, 3) := by decide +kernel
theorem dX0_solveFor_57 : decode cX0_solveFor 57 = .ok (.iadd, 1) := by decide +kernel
theorem dX0_solveFor_58 : decode cX0_solveFor 58 = .ok (.invokestatic 679, 3) := by decide +kernel
theorem dX0_solveFor_61 : decode cX0_solveFor 61 = .ok (.istore 4, 2) := by decide +kernel
theorem dX0_solveFor_63 : decode cX0_solveFor 63 = .ok (.iinc 5 1, 3) := by decide +kernel
theorem dX0_solveFor_66 : decode cX0_solveFor 66 = .ok (.goto (-34), 3) := by decide +kernel
theorem dX0_solveFor_69 : decode cX0_solveFor 69 = .ok (.aload_n 0, 1) := by decide +kernel
theorem dX0_solveFor_70 : decode cX0_solveFor 70 = .ok (.getfield 382, 3) := by decide +kernel
theorem dX0_solveFor_73 : decode cX0_solveFor 73 = .ok (.iload 4, 2) := by decide +kernel
theorem dX0_solveFor_75 : decode cX0_solveFor 75 = .ok (.iload_n 3, 1) := by decide +kernel
theorem dX0_solveFor_76 : decode cX0_solveFor 76 = .ok (.iload_n 1, 1) := by decide +kernel
theorem dX0_solveFor_77 : decode cX0_solveFor 77 = .ok (.iadd, 1) := by decide +kernel
theorem dX0_solveFor_78 : decode cX0_solveFor 78 = .ok (.iconst 1, 1) := by decide +kernel
theorem dX0_solveFor_79 : decode cX0_solveFor 79 = .ok (.iadd, 1) := by decide +kernel
theorem dX0_solveFor_80 : decode cX0_solveFor 80 = .ok (.invokevirtual 698, 3) := by decide +kernel
theorem dX0_solveFor_83 : decode cX0_solveFor 83 = .ok (.aload_n 0, 1) := by decide +kernel
theorem dX0_solveFor_84 : decode cX0_solveFor 84 = .ok (.getfield 351, 3) := by decide +kernel
theorem dX0_solveFor_87 : decode cX0_solveFor 87 = .ok (.iconst 1, 1) := by decide +kernel
theorem dX0_solveFor_88 : decode cX0_solveFor 88 = .ok (.invokevirtual 42, 3) := by decide +kernel
theorem dX0_solveFor_91 : decode cX0_solveFor 91 = .ok (.iconst 0, 1) := by decide +kernel
theorem dX0_solveFor_92 : decode cX0_solveFor 92 = .ok (.istore 5, 2) := by decide +kernel
theorem dX0_solveFor_94 : decode cX0_solveFor 94 = .ok (.iload 5, 2) := by decide +kernel
theorem dX0_solveFor_96 : decode cX0_solveFor 96 = .ok (.iload_n 3, 1) := by decide +kernel
theorem dX0_solveFor_97 : decode cX0_solveFor 97 = .ok (.if_icmp .ge 183, 3) := by decide +kernel
theorem dX0_solveFor_100 : decode cX0_solveFor 100 = .ok (.aload_n 0, 1) := by decide +kernel
theorem dX0_solveFor_101 : decode cX0_solveFor 101 = .ok (.getfield 393, 3) := by decide +kernel
theorem dX0_solveFor_104 : decode cX0_solveFor 104 = .ok (.aload_n 0, 1) := by decide +kernel
theorem dX0_solveFor_105 : decode cX0_solveFor 105 = .ok (.getfield 342, 3) := by decide +kernel
theorem dX0_solveFor_108 : decode cX0_solveFor 108 = .ok (.aload_n 0, 1) := by decide +kernel
theorem dX0_solveFor_109 : decode cX0_solveFor 109 = .ok (.getfield 351, 3) := by decide +kernel
theorem dX0_solveFor_112 : decode cX0_solveFor 112 = .ok (.invokevirtual 97, 3) := by decide +kernel
theorem dX0_solveFor_115 : decode cX0_solveFor 115 = .ok (.aload_n 0, 1) := by decide +kernel
theorem dX0_solveFor_116 : decode cX0_solveFor 116 = .ok (.getfield 59, 3) := by decide +kernel
theorem dX0_solveFor_119 : decode cX0_solveFor 119 = .ok (.aload_n 0, 1) := by decide +kernel
theorem dX0_solveFor_120 : decode cX0_solveFor 120 = .ok (.getfield 390, 3) := by decide +kernel
theorem dX0_solveFor_123 : decode cX0_solveFor 123 = .ok (.getfield 22, 3) := by decide +kernel
theorem dX0_solveFor_126 : decode cX0_solveFor 126 = .ok (.aload_n 0, 1) := by decide +kernel
theorem dX0_solveFor_127 : decode cX0_solveFor 127 = .ok (.getfield 390, 3) := by decide +kernel
theorem dX0_solveFor_130 : decode cX0_solveFor 130 = .ok (.getfield 28, 3) := by decide +kernel
theorem dX0_solveFor_133 : decode cX0_solveFor 133 = .ok (.iload 5, 2) := by decide +kernel
theorem dX0_solveFor_135 : decode cX0_solveFor 135 = .ok (.iadd, 1) := by decide +kernel
theorem dX0_solveFor_136 : decode cX0_solveFor 136 = .ok (.invokevirtual 304, 3) := by decide +kernel
theorem dX0_solveFor_139 : decode cX0_solveFor 139 = .ok (.iconst 0, 1) := by decide +kernel
theorem dX0_solveFor_140 : decode cX0_solveFor 140 = .ok (.istore 6, 2) := by decide +kernel
theorem dX0_solveFor_142 : decode cX0_solveFor 142 = .ok (.iload 6, 2) := by decide +kernel
theorem dX0_solveFor_144 : decode cX0_solveFor 144 = .ok (.aload_n 0, 1) := by decide +kernel
theorem dX0_solveFor_145 : decode cX0_solveFor 145 = .ok (.getfield 390, 3) := by decide +kernel
theorem dX0_solveFor_148 : decode cX0_solveFor 148 = .ok (.getfield 28, 3) := by decide +kernel
theorem dX0_solveFor_151 : decode cX0_solveFor 151 = .ok (.if_icmp .ge 38, 3) := by decide +kernel
theorem dX0_solveFor_154 : decode cX0_solveFor 154 = .ok (.aload_n 0, 1) := by decide +kernel
theorem dX0_solveFor_155 : decode cX0_solveFor 155 = .ok (.getfield 390, 3) := by decide +kernel
theorem dX0_solveFor_158 : decode cX0_solveFor 158 = .ok (.iload 6, 2) := by decide +kernel
theorem dX0_solveFor_160 : decode cX0_solveFor 160 = .ok (.aload_n 0, 1) := by decide +kernel
theorem dX0_solveFor_161 : decode cX0_solveFor 161 = .ok (.getfield 361, 3) := by decide +kernel
theorem dX0_solveFor_164 : decode cX0_solveFor 164 = .ok (.invokevirtual 661, 3) := by decide +kernel
theorem dX0_solveFor_167 : decode cX0_solveFor 167 = .ok (.aload_n 0, 1) := by decide +kernel
theorem dX0_solveFor_168 : decode cX0_solveFor 168 = .ok (.getfield 59, 3) := by decide +kernel
theorem dX0_solveFor_171 : decode cX0_solveFor 171 = .ok (.iload 6, 2) := by decide +kernel
theorem dX0_solveFor_173 : decode cX0_solveFor 173 = .ok (.iload 5, 2) := by decide +kernel
theorem dX0_solveFor_175 : decode cX0_solveFor 175 = .ok (.iadd, 1) := by decide +kernel
theorem dX0_solveFor_176 : decode cX0_solveFor 176 = .ok (.aload_n 0, 1) := by decide +kernel
theorem dX0_solveFor_177 : decode cX0_solveFor 177 = .ok (.getfield 361, 3) := by decide +kernel
theorem dX0_solveFor_180 : decode cX0_solveFor 180 = .ok (.invokevirtual 664, 3) := by decide +kernel
theorem dX0_solveFor_183 : decode cX0_solveFor 183 = .ok (.iinc 6 1, 3) := by decide +kernel
theorem dX0_solveFor_186 : decode cX0_solveFor 186 = .ok (.goto (-44), 3) := by decide +kernel
theorem dX0_solveFor_189 : decode cX0_solveFor 189 = .ok (.aload_n 0, 1) := by decide +kernel
theorem dX0_solveFor_190 : decode cX0_solveFor 190 = .ok (.getfield 393, 3) := by decide +kernel
theorem dX0_solveFor_193 : decode cX0_solveFor 193 = .ok (.aload_n 0, 1) := by decide +kernel
theorem dX0_solveFor_194 : decode cX0_solveFor 194 = .ok (.getfield 59, 3) := by decide +kernel
theorem dX0_solveFor_197 : decode cX0_solveFor 197 = .ok (.ldc 101, 2) := by decide +kernel
theorem dX0_solveFor_199 : decode cX0_solveFor 199 = .ok (.invokevirtual 102, 3) := by decide +kernel
theorem dX0_solveFor_202 : decode cX0_solveFor 202 = .ok (.aload_n 0, 1) := by decide +kernel
theorem dX0_solveFor_203 : decode cX0_solveFor 203 = .ok (.iload 5, 2) := by decide +kernel
theorem dX0_solveFor_205 : decode cX0_solveFor 205 = .ok (.aload_n 0, 1) := by decide +kernel
theorem dX0_solveFor_206 : decode cX0_solveFor 206 = .ok (.getfield 393, 3) := by decide +kernel
theorem dX0_solveFor_209 : decode cX0_solveFor 209 = .ok (.iconst 1, 1) := by decide +kernel
theorem dX0_solveFor_210 : decode cX0_solveFor 210 = .ok (.invokevirtual 699, 3) := by decide +kernel
theorem dX0_solveFor_213 : decode cX0_solveFor 213 = .ok (.aload_n 0, 1) := by decide +kernel
theorem dX0_solveFor_214 : decode cX0_solveFor 214 = .ok (.getfield 59, 3) := by decide +kernel
theorem dX0_solveFor_217 : decode cX0_solveFor 217 = .ok (.aload_n 0, 1) := by decide +kernel
theorem dX0_solveFor_218 : decode cX0_solveFor 218 = .ok (.getfield 351, 3) := by decide +kernel
theorem dX0_solveFor_221 : decode cX0_solveFor 221 = .ok (.invokevirtual 66, 3) := by decide +kernel
theorem dX0_solveFor_224 : decode cX0_solveFor 224 = .ok (.aload_n 0, 1) := by decide +kernel
theorem dX0_solveFor_225 : decode cX0_solveFor 225 = .ok (.getfield 50, 3) := by decide +kernel
theorem dX0_solveFor_228 : decode cX0_solveFor 228 = .ok (.iconst 1, 1) := by decide +kernel
theorem dX0_solveFor_229 : decode cX0_solveFor 229 = .ok (.iconst 2, 1) := by decide +kernel
theorem dX0_solveFor_230 : decode cX0_solveFor 230 = .ok (.invokevirtual 304, 3) := by decide +kernel
theorem dX0_solveFor_233 : decode cX0_solveFor 233 = .ok (.aload_n 0, 1) := by decide +kernel
theorem dX0_solveFor_234 : decode cX0_solveFor 234 = .ok (.getfield 50, 3) := by decide +kernel
theorem dX0_solveFor_237 : decode cX0_solveFor 237 = .ok (.getfield 288, 3) := by decide +kernel
theorem dX0_solveFor_240 : decode cX0_solveFor 240 = .ok (.iconst 0, 1) := by decide +kernel
theorem dX0_solveFor_241 : decode cX0_solveFor 241 = .ok (.iconst 1, 1) := by decide +kernel
theorem dX0_solveFor_242 : decode cX0_solveFor 242 = .ok (.iastore, 1) := by decide +kernel
theorem dX0_solveFor_243 : decode cX0_solveFor 243 = .ok (.aload_n 0, 1) := by decide +kernel
theorem dX0_solveFor_244 : decode cX0_solveFor 244 = .ok (.getfield 50, 3) := by decide +kernel
theorem dX0_solveFor_247 : decode cX0_solveFor 247 = .ok (.getfield 288, 3) := by decide +kernel
theorem dX0_solveFor_250 : decode cX0_solveFor 250 = .ok (.aload_n 0, 1) := by decide +kernel
theorem dX0_solveFor_251 : decode cX0_solveFor 251 = .ok (.getfield 50, 3) := by decide +kernel
theorem dX0_solveFor_254 : decode cX0_solveFor 254 = .ok (.getfield 608, 3) := by decide +kernel
theorem dX0_solveFor_257 : decode cX0_solveFor 257 = .ok (.iconst 1, 1) := by decide +kernel
theorem dX0_solveFor_258 : decode cX0_solveFor 258 = .ok (.iastore, 1) := by decide +kernel
theorem dX0_solveFor_259 : decode cX0_solveFor 259 = .ok (.aload_n 0, 1) := by decide +kernel
theorem dX0_solveFor_260 : decode cX0_solveFor 260 = .ok (.getfield 351, 3) := by decide +kernel
theorem dX0_solveFor_263 : decode cX0_solveFor 263 = .ok (.aload_n 0, 1) := by decide +kernel
theorem dX0_solveFor_264 : decode cX0_solveFor 264 = .ok (.getfield 59, 3) := by decide +kernel
theorem dX0_solveFor_267 : decode cX0_solveFor 267 = .ok (.aload_n 0, 1) := by decide +kernel
theorem dX0_solveFor_268 : decode cX0_solveFor 268 = .ok (.getfield 50, 3) := by decide +kernel
theorem dX0_solveFor_271 : decode cX0_solveFor 271 = .ok (.invokevirtual 97, 3) := by decide +kernel
theorem dX0_solveFor_274 : decode cX0_solveFor 274 = .ok (.iinc 5 1, 3) := by decide +kernel
theorem dX0_solveFor_277 : decode cX0_solveFor 277 = .ok (.goto (-183), 3) := by decide +kernel
theorem dX0_solveFor_280 : decode cX0_solveFor 280 = .ok (.iconst 0, 1) := by decide +kernel
theorem dX0_solveFor_281 : decode cX0_solveFor 281 = .ok (.istore 5, 2) := by decide +kernel
theorem dX0_solveFor_283 : decode cX0_solveFor 283 = .ok (.iload 5, 2) := by decide +kernel
theorem dX0_solveFor_285 : decode cX0_solveFor 285 = .ok (.iload_n 1, 1) := by decide +kernel
theorem dX0_solveFor_286 : decode cX0_solveFor 286 = .ok (.if_icmp .gt 41, 3) := by decide +kernel
theorem dX0_solveFor_289 : decode cX0_solveFor 289 = .ok (.aload_n 0, 1) := by decide +kernel
theorem dX0_solveFor_290 : decode cX0_solveFor 290 = .ok (.getfield 393, 3) := by decide +kernel
theorem dX0_solveFor_293 : decode cX0_solveFor 293 = .ok (.aload_n 0, 1) := by decide +kernel
theorem dX0_solveFor_294 : decode cX0_solveFor 294 = .ok (.getfield 348, 3) := by decide +kernel
theorem dX0_solveFor_297 : decode cX0_solveFor 297 = .ok (.aload_n 0, 1) := by decide +kernel
theorem dX0_solveFor_298 : decode cX0_solveFor 298 = .ok (.getfield 386, 3) := by decide +kernel
theorem dX0_solveFor_301 : decode cX0_solveFor 301 = .ok (.iload 5, 2) := by decide +kernel
theorem dX0_solveFor_303 : decode cX0_solveFor 303 = .ok (.aaload, 1) := by decide +kernel
theorem dX0_solveFor_304 : decode cX0_solveFor 304 = .ok (.invokevirtual 97, 3) := by decide +kernel
theorem dX0_solveFor_307 : decode cX0_solveFor 307 = .ok (.aload_n 0, 1) := by decide +kernel
theorem dX0_solveFor_308 : decode cX0_solveFor 308 = .ok (.iload_n 3, 1) := by decide +kernel
theorem dX0_solveFor_309 : decode cX0_solveFor 309 = .ok (.iload 5, 2) := by decide +kernel
theorem dX0_solveFor_311 : decode cX0_solveFor 311 = .ok (.iadd, 1) := by decide +kernel
theorem dX0_solveFor_312 : decode cX0_solveFor 312 = .ok (.aload_n 0, 1) := by decide +kernel
theorem dX0_solveFor_313 : decode cX0_solveFor 313 = .ok (.getfield 393, 3) := by decide +kernel
theorem dX0_solveFor_316 : decode cX0_solveFor 316 = .ok (.ldc 101, 2) := by decide +kernel
theorem dX0_solveFor_318 : decode cX0_solveFor 318 = .ok (.invokevirtual 699, 3) := by decide +kernel
theorem dX0_solveFor_321 : decode cX0_solveFor 321 = .ok (.iinc 5 1, 3) := by decide +kernel
theorem dX0_solveFor_324 : decode cX0_solveFor 324 = .ok (.goto (-41), 3) := by decide +kernel
theorem dX0_solveFor_327 : decode cX0_solveFor 327 = .ok (.aload_n 0, 1) := by decide +kernel
theorem dX0_solveFor_328 : decode cX0_solveFor 328 = .ok (.getfield 382, 3) := by decide +kernel
theorem dX0_solveFor_331 : decode cX0_solveFor 331 = .ok (.iload_n 3, 1) := by decide +kernel
theorem dX0_solveFor_332 : decode cX0_solveFor 332 = .ok (.invokevirtual 703, 3) := by decide +kernel
theorem dX0_solveFor_335 : decode cX0_solveFor 335 = .ok (.istore 5, 2) := by decide +kernel
theorem dX0_solveFor_337 : decode cX0_solveFor 337 = .ok (.iload 5, 2) := by decide +kernel
theorem dX0_solveFor_339 : decode cX0_solveFor 339 = .ok (.ifCond .ge 5, 3) := by decide +kernel
theorem dX0_solveFor_342 : decode cX0_solveFor 342 = .ok (.iconst 0, 1) := by decide +kernel
theorem dX0_solveFor_343 : decode cX0_solveFor 343 = .ok (.ireturn, 1) := by decide +kernel
theorem dX0_solveFor_344 : decode cX0_solveFor 344 = .ok (.aload_n 0, 1) := by decide +kernel
theorem dX0_solveFor_345 : decode cX0_solveFor 345 = .ok (.iload 5, 2) := by decide +kernel
theorem dX0_solveFor_347 : decode cX0_solveFor 347 = .ok (.iload_n 3, 1) := by decide +kernel
theorem dX0_solveFor_348 : decode cX0_solveFor 348 = .ok (.isub, 1) := by decide +kernel
theorem dX0_solveFor_349 : decode cX0_solveFor 349 = .ok (.putfield 706, 3) := by decide +kernel
theorem dX0_solveFor_352 : decode cX0_solveFor 352 = .ok (.aload_n 0, 1) := by decide +kernel
theorem dX0_solveFor_353 : decode cX0_solveFor 353 = .ok (.getfield 406, 3) := by decide +kernel
theorem dX0_solveFor_356 : decode cX0_solveFor 356 = .ok (.invokevirtual 709, 3) := by decide +kernel
theorem dX0_solveFor_359 : decode cX0_solveFor 359 = .ok (.iconst 0, 1) := by decide +kernel
theorem dX0_solveFor_360 : decode cX0_solveFor 360 = .ok (.istore 6, 2) := by decide +kernel
theorem dX0_solveFor_362 : decode cX0_solveFor 362 = .ok (.iload 6, 2) := by decide +kernel
theorem dX0_solveFor_364 : decode cX0_solveFor 364 = .ok (.aload_n 0, 1) := by decide +kernel
theorem dX0_solveFor_365 : decode cX0_solveFor 365 = .ok (.getfield 706, 3) := by decide +kernel
theorem dX0_solveFor_368 : decode cX0_solveFor 368 = .ok (.if_icmp .gt 54, 3) := by decide +kernel
theorem dX0_solveFor_371 : decode cX0_solveFor 371 = .ok (.aload_n 0, 1) := by decide +kernel
theorem dX0_solveFor_372 : decode cX0_solveFor 372 = .ok (.getfield 382, 3) := by decide +kernel
theorem dX0_solveFor_375 : decode cX0_solveFor 375 = .ok (.iload_n 3, 1) := by decide +kernel
theorem dX0_solveFor_376 : decode cX0_solveFor 376 = .ok (.iload 6, 2) := by decide +kernel
theorem dX0_solveFor_378 : decode cX0_solveFor 378 = .ok (.iadd, 1) := by decide +kernel
theorem dX0_solveFor_379 : decode cX0_solveFor 379 = .ok (.iload 5, 2) := by decide +kernel
theorem dX0_solveFor_381 : decode cX0_solveFor 381 = .ok (.aload_n 0, 1) := by decide +kernel
theorem dX0_solveFor_382 : decode cX0_solveFor 382 = .ok (.getfield 402, 3) := by decide +kernel
theorem dX0_solveFor_385 : decode cX0_solveFor 385 = .ok (.iload 6, 2) := by decide +kernel
theorem dX0_solveFor_387 : decode cX0_solveFor 387 = .ok (.aaload, 1) := by decide +kernel
theorem dX0_solveFor_388 : decode cX0_solveFor 388 = .ok (.invokevirtual 711, 3) := by decide +kernel
theorem dX0_solveFor_391 : decode cX0_solveFor 391 = .ok (.aload_n 0, 1) := by decide +kernel
theorem dX0_solveFor_392 : decode cX0_solveFor 392 = .ok (.getfield 46, 3) := by decide +kernel
theorem dX0_solveFor_395 : decode cX0_solveFor 395 = .ok (.getfield 642, 3) := by decide +kernel
theorem dX0_solveFor_398 : decode cX0_solveFor 398 = .ok (.aload_n 0, 1) := by decide +kernel
theorem dX0_solveFor_399 : decode cX0_solveFor 399 = .ok (.getfield 406, 3) := by decide +kernel
theorem dX0_solveFor_402 : decode cX0_solveFor 402 = .ok (.aload_n 0, 1) := by decide +kernel
theorem dX0_solveFor_403 : decode cX0_solveFor 403 = .ok (.getfield 402, 3) := by decide +kernel
theorem dX0_solveFor_406 : decode cX0_solveFor 406 = .ok (.iload 6, 2) := by decide +kernel
theorem dX0_solveFor_408 : decode cX0_solveFor 408 = .ok (.aaload, 1) := by decide +kernel
theorem dX0_solveFor_409 : decode cX0_solveFor 409 = .ok (.aload_n 0, 1) := by decide +kernel
theorem dX0_solveFor_410 : decode cX0_solveFor 410 = .ok (.getfield 406, 3) := by decide +kernel
theorem dX0_solveFor_413 : decode cX0_solveFor 413 = .ok (.invokevirtual 646, 3) := by decide +kernel
theorem dX0_solveFor_416 : decode cX0_solveFor 416 = .ok (.iinc 6 1, 3) := by decide +kernel
theorem dX0_solveFor_419 : decode cX0_solveFor 419 = .ok (.goto (-57), 3) := by decide +kernel
theorem dX0_solveFor_422 : decode cX0_solveFor 422 = .ok (.aload_n 0, 1) := by decide +kernel
theorem dX0_solveFor_423 : decode cX0_solveFor 423 = .ok (.iload_n 3, 1) := by decide +kernel
theorem dX0_solveFor_424 : decode cX0_solveFor 424 = .ok (.iload 5, 2) := by decide +kernel
theorem dX0_solveFor_426 : decode cX0_solveFor 426 = .ok (.invokevirtual 715, 3) := by decide +kernel
theorem dX0_solveFor_429 : decode cX0_solveFor 429 = .ok (.iconst 1, 1) := by decide +kernel
theorem dX0_solveFor_430 : decode cX0_solveFor 430 = .ok (.ireturn, 1) := by decide +kernel
theorem dX0_layColumn_0 : decode cX0_layColumn 0 = .ok (.iconst 0, 1) := by decide +kernel
theorem dX0_layColumn_1 : decode cX0_layColumn 1 = .ok (.istore 4, 2) := by decide +kernel
theorem dX0_layColumn_3 : decode cX0_layColumn 3 = .ok (.iload 4, 2) := by decide +kernel
theorem dX0_layColumn_5 : decode cX0_layColumn 5 = .ok (.aload_n 2, 1) := by decide +kernel
theorem dX0_layColumn_6 : decode cX0_layColumn 6 = .ok (.getfield 28, 3) := by decide +kernel
theorem dX0_layColumn_9 : decode cX0_layColumn 9 = .ok (.if_icmp .ge 43, 3) := by decide +kernel
theorem dX0_layColumn_12 : decode cX0_layColumn 12 = .ok (.aload_n 2, 1) := by decide +kernel
theorem dX0_layColumn_13 : decode cX0_layColumn 13 = .ok (.iload 4, 2) := by decide +kernel
theorem dX0_layColumn_15 : decode cX0_layColumn 15 = .ok (.aload_n 0, 1) := by decide +kernel
theorem dX0_layColumn_16 : decode cX0_layColumn 16 = .ok (.getfield 382, 3) := by decide +kernel
theorem dX0_layColumn_19 : decode cX0_layColumn 19 = .ok (.getfield 694, 3) := by decide +kernel
theorem dX0_layColumn_22 : decode cX0_layColumn 22 = .ok (.iload 4, 2) := by decide +kernel
theorem dX0_layColumn_24 : decode cX0_layColumn 24 = .ok (.aaload, 1) := by decide +kernel
theorem dX0_layColumn_25 : decode cX0_layColumn 25 = .ok (.iload_n 1, 1) := by decide +kernel
theorem dX0_layColumn_26 : decode cX0_layColumn 26 = .ok (.aaload, 1) := by decide +kernel
theorem dX0_layColumn_27 : decode cX0_layColumn 27 = .ok (.invokevirtual 661, 3) := by decide +kernel
theorem dX0_layColumn_30 : decode cX0_layColumn 30 = .ok (.aload_n 0, 1) := by decide +kernel
theorem dX0_layColumn_31 : decode cX0_layColumn 31 = .ok (.getfield 382, 3) := by decide +kernel
theorem dX0_layColumn_34 : decode cX0_layColumn 34 = .ok (.getfield 694, 3) := by decide +kernel
theorem dX0_layColumn_37 : decode cX0_layColumn 37 = .ok (.iload 4, 2) := by decide +kernel
theorem dX0_layColumn_39 : decode cX0_layColumn 39 = .ok (.aaload, 1) := by decide +kernel
theorem dX0_layColumn_40 : decode cX0_layColumn 40 = .ok (.iload_n 1, 1) := by decide +kernel
theorem dX0_layColumn_41 : decode cX0_layColumn 41 = .ok (.aaload, 1) := by decide +kernel
theorem dX0_layColumn_42 : decode cX0_layColumn 42 = .ok (.iload_n 3, 1) := by decide +kernel
theorem dX0_layColumn_43 : decode cX0_layColumn 43 = .ok (.invokevirtual 697, 3) := by decide +kernel
theorem dX0_layColumn_46 : decode cX0_layColumn 46 = .ok (.iinc 4 1, 3) := by decide +kernel
theorem dX0_layColumn_49 : decode cX0_layColumn 49 = .ok (.goto (-46), 3) := by decide +kernel
theorem dX0_layColumn_52 : decode cX0_layColumn 52 = .ok (.return_, 1) := by decide +kernel
theorem dX0_readSolution_0 : decode cX0_readSolution 0 = .ok (.iconst 0, 1) := by decide +kernel
theorem dX0_readSolution_1 : decode cX0_readSolution 1 = .ok (.istore_n 3, 1) := by decide +kernel
theorem dX0_readSolution_2 : decode cX0_readSolution 2 = .ok (.iload_n 3, 1) := by decide +kernel
theorem dX0_readSolution_3 : decode cX0_readSolution 3 = .ok (.aload_n 0, 1) := by decide +kernel
theorem dX0_readSolution_4 : decode cX0_readSolution 4 = .ok (.getfield 706, 3) := by decide +kernel
theorem dX0_readSolution_7 : decode cX0_readSolution 7 = .ok (.if_icmp .gt 29, 3) := by decide +kernel
theorem dX0_readSolution_10 : decode cX0_readSolution 10 = .ok (.aload_n 0, 1) := by decide +kernel
theorem dX0_readSolution_11 : decode cX0_readSolution 11 = .ok (.getfield 46, 3) := by decide +kernel
theorem dX0_readSolution_14 : decode cX0_readSolution 14 = .ok (.getfield 642, 3) := by decide +kernel
theorem dX0_readSolution_17 : decode cX0_readSolution 17 = .ok (.aload_n 0, 1) := by decide +kernel
theorem dX0_readSolution_18 : decode cX0_readSolution 18 = .ok (.getfield 402, 3) := by decide +kernel
theorem dX0_readSolution_21 : decode cX0_readSolution 21 = .ok (.iload_n 3, 1) := by decide +kernel
theorem dX0_readSolution_22 : decode cX0_readSolution 22 = .ok (.aaload, 1) := by decide +kernel
theorem dX0_readSolution_23 : decode cX0_readSolution 23 = .ok (.aload_n 0, 1) := by decide +kernel
theorem dX0_readSolution_24 : decode cX0_readSolution 24 = .ok (.getfield 406, 3) := by decide +kernel
theorem dX0_readSolution_27 : decode cX0_readSolution 27 = .ok (.invokevirtual 718, 3) := by decide +kernel
theorem dX0_readSolution_30 : decode cX0_readSolution 30 = .ok (.iinc 3 1, 3) := by decide +kernel
theorem dX0_readSolution_33 : decode cX0_readSolution 33 = .ok (.goto (-31), 3) := by decide +kernel
theorem dX0_readSolution_36 : decode cX0_readSolution 36 = .ok (.aload_n 0, 1) := by decide +kernel
theorem dX0_readSolution_37 : decode cX0_readSolution 37 = .ok (.getfield 402, 3) := by decide +kernel
theorem dX0_readSolution_40 : decode cX0_readSolution 40 = .ok (.aload_n 0, 1) := by decide +kernel
theorem dX0_readSolution_41 : decode cX0_readSolution 41 = .ok (.getfield 706, 3) := by decide +kernel
theorem dX0_readSolution_44 : decode cX0_readSolution 44 = .ok (.aaload, 1) := by decide +kernel
theorem dX0_readSolution_45 : decode cX0_readSolution 45 = .ok (.invokevirtual 693, 3) := by decide +kernel
theorem dX0_readSolution_48 : decode cX0_readSolution 48 = .ok (.istore_n 3, 1) := by decide +kernel
theorem dX0_readSolution_49 : decode cX0_readSolution 49 = .ok (.iconst 0, 1) := by decide +kernel
theorem dX0_readSolution_50 : decode cX0_readSolution 50 = .ok (.istore 4, 2) := by decide +kernel
theorem dX0_readSolution_52 : decode cX0_readSolution 52 = .ok (.iload 4, 2) := by decide +kernel
theorem dX0_readSolution_54 : decode cX0_readSolution 54 = .ok (.aload_n 0, 1) := by decide +kernel
theorem dX0_readSolution_55 : decode cX0_readSolution 55 = .ok (.getfield 706, 3) := by decide +kernel
theorem dX0_readSolution_58 : decode cX0_readSolution 58 = .ok (.if_icmp .gt 23, 3) := by decide +kernel
theorem dX0_readSolution_61 : decode cX0_readSolution 61 = .ok (.aload_n 0, 1) := by decide +kernel
theorem dX0_readSolution_62 : decode cX0_readSolution 62 = .ok (.getfield 402, 3) := by decide +kernel
theorem dX0_readSolution_65 : decode cX0_readSolution 65 = .ok (.iload 4, 2) := by decide +kernel
theorem dX0_readSolution_67 : decode cX0_readSolution 67 = .ok (.aaload, 1) := by decide +kernel
theorem dX0_readSolution_68 : decode cX0_readSolution 68 = .ok (.iload_n 3, 1) := by decide +kernel
theorem dX0_readSolution_69 : decode cX0_readSolution 69 = .ok (.invokestatic 74, 3) := by decide +kernel
theorem dX0_readSolution_72 : decode cX0_readSolution 72 = .ok (.invokevirtual 697, 3) := by decide +kernel
theorem dX0_readSolution_75 : decode cX0_readSolution 75 = .ok (.iinc 4 1, 3) := by decide +kernel
theorem dX0_readSolution_78 : decode cX0_readSolution 78 = .ok (.goto (-26), 3) := by decide +kernel
theorem dX0_readSolution_81 : decode cX0_readSolution 81 = .ok (.iconst 0, 1) := by decide +kernel
theorem dX0_readSolution_82 : decode cX0_readSolution 82 = .ok (.istore 4, 2) := by decide +kernel
theorem dX0_readSolution_84 : decode cX0_readSolution 84 = .ok (.iconst 0, 1) := by decide +kernel
theorem dX0_readSolution_85 : decode cX0_readSolution 85 = .ok (.istore 5, 2) := by decide +kernel
theorem dX0_readSolution_87 : decode cX0_readSolution 87 = .ok (.iload 5, 2) := by decide +kernel
theorem dX0_readSolution_89 : decode cX0_readSolution 89 = .ok (.iload_n 1, 1) := by decide +kernel
theorem dX0_readSolution_90 : decode cX0_readSolution 90 = .ok (.if_icmp .ge 37, 3) := by decide +kernel
theorem dX0_readSolution_93 : decode cX0_readSolution 93 = .ok (.aload_n 0, 1) := by decide +kernel
theorem dX0_readSolution_94 : decode cX0_readSolution 94 = .ok (.getfield 382, 3) := by decide +kernel
theorem dX0_readSolution_97 : decode cX0_readSolution 97 = .ok (.iload 5, 2) := by decide +kernel
theorem dX0_readSolution_99 : decode cX0_readSolution 99 = .ok (.iload_n 2, 1) := by decide +kernel
theorem dX0_readSolution_100 : decode cX0_readSolution 100 = .ok (.aload_n 0, 1) := by decide +kernel
theorem dX0_readSolution_101 : decode cX0_readSolution 101 = .ok (.getfield 411, 3) := by decide +kernel
theorem dX0_readSolution_104 : decode cX0_readSolution 104 = .ok (.invokevirtual 711, 3) := by decide +kernel
theorem dX0_readSolution_107 : decode cX0_readSolution 107 = .ok (.iload 4, 2) := by decide +kernel
theorem dX0_readSolution_109 : decode cX0_readSolution 109 = .ok (.aload_n 0, 1) := by decide +kernel
theorem dX0_readSolution_110 : decode cX0_readSolution 110 = .ok (.getfield 411, 3) := by decide +kernel
theorem dX0_readSolution_113 : decode cX0_readSolution 113 = .ok (.getfield 636, 3) := by decide +kernel
theorem dX0_readSolution_116 : decode cX0_readSolution 116 = .ok (.invokestatic 679, 3) := by decide +kernel
theorem dX0_readSolution_119 : decode cX0_readSolution 119 = .ok (.istore 4, 2) := by decide +kernel
theorem dX0_readSolution_121 : decode cX0_readSolution 121 = .ok (.iinc 5 1, 3) := by decide +kernel
theorem dX0_readSolution_124 : decode cX0_readSolution 124 = .ok (.goto (-37), 3) := by decide +kernel
theorem dX0_readSolution_127 : decode cX0_readSolution 127 = .ok (.aload_n 0, 1) := by decide +kernel
theorem dX0_readSolution_128 : decode cX0_readSolution 128 = .ok (.getfield 396, 3) := by decide +kernel
theorem dX0_readSolution_131 : decode cX0_readSolution 131 = .ok (.iload 4, 2) := by decide +kernel
theorem dX0_readSolution_133 : decode cX0_readSolution 133 = .ok (.iload_n 1, 1) := by decide +kernel
theorem dX0_readSolution_134 : decode cX0_readSolution 134 = .ok (.invokevirtual 304, 3) := by decide +kernel
theorem dX0_readSolution_137 : decode cX0_readSolution 137 = .ok (.iconst 0, 1) := by decide +kernel
theorem dX0_readSolution_138 : decode cX0_readSolution 138 = .ok (.istore 5, 2) := by decide +kernel
theorem dX0_readSolution_140 : decode cX0_readSolution 140 = .ok (.iload 5, 2) := by decide +kernel
theorem dX0_readSolution_142 : decode cX0_readSolution 142 = .ok (.iload_n 1, 1) := by decide +kernel
theorem dX0_readSolution_143 : decode cX0_readSolution 143 = .ok (.if_icmp .ge 36, 3) := by decide +kernel
theorem dX0_readSolution_146 : decode cX0_readSolution 146 = .ok (.aload_n 0, 1) := by decide +kernel
theorem dX0_readSolution_147 : decode cX0_readSolution 147 = .ok (.getfield 382, 3) := by decide +kernel
theorem dX0_readSolution_150 : decode cX0_readSolution 150 = .ok (.iload 5, 2) := by decide +kernel
theorem dX0_readSolution_152 : decode cX0_readSolution 152 = .ok (.iload_n 2, 1) := by decide +kernel
theorem dX0_readSolution_153 : decode cX0_readSolution 153 = .ok (.aload_n 0, 1) := by decide +kernel
theorem dX0_readSolution_154 : decode cX0_readSolution 154 = .ok (.getfield 411, 3) := by decide +kernel
theorem dX0_readSolution_157 : decode cX0_readSolution 157 = .ok (.invokevirtual 711, 3) := by decide +kernel
theorem dX0_readSolution_160 : decode cX0_readSolution 160 = .ok (.aload_n 0, 1) := by decide +kernel
theorem dX0_readSolution_161 : decode cX0_readSolution 161 = .ok (.getfield 396, 3) := by decide +kernel
theorem dX0_readSolution_164 : decode cX0_readSolution 164 = .ok (.iload 5, 2) := by decide +kernel
theorem dX0_readSolution_166 : decode cX0_readSolution 166 = .ok (.aload_n 0, 1) := by decide +kernel
theorem dX0_readSolution_167 : decode cX0_readSolution 167 = .ok (.getfield 411, 3) := by decide +kernel
theorem dX0_readSolution_170 : decode cX0_readSolution 170 = .ok (.invokevirtual 664, 3) := by decide +kernel
theorem dX0_readSolution_173 : decode cX0_readSolution 173 = .ok (.iinc 5 1, 3) := by decide +kernel
theorem dX0_readSolution_176 : decode cX0_readSolution 176 = .ok (.goto (-36), 3) := by decide +kernel
theorem dX0_readSolution_179 : decode cX0_readSolution 179 = .ok (.aload_n 0, 1) := by decide +kernel
theorem dX0_readSolution_180 : decode cX0_readSolution 180 = .ok (.getfield 396, 3) := by decide +kernel
theorem dX0_readSolution_183 : decode cX0_readSolution 183 = .ok (.invokevirtual 611, 3) := by decide +kernel
theorem dX0_readSolution_186 : decode cX0_readSolution 186 = .ok (.aload_n 0, 1) := by decide +kernel
theorem dX0_readSolution_187 : decode cX0_readSolution 187 = .ok (.getfield 408, 3) := by decide +kernel
theorem dX0_readSolution_190 : decode cX0_readSolution 190 = .ok (.aload_n 0, 1) := by decide +kernel
theorem dX0_readSolution_191 : decode cX0_readSolution 191 = .ok (.getfield 406, 3) := by decide +kernel
theorem dX0_readSolution_194 : decode cX0_readSolution 194 = .ok (.invokevirtual 686, 3) := by decide +kernel
theorem dX0_readSolution_197 : decode cX0_readSolution 197 = .ok (.aload_n 0, 1) := by decide +kernel
theorem dX0_readSolution_198 : decode cX0_readSolution 198 = .ok (.getfield 408, 3) := by decide +kernel
theorem dX0_readSolution_201 : decode cX0_readSolution 201 = .ok (.iload_n 3, 1) := by decide +kernel
theorem dX0_readSolution_202 : decode cX0_readSolution 202 = .ok (.invokevirtual 697, 3) := by decide +kernel
theorem dX0_readSolution_205 : decode cX0_readSolution 205 = .ok (.aload_n 0, 1) := by decide +kernel
theorem dX0_readSolution_206 : decode cX0_readSolution 206 = .ok (.getfield 361, 3) := by decide +kernel
theorem dX0_readSolution_209 : decode cX0_readSolution 209 = .ok (.aload_n 0, 1) := by decide +kernel
theorem dX0_readSolution_210 : decode cX0_readSolution 210 = .ok (.getfield 406, 3) := by decide +kernel
theorem dX0_readSolution_213 : decode cX0_readSolution 213 = .ok (.invokevirtual 686, 3) := by decide +kernel
theorem dX0_readSolution_216 : decode cX0_readSolution 216 = .ok (.iconst 0, 1) := by decide +kernel
theorem dX0_readSolution_217 : decode cX0_readSolution 217 = .ok (.istore 5, 2) := by decide +kernel
theorem dX0_readSolution_219 : decode cX0_readSolution 219 = .ok (.iload 5, 2) := by decide +kernel
theorem dX0_readSolution_221 : decode cX0_readSolution 221 = .ok (.aload_n 0, 1) := by decide +kernel
theorem dX0_readSolution_222 : decode cX0_readSolution 222 = .ok (.getfield 396, 3) := by decide +kernel
theorem dX0_readSolution_225 : decode cX0_readSolution 225 = .ok (.getfield 28, 3) := by decide +kernel
theorem dX0_readSolution_228 : decode cX0_readSolution 228 = .ok (.if_icmp .ge 55, 3) := by decide +kernel
theorem dX0_readSolution_231 : decode cX0_readSolution 231 = .ok (.aload_n 0, 1) := by decide +kernel
theorem dX0_readSolution_232 : decode cX0_readSolution 232 = .ok (.getfield 361, 3) := by decide +kernel
theorem dX0_readSolution_235 : decode cX0_readSolution 235 = .ok (.getfield 636, 3) := by decide +kernel
theorem dX0_readSolution_238 : decode cX0_readSolution 238 = .ok (.iconst 1, 1) := by decide +kernel
theorem dX0_readSolution_239 : decode cX0_readSolution 239 = .ok (.if_icmp .le 44, 3) := by decide +kernel
theorem dX0_readSolution_242 : decode cX0_readSolution 242 = .ok (.aload_n 0, 1) := by decide +kernel
theorem dX0_readSolution_243 : decode cX0_readSolution 243 = .ok (.getfield 396, 3) := by decide +kernel
theorem dX0_readSolution_246 : decode cX0_readSolution 246 = .ok (.iload 5, 2) := by decide +kernel
theorem dX0_readSolution_248 : decode cX0_readSolution 248 = .ok (.aload_n 0, 1) := by decide +kernel
theorem dX0_readSolution_249 : decode cX0_readSolution 249 = .ok (.getfield 365, 3) := by decide +kernel
theorem dX0_readSolution_252 : decode cX0_readSolution 252 = .ok (.invokevirtual 661, 3) := by decide +kernel
theorem dX0_readSolution_255 : decode cX0_readSolution 255 = .ok (.aload_n 0, 1) := by decide +kernel
theorem dX0_readSolution_256 : decode cX0_readSolution 256 = .ok (.getfield 46, 3) := by decide +kernel
theorem dX0_readSolution_259 : decode cX0_readSolution 259 = .ok (.getfield 642, 3) := by decide +kernel
theorem dX0_readSolution_262 : decode cX0_readSolution 262 = .ok (.aload_n 0, 1) := by decide +kernel
theorem dX0_readSolution_263 : decode cX0_readSolution 263 = .ok (.getfield 361, 3) := by decide +kernel
theorem dX0_readSolution_266 : decode cX0_readSolution 266 = .ok (.aload_n 0, 1) := by decide +kernel
theorem dX0_readSolution_267 : decode cX0_readSolution 267 = .ok (.getfield 365, 3) := by decide +kernel
theorem dX0_readSolution_270 : decode cX0_readSolution 270 = .ok (.aload_n 0, 1) := by decide +kernel
theorem dX0_readSolution_271 : decode cX0_readSolution 271 = .ok (.getfield 361, 3) := by decide +kernel
theorem dX0_readSolution_274 : decode cX0_readSolution 274 = .ok (.invokevirtual 646, 3) := by decide +kernel
theorem dX0_readSolution_277 : decode cX0_readSolution 277 = .ok (.iinc 5 1, 3) := by decide +kernel
theorem dX0_readSolution_280 : decode cX0_readSolution 280 = .ok (.goto (-61), 3) := by decide +kernel
theorem dX0_readSolution_283 : decode cX0_readSolution 283 = .ok (.aload_n 0, 1) := by decide +kernel
theorem dX0_readSolution_284 : decode cX0_readSolution 284 = .ok (.getfield 361, 3) := by decide +kernel
theorem dX0_readSolution_287 : decode cX0_readSolution 287 = .ok (.getfield 636, 3) := by decide +kernel
theorem dX0_readSolution_290 : decode cX0_readSolution 290 = .ok (.iconst 1, 1) := by decide +kernel
theorem dX0_readSolution_291 : decode cX0_readSolution 291 = .ok (.if_icmp .le 93, 3) := by decide +kernel
theorem dX0_readSolution_294 : decode cX0_readSolution 294 = .ok (.aload_n 0, 1) := by decide +kernel
theorem dX0_readSolution_295 : decode cX0_readSolution 295 = .ok (.getfield 46, 3) := by decide +kernel
theorem dX0_readSolution_298 : decode cX0_readSolution 298 = .ok (.getfield 642, 3) := by decide +kernel
theorem dX0_readSolution_301 : decode cX0_readSolution 301 = .ok (.aload_n 0, 1) := by decide +kernel
theorem dX0_readSolution_302 : decode cX0_readSolution 302 = .ok (.getfield 408, 3) := by decide +kernel
theorem dX0_readSolution_305 : decode cX0_readSolution 305 = .ok (.aload_n 0, 1) := by decide +kernel
theorem dX0_readSolution_306 : decode cX0_readSolution 306 = .ok (.getfield 361, 3) := by decide +kernel
theorem dX0_readSolution_309 : decode cX0_readSolution 309 = .ok (.invokevirtual 718, 3) := by decide +kernel
theorem dX0_readSolution_312 : decode cX0_readSolution 312 = .ok (.iconst 0, 1) := by decide +kernel
theorem dX0_readSolution_313 : decode cX0_readSolution 313 = .ok (.istore 5, 2) := by decide +kernel
theorem dX0_readSolution_315 : decode cX0_readSolution 315 = .ok (.iload 5, 2) := by decide +kernel
theorem dX0_readSolution_317 : decode cX0_readSolution 317 = .ok (.aload_n 0, 1) := by decide +kernel
theorem dX0_readSolution_318 : decode cX0_readSolution 318 = .ok (.getfield 396, 3) := by decide +kernel
theorem dX0_readSolution_321 : decode cX0_readSolution 321 = .ok (.getfield 28, 3) := by decide +kernel
theorem dX0_readSolution_324 : decode cX0_readSolution 324 = .ok (.if_icmp .ge 53, 3) := by decide +kernel
theorem dX0_readSolution_327 : decode cX0_readSolution 327 = .ok (.aload_n 0, 1) := by decide +kernel
theorem dX0_readSolution_328 : decode cX0_readSolution 328 = .ok (.getfield 396, 3) := by decide +kernel
theorem dX0_readSolution_331 : decode cX0_readSolution 331 = .ok (.iload 5, 2) := by decide +kernel
theorem dX0_readSolution_333 : decode cX0_readSolution 333 = .ok (.aload_n 0, 1) := by decide +kernel
theorem dX0_readSolution_334 : decode cX0_readSolution 334 = .ok (.getfield 365, 3) := by decide +kernel
theorem dX0_readSolution_337 : decode cX0_readSolution 337 = .ok (.invokevirtual 661, 3) := by decide +kernel
theorem dX0_readSolution_340 : decode cX0_readSolution 340 = .ok (.aload_n 0, 1) := by decide +kernel
theorem dX0_readSolution_341 : decode cX0_readSolution 341 = .ok (.getfield 46, 3) := by decide +kernel
theorem dX0_readSolution_344 : decode cX0_readSolution 344 = .ok (.getfield 642, 3) := by decide +kernel
theorem dX0_readSolution_347 : decode cX0_readSolution 347 = .ok (.aload_n 0, 1) := by decide +kernel
theorem dX0_readSolution_348 : decode cX0_readSolution 348 = .ok (.getfield 365, 3) := by decide +kernel
theorem dX0_readSolution_351 : decode cX0_readSolution 351 = .ok (.aload_n 0, 1) := by decide +kernel
theorem dX0_readSolution_352 : decode cX0_readSolution 352 = .ok (.getfield 361, 3) := by decide +kernel
theorem dX0_readSolution_355 : decode cX0_readSolution 355 = .ok (.invokevirtual 718, 3) := by decide +kernel
theorem dX0_readSolution_358 : decode cX0_readSolution 358 = .ok (.aload_n 0, 1) := by decide +kernel
theorem dX0_readSolution_359 : decode cX0_readSolution 359 = .ok (.getfield 396, 3) := by decide +kernel
theorem dX0_readSolution_362 : decode cX0_readSolution 362 = .ok (.iload 5, 2) := by decide +kernel
theorem dX0_readSolution_364 : decode cX0_readSolution 364 = .ok (.aload_n 0, 1) := by decide +kernel
theorem dX0_readSolution_365 : decode cX0_readSolution 365 = .ok (.getfield 365, 3) := by decide +kernel
theorem dX0_readSolution_368 : decode cX0_readSolution 368 = .ok (.invokevirtual 664, 3) := by decide +kernel
theorem dX0_readSolution_371 : decode cX0_readSolution 371 = .ok (.iinc 5 1, 3) := by decide +kernel
theorem dX0_readSolution_374 : decode cX0_readSolution 374 = .ok (.goto (-59), 3) := by decide +kernel
theorem dX0_readSolution_377 : decode cX0_readSolution 377 = .ok (.aload_n 0, 1) := by decide +kernel
theorem dX0_readSolution_378 : decode cX0_readSolution 378 = .ok (.getfield 396, 3) := by decide +kernel
theorem dX0_readSolution_381 : decode cX0_readSolution 381 = .ok (.invokevirtual 611, 3) := by decide +kernel
theorem dX0_readSolution_384 : decode cX0_readSolution 384 = .ok (.return_, 1) := by decide +kernel
theorem dX0_giveSum_0 : decode cX0_giveSum 0 = .ok (.aload_n 0, 1) := by decide +kernel
theorem dX0_giveSum_1 : decode cX0_giveSum 1 = .ok (.getfield 396, 3) := by decide +kernel
theorem dX0_giveSum_4 : decode cX0_giveSum 4 = .ok (.invokevirtual 35, 3) := by decide +kernel
theorem dX0_giveSum_7 : decode cX0_giveSum 7 = .ok (.ifCond .eq 10, 3) := by decide +kernel
theorem dX0_giveSum_10 : decode cX0_giveSum 10 = .ok (.aload_n 3, 1) := by decide +kernel
theorem dX0_giveSum_11 : decode cX0_giveSum 11 = .ok (.iconst 0, 1) := by decide +kernel
theorem dX0_giveSum_12 : decode cX0_giveSum 12 = .ok (.invokevirtual 722, 3) := by decide +kernel
theorem dX0_giveSum_15 : decode cX0_giveSum 15 = .ok (.iconst 1, 1) := by decide +kernel
theorem dX0_giveSum_16 : decode cX0_giveSum 16 = .ok (.ireturn, 1) := by decide +kernel
theorem dX0_giveSum_17 : decode cX0_giveSum 17 = .ok (.aload_n 0, 1) := by decide +kernel
theorem dX0_giveSum_18 : decode cX0_giveSum 18 = .ok (.getfield 396, 3) := by decide +kernel
theorem dX0_giveSum_21 : decode cX0_giveSum 21 = .ok (.getfield 22, 3) := by decide +kernel
theorem dX0_giveSum_24 : decode cX0_giveSum 24 = .ok (.aload_n 0, 1) := by decide +kernel
theorem dX0_giveSum_25 : decode cX0_giveSum 25 = .ok (.getfield 390, 3) := by decide +kernel
theorem dX0_giveSum_28 : decode cX0_giveSum 28 = .ok (.getfield 22, 3) := by decide +kernel
theorem dX0_giveSum_31 : decode cX0_giveSum 31 = .ok (.iadd, 1) := by decide +kernel
theorem dX0_giveSum_32 : decode cX0_giveSum 32 = .ok (.aload_n 0, 1) := by decide +kernel
theorem dX0_giveSum_33 : decode cX0_giveSum 33 = .ok (.getfield 374, 3) := by decide +kernel
theorem dX0_giveSum_36 : decode cX0_giveSum 36 = .ok (.getfield 636, 3) := by decide +kernel
theorem dX0_giveSum_39 : decode cX0_giveSum 39 = .ok (.iadd, 1) := by decide +kernel
theorem dX0_giveSum_40 : decode cX0_giveSum 40 = .ok (.sipush 900, 3) := by decide +kernel
theorem dX0_giveSum_43 : decode cX0_giveSum 43 = .ok (.if_icmp .gt 34, 3) := by decide +kernel
theorem dX0_giveSum_46 : decode cX0_giveSum 46 = .ok (.aload_n 0, 1) := by decide +kernel
theorem dX0_giveSum_47 : decode cX0_giveSum 47 = .ok (.getfield 408, 3) := by decide +kernel
theorem dX0_giveSum_50 : decode cX0_giveSum 50 = .ok (.getfield 636, 3) := by decide +kernel
theorem dX0_giveSum_53 : decode cX0_giveSum 53 = .ok (.aload_n 2, 1) := by decide +kernel
theorem dX0_giveSum_54 : decode cX0_giveSum 54 = .ok (.getfield 636, 3) := by decide +kernel
theorem dX0_giveSum_57 : decode cX0_giveSum 57 = .ok (.iadd, 1) := by decide +kernel
theorem dX0_giveSum_58 : decode cX0_giveSum 58 = .ok (.aload_n 0, 1) := by decide +kernel
theorem dX0_giveSum_59 : decode cX0_giveSum 59 = .ok (.getfield 348, 3) := by decide +kernel
theorem dX0_giveSum_62 : decode cX0_giveSum 62 = .ok (.getfield 22, 3) := by decide +kernel
theorem dX0_giveSum_65 : decode cX0_giveSum 65 = .ok (.iadd, 1) := by decide +kernel
theorem dX0_giveSum_66 : decode cX0_giveSum 66 = .ok (.aload_n 1, 1) := by decide +kernel
theorem dX0_giveSum_67 : decode cX0_giveSum 67 = .ok (.getfield 22, 3) := by decide +kernel
theorem dX0_giveSum_70 : decode cX0_giveSum 70 = .ok (.iadd, 1) := by decide +kernel
theorem dX0_giveSum_71 : decode cX0_giveSum 71 = .ok (.sipush 900, 3) := by decide +kernel
theorem dX0_giveSum_74 : decode cX0_giveSum 74 = .ok (.if_icmp .le 5, 3) := by decide +kernel
theorem dX0_giveSum_77 : decode cX0_giveSum 77 = .ok (.iconst 0, 1) := by decide +kernel
theorem dX0_giveSum_78 : decode cX0_giveSum 78 = .ok (.ireturn, 1) := by decide +kernel
theorem dX0_giveSum_79 : decode cX0_giveSum 79 = .ok (.aload_n 0, 1) := by decide +kernel
theorem dX0_giveSum_80 : decode cX0_giveSum 80 = .ok (.getfield 59, 3) := by decide +kernel
theorem dX0_giveSum_83 : decode cX0_giveSum 83 = .ok (.aload_n 0, 1) := by decide +kernel
theorem dX0_giveSum_84 : decode cX0_giveSum 84 = .ok (.getfield 390, 3) := by decide +kernel
theorem dX0_giveSum_87 : decode cX0_giveSum 87 = .ok (.aload_n 0, 1) := by decide +kernel
theorem dX0_giveSum_88 : decode cX0_giveSum 88 = .ok (.getfield 396, 3) := by decide +kernel
theorem dX0_giveSum_91 : decode cX0_giveSum 91 = .ok (.invokevirtual 97, 3) := by decide +kernel
theorem dX0_giveSum_94 : decode cX0_giveSum 94 = .ok (.aload_n 0, 1) := by decide +kernel
theorem dX0_giveSum_95 : decode cX0_giveSum 95 = .ok (.getfield 31, 3) := by decide +kernel
theorem dX0_giveSum_98 : decode cX0_giveSum 98 = .ok (.aload_n 0, 1) := by decide +kernel
theorem dX0_giveSum_99 : decode cX0_giveSum 99 = .ok (.getfield 59, 3) := by decide +kernel
theorem dX0_giveSum_102 : decode cX0_giveSum 102 = .ok (.invokevirtual 66, 3) := by decide +kernel
theorem dX0_giveSum_105 : decode cX0_giveSum 105 = .ok (.aload_n 0, 1) := by decide +kernel
theorem dX0_giveSum_106 : decode cX0_giveSum 106 = .ok (.getfield 31, 3) := by decide +kernel
theorem dX0_giveSum_109 : decode cX0_giveSum 109 = .ok (.aload_n 0, 1) := by decide +kernel
theorem dX0_giveSum_110 : decode cX0_giveSum 110 = .ok (.getfield 374, 3) := by decide +kernel
theorem dX0_giveSum_113 : decode cX0_giveSum 113 = .ok (.aload_n 0, 1) := by decide +kernel
theorem dX0_giveSum_114 : decode cX0_giveSum 114 = .ok (.getfield 59, 3) := by decide +kernel
theorem dX0_giveSum_117 : decode cX0_giveSum 117 = .ok (.invokevirtual 723, 3) := by decide +kernel
theorem dX0_giveSum_120 : decode cX0_giveSum 120 = .ok (.aload_n 0, 1) := by decide +kernel
theorem dX0_giveSum_121 : decode cX0_giveSum 121 = .ok (.getfield 39, 3) := by decide +kernel
theorem dX0_giveSum_124 : decode cX0_giveSum 124 = .ok (.aload_n 0, 1) := by decide +kernel
theorem dX0_giveSum_125 : decode cX0_giveSum 125 = .ok (.getfield 348, 3) := by decide +kernel
theorem dX0_giveSum_128 : decode cX0_giveSum 128 = .ok (.aload_n 1, 1) := by decide +kernel
theorem dX0_giveSum_129 : decode cX0_giveSum 129 = .ok (.invokevirtual 97, 3) := by decide +kernel
theorem dX0_giveSum_132 : decode cX0_giveSum 132 = .ok (.aload_n 0, 1) := by decide +kernel
theorem dX0_giveSum_133 : decode cX0_giveSum 133 = .ok (.getfield 39, 3) := by decide +kernel
theorem dX0_giveSum_136 : decode cX0_giveSum 136 = .ok (.aload_n 0, 1) := by decide +kernel
theorem dX0_giveSum_137 : decode cX0_giveSum 137 = .ok (.getfield 408, 3) := by decide +kernel
theorem dX0_giveSum_140 : decode cX0_giveSum 140 = .ok (.aload_n 0, 1) := by decide +kernel
theorem dX0_giveSum_141 : decode cX0_giveSum 141 = .ok (.getfield 59, 3) := by decide +kernel
theorem dX0_giveSum_144 : decode cX0_giveSum 144 = .ok (.invokevirtual 723, 3) := by decide +kernel
theorem dX0_giveSum_147 : decode cX0_giveSum 147 = .ok (.aload_n 0, 1) := by decide +kernel
theorem dX0_giveSum_148 : decode cX0_giveSum 148 = .ok (.getfield 39, 3) := by decide +kernel
theorem dX0_giveSum_151 : decode cX0_giveSum 151 = .ok (.aload_n 2, 1) := by decide +kernel
theorem dX0_giveSum_152 : decode cX0_giveSum 152 = .ok (.aload_n 0, 1) := by decide +kernel
theorem dX0_giveSum_153 : decode cX0_giveSum 153 = .ok (.getfield 59, 3) := by decide +kernel
theorem dX0_giveSum_156 : decode cX0_giveSum 156 = .ok (.invokevirtual 723, 3) := by decide +kernel
theorem dX0_giveSum_159 : decode cX0_giveSum 159 = .ok (.aload_n 0, 1) := by decide +kernel
theorem dX0_giveSum_160 : decode cX0_giveSum 160 = .ok (.aload_n 3, 1) := by decide +kernel
theorem dX0_giveSum_161 : decode cX0_giveSum 161 = .ok (.invokevirtual 106, 3) := by decide +kernel
theorem dX0_giveSum_164 : decode cX0_giveSum 164 = .ok (.ireturn, 1) := by decide +kernel
theorem dX0_recur_0 : decode cX0_recur 0 = .ok (.iload_n 1, 1) := by decide +kernel
theorem dX0_recur_1 : decode cX0_recur 1 = .ok (.invokestatic 519, 3) := by decide +kernel
theorem dX0_recur_4 : decode cX0_recur 4 = .ok (.ifCond .eq 10, 3) := by decide +kernel
theorem dX0_recur_7 : decode cX0_recur 7 = .ok (.iload_n 3, 1) := by decide +kernel
theorem dX0_recur_8 : decode cX0_recur 8 = .ok (.invokestatic 519, 3) := by decide +kernel
theorem dX0_recur_11 : decode cX0_recur 11 = .ok (.ifCond .ne 5, 3) := by decide +kernel
theorem dX0_recur_14 : decode cX0_recur 14 = .ok (.iconst (-1), 1) := by decide +kernel
theorem dX0_recur_15 : decode cX0_recur 15 = .ok (.ireturn, 1) := by decide +kernel
theorem dX0_recur_16 : decode cX0_recur 16 = .ok (.aload_n 0, 1) := by decide +kernel
theorem dX0_recur_17 : decode cX0_recur 17 = .ok (.iload_n 1, 1) := by decide +kernel
theorem dX0_recur_18 : decode cX0_recur 18 = .ok (.invokevirtual 546, 3) := by decide +kernel
theorem dX0_recur_21 : decode cX0_recur 21 = .ok (.ifCond .ne 6, 3) := by decide +kernel
theorem dX0_recur_24 : decode cX0_recur 24 = .ok (.bipush (-3), 2) := by decide +kernel
theorem dX0_recur_26 : decode cX0_recur 26 = .ok (.ireturn, 1) := by decide +kernel
theorem dX0_recur_27 : decode cX0_recur 27 = .ok (.aload_n 0, 1) := by decide +kernel
theorem dX0_recur_28 : decode cX0_recur 28 = .ok (.getfield 326, 3) := by decide +kernel
theorem dX0_recur_31 : decode cX0_recur 31 = .ok (.iload_n 1, 1) := by decide +kernel
theorem dX0_recur_32 : decode cX0_recur 32 = .ok (.aaload, 1) := by decide +kernel
theorem dX0_recur_33 : decode cX0_recur 33 = .ok (.getfield 512, 3) := by decide +kernel
theorem dX0_recur_36 : decode cX0_recur 36 = .ok (.astore 4, 2) := by decide +kernel
theorem dX0_recur_38 : decode cX0_recur 38 = .ok (.aload 4, 2) := by decide +kernel
theorem dX0_recur_40 : decode cX0_recur 40 = .ok (.getfield 110, 3) := by decide +kernel
theorem dX0_recur_43 : decode cX0_recur 43 = .ok (.invokevirtual 128, 3) := by decide +kernel
theorem dX0_recur_46 : decode cX0_recur 46 = .ok (.ifCond .ne 12, 3) := by decide +kernel
theorem dX0_recur_49 : decode cX0_recur 49 = .ok (.iload_n 2, 1) := by decide +kernel
theorem dX0_recur_50 : decode cX0_recur 50 = .ok (.iconst 0, 1) := by decide +kernel
theorem dX0_recur_51 : decode cX0_recur 51 = .ok (.iconst 3, 1) := by decide +kernel
theorem dX0_recur_52 : decode cX0_recur 52 = .ok (.invokestatic 173, 3) := by decide +kernel
theorem dX0_recur_55 : decode cX0_recur 55 = .ok (.ifCond .ne 5, 3) := by decide +kernel
theorem dX0_recur_58 : decode cX0_recur 58 = .ok (.iconst (-1), 1) := by decide +kernel
theorem dX0_recur_59 : decode cX0_recur 59 = .ok (.ireturn, 1) := by decide +kernel
theorem dX0_recur_60 : decode cX0_recur 60 = .ok (.aload_n 0, 1) := by decide +kernel
theorem dX0_recur_61 : decode cX0_recur 61 = .ok (.aload 4, 2) := by decide +kernel
theorem dX0_recur_63 : decode cX0_recur 63 = .ok (.iload_n 2, 1) := by decide +kernel
theorem dX0_recur_64 : decode cX0_recur 64 = .ok (.invokevirtual 750, 3) := by decide +kernel
theorem dX0_recur_67 : decode cX0_recur 67 = .ok (.ifCond .ne 6, 3) := by decide +kernel
theorem dX0_recur_70 : decode cX0_recur 70 = .ok (.bipush (-2), 2) := by decide +kernel
theorem dX0_recur_72 : decode cX0_recur 72 = .ok (.ireturn, 1) := by decide +kernel
theorem dX0_recur_73 : decode cX0_recur 73 = .ok (.iconst 0, 1) := by decide +kernel
theorem dX0_recur_74 : decode cX0_recur 74 = .ok (.istore 5, 2) := by decide +kernel
theorem dX0_recur_76 : decode cX0_recur 76 = .ok (.iconst 0, 1) := by decide +kernel
theorem dX0_recur_77 : decode cX0_recur 77 = .ok (.istore 6, 2) := by decide +kernel
theorem dX0_recur_79 : decode cX0_recur 79 = .ok (.iload 6, 2) := by decide +kernel
theorem dX0_recur_81 : decode cX0_recur 81 = .ok (.iload_n 2, 1) := by decide +kernel
theorem dX0_recur_82 : decode cX0_recur 82 = .ok (.if_icmp .gt 22, 3) := by decide +kernel
theorem dX0_recur_85 : decode cX0_recur 85 = .ok (.iload 5, 2) := by decide +kernel
theorem dX0_recur_87 : decode cX0_recur 87 = .ok (.ifCond .ne 17, 3) := by decide +kernel
theorem dX0_recur_90 : decode cX0_recur 90 = .ok (.aload_n 0, 1) := by decide +kernel
theorem dX0_recur_91 : decode cX0_recur 91 = .ok (.iload 6, 2) := by decide +kernel
theorem dX0_recur_93 : decode cX0_recur 93 = .ok (.invokevirtual 754, 3) := by decide +kernel
theorem dX0_recur_96 : decode cX0_recur 96 = .ok (.istore 5, 2) := by decide +kernel
theorem dX0_recur_98 : decode cX0_recur 98 = .ok (.iinc 6 1, 3) := by decide +kernel
theorem dX0_recur_101 : decode cX0_recur 101 = .ok (.goto (-22), 3) := by decide +kernel
theorem dX0_recur_104 : decode cX0_recur 104 = .ok (.iload 5, 2) := by decide +kernel
theorem dX0_recur_106 : decode cX0_recur 106 = .ok (.iconst 1, 1) := by decide +kernel
theorem dX0_recur_107 : decode cX0_recur 107 = .ok (.if_icmp .eq 15, 3) := by decide +kernel
theorem dX0_recur_110 : decode cX0_recur 110 = .ok (.iload 5, 2) := by decide +kernel
theorem dX0_recur_112 : decode cX0_recur 112 = .ok (.ifCond .ne 7, 3) := by decide +kernel
theorem dX0_recur_115 : decode cX0_recur 115 = .ok (.iconst (-1), 1) := by decide +kernel
theorem dX0_recur_116 : decode cX0_recur 116 = .ok (.goto 5, 3) := by decide +kernel
theorem dX0_recur_119 : decode cX0_recur 119 = .ok (.bipush (-2), 2) := by decide +kernel
theorem dX0_recur_121 : decode cX0_recur 121 = .ok (.ireturn, 1) := by decide +kernel
theorem dX0_recur_122 : decode cX0_recur 122 = .ok (.aload_n 0, 1) := by decide +kernel
theorem dX0_recur_123 : decode cX0_recur 123 = .ok (.aload_n 0, 1) := by decide +kernel
theorem dX0_recur_124 : decode cX0_recur 124 = .ok (.getfield 428, 3) := by decide +kernel
theorem dX0_recur_127 : decode cX0_recur 127 = .ok (.aload_n 0, 1) := by decide +kernel
theorem dX0_recur_128 : decode cX0_recur 128 = .ok (.getfield 434, 3) := by decide +kernel
theorem dX0_recur_131 : decode cX0_recur 131 = .ok (.aload_n 0, 1) := by decide +kernel
theorem dX0_recur_132 : decode cX0_recur 132 = .ok (.getfield 330, 3) := by decide +kernel
theorem dX0_recur_135 : decode cX0_recur 135 = .ok (.getfield 110, 3) := by decide +kernel
theorem dX0_recur_138 : decode cX0_recur 138 = .ok (.invokevirtual 735, 3) := by decide +kernel
theorem dX0_recur_141 : decode cX0_recur 141 = .ok (.istore 6, 2) := by decide +kernel
theorem dX0_recur_143 : decode cX0_recur 143 = .ok (.iconst 0, 1) := by decide +kernel
theorem dX0_recur_144 : decode cX0_recur 144 = .ok (.istore 7, 2) := by decide +kernel
theorem dX0_recur_146 : decode cX0_recur 146 = .ok (.iload 7, 2) := by decide +kernel
theorem dX0_recur_148 : decode cX0_recur 148 = .ok (.aload_n 0, 1) := by decide +kernel
theorem dX0_recur_149 : decode cX0_recur 149 = .ok (.getfield 706, 3) := by decide +kernel
theorem dX0_recur_152 : decode cX0_recur 152 = .ok (.if_icmp .gt 36, 3) := by decide +kernel
theorem dX0_recur_155 : decode cX0_recur 155 = .ok (.iload 6, 2) := by decide +kernel
theorem dX0_recur_157 : decode cX0_recur 157 = .ok (.ifCond .eq 22, 3) := by decide +kernel
theorem dX0_recur_160 : decode cX0_recur 160 = .ok (.aload_n 0, 1) := by decide +kernel
theorem dX0_recur_161 : decode cX0_recur 161 = .ok (.getfield 402, 3) := by decide +kernel
theorem dX0_recur_164 : decode cX0_recur 164 = .ok (.iload 7, 2) := by decide +kernel
theorem dX0_recur_166 : decode cX0_recur 166 = .ok (.aaload, 1) := by decide +kernel
theorem dX0_recur_167 : decode cX0_recur 167 = .ok (.getfield 636, 3) := by decide +kernel
theorem dX0_recur_170 : decode cX0_recur 170 = .ok (.bipush 25, 2) := by decide +kernel
theorem dX0_recur_172 : decode cX0_recur 172 = .ok (.if_icmp .gt 7, 3) := by decide +kernel
theorem dX0_recur_175 : decode cX0_recur 175 = .ok (.iconst 1, 1) := by decide +kernel
theorem dX0_recur_176 : decode cX0_recur 176 = .ok (.goto 4, 3) := by decide +kernel
theorem dX0_recur_179 : decode cX0_recur 179 = .ok (.iconst 0, 1) := by decide +kernel
theorem dX0_recur_180 : decode cX0_recur 180 = .ok (.istore 6, 2) := by decide +kernel
theorem dX0_recur_182 : decode cX0_recur 182 = .ok (.iinc 7 1, 3) := by decide +kernel
theorem dX0_recur_185 : decode cX0_recur 185 = .ok (.goto (-39), 3) := by decide +kernel
theorem dX0_recur_188 : decode cX0_recur 188 = .ok (.iload 6, 2) := by decide +kernel
theorem dX0_recur_190 : decode cX0_recur 190 = .ok (.ifCond .eq 11, 3) := by decide +kernel
theorem dX0_recur_193 : decode cX0_recur 193 = .ok (.aload_n 0, 1) := by decide +kernel
theorem dX0_recur_194 : decode cX0_recur 194 = .ok (.iload_n 3, 1) := by decide +kernel
theorem dX0_recur_195 : decode cX0_recur 195 = .ok (.invokevirtual 757, 3) := by decide +kernel
theorem dX0_recur_198 : decode cX0_recur 198 = .ok (.goto 5, 3) := by decide +kernel
theorem dX0_recur_201 : decode cX0_recur 201 = .ok (.bipush (-2), 2) := by decide +kernel
theorem dX0_recur_203 : decode cX0_recur 203 = .ok (.ireturn, 1) := by decide +kernel
theorem dX0_findSteps_0 : decode cX0_findSteps 0 = .ok (.aload_n 0, 1) := by decide +kernel
theorem dX0_findSteps_1 : decode cX0_findSteps 1 = .ok (.aload_n 1, 1) := by decide +kernel
theorem dX0_findSteps_2 : decode cX0_findSteps 2 = .ok (.iconst 1, 1) := by decide +kernel
theorem dX0_findSteps_3 : decode cX0_findSteps 3 = .ok (.iconst 1, 1) := by decide +kernel
theorem dX0_findSteps_4 : decode cX0_findSteps 4 = .ok (.aload_n 0, 1) := by decide +kernel
theorem dX0_findSteps_5 : decode cX0_findSteps 5 = .ok (.getfield 425, 3) := by decide +kernel
theorem dX0_findSteps_8 : decode cX0_findSteps 8 = .ok (.invokevirtual 624, 3) := by decide +kernel
theorem dX0_findSteps_11 : decode cX0_findSteps 11 = .ok (.istore_n 3, 1) := by decide +kernel
theorem dX0_findSteps_12 : decode cX0_findSteps 12 = .ok (.iconst 0, 1) := by decide +kernel
theorem dX0_findSteps_13 : decode cX0_findSteps 13 = .ok (.istore 4, 2) := by decide +kernel
theorem dX0_findSteps_15 : decode cX0_findSteps 15 = .ok (.iload 4, 2) := by decide +kernel
theorem dX0_findSteps_17 : decode cX0_findSteps 17 = .ok (.iload_n 2, 1) := by decide +kernel
theorem dX0_findSteps_18 : decode cX0_findSteps 18 = .ok (.if_icmp .gt 29, 3) := by decide +kernel
theorem dX0_findSteps_21 : decode cX0_findSteps 21 = .ok (.iload_n 3, 1) := by decide +kernel
theorem dX0_findSteps_22 : decode cX0_findSteps 22 = .ok (.ifCond .eq 25, 3) := by decide +kernel
theorem dX0_findSteps_25 : decode cX0_findSteps 25 = .ok (.aload_n 0, 1) := by decide +kernel
theorem dX0_findSteps_26 : decode cX0_findSteps 26 = .ok (.aload_n 1, 1) := by decide +kernel
theorem dX0_findSteps_27 : decode cX0_findSteps 27 = .ok (.iconst 0, 1) := by decide +kernel
theorem dX0_findSteps_28 : decode cX0_findSteps 28 = .ok (.iload 4, 2) := by decide +kernel
theorem dX0_findSteps_30 : decode cX0_findSteps 30 = .ok (.aload_n 0, 1) := by decide +kernel
theorem dX0_findSteps_31 : decode cX0_findSteps 31 = .ok (.getfield 420, 3) := by decide +kernel
theorem dX0_findSteps_34 : decode cX0_findSteps 34 = .ok (.iload 4, 2) := by decide +kernel
theorem dX0_findSteps_36 : decode cX0_findSteps 36 = .ok (.aaload, 1) := by decide +kernel
theorem dX0_findSteps_37 : decode cX0_findSteps 37 = .ok (.invokevirtual 624, 3) := by decide +kernel
theorem dX0_findSteps_40 : decode cX0_findSteps 40 = .ok (.istore_n 3, 1) := by decide +kernel
theorem dX0_findSteps_41 : decode cX0_findSteps 41 = .ok (.iinc 4 1, 3) := by decide +kernel
theorem dX0_findSteps_44 : decode cX0_findSteps 44 = .ok (.goto (-29), 3) := by decide +kernel
theorem dX0_findSteps_47 : decode cX0_findSteps 47 = .ok (.iload_n 3, 1) := by decide +kernel
theorem dX0_findSteps_48 : decode cX0_findSteps 48 = .ok (.ireturn, 1) := by decide +kernel
theorem dX0_tryOrder_0 : decode cX0_tryOrder 0 = .ok (.aload_n 0, 1) := by decide +kernel
theorem dX0_tryOrder_1 : decode cX0_tryOrder 1 = .ok (.iload_n 1, 1) := by decide +kernel
theorem dX0_tryOrder_2 : decode cX0_tryOrder 2 = .ok (.invokevirtual 741, 3) := by decide +kernel
theorem dX0_tryOrder_5 : decode cX0_tryOrder 5 = .ok (.aload_n 0, 1) := by decide +kernel
theorem dX0_tryOrder_6 : decode cX0_tryOrder 6 = .ok (.invokevirtual 744, 3) := by decide +kernel
theorem dX0_tryOrder_9 : decode cX0_tryOrder 9 = .ok (.ifCond .eq 11, 3) := by decide +kernel
theorem dX0_tryOrder_12 : decode cX0_tryOrder 12 = .ok (.aload_n 0, 1) := by decide +kernel
theorem dX0_tryOrder_13 : decode cX0_tryOrder 13 = .ok (.iload_n 1, 1) := by decide +kernel
theorem dX0_tryOrder_14 : decode cX0_tryOrder 14 = .ok (.invokevirtual 747, 3) := by decide +kernel
theorem dX0_tryOrder_17 : decode cX0_tryOrder 17 = .ok (.ifCond .ne 6, 3) := by decide +kernel
theorem dX0_tryOrder_20 : decode cX0_tryOrder 20 = .ok (.bipush (-2), 2) := by decide +kernel
theorem dX0_tryOrder_22 : decode cX0_tryOrder 22 = .ok (.ireturn, 1) := by decide +kernel
theorem dX0_tryOrder_23 : decode cX0_tryOrder 23 = .ok (.iconst 0, 1) := by decide +kernel
theorem dX0_tryOrder_24 : decode cX0_tryOrder 24 = .ok (.istore_n 2, 1) := by decide +kernel
theorem dX0_tryOrder_25 : decode cX0_tryOrder 25 = .ok (.iconst 0, 1) := by decide +kernel
theorem dX0_tryOrder_26 : decode cX0_tryOrder 26 = .ok (.istore_n 3, 1) := by decide +kernel
theorem dX0_tryOrder_27 : decode cX0_tryOrder 27 = .ok (.iload_n 3, 1) := by decide +kernel
theorem dX0_tryOrder_28 : decode cX0_tryOrder 28 = .ok (.iload_n 1, 1) := by decide +kernel
theorem dX0_tryOrder_29 : decode cX0_tryOrder 29 = .ok (.if_icmp .gt 23, 3) := by decide +kernel
theorem dX0_tryOrder_32 : decode cX0_tryOrder 32 = .ok (.iload_n 2, 1) := by decide +kernel
theorem dX0_tryOrder_33 : decode cX0_tryOrder 33 = .ok (.aload_n 0, 1) := by decide +kernel
theorem dX0_tryOrder_34 : decode cX0_tryOrder 34 = .ok (.getfield 386, 3) := by decide +kernel
theorem dX0_tryOrder_37 : decode cX0_tryOrder 37 = .ok (.iload_n 3, 1) := by decide +kernel
theorem dX0_tryOrder_38 : decode cX0_tryOrder 38 = .ok (.aaload, 1) := by decide +kernel
theorem dX0_tryOrder_39 : decode cX0_tryOrder 39 = .ok (.invokevirtual 572, 3) := by decide +kernel
theorem dX0_tryOrder_42 : decode cX0_tryOrder 42 = .ok (.invokestatic 679, 3) := by decide +kernel
theorem dX0_tryOrder_45 : decode cX0_tryOrder 45 = .ok (.istore_n 2, 1) := by decide +kernel
theorem dX0_tryOrder_46 : decode cX0_tryOrder 46 = .ok (.iinc 3 1, 3) := by decide +kernel
theorem dX0_tryOrder_49 : decode cX0_tryOrder 49 = .ok (.goto (-22), 3) := by decide +kernel
theorem dX0_tryOrder_52 : decode cX0_tryOrder 52 = .ok (.aload_n 0, 1) := by decide +kernel
theorem dX0_tryOrder_53 : decode cX0_tryOrder 53 = .ok (.aload_n 0, 1) := by decide +kernel
theorem dX0_tryOrder_54 : decode cX0_tryOrder 54 = .ok (.getfield 348, 3) := by decide +kernel
theorem dX0_tryOrder_57 : decode cX0_tryOrder 57 = .ok (.invokevirtual 572, 3) := by decide +kernel
theorem dX0_tryOrder_60 : decode cX0_tryOrder 60 = .ok (.iload_n 2, 1) := by decide +kernel
theorem dX0_tryOrder_61 : decode cX0_tryOrder 61 = .ok (.iadd, 1) := by decide +kernel
theorem dX0_tryOrder_62 : decode cX0_tryOrder 62 = .ok (.invokevirtual 727, 3) := by decide +kernel
theorem dX0_tryOrder_65 : decode cX0_tryOrder 65 = .ok (.istore_n 3, 1) := by decide +kernel
theorem dX0_tryOrder_66 : decode cX0_tryOrder 66 = .ok (.iload_n 3, 1) := by decide +kernel
theorem dX0_tryOrder_67 : decode cX0_tryOrder 67 = .ok (.bipush 8, 2) := by decide +kernel
theorem dX0_tryOrder_69 : decode cX0_tryOrder 69 = .ok (.if_icmp .le 6, 3) := by decide +kernel
theorem dX0_tryOrder_72 : decode cX0_tryOrder 72 = .ok (.bipush (-2), 2) := by decide +kernel
theorem dX0_tryOrder_74 : decode cX0_tryOrder 74 = .ok (.ireturn, 1) := by decide +kernel
theorem dX0_tryOrder_75 : decode cX0_tryOrder 75 = .ok (.aload_n 0, 1) := by decide +kernel
theorem dX0_tryOrder_76 : decode cX0_tryOrder 76 = .ok (.iload_n 1, 1) := by decide +kernel
theorem dX0_tryOrder_77 : decode cX0_tryOrder 77 = .ok (.iload_n 3, 1) := by decide +kernel
theorem dX0_tryOrder_78 : decode cX0_tryOrder 78 = .ok (.invokevirtual 730, 3) := by decide +kernel
theorem dX0_tryOrder_81 : decode cX0_tryOrder 81 = .ok (.ifCond .eq 7, 3) := by decide +kernel
theorem dX0_tryOrder_84 : decode cX0_tryOrder 84 = .ok (.iconst 1, 1) := by decide +kernel
theorem dX0_tryOrder_85 : decode cX0_tryOrder 85 = .ok (.goto 4, 3) := by decide +kernel
theorem dX0_tryOrder_88 : decode cX0_tryOrder 88 = .ok (.iconst 0, 1) := by decide +kernel
theorem dX0_tryOrder_89 : decode cX0_tryOrder 89 = .ok (.ireturn, 1) := by decide +kernel
theorem dX0_findMultiple_0 : decode cX0_findMultiple 0 = .ok (.aload_n 0, 1) := by decide +kernel
theorem dX0_findMultiple_1 : decode cX0_findMultiple 1 = .ok (.getfield 428, 3) := by decide +kernel
theorem dX0_findMultiple_4 : decode cX0_findMultiple 4 = .ok (.iconst 1, 1) := by decide +kernel
theorem dX0_findMultiple_5 : decode cX0_findMultiple 5 = .ok (.invokevirtual 42, 3) := by decide +kernel
theorem dX0_findMultiple_8 : decode cX0_findMultiple 8 = .ok (.iconst 0, 1) := by decide +kernel
theorem dX0_findMultiple_9 : decode cX0_findMultiple 9 = .ok (.istore_n 2, 1) := by decide +kernel
theorem dX0_findMultiple_10 : decode cX0_findMultiple 10 = .ok (.iload_n 2, 1) := by decide +kernel
theorem dX0_findMultiple_11 : decode cX0_findMultiple 11 = .ok (.iload_n 1, 1) := by decide +kernel
theorem dX0_findMultiple_12 : decode cX0_findMultiple 12 = .ok (.if_icmp .gt 131, 3) := by decide +kernel
theorem dX0_findMultiple_15 : decode cX0_findMultiple 15 = .ok (.aload_n 0, 1) := by decide +kernel
theorem dX0_findMultiple_16 : decode cX0_findMultiple 16 = .ok (.getfield 351, 3) := by decide +kernel
theorem dX0_findMultiple_19 : decode cX0_findMultiple 19 = .ok (.aload_n 0, 1) := by decide +kernel
theorem dX0_findMultiple_20 : decode cX0_findMultiple 20 = .ok (.getfield 420, 3) := by decide +kernel
theorem dX0_findMultiple_23 : decode cX0_findMultiple 23 = .ok (.iload_n 2, 1) := by decide +kernel
theorem dX0_findMultiple_24 : decode cX0_findMultiple 24 = .ok (.aaload, 1) := by decide +kernel
theorem dX0_findMultiple_25 : decode cX0_findMultiple 25 = .ok (.getfield 94, 3) := by decide +kernel
theorem dX0_findMultiple_28 : decode cX0_findMultiple 28 = .ok (.invokevirtual 66, 3) := by decide +kernel
theorem dX0_findMultiple_31 : decode cX0_findMultiple 31 = .ok (.aload_n 0, 1) := by decide +kernel
theorem dX0_findMultiple_32 : decode cX0_findMultiple 32 = .ok (.getfield 46, 3) := by decide +kernel
theorem dX0_findMultiple_35 : decode cX0_findMultiple 35 = .ok (.aload_n 0, 1) := by decide +kernel
theorem dX0_findMultiple_36 : decode cX0_findMultiple 36 = .ok (.getfield 351, 3) := by decide +kernel
theorem dX0_findMultiple_39 : decode cX0_findMultiple 39 = .ok (.aload_n 0, 1) := by decide +kernel
theorem dX0_findMultiple_40 : decode cX0_findMultiple 40 = .ok (.getfield 361, 3) := by decide +kernel
theorem dX0_findMultiple_43 : decode cX0_findMultiple 43 = .ok (.invokevirtual 654, 3) := by decide +kernel
theorem dX0_findMultiple_46 : decode cX0_findMultiple 46 = .ok (.aload_n 0, 1) := by decide +kernel
theorem dX0_findMultiple_47 : decode cX0_findMultiple 47 = .ok (.getfield 46, 3) := by decide +kernel
theorem dX0_findMultiple_50 : decode cX0_findMultiple 50 = .ok (.aload_n 0, 1) := by decide +kernel
theorem dX0_findMultiple_51 : decode cX0_findMultiple 51 = .ok (.getfield 428, 3) := by decide +kernel
theorem dX0_findMultiple_54 : decode cX0_findMultiple 54 = .ok (.aload_n 0, 1) := by decide +kernel
theorem dX0_findMultiple_55 : decode cX0_findMultiple 55 = .ok (.getfield 351, 3) := by decide +kernel
theorem dX0_findMultiple_58 : decode cX0_findMultiple 58 = .ok (.aload_n 0, 1) := by decide +kernel
theorem dX0_findMultiple_59 : decode cX0_findMultiple 59 = .ok (.getfield 354, 3) := by decide +kernel
theorem dX0_findMultiple_62 : decode cX0_findMultiple 62 = .ok (.invokevirtual 53, 3) := by decide +kernel
theorem dX0_findMultiple_65 : decode cX0_findMultiple 65 = .ok (.aload_n 0, 1) := by decide +kernel
theorem dX0_findMultiple_66 : decode cX0_findMultiple 66 = .ok (.getfield 46, 3) := by decide +kernel
theorem dX0_findMultiple_69 : decode cX0_findMultiple 69 = .ok (.aload_n 0, 1) := by decide +kernel
theorem dX0_findMultiple_70 : decode cX0_findMultiple 70 = .ok (.getfield 354, 3) := by decide +kernel
theorem dX0_findMultiple_73 : decode cX0_findMultiple 73 = .ok (.aload_n 0, 1) := by decide +kernel
theorem dX0_findMultiple_74 : decode cX0_findMultiple 74 = .ok (.getfield 361, 3) := by decide +kernel
theorem dX0_findMultiple_77 : decode cX0_findMultiple 77 = .ok (.invokevirtual 654, 3) := by decide +kernel
theorem dX0_findMultiple_80 : decode cX0_findMultiple 80 = .ok (.aload_n 0, 1) := by decide +kernel
theorem dX0_findMultiple_81 : decode cX0_findMultiple 81 = .ok (.getfield 46, 3) := by decide +kernel
theorem dX0_findMultiple_84 : decode cX0_findMultiple 84 = .ok (.aload_n 0, 1) := by decide +kernel
theorem dX0_findMultiple_85 : decode cX0_findMultiple 85 = .ok (.getfield 354, 3) := by decide +kernel
theorem dX0_findMultiple_88 : decode cX0_findMultiple 88 = .ok (.aload_n 0, 1) := by decide +kernel
theorem dX0_findMultiple_89 : decode cX0_findMultiple 89 = .ok (.getfield 351, 3) := by decide +kernel
theorem dX0_findMultiple_92 : decode cX0_findMultiple 92 = .ok (.aload_n 0, 1) := by decide +kernel
theorem dX0_findMultiple_93 : decode cX0_findMultiple 93 = .ok (.getfield 59, 3) := by decide +kernel
theorem dX0_findMultiple_96 : decode cX0_findMultiple 96 = .ok (.invokevirtual 62, 3) := by decide +kernel
theorem dX0_findMultiple_99 : decode cX0_findMultiple 99 = .ok (.istore_n 3, 1) := by decide +kernel
theorem dX0_findMultiple_100 : decode cX0_findMultiple 100 = .ok (.aload_n 0, 1) := by decide +kernel
theorem dX0_findMultiple_101 : decode cX0_findMultiple 101 = .ok (.getfield 351, 3) := by decide +kernel
theorem dX0_findMultiple_104 : decode cX0_findMultiple 104 = .ok (.aload_n 0, 1) := by decide +kernel
theorem dX0_findMultiple_105 : decode cX0_findMultiple 105 = .ok (.getfield 59, 3) := by decide +kernel
theorem dX0_findMultiple_108 : decode cX0_findMultiple 108 = .ok (.invokevirtual 66, 3) := by decide +kernel
theorem dX0_findMultiple_111 : decode cX0_findMultiple 111 = .ok (.aload_n 0, 1) := by decide +kernel
theorem dX0_findMultiple_112 : decode cX0_findMultiple 112 = .ok (.getfield 59, 3) := by decide +kernel
theorem dX0_findMultiple_115 : decode cX0_findMultiple 115 = .ok (.aload_n 0, 1) := by decide +kernel
theorem dX0_findMultiple_116 : decode cX0_findMultiple 116 = .ok (.getfield 428, 3) := by decide +kernel
theorem dX0_findMultiple_119 : decode cX0_findMultiple 119 = .ok (.invokevirtual 66, 3) := by decide +kernel
theorem dX0_findMultiple_122 : decode cX0_findMultiple 122 = .ok (.aload_n 0, 1) := by decide +kernel
theorem dX0_findMultiple_123 : decode cX0_findMultiple 123 = .ok (.getfield 428, 3) := by decide +kernel
theorem dX0_findMultiple_126 : decode cX0_findMultiple 126 = .ok (.aload_n 0, 1) := by decide +kernel
theorem dX0_findMultiple_127 : decode cX0_findMultiple 127 = .ok (.getfield 59, 3) := by decide +kernel
theorem dX0_findMultiple_130 : decode cX0_findMultiple 130 = .ok (.aload_n 0, 1) := by decide +kernel
theorem dX0_findMultiple_131 : decode cX0_findMultiple 131 = .ok (.getfield 351, 3) := by decide +kernel
theorem dX0_findMultiple_134 : decode cX0_findMultiple 134 = .ok (.invokevirtual 97, 3) := by decide +kernel
theorem dX0_findMultiple_137 : decode cX0_findMultiple 137 = .ok (.iinc 2 1, 3) := by decide +kernel
theorem dX0_findMultiple_140 : decode cX0_findMultiple 140 = .ok (.goto (-130), 3) := by decide +kernel
theorem dX0_findMultiple_143 : decode cX0_findMultiple 143 = .ok (.aload_n 0, 1) := by decide +kernel
theorem dX0_findMultiple_144 : decode cX0_findMultiple 144 = .ok (.getfield 428, 3) := by decide +kernel
theorem dX0_findMultiple_147 : decode cX0_findMultiple 147 = .ok (.aload_n 0, 1) := by decide +kernel
theorem dX0_findMultiple_148 : decode cX0_findMultiple 148 = .ok (.getfield 428, 3) := by decide +kernel
theorem dX0_findMultiple_151 : decode cX0_findMultiple 151 = .ok (.getfield 28, 3) := by decide +kernel
theorem dX0_findMultiple_154 : decode cX0_findMultiple 154 = .ok (.iconst 1, 1) := by decide +kernel
theorem dX0_findMultiple_155 : decode cX0_findMultiple 155 = .ok (.isub, 1) := by decide +kernel
theorem dX0_findMultiple_156 : decode cX0_findMultiple 156 = .ok (.aload_n 0, 1) := by decide +kernel
theorem dX0_findMultiple_157 : decode cX0_findMultiple 157 = .ok (.getfield 374, 3) := by decide +kernel
theorem dX0_findMultiple_160 : decode cX0_findMultiple 160 = .ok (.invokevirtual 661, 3) := by decide +kernel
theorem dX0_findMultiple_163 : decode cX0_findMultiple 163 = .ok (.return_, 1) := by decide +kernel
theorem dX0_findStepForm_0 : decode cX0_findStepForm 0 = .ok (.aload_n 0, 1) := by decide +kernel
theorem dX0_findStepForm_1 : decode cX0_findStepForm 1 = .ok (.getfield 31, 3) := by decide +kernel
theorem dX0_findStepForm_4 : decode cX0_findStepForm 4 = .ok (.aload_n 0, 1) := by decide +kernel
theorem dX0_findStepForm_5 : decode cX0_findStepForm 5 = .ok (.getfield 425, 3) := by decide +kernel
theorem dX0_findStepForm_8 : decode cX0_findStepForm 8 = .ok (.getfield 89, 3) := by decide +kernel
theorem dX0_findStepForm_11 : decode cX0_findStepForm 11 = .ok (.aload_n 0, 1) := by decide +kernel
theorem dX0_findStepForm_12 : decode cX0_findStepForm 12 = .ok (.getfield 428, 3) := by decide +kernel
theorem dX0_findStepForm_15 : decode cX0_findStepForm 15 = .ok (.invokevirtual 97, 3) := by decide +kernel
theorem dX0_findStepForm_18 : decode cX0_findStepForm 18 = .ok (.aload_n 0, 1) := by decide +kernel
theorem dX0_findStepForm_19 : decode cX0_findStepForm 19 = .ok (.getfield 351, 3) := by decide +kernel
theorem dX0_findStepForm_22 : decode cX0_findStepForm 22 = .ok (.aload_n 0, 1) := by decide +kernel
theorem dX0_findStepForm_23 : decode cX0_findStepForm 23 = .ok (.getfield 428, 3) := by decide +kernel
theorem dX0_findStepForm_26 : decode cX0_findStepForm 26 = .ok (.invokevirtual 66, 3) := by decide +kernel
theorem dX0_findStepForm_29 : decode cX0_findStepForm 29 = .ok (.aload_n 0, 1) := by decide +kernel
theorem dX0_findStepForm_30 : decode cX0_findStepForm 30 = .ok (.getfield 351, 3) := by decide +kernel
theorem dX0_findStepForm_33 : decode cX0_findStepForm 33 = .ok (.iconst 1, 1) := by decide +kernel
theorem dX0_findStepForm_34 : decode cX0_findStepForm 34 = .ok (.invokevirtual 617, 3) := by decide +kernel
theorem dX0_findStepForm_37 : decode cX0_findStepForm 37 = .ok (.aload_n 0, 1) := by decide +kernel
theorem dX0_findStepForm_38 : decode cX0_findStepForm 38 = .ok (.getfield 39, 3) := by decide +kernel
theorem dX0_findStepForm_41 : decode cX0_findStepForm 41 = .ok (.aload_n 0, 1) := by decide +kernel
theorem dX0_findStepForm_42 : decode cX0_findStepForm 42 = .ok (.getfield 425, 3) := by decide +kernel
theorem dX0_findStepForm_45 : decode cX0_findStepForm 45 = .ok (.getfield 94, 3) := by decide +kernel
theorem dX0_findStepForm_48 : decode cX0_findStepForm 48 = .ok (.aload_n 0, 1) := by decide +kernel
theorem dX0_findStepForm_49 : decode cX0_findStepForm 49 = .ok (.getfield 351, 3) := by decide +kernel
theorem dX0_findStepForm_52 : decode cX0_findStepForm 52 = .ok (.invokevirtual 97, 3) := by decide +kernel
theorem dX0_findStepForm_55 : decode cX0_findStepForm 55 = .ok (.aload_n 0, 1) := by decide +kernel
theorem dX0_findStepForm_56 : decode cX0_findStepForm 56 = .ok (.invokevirtual 81, 3) := by decide +kernel
theorem dX0_findStepForm_59 : decode cX0_findStepForm 59 = .ok (.aload_n 0, 1) := by decide +kernel
theorem dX0_findStepForm_60 : decode cX0_findStepForm 60 = .ok (.invokevirtual 673, 3) := by decide +kernel
theorem dX0_findStepForm_63 : decode cX0_findStepForm 63 = .ok (.ifCond .eq 14, 3) := by decide +kernel
theorem dX0_findStepForm_66 : decode cX0_findStepForm 66 = .ok (.aload_n 0, 1) := by decide +kernel
theorem dX0_findStepForm_67 : decode cX0_findStepForm 67 = .ok (.invokevirtual 676, 3) := by decide +kernel
theorem dX0_findStepForm_70 : decode cX0_findStepForm 70 = .ok (.ifCond .eq 7, 3) := by decide +kernel
theorem dX0_findStepForm_73 : decode cX0_findStepForm 73 = .ok (.iconst 1, 1) := by decide +kernel
theorem dX0_findStepForm_74 : decode cX0_findStepForm 74 = .ok (.goto 4, 3) := by decide +kernel
theorem dX0_findStepForm_77 : decode cX0_findStepForm 77 = .ok (.iconst 0, 1) := by decide +kernel
theorem dX0_findStepForm_78 : decode cX0_findStepForm 78 = .ok (.ireturn, 1) := by decide +kernel
theorem dX0_findAsked_0 : decode cX0_findAsked 0 = .ok (.aload_n 0, 1) := by decide +kernel
theorem dX0_findAsked_1 : decode cX0_findAsked 1 = .ok (.getfield 31, 3) := by decide +kernel
theorem dX0_findAsked_4 : decode cX0_findAsked 4 = .ok (.aload_n 0, 1) := by decide +kernel
theorem dX0_findAsked_5 : decode cX0_findAsked 5 = .ok (.getfield 428, 3) := by decide +kernel
theorem dX0_findAsked_8 : decode cX0_findAsked 8 = .ok (.invokevirtual 66, 3) := by decide +kernel
theorem dX0_findAsked_11 : decode cX0_findAsked 11 = .ok (.aload_n 0, 1) := by decide +kernel
theorem dX0_findAsked_12 : decode cX0_findAsked 12 = .ok (.getfield 39, 3) := by decide +kernel
theorem dX0_findAsked_15 : decode cX0_findAsked 15 = .ok (.aload_n 0, 1) := by decide +kernel
theorem dX0_findAsked_16 : decode cX0_findAsked 16 = .ok (.getfield 374, 3) := by decide +kernel
theorem dX0_findAsked_19 : decode cX0_findAsked 19 = .ok (.getfield 636, 3) := by decide +kernel
theorem dX0_findAsked_22 : decode cX0_findAsked 22 = .ok (.iconst 1, 1) := by decide +kernel
theorem dX0_findAsked_23 : decode cX0_findAsked 23 = .ok (.invokevirtual 304, 3) := by decide +kernel
theorem dX0_findAsked_26 : decode cX0_findAsked 26 = .ok (.aload_n 0, 1) := by decide +kernel
theorem dX0_findAsked_27 : decode cX0_findAsked 27 = .ok (.getfield 39, 3) := by decide +kernel
theorem dX0_findAsked_30 : decode cX0_findAsked 30 = .ok (.iconst 0, 1) := by decide +kernel
theorem dX0_findAsked_31 : decode cX0_findAsked 31 = .ok (.aload_n 0, 1) := by decide +kernel
theorem dX0_findAsked_32 : decode cX0_findAsked 32 = .ok (.getfield 374, 3) := by decide +kernel
theorem dX0_findAsked_35 : decode cX0_findAsked 35 = .ok (.invokevirtual 664, 3) := by decide +kernel
theorem dX0_findAsked_38 : decode cX0_findAsked 38 = .ok (.aload_n 0, 1) := by decide +kernel
theorem dX0_findAsked_39 : decode cX0_findAsked 39 = .ok (.invokevirtual 81, 3) := by decide +kernel
theorem dX0_findAsked_42 : decode cX0_findAsked 42 = .ok (.aload_n 0, 1) := by decide +kernel
theorem dX0_findAsked_43 : decode cX0_findAsked 43 = .ok (.invokevirtual 670, 3) := by decide +kernel
theorem dX0_findAsked_46 : decode cX0_findAsked 46 = .ok (.ifCond .ne 5, 3) := by decide +kernel
theorem dX0_findAsked_49 : decode cX0_findAsked 49 = .ok (.iconst 0, 1) := by decide +kernel
theorem dX0_findAsked_50 : decode cX0_findAsked 50 = .ok (.ireturn, 1) := by decide +kernel
theorem dX0_findAsked_51 : decode cX0_findAsked 51 = .ok (.aload_n 0, 1) := by decide +kernel
theorem dX0_findAsked_52 : decode cX0_findAsked 52 = .ok (.getfield 434, 3) := by decide +kernel
theorem dX0_findAsked_55 : decode cX0_findAsked 55 = .ok (.iconst 1, 1) := by decide +kernel
theorem dX0_findAsked_56 : decode cX0_findAsked 56 = .ok (.invokevirtual 734, 3) := by decide +kernel
theorem dX0_findAsked_59 : decode cX0_findAsked 59 = .ok (.iconst 0, 1) := by decide +kernel
theorem dX0_findAsked_60 : decode cX0_findAsked 60 = .ok (.istore_n 2, 1) := by decide +kernel
theorem dX0_findAsked_61 : decode cX0_findAsked 61 = .ok (.iload_n 2, 1) := by decide +kernel
theorem dX0_findAsked_62 : decode cX0_findAsked 62 = .ok (.iload_n 1, 1) := by decide +kernel
theorem dX0_findAsked_63 : decode cX0_findAsked 63 = .ok (.if_icmp .gt 181, 3) := by decide +kernel
theorem dX0_findAsked_66 : decode cX0_findAsked 66 = .ok (.aload_n 0, 1) := by decide +kernel
theorem dX0_findAsked_67 : decode cX0_findAsked 67 = .ok (.getfield 31, 3) := by decide +kernel
theorem dX0_findAsked_70 : decode cX0_findAsked 70 = .ok (.aload_n 0, 1) := by decide +kernel
theorem dX0_findAsked_71 : decode cX0_findAsked 71 = .ok (.getfield 420, 3) := by decide +kernel
theorem dX0_findAsked_74 : decode cX0_findAsked 74 = .ok (.iload_n 2, 1) := by decide +kernel
theorem dX0_findAsked_75 : decode cX0_findAsked 75 = .ok (.aaload, 1) := by decide +kernel
theorem dX0_findAsked_76 : decode cX0_findAsked 76 = .ok (.getfield 89, 3) := by decide +kernel
theorem dX0_findAsked_79 : decode cX0_findAsked 79 = .ok (.aload_n 0, 1) := by decide +kernel
theorem dX0_findAsked_80 : decode cX0_findAsked 80 = .ok (.getfield 428, 3) := by decide +kernel
theorem dX0_findAsked_83 : decode cX0_findAsked 83 = .ok (.invokevirtual 97, 3) := by decide +kernel
theorem dX0_findAsked_86 : decode cX0_findAsked 86 = .ok (.aload_n 0, 1) := by decide +kernel
theorem dX0_findAsked_87 : decode cX0_findAsked 87 = .ok (.getfield 39, 3) := by decide +kernel
theorem dX0_findAsked_90 : decode cX0_findAsked 90 = .ok (.aload_n 0, 1) := by decide +kernel
theorem dX0_findAsked_91 : decode cX0_findAsked 91 = .ok (.getfield 420, 3) := by decide +kernel
theorem dX0_findAsked_94 : decode cX0_findAsked 94 = .ok (.iload_n 2, 1) := by decide +kernel
theorem dX0_findAsked_95 : decode cX0_findAsked 95 = .ok (.aaload, 1) := by decide +kernel
theorem dX0_findAsked_96 : decode cX0_findAsked 96 = .ok (.getfield 94, 3) := by decide +kernel
theorem dX0_findAsked_99 : decode cX0_findAsked 99 = .ok (.invokevirtual 66, 3) := by decide +kernel
theorem dX0_findAsked_102 : decode cX0_findAsked 102 = .ok (.aload_n 0, 1) := by decide +kernel
theorem dX0_findAsked_103 : decode cX0_findAsked 103 = .ok (.getfield 39, 3) := by decide +kernel
theorem dX0_findAsked_106 : decode cX0_findAsked 106 = .ok (.aload_n 0, 1) := by decide +kernel
theorem dX0_findAsked_107 : decode cX0_findAsked 107 = .ok (.getfield 374, 3) := by decide +kernel
theorem dX0_findAsked_110 : decode cX0_findAsked 110 = .ok (.aload_n 0, 1) := by decide +kernel
theorem dX0_findAsked_111 : decode cX0_findAsked 111 = .ok (.getfield 59, 3) := by decide +kernel
theorem dX0_findAsked_114 : decode cX0_findAsked 114 = .ok (.invokevirtual 723, 3) := by decide +kernel
theorem dX0_findAsked_117 : decode cX0_findAsked 117 = .ok (.aload_n 0, 1) := by decide +kernel
theorem dX0_findAsked_118 : decode cX0_findAsked 118 = .ok (.invokevirtual 81, 3) := by decide +kernel
theorem dX0_findAsked_121 : decode cX0_findAsked 121 = .ok (.aload_n 0, 1) := by decide +kernel
theorem dX0_findAsked_122 : decode cX0_findAsked 122 = .ok (.invokevirtual 670, 3) := by decide +kernel
theorem dX0_findAsked_125 : decode cX0_findAsked 125 = .ok (.ifCond .ne 5, 3) := by decide +kernel
theorem dX0_findAsked_128 : decode cX0_findAsked 128 = .ok (.iconst 0, 1) := by decide +kernel
theorem dX0_findAsked_129 : decode cX0_findAsked 129 = .ok (.ireturn, 1) := by decide +kernel
theorem dX0_findAsked_130 : decode cX0_findAsked 130 = .ok (.aload_n 0, 1) := by decide +kernel
theorem dX0_findAsked_131 : decode cX0_findAsked 131 = .ok (.getfield 386, 3) := by decide +kernel
theorem dX0_findAsked_134 : decode cX0_findAsked 134 = .ok (.iload_n 2, 1) := by decide +kernel
theorem dX0_findAsked_135 : decode cX0_findAsked 135 = .ok (.aaload, 1) := by decide +kernel
theorem dX0_findAsked_136 : decode cX0_findAsked 136 = .ok (.aload_n 0, 1) := by decide +kernel
theorem dX0_findAsked_137 : decode cX0_findAsked 137 = .ok (.getfield 31, 3) := by decide +kernel
theorem dX0_findAsked_140 : decode cX0_findAsked 140 = .ok (.invokevirtual 66, 3) := by decide +kernel
theorem dX0_findAsked_143 : decode cX0_findAsked 143 = .ok (.aload_n 0, 1) := by decide +kernel
theorem dX0_findAsked_144 : decode cX0_findAsked 144 = .ok (.getfield 39, 3) := by decide +kernel
theorem dX0_findAsked_147 : decode cX0_findAsked 147 = .ok (.iconst 0, 1) := by decide +kernel
theorem dX0_findAsked_148 : decode cX0_findAsked 148 = .ok (.aload_n 0, 1) := by decide +kernel
theorem dX0_findAsked_149 : decode cX0_findAsked 149 = .ok (.getfield 431, 3) := by decide +kernel
theorem dX0_findAsked_152 : decode cX0_findAsked 152 = .ok (.iload_n 2, 1) := by decide +kernel
theorem dX0_findAsked_153 : decode cX0_findAsked 153 = .ok (.aaload, 1) := by decide +kernel
theorem dX0_findAsked_154 : decode cX0_findAsked 154 = .ok (.invokevirtual 661, 3) := by decide +kernel
theorem dX0_findAsked_157 : decode cX0_findAsked 157 = .ok (.aload_n 0, 1) := by decide +kernel
theorem dX0_findAsked_158 : decode cX0_findAsked 158 = .ok (.getfield 46, 3) := by decide +kernel
theorem dX0_findAsked_161 : decode cX0_findAsked 161 = .ok (.getfield 642, 3) := by decide +kernel
theorem dX0_findAsked_164 : decode cX0_findAsked 164 = .ok (.aload_n 0, 1) := by decide +kernel
theorem dX0_findAsked_165 : decode cX0_findAsked 165 = .ok (.getfield 434, 3) := by decide +kernel
theorem dX0_findAsked_168 : decode cX0_findAsked 168 = .ok (.aload_n 0, 1) := by decide +kernel
theorem dX0_findAsked_169 : decode cX0_findAsked 169 = .ok (.getfield 431, 3) := by decide +kernel
theorem dX0_findAsked_172 : decode cX0_findAsked 172 = .ok (.iload_n 2, 1) := by decide +kernel
theorem dX0_findAsked_173 : decode cX0_findAsked 173 = .ok (.aaload, 1) := by decide +kernel
theorem dX0_findAsked_174 : decode cX0_findAsked 174 = .ok (.aload_n 0, 1) := by decide +kernel
theorem dX0_findAsked_175 : decode cX0_findAsked 175 = .ok (.getfield 361, 3) := by decide +kernel
theorem dX0_findAsked_178 : decode cX0_findAsked 178 = .ok (.invokevirtual 646, 3) := by decide +kernel
theorem dX0_findAsked_181 : decode cX0_findAsked 181 = .ok (.aload_n 0, 1) := by decide +kernel
theorem dX0_findAsked_182 : decode cX0_findAsked 182 = .ok (.getfield 365, 3) := by decide +kernel
theorem dX0_findAsked_185 : decode cX0_findAsked 185 = .ok (.aload_n 0, 1) := by decide +kernel
theorem dX0_findAsked_186 : decode cX0_findAsked 186 = .ok (.getfield 431, 3) := by decide +kernel
theorem dX0_findAsked_189 : decode cX0_findAsked 189 = .ok (.iload_n 2, 1) := by decide +kernel
theorem dX0_findAsked_190 : decode cX0_findAsked 190 = .ok (.aaload, 1) := by decide +kernel
theorem dX0_findAsked_191 : decode cX0_findAsked 191 = .ok (.invokevirtual 686, 3) := by decide +kernel
theorem dX0_findAsked_194 : decode cX0_findAsked 194 = .ok (.aload_n 0, 1) := by decide +kernel
theorem dX0_findAsked_195 : decode cX0_findAsked 195 = .ok (.getfield 46, 3) := by decide +kernel
theorem dX0_findAsked_198 : decode cX0_findAsked 198 = .ok (.getfield 642, 3) := by decide +kernel
theorem dX0_findAsked_201 : decode cX0_findAsked 201 = .ok (.aload_n 0, 1) := by decide +kernel
theorem dX0_findAsked_202 : decode cX0_findAsked 202 = .ok (.getfield 365, 3) := by decide +kernel
theorem dX0_findAsked_205 : decode cX0_findAsked 205 = .ok (.aload_n 0, 1) := by decide +kernel
theorem dX0_findAsked_206 : decode cX0_findAsked 206 = .ok (.getfield 361, 3) := by decide +kernel
theorem dX0_findAsked_209 : decode cX0_findAsked 209 = .ok (.invokevirtual 718, 3) := by decide +kernel
theorem dX0_findAsked_212 : decode cX0_findAsked 212 = .ok (.aload_n 0, 1) := by decide +kernel
theorem dX0_findAsked_213 : decode cX0_findAsked 213 = .ok (.getfield 411, 3) := by decide +kernel
theorem dX0_findAsked_216 : decode cX0_findAsked 216 = .ok (.aload_n 0, 1) := by decide +kernel
theorem dX0_findAsked_217 : decode cX0_findAsked 217 = .ok (.getfield 434, 3) := by decide +kernel
theorem dX0_findAsked_220 : decode cX0_findAsked 220 = .ok (.invokevirtual 686, 3) := by decide +kernel
theorem dX0_findAsked_223 : decode cX0_findAsked 223 = .ok (.aload_n 0, 1) := by decide +kernel
theorem dX0_findAsked_224 : decode cX0_findAsked 224 = .ok (.getfield 434, 3) := by decide +kernel
theorem dX0_findAsked_227 : decode cX0_findAsked 227 = .ok (.aload_n 0, 1) := by decide +kernel
theorem dX0_findAsked_228 : decode cX0_findAsked 228 = .ok (.getfield 411, 3) := by decide +kernel
theorem dX0_findAsked_231 : decode cX0_findAsked 231 = .ok (.aload_n 0, 1) := by decide +kernel
theorem dX0_findAsked_232 : decode cX0_findAsked 232 = .ok (.getfield 365, 3) := by decide +kernel
theorem dX0_findAsked_235 : decode cX0_findAsked 235 = .ok (.invokevirtual 739, 3) := by decide +kernel
theorem dX0_findAsked_238 : decode cX0_findAsked 238 = .ok (.iinc 2 1, 3) := by decide +kernel
theorem dX0_findAsked_241 : decode cX0_findAsked 241 = .ok (.goto (-180), 3) := by decide +kernel
theorem dX0_findAsked_244 : decode cX0_findAsked 244 = .ok (.iconst 0, 1) := by decide +kernel
theorem dX0_findAsked_245 : decode cX0_findAsked 245 = .ok (.istore_n 2, 1) := by decide +kernel
theorem dX0_findAsked_246 : decode cX0_findAsked 246 = .ok (.iload_n 2, 1) := by decide +kernel
theorem dX0_findAsked_247 : decode cX0_findAsked 247 = .ok (.iload_n 1, 1) := by decide +kernel
theorem dX0_findAsked_248 : decode cX0_findAsked 248 = .ok (.if_icmp .gt 57, 3) := by decide +kernel
theorem dX0_findAsked_251 : decode cX0_findAsked 251 = .ok (.aload_n 0, 1) := by decide +kernel
theorem dX0_findAsked_252 : decode cX0_findAsked 252 = .ok (.getfield 361, 3) := by decide +kernel
theorem dX0_findAsked_255 : decode cX0_findAsked 255 = .ok (.aload_n 0, 1) := by decide +kernel
theorem dX0_findAsked_256 : decode cX0_findAsked 256 = .ok (.getfield 434, 3) := by decide +kernel
theorem dX0_findAsked_259 : decode cX0_findAsked 259 = .ok (.invokevirtual 686, 3) := by decide +kernel
theorem dX0_findAsked_262 : decode cX0_findAsked 262 = .ok (.aload_n 0, 1) := by decide +kernel
theorem dX0_findAsked_263 : decode cX0_findAsked 263 = .ok (.getfield 46, 3) := by decide +kernel
theorem dX0_findAsked_266 : decode cX0_findAsked 266 = .ok (.getfield 642, 3) := by decide +kernel
theorem dX0_findAsked_269 : decode cX0_findAsked 269 = .ok (.aload_n 0, 1) := by decide +kernel
theorem dX0_findAsked_270 : decode cX0_findAsked 270 = .ok (.getfield 361, 3) := by decide +kernel
theorem dX0_findAsked_273 : decode cX0_findAsked 273 = .ok (.aload_n 0, 1) := by decide +kernel
theorem dX0_findAsked_274 : decode cX0_findAsked 274 = .ok (.getfield 431, 3) := by decide +kernel
theorem dX0_findAsked_277 : decode cX0_findAsked 277 = .ok (.iload_n 2, 1) := by decide +kernel
theorem dX0_findAsked_278 : decode cX0_findAsked 278 = .ok (.aaload, 1) := by decide +kernel
theorem dX0_findAsked_279 : decode cX0_findAsked 279 = .ok (.invokevirtual 718, 3) := by decide +kernel
theorem dX0_findAsked_282 : decode cX0_findAsked 282 = .ok (.aload_n 0, 1) := by decide +kernel
theorem dX0_findAsked_283 : decode cX0_findAsked 283 = .ok (.getfield 386, 3) := by decide +kernel
theorem dX0_findAsked_286 : decode cX0_findAsked 286 = .ok (.iload_n 2, 1) := by decide +kernel
theorem dX0_findAsked_287 : decode cX0_findAsked 287 = .ok (.aaload, 1) := by decide +kernel
theorem dX0_findAsked_288 : decode cX0_findAsked 288 = .ok (.aload_n 0, 1) := by decide +kernel
theorem dX0_findAsked_289 : decode cX0_findAsked 289 = .ok (.getfield 361, 3) := by decide +kernel
theorem dX0_findAsked_292 : decode cX0_findAsked 292 = .ok (.aload_n 0, 1) := by decide +kernel
theorem dX0_findAsked_293 : decode cX0_findAsked 293 = .ok (.getfield 59, 3) := by decide +kernel
theorem dX0_findAsked_296 : decode cX0_findAsked 296 = .ok (.invokevirtual 723, 3) := by decide +kernel
theorem dX0_findAsked_299 : decode cX0_findAsked 299 = .ok (.iinc 2 1, 3) := by decide +kernel
theorem dX0_findAsked_302 : decode cX0_findAsked 302 = .ok (.goto (-56), 3) := by decide +kernel
theorem dX0_findAsked_305 : decode cX0_findAsked 305 = .ok (.iconst 1, 1) := by decide +kernel
theorem dX0_findAsked_306 : decode cX0_findAsked 306 = .ok (.ireturn, 1) := by decide +kernel
theorem dX0_keepRecord_0 : decode cX0_keepRecord 0 = .ok (.aload_n 0, 1) := by decide +kernel
theorem dX0_keepRecord_1 : decode cX0_keepRecord 1 = .ok (.getfield 326, 3) := by decide +kernel
theorem dX0_keepRecord_4 : decode cX0_keepRecord 4 = .ok (.iload_n 1, 1) := by decide +kernel
theorem dX0_keepRecord_5 : decode cX0_keepRecord 5 = .ok (.aaload, 1) := by decide +kernel
theorem dX0_keepRecord_6 : decode cX0_keepRecord 6 = .ok (.astore_n 2, 1) := by decide +kernel
theorem dX0_keepRecord_7 : decode cX0_keepRecord 7 = .ok (.aload_n 0, 1) := by decide +kernel
theorem dX0_keepRecord_8 : decode cX0_keepRecord 8 = .ok (.getfield 330, 3) := by decide +kernel
theorem dX0_keepRecord_11 : decode cX0_keepRecord 11 = .ok (.invokevirtual 301, 3) := by decide +kernel
theorem dX0_keepRecord_14 : decode cX0_keepRecord 14 = .ok (.aload_n 2, 1) := by decide +kernel
theorem dX0_keepRecord_15 : decode cX0_keepRecord 15 = .ok (.getfield 512, 3) := by decide +kernel
theorem dX0_keepRecord_18 : decode cX0_keepRecord 18 = .ok (.aload_n 0, 1) := by decide +kernel
theorem dX0_keepRecord_19 : decode cX0_keepRecord 19 = .ok (.getfield 330, 3) := by decide +kernel
theorem dX0_keepRecord_22 : decode cX0_keepRecord 22 = .ok (.invokevirtual 158, 3) := by decide +kernel
theorem dX0_keepRecord_25 : decode cX0_keepRecord 25 = .ok (.aload_n 2, 1) := by decide +kernel
theorem dX0_keepRecord_26 : decode cX0_keepRecord 26 = .ok (.iconst 3, 1) := by decide +kernel
theorem dX0_keepRecord_27 : decode cX0_keepRecord 27 = .ok (.putfield 509, 3) := by decide +kernel
theorem dX0_keepRecord_30 : decode cX0_keepRecord 30 = .ok (.aload_n 2, 1) := by decide +kernel
theorem dX0_keepRecord_31 : decode cX0_keepRecord 31 = .ok (.aload_n 0, 1) := by decide +kernel
theorem dX0_keepRecord_32 : decode cX0_keepRecord 32 = .ok (.getfield 706, 3) := by decide +kernel
theorem dX0_keepRecord_35 : decode cX0_keepRecord 35 = .ok (.putfield 575, 3) := by decide +kernel
theorem dX0_keepRecord_38 : decode cX0_keepRecord 38 = .ok (.iconst 0, 1) := by decide +kernel
theorem dX0_keepRecord_39 : decode cX0_keepRecord 39 = .ok (.istore_n 3, 1) := by decide +kernel
theorem dX0_keepRecord_40 : decode cX0_keepRecord 40 = .ok (.iload_n 3, 1) := by decide +kernel
theorem dX0_keepRecord_41 : decode cX0_keepRecord 41 = .ok (.aload_n 0, 1) := by decide +kernel
theorem dX0_keepRecord_42 : decode cX0_keepRecord 42 = .ok (.getfield 706, 3) := by decide +kernel
theorem dX0_keepRecord_45 : decode cX0_keepRecord 45 = .ok (.if_icmp .gt 24, 3) := by decide +kernel
theorem dX0_keepRecord_48 : decode cX0_keepRecord 48 = .ok (.aload_n 2, 1) := by decide +kernel
theorem dX0_keepRecord_49 : decode cX0_keepRecord 49 = .ok (.getfield 578, 3) := by decide +kernel
theorem dX0_keepRecord_52 : decode cX0_keepRecord 52 = .ok (.iload_n 3, 1) := by decide +kernel
theorem dX0_keepRecord_53 : decode cX0_keepRecord 53 = .ok (.aaload, 1) := by decide +kernel
theorem dX0_keepRecord_54 : decode cX0_keepRecord 54 = .ok (.aload_n 0, 1) := by decide +kernel
theorem dX0_keepRecord_55 : decode cX0_keepRecord 55 = .ok (.getfield 402, 3) := by decide +kernel
theorem dX0_keepRecord_58 : decode cX0_keepRecord 58 = .ok (.iload_n 3, 1) := by decide +kernel
theorem dX0_keepRecord_59 : decode cX0_keepRecord 59 = .ok (.aaload, 1) := by decide +kernel
theorem dX0_keepRecord_60 : decode cX0_keepRecord 60 = .ok (.invokevirtual 686, 3) := by decide +kernel
theorem dX0_keepRecord_63 : decode cX0_keepRecord 63 = .ok (.iinc 3 1, 3) := by decide +kernel
theorem dX0_keepRecord_66 : decode cX0_keepRecord 66 = .ok (.goto (-26), 3) := by decide +kernel
theorem dX0_keepRecord_69 : decode cX0_keepRecord 69 = .ok (.aload_n 0, 1) := by decide +kernel
theorem dX0_keepRecord_70 : decode cX0_keepRecord 70 = .ok (.getfield 706, 3) := by decide +kernel
theorem dX0_keepRecord_73 : decode cX0_keepRecord 73 = .ok (.ireturn, 1) := by decide +kernel
abbrev W_X0_factorial_2 (g : GX) (d : Nat) (av : List Value) (Q : QT) (n : Nat) (pc : Nat) (ls : LV) (stk : List Value) (h : Hp) : Prop := RJ g m_X0_factorial_2 (d + 1) 0 0 av Q pc ls stk n h 0 0
theorem s_X0_factorial_2_0 {g : GX} {d : Nat} {av : List Value} {Q : QT} {n : Nat} {h : Hp} {x1 : Int32} {x2 : Int32} {x3 : Int32} (hp : g.2.2.2.2 = true)  (H : CallI g m_X0_isSlot d [.int x1] n h (fun v1 h1 => (((¬ v1 = (0 : Int32)) → (vp_in x1 12 ∧ ∀ r2, r2 = 1185 + 27 * (x1).toNatClampNeg → ((((ri h1 r2 0) = (2 : Int32)) → (vp_in x1 12 ∧ ∀ r3, r3 = 1185 + 27 * (x1).toNatClampNeg → (((x2 < (0 : Int32)) → (Q (some (.int (0 : Int32))) n h1)) ∧ ((¬ x2 < (0 : Int32)) → (((x2 < (ri h1 (r3 + 1) 3)) → (((¬ x3 = (0 : Int32)) → (((¬ x3 = (1 : Int32)) → (((¬ x3 = (2 : Int32)) → (((¬ x3 = (3 : Int32)) → (Q (some (.int (0 : Int32))) n h1)) ∧ ((x3 = (3 : Int32)) → (vp_in x2 60 ∧ (Q (some (.int (ri h1 (r3 + 10) (x2).toNatClampNeg))) n h1))))) ∧ ((x3 = (2 : Int32)) → (vp_in x2 60 ∧ (Q (some (.int (ri h1 (r3 + 9) (x2).toNatClampNeg))) n h1))))) ∧ ((x3 = (1 : Int32)) → (vp_in x2 60 ∧ (Q (some (.int (ri h1 (r3 + 8) (x2).toNatClampNeg))) n h1))))) ∧ ((x3 = (0 : Int32)) → (vp_in x2 60 ∧ (Q (some (.int (ri h1 (r3 + 7) (x2).toNatClampNeg))) n h1))))) ∧ ((¬ x2 < (ri h1 (r3 + 1) 3)) → (Q (some (.int (0 : Int32))) n h1))))))) ∧ ((¬ (ri h1 r2 0) = (2 : Int32)) → (Q (some (.int (0 : Int32))) n h1))))) ∧ ((v1 = (0 : Int32)) → (Q (some (.int (-1 : Int32))) n h1))))) : W_X0_factorial_2 g d av Q n 0 [some (.ref 0), some (.int x1), some (.int x2), some (.int x3), none] [] h := by
  refine r_iload_n dX0_factorial_2_0 rfl rfl ?_
  refine k_SI (As := [.int x1]) (stk := []) cs_X0_519 dX0_factorial_2_1 rfl (Nat.le_of_ble_eq_true rfl) (H.mono (fun v1 h1 H => ?_)) ⟨Nat.le_refl _, Nat.le_refl _⟩
  refine r_if_ne (tgt := 9) dX0_factorial_2_4 rfl (fun cH => ?_) (fun cH => ?_)
  · replace H := H.1 cH
    refine r_aload_n dX0_factorial_2_9 rfl rfl ?_
    refine m_getF (x := 79) hp fw_X0_326 dX0_factorial_2_10 rfl ly_0 (ff_0_20 ly_0) ?_
    refine r_iload_n dX0_factorial_2_13 rfl rfl ?_
    obtain ⟨r2, er2⟩ : ∃ y, y = 1185 + 27 * (x1).toNatClampNeg := ⟨_, rfl⟩
    have hir2 := H.1
    replace H := H.2 r2 er2
    have tLr2 := la_79 hir2 er2
    refine m_aalF (x := r2) hp dX0_factorial_2_14 (lf_0_20 ly_0) rfl rfl (lu_0_20 ly_0) hir2 (fa_79 hir2 er2) ?_
    refine m_getI hp fw_X0_509 dX0_factorial_2_15 rfl tLr2 ?_
    refine r_iconst (v := (2 : Int32)) dX0_factorial_2_18 rfl ?_
    refine r_icmp_eq (tgt := 24) dX0_factorial_2_19 rfl (fun cH => ?_) (fun cH => ?_)
    · replace H := H.1 cH
      refine r_aload_n dX0_factorial_2_24 rfl rfl ?_
      refine m_getF (x := 79) hp fw_X0_326 dX0_factorial_2_25 rfl ly_0 (ff_0_20 ly_0) ?_
      refine r_iload_n dX0_factorial_2_28 rfl rfl ?_
      obtain ⟨r3, er3⟩ : ∃ y, y = 1185 + 27 * (x1).toNatClampNeg := ⟨_, rfl⟩
      have hir3 := H.1
      replace H := H.2 r3 er3
      have tLr3 := la_79 hir3 er3
      refine m_aalF (x := r3) hp dX0_factorial_2_29 (lf_0_20 ly_0) rfl rfl (lu_0_20 ly_0) hir3 (fa_79 hir3 er3) ?_
      refine m_getF (x := (r3 + 1)) hp fw_X0_512 dX0_factorial_2_30 rfl tLr3 (ff_9_1 tLr3) ?_
      refine r_astore (ls2 := [some (.ref 0), some (.int x1), some (.int x2), some (.int x3), some (.ref (r3 + 1))]) dX0_factorial_2_33 (by decide) rfl ?_
      refine r_iload_n dX0_factorial_2_35 rfl rfl ?_
      refine r_if_lt (tgt := 48) dX0_factorial_2_36 rfl (fun cH => ?_) (fun cH => ?_)
      · replace H := H.1 cH
        refine r_iconst (v := (0 : Int32)) dX0_factorial_2_48 rfl ?_
        exact r_zret dX0_factorial_2_49 rfl rfl (Nat.le_refl _) (Nat.le_refl _) H
      · replace H := H.2 cH
        refine r_iload_n dX0_factorial_2_39 rfl rfl ?_
        refine r_aload dX0_factorial_2_40 rfl ?_
        refine m_getI hp fw_X0_136 dX0_factorial_2_42 rfl (lf_9_1 tLr3) ?_
        refine r_icmp_lt (tgt := 50) dX0_factorial_2_45 rfl (fun cH => ?_) (fun cH => ?_)
        · replace H := H.1 cH
          refine r_iload_n dX0_factorial_2_50 rfl rfl ?_
          refine r_if_ne (tgt := 64) dX0_factorial_2_51 rfl (fun cH => ?_) (fun cH => ?_)
          · replace H := H.1 cH
            refine r_iload_n dX0_factorial_2_64 rfl rfl ?_
            refine r_iconst (v := (1 : Int32)) dX0_factorial_2_65 rfl ?_
            refine r_icmp_ne (tgt := 79) dX0_factorial_2_66 rfl (fun cH => ?_) (fun cH => ?_)
            · replace H := H.1 cH
              refine r_iload_n dX0_factorial_2_79 rfl rfl ?_
              refine r_iconst (v := (2 : Int32)) dX0_factorial_2_80 rfl ?_
              refine r_icmp_ne (tgt := 94) dX0_factorial_2_81 rfl (fun cH => ?_) (fun cH => ?_)
              · replace H := H.1 cH
                refine r_iload_n dX0_factorial_2_94 rfl rfl ?_
                refine r_iconst (v := (3 : Int32)) dX0_factorial_2_95 rfl ?_
                refine r_icmp_ne (tgt := 109) dX0_factorial_2_96 rfl (fun cH => ?_) (fun cH => ?_)
                · replace H := H.1 cH
                  refine r_iconst (v := (0 : Int32)) dX0_factorial_2_109 rfl ?_
                  exact r_zret dX0_factorial_2_110 rfl rfl (Nat.le_refl _) (Nat.le_refl _) H
                · replace H := H.2 cH
                  refine r_aload dX0_factorial_2_99 rfl ?_
                  refine m_getF (x := (r3 + 10)) hp fw_X0_149 dX0_factorial_2_101 rfl (lf_9_1 tLr3) (ff_5_7 (lf_9_1 tLr3)) ?_
                  refine r_iload_n dX0_factorial_2_104 rfl rfl ?_
                  refine m_iald hp dX0_factorial_2_105 (lf_5_7 (lf_9_1 tLr3)) H.1 ?_
                  replace H := H.2
                  refine r_goto (tgt := 110) dX0_factorial_2_106 rfl ?_
                  exact r_zret dX0_factorial_2_110 rfl rfl (Nat.le_refl _) (Nat.le_refl _) H
              · replace H := H.2 cH
                refine r_aload dX0_factorial_2_84 rfl ?_
                refine m_getF (x := (r3 + 9)) hp fw_X0_146 dX0_factorial_2_86 rfl (lf_9_1 tLr3) (ff_5_6 (lf_9_1 tLr3)) ?_
                refine r_iload_n dX0_factorial_2_89 rfl rfl ?_
                refine m_iald hp dX0_factorial_2_90 (lf_5_6 (lf_9_1 tLr3)) H.1 ?_
                replace H := H.2
                refine r_goto (tgt := 110) dX0_factorial_2_91 rfl ?_
                exact r_zret dX0_factorial_2_110 rfl rfl (Nat.le_refl _) (Nat.le_refl _) H
            · replace H := H.2 cH
              refine r_aload dX0_factorial_2_69 rfl ?_
              refine m_getF (x := (r3 + 8)) hp fw_X0_143 dX0_factorial_2_71 rfl (lf_9_1 tLr3) (ff_5_5 (lf_9_1 tLr3)) ?_
              refine r_iload_n dX0_factorial_2_74 rfl rfl ?_
              refine m_iald hp dX0_factorial_2_75 (lf_5_5 (lf_9_1 tLr3)) H.1 ?_
              replace H := H.2
              refine r_goto (tgt := 110) dX0_factorial_2_76 rfl ?_
              exact r_zret dX0_factorial_2_110 rfl rfl (Nat.le_refl _) (Nat.le_refl _) H
          · replace H := H.2 cH
            refine r_aload dX0_factorial_2_54 rfl ?_
            refine m_getF (x := (r3 + 7)) hp fw_X0_139 dX0_factorial_2_56 rfl (lf_9_1 tLr3) (ff_5_4 (lf_9_1 tLr3)) ?_
            refine r_iload_n dX0_factorial_2_59 rfl rfl ?_
            refine m_iald hp dX0_factorial_2_60 (lf_5_4 (lf_9_1 tLr3)) H.1 ?_
            replace H := H.2
            refine r_goto (tgt := 110) dX0_factorial_2_61 rfl ?_
            exact r_zret dX0_factorial_2_110 rfl rfl (Nat.le_refl _) (Nat.le_refl _) H
        · replace H := H.2 cH
          refine r_iconst (v := (0 : Int32)) dX0_factorial_2_48 rfl ?_
          exact r_zret dX0_factorial_2_49 rfl rfl (Nat.le_refl _) (Nat.le_refl _) H
    · replace H := H.2 cH
      refine r_iconst (v := (0 : Int32)) dX0_factorial_2_22 rfl ?_
      exact r_zret dX0_factorial_2_23 rfl rfl (Nat.le_refl _) (Nat.le_refl _) H
  · replace H := H.2 cH
    refine r_iconst (v := (-1 : Int32)) dX0_factorial_2_7 rfl ?_
    exact r_zret dX0_factorial_2_8 rfl rfl (Nat.le_refl _) (Nat.le_refl _) H
abbrev W_X0_value (g : GX) (d : Nat) (av : List Value) (Q : QT) (n : Nat) (pc : Nat) (ls : LV) (stk : List Value) (h : Hp) : Prop := RJ g m_X0_value (d + 1) 0 0 av Q pc ls stk n h 0 0
theorem s_X0_value_0 {g : GX} {d : Nat} {av : List Value} {Q : QT} {n : Nat} {h : Hp} {x1 : Int32} {x2 : Int32} {x3 : Int32} (hp : g.2.2.2.2 = true)  (H : CallI g m_X0_isSlot d [.int x1] n h (fun v1 h1 => (((¬ v1 = (0 : Int32)) → (CallI g m_X0_hasItem d [.ref 0, .int x1] n h1 (fun v2 h2 => (((¬ v2 = (0 : Int32)) → (vp_in x1 12 ∧ ∀ r3, r3 = 1185 + 27 * (x1).toNatClampNeg → (CallI g m_X0_valueOf d [.ref 0, .ref (r3 + 1), .int x2, .int x3] n h2 (fun v4 h4 => (Q (some (.int v4)) n h4))))) ∧ ((v2 = (0 : Int32)) → (Q (some (.int (-3 : Int32))) n h2)))))) ∧ ((v1 = (0 : Int32)) → (Q (some (.int (-1 : Int32))) n h1))))) : W_X0_value g d av Q n 0 [some (.ref 0), some (.int x1), some (.int x2), some (.int x3)] [] h := by
  refine r_iload_n dX0_value_0 rfl rfl ?_
  refine k_SI (As := [.int x1]) (stk := []) cs_X0_519 dX0_value_1 rfl (Nat.le_of_ble_eq_true rfl) (H.mono (fun v1 h1 H => ?_)) ⟨Nat.le_refl _, Nat.le_refl _⟩
  refine r_if_ne (tgt := 9) dX0_value_4 rfl (fun cH => ?_) (fun cH => ?_)
  · replace H := H.1 cH
    refine r_aload_n dX0_value_9 rfl rfl ?_
    refine r_iload_n dX0_value_10 rfl rfl ?_
    refine k_VI (As := [.int x1]) (stk := []) hp cv_X0_546 dX0_value_11 rfl (Nat.le_of_ble_eq_true rfl) ly_0 (H.mono (fun v2 h2 H => ?_)) ⟨Nat.le_refl _, Nat.le_refl _⟩
    refine r_if_ne (tgt := 22) dX0_value_14 rfl (fun cH => ?_) (fun cH => ?_)
    · replace H := H.1 cH
      refine r_aload_n dX0_value_22 rfl rfl ?_
      refine r_aload_n dX0_value_23 rfl rfl ?_
      refine m_getF (x := 79) hp fw_X0_326 dX0_value_24 rfl ly_0 (ff_0_20 ly_0) ?_
      refine r_iload_n dX0_value_27 rfl rfl ?_
      obtain ⟨r3, er3⟩ : ∃ y, y = 1185 + 27 * (x1).toNatClampNeg := ⟨_, rfl⟩
      have hir3 := H.1
      replace H := H.2 r3 er3
      have tLr3 := la_79 hir3 er3
      refine m_aalF (x := r3) hp dX0_value_28 (lf_0_20 ly_0) rfl rfl (lu_0_20 ly_0) hir3 (fa_79 hir3 er3) ?_
      refine m_getF (x := (r3 + 1)) hp fw_X0_512 dX0_value_29 rfl tLr3 (ff_9_1 tLr3) ?_
      refine r_iload_n dX0_value_32 rfl rfl ?_
      refine r_iload_n dX0_value_33 rfl rfl ?_
      refine k_VI (As := [.ref (r3 + 1), .int x2, .int x3]) (stk := []) hp cv_X0_595 dX0_value_34 rfl (Nat.le_of_ble_eq_true rfl) ly_0 (H.mono (fun v4 h4 H => ?_)) ⟨Nat.le_refl _, Nat.le_refl _⟩
      exact r_zret dX0_value_37 rfl rfl (Nat.le_refl _) (Nat.le_refl _) H
    · replace H := H.2 cH
      refine r_bipush (v := (-3 : Int32)) dX0_value_17 rfl ?_
      refine r_goto (tgt := 37) dX0_value_19 rfl ?_
      exact r_zret dX0_value_37 rfl rfl (Nat.le_refl _) (Nat.le_refl _) H
  · replace H := H.2 cH
    refine r_iconst (v := (-1 : Int32)) dX0_value_7 rfl ?_
    exact r_zret dX0_value_8 rfl rfl (Nat.le_refl _) (Nat.le_refl _) H
abbrev W_X0_valueOf (g : GX) (d : Nat) (av : List Value) (Q : QT) (n : Nat) (pc : Nat) (ls : LV) (stk : List Value) (h : Hp) : Prop := RJ g m_X0_valueOf (d + 1) 0 0 av Q pc ls stk n h 0 0
theorem s_X0_valueOf_0 {g : GX} {d : Nat} {av : List Value} {Q : QT} {n : Nat} {h : Hp} {a1 : Nat} {x2 : Int32} {x3 : Int32} (hp : g.2.2.2.2 = true) (t1 : lay a1 = (0, 5, 8)) (H : CallI g m_X5_isTerm d [.ref a1] n h (fun v1 h1 => (((¬ v1 = (0 : Int32)) → (CallI g m_X0_within d [.int x2, .int (0 : Int32), .int (500 : Int32)] n h1 (fun v2 h2 => (((v2 = (0 : Int32)) → (Q (some (.int (-1 : Int32))) n h2)) ∧ ((¬ v2 = (0 : Int32)) → (CallI g m_X0_within d [.int x3, .int (0 : Int32), .int (500 : Int32)] n h2 (fun v3 h3 => (((¬ v3 = (0 : Int32)) → (CallI g m_X0_valueOf_2 d [.ref (a1 + 1), .int x2, .int x3] n h3 (fun v4 h4 => (W_X0_valueOf g d av Q n 64 [some (.ref 0), some (.ref a1), some (.int x2), some (.int x3), some (.int v4), some (.int (0 : Int32)), some (.int (0 : Int32)), none] [] h4)))) ∧ ((v3 = (0 : Int32)) → (Q (some (.int (-1 : Int32))) n h3)))))))))) ∧ ((v1 = (0 : Int32)) → (CallI g m_X0_rest d [.int x2] n h1 (fun v5 h5 => (CallI g m_X0_rest d [.int x3] n h5 (fun v6 h6 => (CallI g m_X0_valueOf_2 d [.ref (a1 + 1), .int v5, .int v6] n h6 (fun v7 h7 => (Q (some (.int v7)) n h7))))))))))) : W_X0_valueOf g d av Q n 0 [some (.ref 0), some (.ref a1), some (.int x2), some (.int x3), none, none, none, none] [] h := by
  refine r_aload_n dX0_valueOf_0 rfl rfl ?_
  refine k_VI (As := []) (stk := []) hp cv_X0_177 dX0_valueOf_1 rfl (Nat.le_of_ble_eq_true rfl) t1 (H.mono (fun v1 h1 H => ?_)) ⟨Nat.le_refl _, Nat.le_refl _⟩
  refine r_if_ne (tgt := 23) dX0_valueOf_4 rfl (fun cH => ?_) (fun cH => ?_)
  · replace H := H.1 cH
    refine r_iload_n dX0_valueOf_23 rfl rfl ?_
    refine r_iconst (v := (0 : Int32)) dX0_valueOf_24 rfl ?_
    refine r_sipush (v := (500 : Int32)) dX0_valueOf_25 rfl ?_
    refine k_SI (As := [.int x2, .int (0 : Int32), .int (500 : Int32)]) (stk := []) cs_X0_173 dX0_valueOf_28 rfl (Nat.le_of_ble_eq_true rfl) (H.mono (fun v2 h2 H => ?_)) ⟨Nat.le_refl _, Nat.le_refl _⟩
    refine r_if_eq (tgt := 45) dX0_valueOf_31 rfl (fun cH => ?_) (fun cH => ?_)
    · replace H := H.1 cH
      refine r_iconst (v := (-1 : Int32)) dX0_valueOf_45 rfl ?_
      exact r_zret dX0_valueOf_46 rfl rfl (Nat.le_refl _) (Nat.le_refl _) H
    · replace H := H.2 cH
      refine r_iload_n dX0_valueOf_34 rfl rfl ?_
      refine r_iconst (v := (0 : Int32)) dX0_valueOf_35 rfl ?_
      refine r_sipush (v := (500 : Int32)) dX0_valueOf_36 rfl ?_
      refine k_SI (As := [.int x3, .int (0 : Int32), .int (500 : Int32)]) (stk := []) cs_X0_173 dX0_valueOf_39 rfl (Nat.le_of_ble_eq_true rfl) (H.mono (fun v3 h3 H => ?_)) ⟨Nat.le_refl _, Nat.le_refl _⟩
      refine r_if_ne (tgt := 47) dX0_valueOf_42 rfl (fun cH => ?_) (fun cH => ?_)
      · replace H := H.1 cH
        refine r_aload_n dX0_valueOf_47 rfl rfl ?_
        refine m_getF (x := (a1 + 1)) hp fw_X0_110 dX0_valueOf_48 rfl t1 (ff_5_0 t1) ?_
        refine r_iload_n dX0_valueOf_51 rfl rfl ?_
        refine r_iload_n dX0_valueOf_52 rfl rfl ?_
        refine k_SI (As := [.ref (a1 + 1), .int x2, .int x3]) (stk := []) cs_X0_588 dX0_valueOf_53 rfl (Nat.le_of_ble_eq_true rfl) (H.mono (fun v4 h4 H => ?_)) ⟨Nat.le_refl _, Nat.le_refl _⟩
        refine r_istore (ls2 := [some (.ref 0), some (.ref a1), some (.int x2), some (.int x3), some (.int v4), none, none, none]) dX0_valueOf_56 (by decide) rfl ?_
        refine r_iconst (v := (0 : Int32)) dX0_valueOf_58 rfl ?_
        refine r_istore (ls2 := [some (.ref 0), some (.ref a1), some (.int x2), some (.int x3), some (.int v4), some (.int (0 : Int32)), none, none]) dX0_valueOf_59 (by decide) rfl ?_
        refine r_iconst (v := (0 : Int32)) dX0_valueOf_61 rfl ?_
        refine r_istore (ls2 := [some (.ref 0), some (.ref a1), some (.int x2), some (.int x3), some (.int v4), some (.int (0 : Int32)), some (.int (0 : Int32)), none]) dX0_valueOf_62 (by decide) rfl ?_
        exact H
      · replace H := H.2 cH
        refine r_iconst (v := (-1 : Int32)) dX0_valueOf_45 rfl ?_
        exact r_zret dX0_valueOf_46 rfl rfl (Nat.le_refl _) (Nat.le_refl _) H
  · replace H := H.2 cH
    refine r_aload_n dX0_valueOf_7 rfl rfl ?_
    refine m_getF (x := (a1 + 1)) hp fw_X0_110 dX0_valueOf_8 rfl t1 (ff_5_0 t1) ?_
    refine r_iload_n dX0_valueOf_11 rfl rfl ?_
    refine k_SI (As := [.int x2]) (stk := [.ref (a1 + 1)]) cs_X0_543 dX0_valueOf_12 rfl (Nat.le_of_ble_eq_true rfl) (H.mono (fun v5 h5 H => ?_)) ⟨Nat.le_refl _, Nat.le_refl _⟩
    refine r_iload_n dX0_valueOf_15 rfl rfl ?_
    refine k_SI (As := [.int x3]) (stk := [.int v5, .ref (a1 + 1)]) cs_X0_543 dX0_valueOf_16 rfl (Nat.le_of_ble_eq_true rfl) (H.mono (fun v6 h6 H => ?_)) ⟨Nat.le_refl _, Nat.le_refl _⟩
    refine k_SI (As := [.ref (a1 + 1), .int v5, .int v6]) (stk := []) cs_X0_588 dX0_valueOf_19 rfl (Nat.le_of_ble_eq_true rfl) (H.mono (fun v7 h7 H => ?_)) ⟨Nat.le_refl _, Nat.le_refl _⟩
    exact r_zret dX0_valueOf_22 rfl rfl (Nat.le_refl _) (Nat.le_refl _) H
theorem s_X0_valueOf_64 {g : GX} {d : Nat} {av : List Value} {Q : QT} {n : Nat} {h : Hp} {a1 : Nat} {x2 : Int32} {x3 : Int32} {x4 : Int32} {x5 : Int32} {x6 : Int32} (hp : g.2.2.2.2 = true) (t1 : lay a1 = (0, 5, 8)) (H : (((ri h a1 3) ≤ x6) → (W_X0_valueOf g d av Q n 181 [none, some (.ref a1), some (.int x2), some (.int x3), some (.int x4), some (.int x5), none, none] [] h)) ∧ ((¬ (ri h a1 3) ≤ x6) → (((x4 = (-1 : Int32)) → (W_X0_valueOf g d av Q n 181 [none, some (.ref a1), some (.int x2), some (.int x3), some (.int x4), some (.int x5), none, none] [] h)) ∧ ((¬ x4 = (-1 : Int32)) → (vp_in x6 60 ∧ (vp_in x6 60 ∧ (vp_in x6 60 ∧ ((((0 : Int32) ≤ ((((ri h (a1 + 6) (x6).toNatClampNeg) * x2) + ((ri h (a1 + 7) (x6).toNatClampNeg) * x3)) + (ri h (a1 + 8) (x6).toNatClampNeg))) → (W_X0_valueOf g d av Q n 125 [some (.ref 0), some (.ref a1), some (.int x2), some (.int x3), some (.int x4), some (.int x5), some (.int x6), some (.int ((((ri h (a1 + 6) (x6).toNatClampNeg) * x2) + ((ri h (a1 + 7) (x6).toNatClampNeg) * x3)) + (ri h (a1 + 8) (x6).toNatClampNeg)))] [] h)) ∧ ((¬ (0 : Int32) ≤ ((((ri h (a1 + 6) (x6).toNatClampNeg) * x2) + ((ri h (a1 + 7) (x6).toNatClampNeg) * x3)) + (ri h (a1 + 8) (x6).toNatClampNeg))) → (vp_in x6 60 ∧ ((((ri h (a1 + 9) (x6).toNatClampNeg) ≤ (0 : Int32)) → (W_X0_valueOf g d av Q n 125 [some (.ref 0), some (.ref a1), some (.int x2), some (.int x3), some (.int x4), some (.int x5), some (.int x6), some (.int ((((ri h (a1 + 6) (x6).toNatClampNeg) * x2) + ((ri h (a1 + 7) (x6).toNatClampNeg) * x3)) + (ri h (a1 + 8) (x6).toNatClampNeg)))] [] h)) ∧ ((¬ (ri h (a1 + 9) (x6).toNatClampNeg) ≤ (0 : Int32)) → (Q (some (.int (-1 : Int32))) n h))))))))))))) : W_X0_valueOf g d av Q n 64 [some (.ref 0), some (.ref a1), some (.int x2), some (.int x3), some (.int x4), some (.int x5), some (.int x6), none] [] h := by
  refine r_iload dX0_valueOf_64 rfl ?_
  refine r_aload_n dX0_valueOf_66 rfl rfl ?_
  refine m_getI hp fw_X0_136 dX0_valueOf_67 rfl t1 ?_
  refine r_icmp_ge (tgt := 181) dX0_valueOf_70 rfl (fun cH => ?_) (fun cH => ?_)
  · replace H := H.1 cH
    refine r_prune [false, true, true, true, true, true, false, false] (ls2 := [none, some (.ref a1), some (.int x2), some (.int x3), some (.int x4), some (.int x5), none, none]) rfl ?_
    exact H
  · replace H := H.2 cH
    refine r_iload dX0_valueOf_73 rfl ?_
    refine r_iconst (v := (-1 : Int32)) dX0_valueOf_75 rfl ?_
    refine r_icmp_eq (tgt := 181) dX0_valueOf_76 rfl (fun cH => ?_) (fun cH => ?_)
    · replace H := H.1 cH
      refine r_prune [false, true, true, true, true, true, false, false] (ls2 := [none, some (.ref a1), some (.int x2), some (.int x3), some (.int x4), some (.int x5), none, none]) rfl ?_
      exact H
    · replace H := H.2 cH
      refine r_aload_n dX0_valueOf_79 rfl rfl ?_
      refine m_getF (x := (a1 + 6)) hp fw_X0_139 dX0_valueOf_80 rfl t1 (ff_5_4 t1) ?_
      refine r_iload dX0_valueOf_83 rfl ?_
      refine m_iald hp dX0_valueOf_85 (lf_5_4 t1) H.1 ?_
      replace H := H.2
      refine r_iload_n dX0_valueOf_86 rfl rfl ?_
      refine r_imul dX0_valueOf_87 ?_
      refine r_aload_n dX0_valueOf_88 rfl rfl ?_
      refine m_getF (x := (a1 + 7)) hp fw_X0_143 dX0_valueOf_89 rfl t1 (ff_5_5 t1) ?_
      refine r_iload dX0_valueOf_92 rfl ?_
      refine m_iald hp dX0_valueOf_94 (lf_5_5 t1) H.1 ?_
      replace H := H.2
      refine r_iload_n dX0_valueOf_95 rfl rfl ?_
      refine r_imul dX0_valueOf_96 ?_
      refine r_iadd dX0_valueOf_97 ?_
      refine r_aload_n dX0_valueOf_98 rfl rfl ?_
      refine m_getF (x := (a1 + 8)) hp fw_X0_146 dX0_valueOf_99 rfl t1 (ff_5_6 t1) ?_
      refine r_iload dX0_valueOf_102 rfl ?_
      refine m_iald hp dX0_valueOf_104 (lf_5_6 t1) H.1 ?_
      replace H := H.2
      refine r_iadd dX0_valueOf_105 ?_
      refine r_istore (ls2 := [some (.ref 0), some (.ref a1), some (.int x2), some (.int x3), some (.int x4), some (.int x5), some (.int x6), some (.int ((((ri h (a1 + 6) (x6).toNatClampNeg) * x2) + ((ri h (a1 + 7) (x6).toNatClampNeg) * x3)) + (ri h (a1 + 8) (x6).toNatClampNeg)))]) dX0_valueOf_106 (by decide) rfl ?_
      refine r_iload dX0_valueOf_108 rfl ?_
      refine r_if_ge (tgt := 125) dX0_valueOf_110 rfl (fun cH => ?_) (fun cH => ?_)
      · replace H := H.1 cH
        exact H
      · replace H := H.2 cH
        refine r_aload_n dX0_valueOf_113 rfl rfl ?_
        refine m_getF (x := (a1 + 9)) hp fw_X0_149 dX0_valueOf_114 rfl t1 (ff_5_7 t1) ?_
        refine r_iload dX0_valueOf_117 rfl ?_
        refine m_iald hp dX0_valueOf_119 (lf_5_7 t1) H.1 ?_
        replace H := H.2
        refine r_if_le (tgt := 125) dX0_valueOf_120 rfl (fun cH => ?_) (fun cH => ?_)
        · replace H := H.1 cH
          exact H
        · replace H := H.2 cH
          refine r_iconst (v := (-1 : Int32)) dX0_valueOf_123 rfl ?_
          exact r_zret dX0_valueOf_124 rfl rfl (Nat.le_refl _) (Nat.le_refl _) H
theorem s_X0_valueOf_125 {g : GX} {d : Nat} {av : List Value} {Q : QT} {n : Nat} {h : Hp} {a1 : Nat} {x2 : Int32} {x3 : Int32} {x4 : Int32} {x5 : Int32} {x6 : Int32} {x7 : Int32} (hp : g.2.2.2.2 = true) (t1 : lay a1 = (0, 5, 8)) (H : ((¬ x5 = (0 : Int32)) → (W_X0_valueOf g d av Q n 135 [some (.ref 0), some (.ref a1), some (.int x2), some (.int x3), some (.int x4), none, some (.int x6), some (.int x7)] [] h)) ∧ ((x5 = (0 : Int32)) → ((((0 : Int32) ≤ x7) → (W_X0_valueOf g d av Q n 140 [some (.ref 0), some (.ref a1), some (.int x2), some (.int x3), some (.int x4), none, some (.int x6), some (.int x7)] [.int (0 : Int32)] h)) ∧ ((¬ (0 : Int32) ≤ x7) → (W_X0_valueOf g d av Q n 135 [some (.ref 0), some (.ref a1), some (.int x2), some (.int x3), some (.int x4), none, some (.int x6), some (.int x7)] [] h))))) : W_X0_valueOf g d av Q n 125 [some (.ref 0), some (.ref a1), some (.int x2), some (.int x3), some (.int x4), some (.int x5), some (.int x6), some (.int x7)] [] h := by
  refine r_iload dX0_valueOf_125 rfl ?_
  refine r_if_ne (tgt := 135) dX0_valueOf_127 rfl (fun cH => ?_) (fun cH => ?_)
  · replace H := H.1 cH
    refine r_prune [true, true, true, true, true, false, true, true] (ls2 := [some (.ref 0), some (.ref a1), some (.int x2), some (.int x3), some (.int x4), none, some (.int x6), some (.int x7)]) rfl ?_
    exact H
  · replace H := H.2 cH
    refine r_iload dX0_valueOf_130 rfl ?_
    refine r_if_ge (tgt := 139) dX0_valueOf_132 rfl (fun cH => ?_) (fun cH => ?_)
    · replace H := H.1 cH
      refine r_iconst (v := (0 : Int32)) dX0_valueOf_139 rfl ?_
      refine r_prune [true, true, true, true, true, false, true, true] (ls2 := [some (.ref 0), some (.ref a1), some (.int x2), some (.int x3), some (.int x4), none, some (.int x6), some (.int x7)]) rfl ?_
      exact H
    · replace H := H.2 cH
      refine r_prune [true, true, true, true, true, false, true, true] (ls2 := [some (.ref 0), some (.ref a1), some (.int x2), some (.int x3), some (.int x4), none, some (.int x6), some (.int x7)]) rfl ?_
      exact H
theorem s_X0_valueOf_135 {g : GX} {d : Nat} {av : List Value} {Q : QT} {n : Nat} {h : Hp} {a1 : Nat} {x2 : Int32} {x3 : Int32} {x4 : Int32} {x6 : Int32} {x7 : Int32} (hp : g.2.2.2.2 = true) (t1 : lay a1 = (0, 5, 8)) (H : W_X0_valueOf g d av Q n 140 [some (.ref 0), some (.ref a1), some (.int x2), some (.int x3), some (.int x4), none, some (.int x6), some (.int x7)] [.int (1 : Int32)] h) : W_X0_valueOf g d av Q n 135 [some (.ref 0), some (.ref a1), some (.int x2), some (.int x3), some (.int x4), none, some (.int x6), some (.int x7)] [] h := by
  refine r_iconst (v := (1 : Int32)) dX0_valueOf_135 rfl ?_
  refine r_goto (tgt := 140) dX0_valueOf_136 rfl ?_
  exact H
theorem s_X0_valueOf_140 {g : GX} {d : Nat} {av : List Value} {Q : QT} {n : Nat} {h : Hp} {a1 : Nat} {x2 : Int32} {x3 : Int32} {x4 : Int32} {x6 : Int32} {x7 : Int32} {xs0 : Int32} (hp : g.2.2.2.2 = true) (t1 : lay a1 = (0, 5, 8)) (H : (((0 : Int32) ≤ x7) → (CallI g m_X0_factorialOf d [.ref 0, .int x7] n h (fun v1 h1 => (vp_in x6 60 ∧ (CallI g m_X0_signedPower d [.int v1, .int (ri h1 (a1 + 9) (x6).toNatClampNeg)] n h1 (fun v2 h2 => (CallI g m_X0_times d [.int x4, .int v2] n h2 (fun v3 h3 => (W_X0_valueOf g d av Q n 173 [some (.ref 0), some (.ref a1), some (.int x2), some (.int x3), none, some (.int xs0), some (.int x6), none] [.int v3] h3))))))))) ∧ ((¬ (0 : Int32) ≤ x7) → (W_X0_valueOf g d av Q n 173 [some (.ref 0), some (.ref a1), some (.int x2), some (.int x3), none, some (.int xs0), some (.int x6), none] [.int x4] h))) : W_X0_valueOf g d av Q n 140 [some (.ref 0), some (.ref a1), some (.int x2), some (.int x3), some (.int x4), none, some (.int x6), some (.int x7)] [.int xs0] h := by
  refine r_istore (ls2 := [some (.ref 0), some (.ref a1), some (.int x2), some (.int x3), some (.int x4), some (.int xs0), some (.int x6), some (.int x7)]) dX0_valueOf_140 (by decide) rfl ?_
  refine r_iload dX0_valueOf_142 rfl ?_
  refine r_if_ge (tgt := 152) dX0_valueOf_144 rfl (fun cH => ?_) (fun cH => ?_)
  · replace H := H.1 cH
    refine r_iload dX0_valueOf_152 rfl ?_
    refine r_aload_n dX0_valueOf_154 rfl rfl ?_
    refine r_iload dX0_valueOf_155 rfl ?_
    refine k_VI (As := [.int x7]) (stk := [.int x4]) hp cv_X0_592 dX0_valueOf_157 rfl (Nat.le_of_ble_eq_true rfl) ly_0 (H.mono (fun v1 h1 H => ?_)) ⟨Nat.le_refl _, Nat.le_refl _⟩
    refine r_aload_n dX0_valueOf_160 rfl rfl ?_
    refine m_getF (x := (a1 + 9)) hp fw_X0_149 dX0_valueOf_161 rfl t1 (ff_5_7 t1) ?_
    refine r_iload dX0_valueOf_164 rfl ?_
    refine m_iald hp dX0_valueOf_166 (lf_5_7 t1) H.1 ?_
    replace H := H.2
    refine k_SI (As := [.int v1, .int (ri h1 (a1 + 9) (x6).toNatClampNeg)]) (stk := [.int x4]) cs_X0_290 dX0_valueOf_167 rfl (Nat.le_of_ble_eq_true rfl) (H.mono (fun v2 h2 H => ?_)) ⟨Nat.le_refl _, Nat.le_refl _⟩
    refine k_SI (As := [.int x4, .int v2]) (stk := []) cs_X0_6 dX0_valueOf_170 rfl (Nat.le_of_ble_eq_true rfl) (H.mono (fun v3 h3 H => ?_)) ⟨Nat.le_refl _, Nat.le_refl _⟩
    refine r_prune [true, true, true, true, false, true, true, false] (ls2 := [some (.ref 0), some (.ref a1), some (.int x2), some (.int x3), none, some (.int xs0), some (.int x6), none]) rfl ?_
    exact H
  · replace H := H.2 cH
    refine r_iload dX0_valueOf_147 rfl ?_
    refine r_goto (tgt := 173) dX0_valueOf_149 rfl ?_
    refine r_prune [true, true, true, true, false, true, true, false] (ls2 := [some (.ref 0), some (.ref a1), some (.int x2), some (.int x3), none, some (.int xs0), some (.int x6), none]) rfl ?_
    exact H
theorem s_X0_valueOf_173 {g : GX} {d : Nat} {av : List Value} {Q : QT} {n : Nat} {h : Hp} {a1 : Nat} {x2 : Int32} {x3 : Int32} {x5 : Int32} {x6 : Int32} {xs0 : Int32} (hp : g.2.2.2.2 = true) (t1 : lay a1 = (0, 5, 8)) (H : W_X0_valueOf g d av Q n 64 [some (.ref 0), some (.ref a1), some (.int x2), some (.int x3), some (.int xs0), some (.int x5), some (.int (x6 + (1 : Int32))), none] [] h) : W_X0_valueOf g d av Q n 173 [some (.ref 0), some (.ref a1), some (.int x2), some (.int x3), none, some (.int x5), some (.int x6), none] [.int xs0] h := by
  refine r_istore (ls2 := [some (.ref 0), some (.ref a1), some (.int x2), some (.int x3), some (.int xs0), some (.int x5), some (.int x6), none]) dX0_valueOf_173 (by decide) rfl ?_
  refine r_iinc (v := (x6 + (1 : Int32))) (ls2 := [some (.ref 0), some (.ref a1), some (.int x2), some (.int x3), some (.int xs0), some (.int x5), some (.int (x6 + (1 : Int32))), none]) dX0_valueOf_175 rfl rfl (by decide) rfl ?_
  refine r_goto (tgt := 64) dX0_valueOf_178 rfl ?_
  exact H
theorem s_X0_valueOf_181 {g : GX} {d : Nat} {av : List Value} {Q : QT} {n : Nat} {h : Hp} {a1 : Nat} {x2 : Int32} {x3 : Int32} {x4 : Int32} {x5 : Int32} (hp : g.2.2.2.2 = true) (t1 : lay a1 = (0, 5, 8)) (H : ((¬ x4 = (-1 : Int32)) → (((x5 = (0 : Int32)) → (CallI g m_X0_power d [.int (ri h a1 1), .long (x2).toInt64] n h (fun v1 h1 => (CallI g m_X0_power d [.int (ri h1 a1 2), .long (x3).toInt64] n h1 (fun v2 h2 => (CallI g m_X0_times d [.int v1, .int v2] n h2 (fun v3 h3 => (CallI g m_X0_times d [.int x4, .int v3] n h3 (fun v4 h4 => (Q (some (.int v4)) n h4)))))))))) ∧ ((¬ x5 = (0 : Int32)) → (Q (some (.int (0 : Int32))) n h)))) ∧ ((x4 = (-1 : Int32)) → (Q (some (.int (-1 : Int32))) n h))) : W_X0_valueOf g d av Q n 181 [none, some (.ref a1), some (.int x2), some (.int x3), some (.int x4), some (.int x5), none, none] [] h := by
  refine r_iload dX0_valueOf_181 rfl ?_
  refine r_iconst (v := (-1 : Int32)) dX0_valueOf_183 rfl ?_
  refine r_icmp_ne (tgt := 189) dX0_valueOf_184 rfl (fun cH => ?_) (fun cH => ?_)
  · replace H := H.1 cH
    refine r_iload dX0_valueOf_189 rfl ?_
    refine r_if_eq (tgt := 198) dX0_valueOf_191 rfl (fun cH => ?_) (fun cH => ?_)
    · replace H := H.1 cH
      refine r_iload dX0_valueOf_198 rfl ?_
      refine r_aload_n dX0_valueOf_200 rfl rfl ?_
      refine m_getI hp fw_X0_130 dX0_valueOf_201 rfl t1 ?_
      refine r_iload_n dX0_valueOf_204 rfl rfl ?_
      refine r_i2l dX0_valueOf_205 ?_
      refine k_SI (As := [.int (ri h a1 1), .long (x2).toInt64]) (stk := [.int x4]) cs_X0_12 dX0_valueOf_206 rfl (Nat.le_of_ble_eq_true rfl) (H.mono (fun v1 h1 H => ?_)) ⟨Nat.le_refl _, Nat.le_refl _⟩
      refine r_aload_n dX0_valueOf_209 rfl rfl ?_
      refine m_getI hp fw_X0_133 dX0_valueOf_210 rfl t1 ?_
      refine r_iload_n dX0_valueOf_213 rfl rfl ?_
      refine r_i2l dX0_valueOf_214 ?_
      refine k_SI (As := [.int (ri h1 a1 2), .long (x3).toInt64]) (stk := [.int v1, .int x4]) cs_X0_12 dX0_valueOf_215 rfl (Nat.le_of_ble_eq_true rfl) (H.mono (fun v2 h2 H => ?_)) ⟨Nat.le_refl _, Nat.le_refl _⟩
      refine k_SI (As := [.int v1, .int v2]) (stk := [.int x4]) cs_X0_6 dX0_valueOf_218 rfl (Nat.le_of_ble_eq_true rfl) (H.mono (fun v3 h3 H => ?_)) ⟨Nat.le_refl _, Nat.le_refl _⟩
      refine k_SI (As := [.int x4, .int v3]) (stk := []) cs_X0_6 dX0_valueOf_221 rfl (Nat.le_of_ble_eq_true rfl) (H.mono (fun v4 h4 H => ?_)) ⟨Nat.le_refl _, Nat.le_refl _⟩
      exact r_zret dX0_valueOf_224 rfl rfl (Nat.le_refl _) (Nat.le_refl _) H
    · replace H := H.2 cH
      refine r_iconst (v := (0 : Int32)) dX0_valueOf_194 rfl ?_
      refine r_goto (tgt := 224) dX0_valueOf_195 rfl ?_
      exact r_zret dX0_valueOf_224 rfl rfl (Nat.le_refl _) (Nat.le_refl _) H
  · replace H := H.2 cH
    refine r_iconst (v := (-1 : Int32)) dX0_valueOf_187 rfl ?_
    exact r_zret dX0_valueOf_188 rfl rfl (Nat.le_refl _) (Nat.le_refl _) H
abbrev W_X0_valueOf_2 (g : GX) (d : Nat) (av : List Value) (Q : QT) (n : Nat) (pc : Nat) (ls : LV) (stk : List Value) (h : Hp) : Prop := RJ g m_X0_valueOf_2 (d + 1) 0 0 av Q pc ls stk n h 0 0
theorem s_X0_valueOf_2_0 {g : GX} {d : Nat} {av : List Value} {Q : QT} {n : Nat} {h : Hp} {a0 : Nat} {x1 : Int32} {x2 : Int32} (hp : g.2.2.2.2 = true) (t0 : lay a0 = (0, 6, 2)) (H : CallI g m_X4_value d [.ref (a0 + 3), .int x1, .int x2] n h (fun v1 h1 => (((¬ v1 = (0 : Int32)) → (CallI g m_X4_value d [.ref (a0 + 1), .int x1, .int x2] n h1 (fun v2 h2 => (CallI g m_X0_inverse d [.int v1] n h2 (fun v3 h3 => (CallI g m_X0_times d [.int v2, .int v3] n h3 (fun v4 h4 => (Q (some (.int v4)) n h4)))))))) ∧ ((v1 = (0 : Int32)) → (Q (some (.int (-1 : Int32))) n h1))))) : W_X0_valueOf_2 g d av Q n 0 [some (.ref a0), some (.int x1), some (.int x2), none] [] h := by
  refine r_aload_n dX0_valueOf_2_0 rfl rfl ?_
  refine m_getF (x := (a0 + 3)) hp fw_X0_94 dX0_valueOf_2_1 rfl t0 (ff_6_1 t0) ?_
  refine r_iload_n dX0_valueOf_2_4 rfl rfl ?_
  refine r_iload_n dX0_valueOf_2_5 rfl rfl ?_
  refine k_VI (As := [.int x1, .int x2]) (stk := []) hp cv_X0_585 dX0_valueOf_2_6 rfl (Nat.le_of_ble_eq_true rfl) (lf_6_1 t0) (H.mono (fun v1 h1 H => ?_)) ⟨Nat.le_refl _, Nat.le_refl _⟩
  refine r_istore_n (ls2 := [some (.ref a0), some (.int x1), some (.int x2), some (.int v1)]) dX0_valueOf_2_9 rfl (by decide) rfl ?_
  refine r_iload_n dX0_valueOf_2_10 rfl rfl ?_
  refine r_if_ne (tgt := 18) dX0_valueOf_2_11 rfl (fun cH => ?_) (fun cH => ?_)
  · replace H := H.1 cH
    refine r_aload_n dX0_valueOf_2_18 rfl rfl ?_
    refine m_getF (x := (a0 + 1)) hp fw_X0_89 dX0_valueOf_2_19 rfl t0 (ff_6_0 t0) ?_
    refine r_iload_n dX0_valueOf_2_22 rfl rfl ?_
    refine r_iload_n dX0_valueOf_2_23 rfl rfl ?_
    refine k_VI (As := [.int x1, .int x2]) (stk := []) hp cv_X0_585 dX0_valueOf_2_24 rfl (Nat.le_of_ble_eq_true rfl) (lf_6_0 t0) (H.mono (fun v2 h2 H => ?_)) ⟨Nat.le_refl _, Nat.le_refl _⟩
    refine r_iload_n dX0_valueOf_2_27 rfl rfl ?_
    refine k_SI (As := [.int v1]) (stk := [.int v2]) cs_X0_74 dX0_valueOf_2_28 rfl (Nat.le_of_ble_eq_true rfl) (H.mono (fun v3 h3 H => ?_)) ⟨Nat.le_refl _, Nat.le_refl _⟩
    refine k_SI (As := [.int v2, .int v3]) (stk := []) cs_X0_6 dX0_valueOf_2_31 rfl (Nat.le_of_ble_eq_true rfl) (H.mono (fun v4 h4 H => ?_)) ⟨Nat.le_refl _, Nat.le_refl _⟩
    exact r_zret dX0_valueOf_2_34 rfl rfl (Nat.le_refl _) (Nat.le_refl _) H
  · replace H := H.2 cH
    refine r_iconst (v := (-1 : Int32)) dX0_valueOf_2_14 rfl ?_
    refine r_goto (tgt := 34) dX0_valueOf_2_15 rfl ?_
    exact r_zret dX0_valueOf_2_34 rfl rfl (Nat.le_refl _) (Nat.le_refl _) H
abbrev W_X0_factorialOf (g : GX) (d : Nat) (av : List Value) (Q : QT) (n : Nat) (pc : Nat) (ls : LV) (stk : List Value) (h : Hp) : Prop := RJ g m_X0_factorialOf (d + 1) 0 0 av Q pc ls stk n h 0 0
theorem s_X0_factorialOf_0 {g : GX} {d : Nat} {av : List Value} {Q : QT} {n : Nat} {h : Hp} {x1 : Int32} (hp : g.2.2.2.2 = true)  (H : vp_in (0 : Int32) 3200 ∧ (((¬ (ri h 92 ((0 : Int32)).toNatClampNeg) = (0 : Int32)) → (vp_in x1 3200 ∧ (Q (some (.int (ri h 92 (x1).toNatClampNeg))) n h))) ∧ (((ri h 92 ((0 : Int32)).toNatClampNeg) = (0 : Int32)) → (vp_in (0 : Int32) 3200 ∧ ∀ h1, h1 = wi h 92 ((0 : Int32)).toNatClampNeg (1 : Int32) → (W_X0_factorialOf g d av Q n 18 [some (.ref 0), some (.int x1), some (.int (1 : Int32))] [] h1))))) : W_X0_factorialOf g d av Q n 0 [some (.ref 0), some (.int x1), none] [] h := by
  refine r_aload_n dX0_factorialOf_0 rfl rfl ?_
  refine m_getF (x := 92) hp fw_X0_339 dX0_factorialOf_1 rfl ly_0 (ff_0_26 ly_0) ?_
  refine r_iconst (v := (0 : Int32)) dX0_factorialOf_4 rfl ?_
  refine m_iald hp dX0_factorialOf_5 (lf_0_26 ly_0) H.1 ?_
  replace H := H.2
  refine r_if_ne (tgt := 51) dX0_factorialOf_6 rfl (fun cH => ?_) (fun cH => ?_)
  · replace H := H.1 cH
    refine r_aload_n dX0_factorialOf_51 rfl rfl ?_
    refine m_getF (x := 92) hp fw_X0_339 dX0_factorialOf_52 rfl ly_0 (ff_0_26 ly_0) ?_
    refine r_iload_n dX0_factorialOf_55 rfl rfl ?_
    refine m_iald hp dX0_factorialOf_56 (lf_0_26 ly_0) H.1 ?_
    replace H := H.2
    exact r_zret dX0_factorialOf_57 rfl rfl (Nat.le_refl _) (Nat.le_refl _) H
  · replace H := H.2 cH
    refine r_aload_n dX0_factorialOf_9 rfl rfl ?_
    refine m_getF (x := 92) hp fw_X0_339 dX0_factorialOf_10 rfl ly_0 (ff_0_26 ly_0) ?_
    refine r_iconst (v := (0 : Int32)) dX0_factorialOf_13 rfl ?_
    refine r_iconst (v := (1 : Int32)) dX0_factorialOf_14 rfl ?_
    refine m_iast hp dX0_factorialOf_15 (lf_0_26 ly_0) H.1 (fun h1 eh1 => ?_)
    replace H := H.2 h1 eh1
    refine r_iconst (v := (1 : Int32)) dX0_factorialOf_16 rfl ?_
    refine r_istore_n (ls2 := [some (.ref 0), some (.int x1), some (.int (1 : Int32))]) dX0_factorialOf_17 rfl (by decide) rfl ?_
    exact H
theorem s_X0_factorialOf_18 {g : GX} {d : Nat} {av : List Value} {Q : QT} {n : Nat} {h : Hp} {x1 : Int32} {x2 : Int32} (hp : g.2.2.2.2 = true)  (H : (((nI 3200) ≤ x2) → (vp_in x1 3200 ∧ (Q (some (.int (ri h 92 (x1).toNatClampNeg))) n h))) ∧ ((¬ (nI 3200) ≤ x2) → (vp_in (x2 - (1 : Int32)) 3200 ∧ (CallI g m_X0_times d [.int (ri h 92 ((x2 - (1 : Int32))).toNatClampNeg), .int x2] n h (fun v1 h1 => (vp_in x2 3200 ∧ ∀ h2, h2 = wi h1 92 (x2).toNatClampNeg v1 → (W_X0_factorialOf g d av Q n 18 [some (.ref 0), some (.int x1), some (.int (x2 + (1 : Int32)))] [] h2))))))) : W_X0_factorialOf g d av Q n 18 [some (.ref 0), some (.int x1), some (.int x2)] [] h := by
  refine r_iload_n dX0_factorialOf_18 rfl rfl ?_
  refine r_aload_n dX0_factorialOf_19 rfl rfl ?_
  refine m_getF (x := 92) hp fw_X0_339 dX0_factorialOf_20 rfl ly_0 (ff_0_26 ly_0) ?_
  refine m_alen hp dX0_factorialOf_23 (lf_0_26 ly_0) (by decide) rfl (lay_ltA (lf_0_26 ly_0)) ?_
  refine r_icmp_ge (tgt := 51) dX0_factorialOf_24 rfl (fun cH => ?_) (fun cH => ?_)
  · replace H := H.1 cH
    refine r_aload_n dX0_factorialOf_51 rfl rfl ?_
    refine m_getF (x := 92) hp fw_X0_339 dX0_factorialOf_52 rfl ly_0 (ff_0_26 ly_0) ?_
    refine r_iload_n dX0_factorialOf_55 rfl rfl ?_
    refine m_iald hp dX0_factorialOf_56 (lf_0_26 ly_0) H.1 ?_
    replace H := H.2
    exact r_zret dX0_factorialOf_57 rfl rfl (Nat.le_refl _) (Nat.le_refl _) H
  · replace H := H.2 cH
    refine r_aload_n dX0_factorialOf_27 rfl rfl ?_
    refine m_getF (x := 92) hp fw_X0_339 dX0_factorialOf_28 rfl ly_0 (ff_0_26 ly_0) ?_
    refine r_iload_n dX0_factorialOf_31 rfl rfl ?_
    refine r_aload_n dX0_factorialOf_32 rfl rfl ?_
    refine m_getF (x := 92) hp fw_X0_339 dX0_factorialOf_33 rfl ly_0 (ff_0_26 ly_0) ?_
    refine r_iload_n dX0_factorialOf_36 rfl rfl ?_
    refine r_iconst (v := (1 : Int32)) dX0_factorialOf_37 rfl ?_
    refine r_isub dX0_factorialOf_38 ?_
    refine m_iald hp dX0_factorialOf_39 (lf_0_26 ly_0) H.1 ?_
    replace H := H.2
    refine r_iload_n dX0_factorialOf_40 rfl rfl ?_
    refine k_SI (As := [.int (ri h 92 ((x2 - (1 : Int32))).toNatClampNeg), .int x2]) (stk := [.int x2, .ref 92]) cs_X0_6 dX0_factorialOf_41 rfl (Nat.le_of_ble_eq_true rfl) (H.mono (fun v1 h1 H => ?_)) ⟨Nat.le_refl _, Nat.le_refl _⟩
    refine m_iast hp dX0_factorialOf_44 (lf_0_26 ly_0) H.1 (fun h2 eh2 => ?_)
    replace H := H.2 h2 eh2
    refine r_iinc (v := (x2 + (1 : Int32))) (ls2 := [some (.ref 0), some (.int x1), some (.int (x2 + (1 : Int32)))]) dX0_factorialOf_45 rfl rfl (by decide) rfl ?_
    refine r_goto (tgt := 18) dX0_factorialOf_48 rfl ?_
    exact H
abbrev W_X0_sum_2 (g : GX) (d : Nat) (av : List Value) (Q : QT) (n : Nat) (pc : Nat) (ls : LV) (stk : List Value) (h : Hp) : Prop := RJ g m_X0_sum_2 (d + 1) 0 0 av Q pc ls stk n h 0 0
theorem s_X0_sum_2_0 {g : GX} {d : Nat} {av : List Value} {Q : QT} {n : Nat} {h : Hp} {x1 : Int32} {x2 : Int32} {x3 : Int32} {x4 : Int32} (hp : g.2.2.2.2 = true)  (H : CallI g m_X0_isSlot d [.int x1] n h (fun v1 h1 => (((¬ v1 = (0 : Int32)) → (CallI g m_X0_hasItem d [.ref 0, .int x1] n h1 (fun v2 h2 => (((¬ v2 = (0 : Int32)) → (CallI g m_X0_arePlaces d [.int x2, .int x3, .int x4] n h2 (fun v3 h3 => (((v3 = (0 : Int32)) → (Q (some (.int (-1 : Int32))) n h3)) ∧ ((¬ v3 = (0 : Int32)) → (vp_in x1 12 ∧ ∀ r4, r4 = 1185 + 27 * (x1).toNatClampNeg → (CallI g m_X0_sumOf d [.ref 0, .ref (r4 + 1), .int x2, .int x3, .int x4] n h3 (fun v5 h5 => (Q (some (.int v5)) n h5))))))))) ∧ ((v2 = (0 : Int32)) → (Q (some (.int (-3 : Int32))) n h2)))))) ∧ ((v1 = (0 : Int32)) → (Q (some (.int (-1 : Int32))) n h1))))) : W_X0_sum_2 g d av Q n 0 [some (.ref 0), some (.int x1), some (.int x2), some (.int x3), some (.int x4)] [] h := by
  refine r_iload_n dX0_sum_2_0 rfl rfl ?_
  refine k_SI (As := [.int x1]) (stk := []) cs_X0_519 dX0_sum_2_1 rfl (Nat.le_of_ble_eq_true rfl) (H.mono (fun v1 h1 H => ?_)) ⟨Nat.le_refl _, Nat.le_refl _⟩
  refine r_if_ne (tgt := 9) dX0_sum_2_4 rfl (fun cH => ?_) (fun cH => ?_)
  · replace H := H.1 cH
    refine r_aload_n dX0_sum_2_9 rfl rfl ?_
    refine r_iload_n dX0_sum_2_10 rfl rfl ?_
    refine k_VI (As := [.int x1]) (stk := []) hp cv_X0_546 dX0_sum_2_11 rfl (Nat.le_of_ble_eq_true rfl) ly_0 (H.mono (fun v2 h2 H => ?_)) ⟨Nat.le_refl _, Nat.le_refl _⟩
    refine r_if_ne (tgt := 20) dX0_sum_2_14 rfl (fun cH => ?_) (fun cH => ?_)
    · replace H := H.1 cH
      refine r_iload_n dX0_sum_2_20 rfl rfl ?_
      refine r_iload_n dX0_sum_2_21 rfl rfl ?_
      refine r_iload dX0_sum_2_22 rfl ?_
      refine k_SI (As := [.int x2, .int x3, .int x4]) (stk := []) cs_X0_601 dX0_sum_2_24 rfl (Nat.le_of_ble_eq_true rfl) (H.mono (fun v3 h3 H => ?_)) ⟨Nat.le_refl _, Nat.le_refl _⟩
      refine r_if_eq (tgt := 50) dX0_sum_2_27 rfl (fun cH => ?_) (fun cH => ?_)
      · replace H := H.1 cH
        refine r_iconst (v := (-1 : Int32)) dX0_sum_2_50 rfl ?_
        exact r_zret dX0_sum_2_51 rfl rfl (Nat.le_refl _) (Nat.le_refl _) H
      · replace H := H.2 cH
        refine r_aload_n dX0_sum_2_30 rfl rfl ?_
        refine r_aload_n dX0_sum_2_31 rfl rfl ?_
        refine m_getF (x := 79) hp fw_X0_326 dX0_sum_2_32 rfl ly_0 (ff_0_20 ly_0) ?_
        refine r_iload_n dX0_sum_2_35 rfl rfl ?_
        obtain ⟨r4, er4⟩ : ∃ y, y = 1185 + 27 * (x1).toNatClampNeg := ⟨_, rfl⟩
        have hir4 := H.1
        replace H := H.2 r4 er4
        have tLr4 := la_79 hir4 er4
        refine m_aalF (x := r4) hp dX0_sum_2_36 (lf_0_20 ly_0) rfl rfl (lu_0_20 ly_0) hir4 (fa_79 hir4 er4) ?_
        refine m_getF (x := (r4 + 1)) hp fw_X0_512 dX0_sum_2_37 rfl tLr4 (ff_9_1 tLr4) ?_
        refine r_iload_n dX0_sum_2_40 rfl rfl ?_
        refine r_iload_n dX0_sum_2_41 rfl rfl ?_
        refine r_iload dX0_sum_2_42 rfl ?_
        refine k_VI (As := [.ref (r4 + 1), .int x2, .int x3, .int x4]) (stk := []) hp cv_X0_604 dX0_sum_2_44 rfl (Nat.le_of_ble_eq_true rfl) ly_0 (H.mono (fun v5 h5 H => ?_)) ⟨Nat.le_refl _, Nat.le_refl _⟩
        refine r_goto (tgt := 51) dX0_sum_2_47 rfl ?_
        exact r_zret dX0_sum_2_51 rfl rfl (Nat.le_refl _) (Nat.le_refl _) H
    · replace H := H.2 cH
      refine r_bipush (v := (-3 : Int32)) dX0_sum_2_17 rfl ?_
      exact r_zret dX0_sum_2_19 rfl rfl (Nat.le_refl _) (Nat.le_refl _) H
  · replace H := H.2 cH
    refine r_iconst (v := (-1 : Int32)) dX0_sum_2_7 rfl ?_
    exact r_zret dX0_sum_2_8 rfl rfl (Nat.le_refl _) (Nat.le_refl _) H
abbrev W_X0_arePlaces (g : GX) (d : Nat) (av : List Value) (Q : QT) (n : Nat) (pc : Nat) (ls : LV) (stk : List Value) (h : Hp) : Prop := RJ g m_X0_arePlaces (d + 1) 0 0 av Q pc ls stk n h 0 0
theorem s_X0_arePlaces_0 {g : GX} {d : Nat} {av : List Value} {Q : QT} {n : Nat} {h : Hp} {x0 : Int32} {x1 : Int32} {x2 : Int32} (hp : g.2.2.2.2 = true)  (H : CallI g m_X0_within d [.int x0, .int (0 : Int32), .int (500 : Int32)] n h (fun v1 h1 => (((v1 = (0 : Int32)) → (Q (some (.int (0 : Int32))) n h1)) ∧ ((¬ v1 = (0 : Int32)) → (CallI g m_X0_within d [.int x1, .int (0 : Int32), .int (500 : Int32)] n h1 (fun v2 h2 => (((v2 = (0 : Int32)) → (Q (some (.int (0 : Int32))) n h2)) ∧ ((¬ v2 = (0 : Int32)) → (CallI g m_X0_within d [.int x2, .int (0 : Int32), .int (500 : Int32)] n h2 (fun v3 h3 => (((v3 = (0 : Int32)) → (Q (some (.int (0 : Int32))) n h3)) ∧ ((¬ v3 = (0 : Int32)) → (Q (some (.int (1 : Int32))) n h3))))))))))))) : W_X0_arePlaces g d av Q n 0 [some (.int x0), some (.int x1), some (.int x2)] [] h := by
  refine r_iload_n dX0_arePlaces_0 rfl rfl ?_
  refine r_iconst (v := (0 : Int32)) dX0_arePlaces_1 rfl ?_
  refine r_sipush (v := (500 : Int32)) dX0_arePlaces_2 rfl ?_
  refine k_SI (As := [.int x0, .int (0 : Int32), .int (500 : Int32)]) (stk := []) cs_X0_173 dX0_arePlaces_5 rfl (Nat.le_of_ble_eq_true rfl) (H.mono (fun v1 h1 H => ?_)) ⟨Nat.le_refl _, Nat.le_refl _⟩
  refine r_if_eq (tgt := 37) dX0_arePlaces_8 rfl (fun cH => ?_) (fun cH => ?_)
  · replace H := H.1 cH
    refine r_iconst (v := (0 : Int32)) dX0_arePlaces_37 rfl ?_
    exact r_zret dX0_arePlaces_38 rfl rfl (Nat.le_refl _) (Nat.le_refl _) H
  · replace H := H.2 cH
    refine r_iload_n dX0_arePlaces_11 rfl rfl ?_
    refine r_iconst (v := (0 : Int32)) dX0_arePlaces_12 rfl ?_
    refine r_sipush (v := (500 : Int32)) dX0_arePlaces_13 rfl ?_
    refine k_SI (As := [.int x1, .int (0 : Int32), .int (500 : Int32)]) (stk := []) cs_X0_173 dX0_arePlaces_16 rfl (Nat.le_of_ble_eq_true rfl) (H.mono (fun v2 h2 H => ?_)) ⟨Nat.le_refl _, Nat.le_refl _⟩
    refine r_if_eq (tgt := 37) dX0_arePlaces_19 rfl (fun cH => ?_) (fun cH => ?_)
    · replace H := H.1 cH
      refine r_iconst (v := (0 : Int32)) dX0_arePlaces_37 rfl ?_
      exact r_zret dX0_arePlaces_38 rfl rfl (Nat.le_refl _) (Nat.le_refl _) H
    · replace H := H.2 cH
      refine r_iload_n dX0_arePlaces_22 rfl rfl ?_
      refine r_iconst (v := (0 : Int32)) dX0_arePlaces_23 rfl ?_
      refine r_sipush (v := (500 : Int32)) dX0_arePlaces_24 rfl ?_
      refine k_SI (As := [.int x2, .int (0 : Int32), .int (500 : Int32)]) (stk := []) cs_X0_173 dX0_arePlaces_27 rfl (Nat.le_of_ble_eq_true rfl) (H.mono (fun v3 h3 H => ?_)) ⟨Nat.le_refl _, Nat.le_refl _⟩
      refine r_if_eq (tgt := 37) dX0_arePlaces_30 rfl (fun cH => ?_) (fun cH => ?_)
      · replace H := H.1 cH
        refine r_iconst (v := (0 : Int32)) dX0_arePlaces_37 rfl ?_
        exact r_zret dX0_arePlaces_38 rfl rfl (Nat.le_refl _) (Nat.le_refl _) H
      · replace H := H.2 cH
        refine r_iconst (v := (1 : Int32)) dX0_arePlaces_33 rfl ?_
        refine r_goto (tgt := 38) dX0_arePlaces_34 rfl ?_
        exact r_zret dX0_arePlaces_38 rfl rfl (Nat.le_refl _) (Nat.le_refl _) H
abbrev W_X0_sumOf (g : GX) (d : Nat) (av : List Value) (Q : QT) (n : Nat) (pc : Nat) (ls : LV) (stk : List Value) (h : Hp) : Prop := RJ g m_X0_sumOf (d + 1) 0 0 av Q pc ls stk n h 0 0
theorem s_X0_sumOf_0 {g : GX} {d : Nat} {av : List Value} {Q : QT} {n : Nat} {h : Hp} {a1 : Nat} {x2 : Int32} {x3 : Int32} {x4 : Int32} (hp : g.2.2.2.2 = true) (t1 : lay a1 = (0, 5, 8)) (H : W_X0_sumOf g d av Q n 6 [some (.ref 0), some (.ref a1), some (.int x2), none, some (.int x4), some (.int (0 : Int32)), some (.int x3), none] [] h) : W_X0_sumOf g d av Q n 0 [some (.ref 0), some (.ref a1), some (.int x2), some (.int x3), some (.int x4), none, none, none] [] h := by
  refine r_iconst (v := (0 : Int32)) dX0_sumOf_0 rfl ?_
  refine r_istore (ls2 := [some (.ref 0), some (.ref a1), some (.int x2), some (.int x3), some (.int x4), some (.int (0 : Int32)), none, none]) dX0_sumOf_1 (by decide) rfl ?_
  refine r_iload_n dX0_sumOf_3 rfl rfl ?_
  refine r_istore (ls2 := [some (.ref 0), some (.ref a1), some (.int x2), some (.int x3), some (.int x4), some (.int (0 : Int32)), some (.int x3), none]) dX0_sumOf_4 (by decide) rfl ?_
  refine r_prune [true, true, true, false, true, true, true, false] (ls2 := [some (.ref 0), some (.ref a1), some (.int x2), none, some (.int x4), some (.int (0 : Int32)), some (.int x3), none]) rfl ?_
  exact H
theorem s_X0_sumOf_6 {g : GX} {d : Nat} {av : List Value} {Q : QT} {n : Nat} {h : Hp} {a1 : Nat} {x2 : Int32} {x4 : Int32} {x5 : Int32} {x6 : Int32} (hp : g.2.2.2.2 = true) (t1 : lay a1 = (0, 5, 8)) (H : ((x4 < x6) → (Q (some (.int x5)) n h)) ∧ ((¬ x4 < x6) → (CallI g m_X0_valueOf d [.ref 0, .ref a1, .int x2, .int x6] n h (fun v1 h1 => (((¬ v1 = (-1 : Int32)) → (CallI g m_X0_sum d [.int x5, .int v1] n h1 (fun v2 h2 => (W_X0_sumOf g d av Q n 6 [some (.ref 0), some (.ref a1), some (.int x2), none, some (.int x4), some (.int v2), some (.int (x6 + (1 : Int32))), none] [] h2)))) ∧ ((v1 = (-1 : Int32)) → (Q (some (.int (-1 : Int32))) n h1))))))) : W_X0_sumOf g d av Q n 6 [some (.ref 0), some (.ref a1), some (.int x2), none, some (.int x4), some (.int x5), some (.int x6), none] [] h := by
  refine r_iload dX0_sumOf_6 rfl ?_
  refine r_iload dX0_sumOf_8 rfl ?_
  refine r_icmp_gt (tgt := 46) dX0_sumOf_10 rfl (fun cH => ?_) (fun cH => ?_)
  · replace H := H.1 cH
    refine r_iload dX0_sumOf_46 rfl ?_
    exact r_zret dX0_sumOf_48 rfl rfl (Nat.le_refl _) (Nat.le_refl _) H
  · replace H := H.2 cH
    refine r_aload_n dX0_sumOf_13 rfl rfl ?_
    refine r_aload_n dX0_sumOf_14 rfl rfl ?_
    refine r_iload_n dX0_sumOf_15 rfl rfl ?_
    refine r_iload dX0_sumOf_16 rfl ?_
    refine k_VI (As := [.ref a1, .int x2, .int x6]) (stk := []) hp cv_X0_595 dX0_sumOf_18 rfl (Nat.le_of_ble_eq_true rfl) ly_0 (H.mono (fun v1 h1 H => ?_)) ⟨Nat.le_refl _, Nat.le_refl _⟩
    refine r_istore (ls2 := [some (.ref 0), some (.ref a1), some (.int x2), none, some (.int x4), some (.int x5), some (.int x6), some (.int v1)]) dX0_sumOf_21 (by decide) rfl ?_
    refine r_iload dX0_sumOf_23 rfl ?_
    refine r_iconst (v := (-1 : Int32)) dX0_sumOf_25 rfl ?_
    refine r_icmp_ne (tgt := 31) dX0_sumOf_26 rfl (fun cH => ?_) (fun cH => ?_)
    · replace H := H.1 cH
      refine r_iload dX0_sumOf_31 rfl ?_
      refine r_iload dX0_sumOf_33 rfl ?_
      refine k_SI (As := [.int x5, .int v1]) (stk := []) cs_X0_598 dX0_sumOf_35 rfl (Nat.le_of_ble_eq_true rfl) (H.mono (fun v2 h2 H => ?_)) ⟨Nat.le_refl _, Nat.le_refl _⟩
      refine r_istore (ls2 := [some (.ref 0), some (.ref a1), some (.int x2), none, some (.int x4), some (.int v2), some (.int x6), some (.int v1)]) dX0_sumOf_38 (by decide) rfl ?_
      refine r_iinc (v := (x6 + (1 : Int32))) (ls2 := [some (.ref 0), some (.ref a1), some (.int x2), none, some (.int x4), some (.int v2), some (.int (x6 + (1 : Int32))), some (.int v1)]) dX0_sumOf_40 rfl rfl (by decide) rfl ?_
      refine r_goto (tgt := 6) dX0_sumOf_43 rfl ?_
      refine r_prune [true, true, true, false, true, true, true, false] (ls2 := [some (.ref 0), some (.ref a1), some (.int x2), none, some (.int x4), some (.int v2), some (.int (x6 + (1 : Int32))), none]) rfl ?_
      exact H
    · replace H := H.2 cH
      refine r_iconst (v := (-1 : Int32)) dX0_sumOf_29 rfl ?_
      exact r_zret dX0_sumOf_30 rfl rfl (Nat.le_refl _) (Nat.le_refl _) H
abbrev W_X0_quotient (g : GX) (d : Nat) (av : List Value) (Q : QT) (n : Nat) (pc : Nat) (ls : LV) (stk : List Value) (h : Hp) : Prop := RJ g m_X0_quotient (d + 1) 0 0 av Q pc ls stk n h 0 0
theorem s_X0_quotient_0 {g : GX} {d : Nat} {av : List Value} {Q : QT} {n : Nat} {h : Hp} {x1 : Int32} {x2 : Int32} {x3 : Int32} (hp : g.2.2.2.2 = true)  (H : CallI g m_X0_isSlot d [.int x1] n h (fun v1 h1 => (((v1 = (0 : Int32)) → (Q (some (.int (-1 : Int32))) n h1)) ∧ ((¬ v1 = (0 : Int32)) → (CallI g m_X0_isSlot d [.int x3] n h1 (fun v2 h2 => (((¬ v2 = (0 : Int32)) → (CallI g m_X0_hasItem d [.ref 0, .int x1] n h2 (fun v3 h3 => (((¬ v3 = (0 : Int32)) → (CallI g m_X0_within d [.int x2, .int (0 : Int32), .int (1 : Int32)] n h3 (fun v4 h4 => (((v4 = (0 : Int32)) → (Q (some (.int (-1 : Int32))) n h4)) ∧ ((¬ v4 = (0 : Int32)) → (vp_in x1 12 ∧ ∀ r5, r5 = 1185 + 27 * (x1).toNatClampNeg → (CallI g m_X6_isZero d [.ref (r5 + 2)] n h4 (fun v6 h6 => (((v6 = (0 : Int32)) → (vp_in x1 12 ∧ ∀ r7, r7 = 1185 + 27 * (x1).toNatClampNeg → (CallI g m_X0_quotientOf d [.ref 0, .ref (r7 + 1), .int x2, .int (1 : Int32), .ref 81] n h6 (fun v8 h8 => (((¬ v8 = (0 : Int32)) → (CallI g m_X0_keepResult d [.ref 0, .int x3] n h8 (fun v9 h9 => (Q (some (.int v9)) n h9)))) ∧ ((v8 = (0 : Int32)) → (Q (some (.int (-2 : Int32))) n h8))))))) ∧ ((¬ v6 = (0 : Int32)) → (Q (some (.int (-1 : Int32))) n h6))))))))))) ∧ ((v3 = (0 : Int32)) → (Q (some (.int (-3 : Int32))) n h3)))))) ∧ ((v2 = (0 : Int32)) → (Q (some (.int (-1 : Int32))) n h2))))))))) : W_X0_quotient g d av Q n 0 [some (.ref 0), some (.int x1), some (.int x2), some (.int x3)] [] h := by
  refine r_iload_n dX0_quotient_0 rfl rfl ?_
  refine k_SI (As := [.int x1]) (stk := []) cs_X0_519 dX0_quotient_1 rfl (Nat.le_of_ble_eq_true rfl) (H.mono (fun v1 h1 H => ?_)) ⟨Nat.le_refl _, Nat.le_refl _⟩
  refine r_if_eq (tgt := 14) dX0_quotient_4 rfl (fun cH => ?_) (fun cH => ?_)
  · replace H := H.1 cH
    refine r_iconst (v := (-1 : Int32)) dX0_quotient_14 rfl ?_
    exact r_zret dX0_quotient_15 rfl rfl (Nat.le_refl _) (Nat.le_refl _) H
  · replace H := H.2 cH
    refine r_iload_n dX0_quotient_7 rfl rfl ?_
    refine k_SI (As := [.int x3]) (stk := []) cs_X0_519 dX0_quotient_8 rfl (Nat.le_of_ble_eq_true rfl) (H.mono (fun v2 h2 H => ?_)) ⟨Nat.le_refl _, Nat.le_refl _⟩
    refine r_if_ne (tgt := 16) dX0_quotient_11 rfl (fun cH => ?_) (fun cH => ?_)
    · replace H := H.1 cH
      refine r_aload_n dX0_quotient_16 rfl rfl ?_
      refine r_iload_n dX0_quotient_17 rfl rfl ?_
      refine k_VI (As := [.int x1]) (stk := []) hp cv_X0_546 dX0_quotient_18 rfl (Nat.le_of_ble_eq_true rfl) ly_0 (H.mono (fun v3 h3 H => ?_)) ⟨Nat.le_refl _, Nat.le_refl _⟩
      refine r_if_ne (tgt := 27) dX0_quotient_21 rfl (fun cH => ?_) (fun cH => ?_)
      · replace H := H.1 cH
        refine r_iload_n dX0_quotient_27 rfl rfl ?_
        refine r_iconst (v := (0 : Int32)) dX0_quotient_28 rfl ?_
        refine r_iconst (v := (1 : Int32)) dX0_quotient_29 rfl ?_
        refine k_SI (As := [.int x2, .int (0 : Int32), .int (1 : Int32)]) (stk := []) cs_X0_173 dX0_quotient_30 rfl (Nat.le_of_ble_eq_true rfl) (H.mono (fun v4 h4 H => ?_)) ⟨Nat.le_refl _, Nat.le_refl _⟩
        refine r_if_eq (tgt := 54) dX0_quotient_33 rfl (fun cH => ?_) (fun cH => ?_)
        · replace H := H.1 cH
          refine r_iconst (v := (-1 : Int32)) dX0_quotient_54 rfl ?_
          exact r_zret dX0_quotient_55 rfl rfl (Nat.le_refl _) (Nat.le_refl _) H
        · replace H := H.2 cH
          refine r_aload_n dX0_quotient_36 rfl rfl ?_
          refine m_getF (x := 79) hp fw_X0_326 dX0_quotient_37 rfl ly_0 (ff_0_20 ly_0) ?_
          refine r_iload_n dX0_quotient_40 rfl rfl ?_
          obtain ⟨r5, er5⟩ : ∃ y, y = 1185 + 27 * (x1).toNatClampNeg := ⟨_, rfl⟩
          have hir5 := H.1
          replace H := H.2 r5 er5
          have tLr5 := la_79 hir5 er5
          refine m_aalF (x := r5) hp dX0_quotient_41 (lf_0_20 ly_0) rfl rfl (lu_0_20 ly_0) hir5 (fa_79 hir5 er5) ?_
          refine m_getF (x := (r5 + 1)) hp fw_X0_512 dX0_quotient_42 rfl tLr5 (ff_9_1 tLr5) ?_
          refine m_getF (x := (r5 + 2)) hp fw_X0_110 dX0_quotient_45 rfl (lf_9_1 tLr5) (ff_5_0 (lf_9_1 tLr5)) ?_
          refine k_VI (As := []) (stk := []) hp cv_X0_128 dX0_quotient_48 rfl (Nat.le_of_ble_eq_true rfl) (lf_5_0 (lf_9_1 tLr5)) (H.mono (fun v6 h6 H => ?_)) ⟨Nat.le_refl _, Nat.le_refl _⟩
          refine r_if_eq (tgt := 56) dX0_quotient_51 rfl (fun cH => ?_) (fun cH => ?_)
          · replace H := H.1 cH
            refine r_aload_n dX0_quotient_56 rfl rfl ?_
            refine r_aload_n dX0_quotient_57 rfl rfl ?_
            refine m_getF (x := 79) hp fw_X0_326 dX0_quotient_58 rfl ly_0 (ff_0_20 ly_0) ?_
            refine r_iload_n dX0_quotient_61 rfl rfl ?_
            obtain ⟨r7, er7⟩ : ∃ y, y = 1185 + 27 * (x1).toNatClampNeg := ⟨_, rfl⟩
            have hir7 := H.1
            replace H := H.2 r7 er7
            have tLr7 := la_79 hir7 er7
            refine m_aalF (x := r7) hp dX0_quotient_62 (lf_0_20 ly_0) rfl rfl (lu_0_20 ly_0) hir7 (fa_79 hir7 er7) ?_
            refine m_getF (x := (r7 + 1)) hp fw_X0_512 dX0_quotient_63 rfl tLr7 (ff_9_1 tLr7) ?_
            refine r_iload_n dX0_quotient_66 rfl rfl ?_
            refine r_iconst (v := (1 : Int32)) dX0_quotient_67 rfl ?_
            refine r_aload_n dX0_quotient_68 rfl rfl ?_
            refine m_getF (x := 80) hp fw_X0_330 dX0_quotient_69 rfl ly_0 (ff_0_21 ly_0) ?_
            refine m_getF (x := 81) hp fw_X0_110 dX0_quotient_72 rfl (lf_0_21 ly_0) (ff_5_0 (lf_0_21 ly_0)) ?_
            refine k_VI (As := [.ref (r7 + 1), .int x2, .int (1 : Int32), .ref 81]) (stk := []) hp cv_X0_624 dX0_quotient_75 rfl (Nat.le_of_ble_eq_true rfl) ly_0 (H.mono (fun v8 h8 H => ?_)) ⟨Nat.le_refl _, Nat.le_refl _⟩
            refine r_if_ne (tgt := 84) dX0_quotient_78 rfl (fun cH => ?_) (fun cH => ?_)
            · replace H := H.1 cH
              refine r_aload_n dX0_quotient_84 rfl rfl ?_
              refine r_iload_n dX0_quotient_85 rfl rfl ?_
              refine k_VI (As := [.int x3]) (stk := []) hp cv_X0_628 dX0_quotient_86 rfl (Nat.le_of_ble_eq_true rfl) ly_0 (H.mono (fun v9 h9 H => ?_)) ⟨Nat.le_refl _, Nat.le_refl _⟩
              exact r_zret dX0_quotient_89 rfl rfl (Nat.le_refl _) (Nat.le_refl _) H
            · replace H := H.2 cH
              refine r_bipush (v := (-2 : Int32)) dX0_quotient_81 rfl ?_
              exact r_zret dX0_quotient_83 rfl rfl (Nat.le_refl _) (Nat.le_refl _) H
          · replace H := H.2 cH
            refine r_iconst (v := (-1 : Int32)) dX0_quotient_54 rfl ?_
            exact r_zret dX0_quotient_55 rfl rfl (Nat.le_refl _) (Nat.le_refl _) H
      · replace H := H.2 cH
        refine r_bipush (v := (-3 : Int32)) dX0_quotient_24 rfl ?_
        exact r_zret dX0_quotient_26 rfl rfl (Nat.le_refl _) (Nat.le_refl _) H
    · replace H := H.2 cH
      refine r_iconst (v := (-1 : Int32)) dX0_quotient_14 rfl ?_
      exact r_zret dX0_quotient_15 rfl rfl (Nat.le_refl _) (Nat.le_refl _) H
abbrev W_X0_quotientOf (g : GX) (d : Nat) (av : List Value) (Q : QT) (n : Nat) (pc : Nat) (ls : LV) (stk : List Value) (h : Hp) : Prop := RJ g m_X0_quotientOf (d + 1) 0 0 av Q pc ls stk n h 0 0
theorem s_X0_quotientOf_0 {g : GX} {d : Nat} {av : List Value} {Q : QT} {n : Nat} {h : Hp} {a1 : Nat} {x2 : Int32} {x3 : Int32} {a4 : Nat} (hp : g.2.2.2.2 = true) (t1 : lay a1 = (0, 5, 8)) (t4 : lay a4 = (0, 6, 2)) (H : CallV g m_X4_copy d [.ref 39, .ref (a1 + 2)] n h (fun h1 => (CallV g m_X4_copy d [.ref 41, .ref (a1 + 4)] n h1 (fun h2 => (((¬ x2 = (0 : Int32)) → (CallI g m_X0_rest d [.int x3] n h2 (fun v3 h3 => (CallV g m_X4_shiftK d [.ref 39, .int v3] n h3 (fun h4 => (CallI g m_X0_rest d [.int x3] n h4 (fun v5 h5 => (CallV g m_X4_shiftK d [.ref 41, .int v5] n h5 (fun h6 => (W_X0_quotientOf g d av Q n 79 [some (.ref 0), some (.ref a1), some (.int x2), some (.int x3), some (.ref a4), none, none, none, none] [] h6)))))))))) ∧ ((x2 = (0 : Int32)) → (CallI g m_X0_rest d [.int x3] n h2 (fun v7 h7 => (CallV g m_X4_shiftN d [.ref 39, .int v7] n h7 (fun h8 => (CallI g m_X0_rest d [.int x3] n h8 (fun v9 h9 => (CallV g m_X4_shiftN d [.ref 41, .int v9] n h9 (fun h10 => (W_X0_quotientOf g d av Q n 79 [some (.ref 0), some (.ref a1), some (.int x2), some (.int x3), some (.ref a4), none, none, none, none] [] h10))))))))))))))) : W_X0_quotientOf g d av Q n 0 [some (.ref 0), some (.ref a1), some (.int x2), some (.int x3), some (.ref a4), none, none, none, none] [] h := by
  refine r_aload_n dX0_quotientOf_0 rfl rfl ?_
  refine m_getF (x := 39) hp fw_X0_31 dX0_quotientOf_1 rfl ly_0 (ff_0_1 ly_0) ?_
  refine r_aload_n dX0_quotientOf_4 rfl rfl ?_
  refine m_getF (x := (a1 + 1)) hp fw_X0_110 dX0_quotientOf_5 rfl t1 (ff_5_0 t1) ?_
  refine m_getF (x := (a1 + 2)) hp fw_X0_89 dX0_quotientOf_8 rfl (lf_5_0 t1) (ff_6_0 (lf_5_0 t1)) ?_
  refine k_VV (As := [.ref (a1 + 2)]) (stk := []) hp cv_X0_66 dX0_quotientOf_11 rfl (Nat.le_of_ble_eq_true rfl) (lf_0_1 ly_0) (H.mono (fun h1 H => ?_)) ⟨Nat.le_refl _, Nat.le_refl _⟩
  refine r_aload_n dX0_quotientOf_14 rfl rfl ?_
  refine m_getF (x := 41) hp fw_X0_39 dX0_quotientOf_15 rfl ly_0 (ff_0_2 ly_0) ?_
  refine r_aload_n dX0_quotientOf_18 rfl rfl ?_
  refine m_getF (x := (a1 + 1)) hp fw_X0_110 dX0_quotientOf_19 rfl t1 (ff_5_0 t1) ?_
  refine m_getF (x := (a1 + 4)) hp fw_X0_94 dX0_quotientOf_22 rfl (lf_5_0 t1) (ff_6_1 (lf_5_0 t1)) ?_
  refine k_VV (As := [.ref (a1 + 4)]) (stk := []) hp cv_X0_66 dX0_quotientOf_25 rfl (Nat.le_of_ble_eq_true rfl) (lf_0_2 ly_0) (H.mono (fun h2 H => ?_)) ⟨Nat.le_refl _, Nat.le_refl _⟩
  refine r_iload_n dX0_quotientOf_28 rfl rfl ?_
  refine r_if_ne (tgt := 57) dX0_quotientOf_29 rfl (fun cH => ?_) (fun cH => ?_)
  · replace H := H.1 cH
    refine r_aload_n dX0_quotientOf_57 rfl rfl ?_
    refine m_getF (x := 39) hp fw_X0_31 dX0_quotientOf_58 rfl ly_0 (ff_0_1 ly_0) ?_
    refine r_iload_n dX0_quotientOf_61 rfl rfl ?_
    refine k_SI (As := [.int x3]) (stk := [.ref 39]) cs_X0_543 dX0_quotientOf_62 rfl (Nat.le_of_ble_eq_true rfl) (H.mono (fun v3 h3 H => ?_)) ⟨Nat.le_refl _, Nat.le_refl _⟩
    refine k_VV (As := [.int v3]) (stk := []) hp cv_X0_617 dX0_quotientOf_65 rfl (Nat.le_of_ble_eq_true rfl) (lf_0_1 ly_0) (H.mono (fun h4 H => ?_)) ⟨Nat.le_refl _, Nat.le_refl _⟩
    refine r_aload_n dX0_quotientOf_68 rfl rfl ?_
    refine m_getF (x := 41) hp fw_X0_39 dX0_quotientOf_69 rfl ly_0 (ff_0_2 ly_0) ?_
    refine r_iload_n dX0_quotientOf_72 rfl rfl ?_
    refine k_SI (As := [.int x3]) (stk := [.ref 41]) cs_X0_543 dX0_quotientOf_73 rfl (Nat.le_of_ble_eq_true rfl) (H.mono (fun v5 h5 H => ?_)) ⟨Nat.le_refl _, Nat.le_refl _⟩
    refine k_VV (As := [.int v5]) (stk := []) hp cv_X0_617 dX0_quotientOf_76 rfl (Nat.le_of_ble_eq_true rfl) (lf_0_2 ly_0) (H.mono (fun h6 H => ?_)) ⟨Nat.le_refl _, Nat.le_refl _⟩
    exact H
  · replace H := H.2 cH
    refine r_aload_n dX0_quotientOf_32 rfl rfl ?_
    refine m_getF (x := 39) hp fw_X0_31 dX0_quotientOf_33 rfl ly_0 (ff_0_1 ly_0) ?_
    refine r_iload_n dX0_quotientOf_36 rfl rfl ?_
    refine k_SI (As := [.int x3]) (stk := [.ref 39]) cs_X0_543 dX0_quotientOf_37 rfl (Nat.le_of_ble_eq_true rfl) (H.mono (fun v7 h7 H => ?_)) ⟨Nat.le_refl _, Nat.le_refl _⟩
    refine k_VV (As := [.int v7]) (stk := []) hp cv_X0_614 dX0_quotientOf_40 rfl (Nat.le_of_ble_eq_true rfl) (lf_0_1 ly_0) (H.mono (fun h8 H => ?_)) ⟨Nat.le_refl _, Nat.le_refl _⟩
    refine r_aload_n dX0_quotientOf_43 rfl rfl ?_
    refine m_getF (x := 41) hp fw_X0_39 dX0_quotientOf_44 rfl ly_0 (ff_0_2 ly_0) ?_
    refine r_iload_n dX0_quotientOf_47 rfl rfl ?_
    refine k_SI (As := [.int x3]) (stk := [.ref 41]) cs_X0_543 dX0_quotientOf_48 rfl (Nat.le_of_ble_eq_true rfl) (H.mono (fun v9 h9 H => ?_)) ⟨Nat.le_refl _, Nat.le_refl _⟩
    refine k_VV (As := [.int v9]) (stk := []) hp cv_X0_614 dX0_quotientOf_51 rfl (Nat.le_of_ble_eq_true rfl) (lf_0_2 ly_0) (H.mono (fun h10 H => ?_)) ⟨Nat.le_refl _, Nat.le_refl _⟩
    refine r_goto (tgt := 79) dX0_quotientOf_54 rfl ?_
    exact H
theorem s_X0_quotientOf_79 {g : GX} {d : Nat} {av : List Value} {Q : QT} {n : Nat} {h : Hp} {a1 : Nat} {x2 : Int32} {x3 : Int32} {a4 : Nat} (hp : g.2.2.2.2 = true) (t1 : lay a1 = (0, 5, 8)) (t4 : lay a4 = (0, 6, 2)) (H : CallV g m_X4_product d [.ref 45, .ref 39, .ref (a1 + 4)] n h (fun h1 => (CallV g m_X4_copy d [.ref 39, .ref 45] n h1 (fun h2 => (CallV g m_X4_product d [.ref 45, .ref 41, .ref (a1 + 2)] n h2 (fun h3 => (CallV g m_X4_copy d [.ref 41, .ref 45] n h3 (fun h4 => (((¬ x2 = (0 : Int32)) → (W_X0_quotientOf g d av Q n 156 [some (.ref 0), some (.ref a1), some (.int x2), some (.int x3), some (.ref a4), none, none, none, none] [.int (ri h4 a1 2), .ref 39] h4)) ∧ ((x2 = (0 : Int32)) → (W_X0_quotientOf g d av Q n 156 [some (.ref 0), some (.ref a1), some (.int x2), some (.int x3), some (.ref a4), none, none, none, none] [.int (ri h4 a1 1), .ref 39] h4))))))))))) : W_X0_quotientOf g d av Q n 79 [some (.ref 0), some (.ref a1), some (.int x2), some (.int x3), some (.ref a4), none, none, none, none] [] h := by
  refine r_aload_n dX0_quotientOf_79 rfl rfl ?_
  refine m_getF (x := 45) hp fw_X0_59 dX0_quotientOf_80 rfl ly_0 (ff_0_4 ly_0) ?_
  refine r_aload_n dX0_quotientOf_83 rfl rfl ?_
  refine m_getF (x := 39) hp fw_X0_31 dX0_quotientOf_84 rfl ly_0 (ff_0_1 ly_0) ?_
  refine r_aload_n dX0_quotientOf_87 rfl rfl ?_
  refine m_getF (x := (a1 + 1)) hp fw_X0_110 dX0_quotientOf_88 rfl t1 (ff_5_0 t1) ?_
  refine m_getF (x := (a1 + 4)) hp fw_X0_94 dX0_quotientOf_91 rfl (lf_5_0 t1) (ff_6_1 (lf_5_0 t1)) ?_
  refine k_VV (As := [.ref 39, .ref (a1 + 4)]) (stk := []) hp cv_X0_97 dX0_quotientOf_94 rfl (Nat.le_of_ble_eq_true rfl) (lf_0_4 ly_0) (H.mono (fun h1 H => ?_)) ⟨Nat.le_refl _, Nat.le_refl _⟩
  refine r_aload_n dX0_quotientOf_97 rfl rfl ?_
  refine m_getF (x := 39) hp fw_X0_31 dX0_quotientOf_98 rfl ly_0 (ff_0_1 ly_0) ?_
  refine r_aload_n dX0_quotientOf_101 rfl rfl ?_
  refine m_getF (x := 45) hp fw_X0_59 dX0_quotientOf_102 rfl ly_0 (ff_0_4 ly_0) ?_
  refine k_VV (As := [.ref 45]) (stk := []) hp cv_X0_66 dX0_quotientOf_105 rfl (Nat.le_of_ble_eq_true rfl) (lf_0_1 ly_0) (H.mono (fun h2 H => ?_)) ⟨Nat.le_refl _, Nat.le_refl _⟩
  refine r_aload_n dX0_quotientOf_108 rfl rfl ?_
  refine m_getF (x := 45) hp fw_X0_59 dX0_quotientOf_109 rfl ly_0 (ff_0_4 ly_0) ?_
  refine r_aload_n dX0_quotientOf_112 rfl rfl ?_
  refine m_getF (x := 41) hp fw_X0_39 dX0_quotientOf_113 rfl ly_0 (ff_0_2 ly_0) ?_
  refine r_aload_n dX0_quotientOf_116 rfl rfl ?_
  refine m_getF (x := (a1 + 1)) hp fw_X0_110 dX0_quotientOf_117 rfl t1 (ff_5_0 t1) ?_
  refine m_getF (x := (a1 + 2)) hp fw_X0_89 dX0_quotientOf_120 rfl (lf_5_0 t1) (ff_6_0 (lf_5_0 t1)) ?_
  refine k_VV (As := [.ref 41, .ref (a1 + 2)]) (stk := []) hp cv_X0_97 dX0_quotientOf_123 rfl (Nat.le_of_ble_eq_true rfl) (lf_0_4 ly_0) (H.mono (fun h3 H => ?_)) ⟨Nat.le_refl _, Nat.le_refl _⟩
  refine r_aload_n dX0_quotientOf_126 rfl rfl ?_
  refine m_getF (x := 41) hp fw_X0_39 dX0_quotientOf_127 rfl ly_0 (ff_0_2 ly_0) ?_
  refine r_aload_n dX0_quotientOf_130 rfl rfl ?_
  refine m_getF (x := 45) hp fw_X0_59 dX0_quotientOf_131 rfl ly_0 (ff_0_4 ly_0) ?_
  refine k_VV (As := [.ref 45]) (stk := []) hp cv_X0_66 dX0_quotientOf_134 rfl (Nat.le_of_ble_eq_true rfl) (lf_0_2 ly_0) (H.mono (fun h4 H => ?_)) ⟨Nat.le_refl _, Nat.le_refl _⟩
  refine r_aload_n dX0_quotientOf_137 rfl rfl ?_
  refine m_getF (x := 39) hp fw_X0_31 dX0_quotientOf_138 rfl ly_0 (ff_0_1 ly_0) ?_
  refine r_iload_n dX0_quotientOf_141 rfl rfl ?_
  refine r_if_ne (tgt := 152) dX0_quotientOf_142 rfl (fun cH => ?_) (fun cH => ?_)
  · replace H := H.1 cH
    refine r_aload_n dX0_quotientOf_152 rfl rfl ?_
    refine m_getI hp fw_X0_133 dX0_quotientOf_153 rfl t1 ?_
    exact H
  · replace H := H.2 cH
    refine r_aload_n dX0_quotientOf_145 rfl rfl ?_
    refine m_getI hp fw_X0_130 dX0_quotientOf_146 rfl t1 ?_
    refine r_goto (tgt := 156) dX0_quotientOf_149 rfl ?_
    exact H
theorem s_X0_quotientOf_156 {g : GX} {d : Nat} {av : List Value} {Q : QT} {n : Nat} {h : Hp} {a1 : Nat} {x2 : Int32} {x3 : Int32} {a4 : Nat} {xs0 : Int32} {as1 : Nat} (hp : g.2.2.2.2 = true) (t1 : lay a1 = (0, 5, 8)) (t4 : lay a4 = (0, 6, 2)) (ts1 : lay as1 = (0, 4, 4)) (H : CallI g m_X0_signedPower d [.int xs0, .int x3] n h (fun v1 h1 => (CallV g m_X4_scale d [.ref as1, .int v1] n h1 (fun h2 => (W_X0_quotientOf g d av Q n 166 [some (.ref 0), some (.ref a1), some (.int x2), some (.int x3), some (.ref a4), some (.int (0 : Int32)), none, none, none] [] h2))))) : W_X0_quotientOf g d av Q n 156 [some (.ref 0), some (.ref a1), some (.int x2), some (.int x3), some (.ref a4), none, none, none, none] [.int xs0, .ref as1] h := by
  refine r_iload_n dX0_quotientOf_156 rfl rfl ?_
  refine k_SI (As := [.int xs0, .int x3]) (stk := [.ref as1]) cs_X0_290 dX0_quotientOf_157 rfl (Nat.le_of_ble_eq_true rfl) (H.mono (fun v1 h1 H => ?_)) ⟨Nat.le_refl _, Nat.le_refl _⟩
  refine k_VV (As := [.int v1]) (stk := []) hp cv_X0_78 dX0_quotientOf_160 rfl (Nat.le_of_ble_eq_true rfl) ts1 (H.mono (fun h2 H => ?_)) ⟨Nat.le_refl _, Nat.le_refl _⟩
  refine r_iconst (v := (0 : Int32)) dX0_quotientOf_163 rfl ?_
  refine r_istore (ls2 := [some (.ref 0), some (.ref a1), some (.int x2), some (.int x3), some (.ref a4), some (.int (0 : Int32)), none, none, none]) dX0_quotientOf_164 (by decide) rfl ?_
  exact H
theorem s_X0_quotientOf_166 {g : GX} {d : Nat} {av : List Value} {Q : QT} {n : Nat} {h : Hp} {a1 : Nat} {x2 : Int32} {x3 : Int32} {a4 : Nat} {x5 : Int32} (hp : g.2.2.2.2 = true) (t1 : lay a1 = (0, 5, 8)) (t4 : lay a4 = (0, 6, 2)) (H : (((ri h a1 3) ≤ x5) → (CallI g m_X0_give d [.ref 0, .ref a4] n h (fun v1 h1 => ((v1 = 0 ∨ v1 = 1) ∧ Q (some (.int v1)) n h1)))) ∧ ((¬ (ri h a1 3) ≤ x5) → (((¬ x2 = (0 : Int32)) → (vp_in x5 60 ∧ (W_X0_quotientOf g d av Q n 196 [some (.ref 0), some (.ref a1), some (.int x2), some (.int x3), some (.ref a4), some (.int x5), none, none, none] [.int (ri h (a1 + 7) (x5).toNatClampNeg)] h))) ∧ ((x2 = (0 : Int32)) → (vp_in x5 60 ∧ (W_X0_quotientOf g d av Q n 196 [some (.ref 0), some (.ref a1), some (.int x2), some (.int x3), some (.ref a4), some (.int x5), none, none, none] [.int (ri h (a1 + 6) (x5).toNatClampNeg)] h)))))) : W_X0_quotientOf g d av Q n 166 [some (.ref 0), some (.ref a1), some (.int x2), some (.int x3), some (.ref a4), some (.int x5), none, none, none] [] h := by
  refine r_iload dX0_quotientOf_166 rfl ?_
  refine r_aload_n dX0_quotientOf_168 rfl rfl ?_
  refine m_getI hp fw_X0_136 dX0_quotientOf_169 rfl t1 ?_
  refine r_icmp_ge (tgt := 346) dX0_quotientOf_172 rfl (fun cH => ?_) (fun cH => ?_)
  · replace H := H.1 cH
    refine r_aload_n dX0_quotientOf_346 rfl rfl ?_
    refine r_aload dX0_quotientOf_347 rfl ?_
    refine k_VI (As := [.ref a4]) (stk := []) hp cv_X0_106 dX0_quotientOf_349 rfl (Nat.le_of_ble_eq_true rfl) ly_0 (H.mono (fun v1 h1 H => ?_)) ⟨Nat.le_refl _, Nat.le_refl _⟩
    exact r_zret dX0_quotientOf_352 rfl (nar01 H.1) (Nat.le_refl _) (Nat.le_refl _) H.2
  · replace H := H.2 cH
    refine r_iload_n dX0_quotientOf_175 rfl rfl ?_
    refine r_if_ne (tgt := 189) dX0_quotientOf_176 rfl (fun cH => ?_) (fun cH => ?_)
    · replace H := H.1 cH
      refine r_aload_n dX0_quotientOf_189 rfl rfl ?_
      refine m_getF (x := (a1 + 7)) hp fw_X0_143 dX0_quotientOf_190 rfl t1 (ff_5_5 t1) ?_
      refine r_iload dX0_quotientOf_193 rfl ?_
      refine m_iald hp dX0_quotientOf_195 (lf_5_5 t1) H.1 ?_
      replace H := H.2
      exact H
    · replace H := H.2 cH
      refine r_aload_n dX0_quotientOf_179 rfl rfl ?_
      refine m_getF (x := (a1 + 6)) hp fw_X0_139 dX0_quotientOf_180 rfl t1 (ff_5_4 t1) ?_
      refine r_iload dX0_quotientOf_183 rfl ?_
      refine m_iald hp dX0_quotientOf_185 (lf_5_4 t1) H.1 ?_
      replace H := H.2
      refine r_goto (tgt := 196) dX0_quotientOf_186 rfl ?_
      exact H
theorem s_X0_quotientOf_196 {g : GX} {d : Nat} {av : List Value} {Q : QT} {n : Nat} {h : Hp} {a1 : Nat} {x2 : Int32} {x3 : Int32} {a4 : Nat} {x5 : Int32} {xs0 : Int32} (hp : g.2.2.2.2 = true) (t1 : lay a1 = (0, 5, 8)) (t4 : lay a4 = (0, 6, 2)) (H : vp_in x5 60 ∧ ((((ri h (a1 + 9) (x5).toNatClampNeg) ≤ (0 : Int32)) → (W_X0_quotientOf g d av Q n 215 [some (.ref 0), some (.ref a1), some (.int x2), some (.int x3), some (.ref a4), some (.int x5), some (.int (xs0 * x3)), none, none] [.int (0 : Int32)] h)) ∧ ((¬ (ri h (a1 + 9) (x5).toNatClampNeg) ≤ (0 : Int32)) → (W_X0_quotientOf g d av Q n 215 [some (.ref 0), some (.ref a1), some (.int x2), some (.int x3), some (.ref a4), some (.int x5), some (.int (xs0 * x3)), none, none] [.int (1 : Int32)] h)))) : W_X0_quotientOf g d av Q n 196 [some (.ref 0), some (.ref a1), some (.int x2), some (.int x3), some (.ref a4), some (.int x5), none, none, none] [.int xs0] h := by
  refine r_iload_n dX0_quotientOf_196 rfl rfl ?_
  refine r_imul dX0_quotientOf_197 ?_
  refine r_istore (ls2 := [some (.ref 0), some (.ref a1), some (.int x2), some (.int x3), some (.ref a4), some (.int x5), some (.int (xs0 * x3)), none, none]) dX0_quotientOf_198 (by decide) rfl ?_
  refine r_aload_n dX0_quotientOf_200 rfl rfl ?_
  refine m_getF (x := (a1 + 9)) hp fw_X0_149 dX0_quotientOf_201 rfl t1 (ff_5_7 t1) ?_
  refine r_iload dX0_quotientOf_204 rfl ?_
  refine m_iald hp dX0_quotientOf_206 (lf_5_7 t1) H.1 ?_
  replace H := H.2
  refine r_if_le (tgt := 214) dX0_quotientOf_207 rfl (fun cH => ?_) (fun cH => ?_)
  · replace H := H.1 cH
    refine r_iconst (v := (0 : Int32)) dX0_quotientOf_214 rfl ?_
    exact H
  · replace H := H.2 cH
    refine r_iconst (v := (1 : Int32)) dX0_quotientOf_210 rfl ?_
    refine r_goto (tgt := 215) dX0_quotientOf_211 rfl ?_
    exact H
theorem s_X0_quotientOf_215 {g : GX} {d : Nat} {av : List Value} {Q : QT} {n : Nat} {h : Hp} {a1 : Nat} {x2 : Int32} {x3 : Int32} {a4 : Nat} {x5 : Int32} {x6 : Int32} {xs0 : Int32} (hp : g.2.2.2.2 = true) (t1 : lay a1 = (0, 5, 8)) (t4 : lay a4 = (0, 6, 2)) (H : ((x6 ≤ (0 : Int32)) → (W_X0_quotientOf g d av Q n 225 [some (.ref 0), some (.ref a1), some (.int x2), some (.int x3), some (.ref a4), some (.int x5), some (.int x6), none, none] [.int (0 : Int32), .int xs0] h)) ∧ ((¬ x6 ≤ (0 : Int32)) → (W_X0_quotientOf g d av Q n 225 [some (.ref 0), some (.ref a1), some (.int x2), some (.int x3), some (.ref a4), some (.int x5), some (.int x6), none, none] [.int (1 : Int32), .int xs0] h))) : W_X0_quotientOf g d av Q n 215 [some (.ref 0), some (.ref a1), some (.int x2), some (.int x3), some (.ref a4), some (.int x5), some (.int x6), none, none] [.int xs0] h := by
  refine r_iload dX0_quotientOf_215 rfl ?_
  refine r_if_le (tgt := 224) dX0_quotientOf_217 rfl (fun cH => ?_) (fun cH => ?_)
  · replace H := H.1 cH
    refine r_iconst (v := (0 : Int32)) dX0_quotientOf_224 rfl ?_
    exact H
  · replace H := H.2 cH
    refine r_iconst (v := (1 : Int32)) dX0_quotientOf_220 rfl ?_
    refine r_goto (tgt := 225) dX0_quotientOf_221 rfl ?_
    exact H
theorem s_X0_quotientOf_225 {g : GX} {d : Nat} {av : List Value} {Q : QT} {n : Nat} {h : Hp} {a1 : Nat} {x2 : Int32} {x3 : Int32} {a4 : Nat} {x5 : Int32} {x6 : Int32} {xs0 : Int32} {xs1 : Int32} (hp : g.2.2.2.2 = true) (t1 : lay a1 = (0, 5, 8)) (t4 : lay a4 = (0, 6, 2)) (H : ((¬ xs1 = xs0) → (W_X0_quotientOf g d av Q n 239 [some (.ref 0), some (.ref a1), some (.int x2), some (.int x3), some (.ref a4), some (.int x5), some (.int x6), none, none] [.ref 41] h)) ∧ ((xs1 = xs0) → (W_X0_quotientOf g d av Q n 239 [some (.ref 0), some (.ref a1), some (.int x2), some (.int x3), some (.ref a4), some (.int x5), some (.int x6), none, none] [.ref 39] h))) : W_X0_quotientOf g d av Q n 225 [some (.ref 0), some (.ref a1), some (.int x2), some (.int x3), some (.ref a4), some (.int x5), some (.int x6), none, none] [.int xs0, .int xs1] h := by
  refine r_icmp_ne (tgt := 235) dX0_quotientOf_225 rfl (fun cH => ?_) (fun cH => ?_)
  · replace H := H.1 cH
    refine r_aload_n dX0_quotientOf_235 rfl rfl ?_
    refine m_getF (x := 41) hp fw_X0_39 dX0_quotientOf_236 rfl ly_0 (ff_0_2 ly_0) ?_
    exact H
  · replace H := H.2 cH
    refine r_aload_n dX0_quotientOf_228 rfl rfl ?_
    refine m_getF (x := 39) hp fw_X0_31 dX0_quotientOf_229 rfl ly_0 (ff_0_1 ly_0) ?_
    refine r_goto (tgt := 239) dX0_quotientOf_232 rfl ?_
    exact H
theorem s_X0_quotientOf_239 {g : GX} {d : Nat} {av : List Value} {Q : QT} {n : Nat} {h : Hp} {a1 : Nat} {x2 : Int32} {x3 : Int32} {a4 : Nat} {x5 : Int32} {x6 : Int32} {as0 : Nat} (hp : g.2.2.2.2 = true) (t1 : lay a1 = (0, 5, 8)) (t4 : lay a4 = (0, 6, 2)) (ts0 : lay as0 = (0, 4, 4)) (H : W_X0_quotientOf g d av Q n 244 [some (.ref 0), some (.ref a1), some (.int x2), some (.int x3), some (.ref a4), some (.int x5), some (.int x6), some (.ref as0), some (.int (0 : Int32))] [] h) : W_X0_quotientOf g d av Q n 239 [some (.ref 0), some (.ref a1), some (.int x2), some (.int x3), some (.ref a4), some (.int x5), some (.int x6), none, none] [.ref as0] h := by
  refine r_astore (ls2 := [some (.ref 0), some (.ref a1), some (.int x2), some (.int x3), some (.ref a4), some (.int x5), some (.int x6), some (.ref as0), none]) dX0_quotientOf_239 (by decide) rfl ?_
  refine r_iconst (v := (0 : Int32)) dX0_quotientOf_241 rfl ?_
  refine r_istore (ls2 := [some (.ref 0), some (.ref a1), some (.int x2), some (.int x3), some (.ref a4), some (.int x5), some (.int x6), some (.ref as0), some (.int (0 : Int32))]) dX0_quotientOf_242 (by decide) rfl ?_
  exact H
theorem s_X0_quotientOf_244 {g : GX} {d : Nat} {av : List Value} {Q : QT} {n : Nat} {h : Hp} {a1 : Nat} {x2 : Int32} {x3 : Int32} {a4 : Nat} {x5 : Int32} {x6 : Int32} {a7 : Nat} {x8 : Int32} (hp : g.2.2.2.2 = true) (t1 : lay a1 = (0, 5, 8)) (t4 : lay a4 = (0, 6, 2)) (t7 : lay a7 = (0, 4, 4)) (H : vp_in x5 60 ∧ (CallI g m_J3_abs d [.int (ri h (a1 + 9) (x5).toNatClampNeg)] n h (fun v1 h1 => (((v1 ≤ x8) → (W_X0_quotientOf g d av Q n 166 [some (.ref 0), some (.ref a1), some (.int x2), some (.int x3), some (.ref a4), some (.int (x5 + (1 : Int32))), none, none, none] [] h1)) ∧ ((¬ v1 ≤ x8) → (((x6 ≤ (0 : Int32)) → ((((0 : Int32) ≤ x6) → (W_X0_quotientOf g d av Q n 334 [some (.ref 0), some (.ref a1), some (.int x2), some (.int x3), some (.ref a4), some (.int x5), some (.int x6), some (.ref a7), some (.int x8)] [] h1)) ∧ ((¬ (0 : Int32) ≤ x6) → (vp_in x5 60 ∧ (vp_in x5 60 ∧ (vp_in x5 60 ∧ (CallV g m_X0_timesLines d [.ref 0, .ref a7, .int (ri h1 (a1 + 6) (x5).toNatClampNeg), .int (ri h1 (a1 + 7) (x5).toNatClampNeg), .int (ri h1 (a1 + 8) (x5).toNatClampNeg), .int (x6 + (1 : Int32)), .int (0 : Int32)] n h1 (fun h2 => (W_X0_quotientOf g d av Q n 334 [some (.ref 0), some (.ref a1), some (.int x2), some (.int x3), some (.ref a4), some (.int x5), some (.int x6), some (.ref a7), some (.int x8)] [] h2))))))))) ∧ ((¬ x6 ≤ (0 : Int32)) → (vp_in x5 60 ∧ (vp_in x5 60 ∧ (vp_in x5 60 ∧ (CallV g m_X0_timesLines d [.ref 0, .ref a7, .int (ri h1 (a1 + 6) (x5).toNatClampNeg), .int (ri h1 (a1 + 7) (x5).toNatClampNeg), .int (ri h1 (a1 + 8) (x5).toNatClampNeg), .int (1 : Int32), .int x6] n h1 (fun h3 => (W_X0_quotientOf g d av Q n 334 [some (.ref 0), some (.ref a1), some (.int x2), some (.int x3), some (.ref a4), some (.int x5), some (.int x6), some (.ref a7), some (.int x8)] [] h3))))))))))))) : W_X0_quotientOf g d av Q n 244 [some (.ref 0), some (.ref a1), some (.int x2), some (.int x3), some (.ref a4), some (.int x5), some (.int x6), some (.ref a7), some (.int x8)] [] h := by
  refine r_iload dX0_quotientOf_244 rfl ?_
  refine r_aload_n dX0_quotientOf_246 rfl rfl ?_
  refine m_getF (x := (a1 + 9)) hp fw_X0_149 dX0_quotientOf_247 rfl t1 (ff_5_7 t1) ?_
  refine r_iload dX0_quotientOf_250 rfl ?_
  refine m_iald hp dX0_quotientOf_252 (lf_5_7 t1) H.1 ?_
  replace H := H.2
  refine k_SI (As := [.int (ri h (a1 + 9) (x5).toNatClampNeg)]) (stk := [.int x8]) cs_X0_166 dX0_quotientOf_253 rfl (Nat.le_of_ble_eq_true rfl) (H.mono (fun v1 h1 H => ?_)) ⟨Nat.le_refl _, Nat.le_refl _⟩
  refine r_icmp_ge (tgt := 340) dX0_quotientOf_256 rfl (fun cH => ?_) (fun cH => ?_)
  · replace H := H.1 cH
    refine r_iinc (v := (x5 + (1 : Int32))) (ls2 := [some (.ref 0), some (.ref a1), some (.int x2), some (.int x3), some (.ref a4), some (.int (x5 + (1 : Int32))), some (.int x6), some (.ref a7), some (.int x8)]) dX0_quotientOf_340 rfl rfl (by decide) rfl ?_
    refine r_goto (tgt := 166) dX0_quotientOf_343 rfl ?_
    refine r_prune [true, true, true, true, true, true, false, false, false] (ls2 := [some (.ref 0), some (.ref a1), some (.int x2), some (.int x3), some (.ref a4), some (.int (x5 + (1 : Int32))), none, none, none]) rfl ?_
    exact H
  · replace H := H.2 cH
    refine r_iload dX0_quotientOf_259 rfl ?_
    refine r_if_le (tgt := 297) dX0_quotientOf_261 rfl (fun cH => ?_) (fun cH => ?_)
    · replace H := H.1 cH
      refine r_iload dX0_quotientOf_297 rfl ?_
      refine r_if_ge (tgt := 334) dX0_quotientOf_299 rfl (fun cH => ?_) (fun cH => ?_)
      · replace H := H.1 cH
        exact H
      · replace H := H.2 cH
        refine r_aload_n dX0_quotientOf_302 rfl rfl ?_
        refine r_aload dX0_quotientOf_303 rfl ?_
        refine r_aload_n dX0_quotientOf_305 rfl rfl ?_
        refine m_getF (x := (a1 + 6)) hp fw_X0_139 dX0_quotientOf_306 rfl t1 (ff_5_4 t1) ?_
        refine r_iload dX0_quotientOf_309 rfl ?_
        refine m_iald hp dX0_quotientOf_311 (lf_5_4 t1) H.1 ?_
        replace H := H.2
        refine r_aload_n dX0_quotientOf_312 rfl rfl ?_
        refine m_getF (x := (a1 + 7)) hp fw_X0_143 dX0_quotientOf_313 rfl t1 (ff_5_5 t1) ?_
        refine r_iload dX0_quotientOf_316 rfl ?_
        refine m_iald hp dX0_quotientOf_318 (lf_5_5 t1) H.1 ?_
        replace H := H.2
        refine r_aload_n dX0_quotientOf_319 rfl rfl ?_
        refine m_getF (x := (a1 + 8)) hp fw_X0_146 dX0_quotientOf_320 rfl t1 (ff_5_6 t1) ?_
        refine r_iload dX0_quotientOf_323 rfl ?_
        refine m_iald hp dX0_quotientOf_325 (lf_5_6 t1) H.1 ?_
        replace H := H.2
        refine r_iload dX0_quotientOf_326 rfl ?_
        refine r_iconst (v := (1 : Int32)) dX0_quotientOf_328 rfl ?_
        refine r_iadd dX0_quotientOf_329 ?_
        refine r_iconst (v := (0 : Int32)) dX0_quotientOf_330 rfl ?_
        refine k_VV (As := [.ref a7, .int (ri h1 (a1 + 6) (x5).toNatClampNeg), .int (ri h1 (a1 + 7) (x5).toNatClampNeg), .int (ri h1 (a1 + 8) (x5).toNatClampNeg), .int (x6 + (1 : Int32)), .int (0 : Int32)]) (stk := []) hp cv_X0_620 dX0_quotientOf_331 rfl (Nat.le_of_ble_eq_true rfl) ly_0 (H.mono (fun h2 H => ?_)) ⟨Nat.le_refl _, Nat.le_refl _⟩
        exact H
    · replace H := H.2 cH
      refine r_aload_n dX0_quotientOf_264 rfl rfl ?_
      refine r_aload dX0_quotientOf_265 rfl ?_
      refine r_aload_n dX0_quotientOf_267 rfl rfl ?_
      refine m_getF (x := (a1 + 6)) hp fw_X0_139 dX0_quotientOf_268 rfl t1 (ff_5_4 t1) ?_
      refine r_iload dX0_quotientOf_271 rfl ?_
      refine m_iald hp dX0_quotientOf_273 (lf_5_4 t1) H.1 ?_
      replace H := H.2
      refine r_aload_n dX0_quotientOf_274 rfl rfl ?_
      refine m_getF (x := (a1 + 7)) hp fw_X0_143 dX0_quotientOf_275 rfl t1 (ff_5_5 t1) ?_
      refine r_iload dX0_quotientOf_278 rfl ?_
      refine m_iald hp dX0_quotientOf_280 (lf_5_5 t1) H.1 ?_
      replace H := H.2
      refine r_aload_n dX0_quotientOf_281 rfl rfl ?_
      refine m_getF (x := (a1 + 8)) hp fw_X0_146 dX0_quotientOf_282 rfl t1 (ff_5_6 t1) ?_
      refine r_iload dX0_quotientOf_285 rfl ?_
      refine m_iald hp dX0_quotientOf_287 (lf_5_6 t1) H.1 ?_
      replace H := H.2
      refine r_iconst (v := (1 : Int32)) dX0_quotientOf_288 rfl ?_
      refine r_iload dX0_quotientOf_289 rfl ?_
      refine k_VV (As := [.ref a7, .int (ri h1 (a1 + 6) (x5).toNatClampNeg), .int (ri h1 (a1 + 7) (x5).toNatClampNeg), .int (ri h1 (a1 + 8) (x5).toNatClampNeg), .int (1 : Int32), .int x6]) (stk := []) hp cv_X0_620 dX0_quotientOf_291 rfl (Nat.le_of_ble_eq_true rfl) ly_0 (H.mono (fun h3 H => ?_)) ⟨Nat.le_refl _, Nat.le_refl _⟩
      refine r_goto (tgt := 334) dX0_quotientOf_294 rfl ?_
      exact H
theorem s_X0_quotientOf_334 {g : GX} {d : Nat} {av : List Value} {Q : QT} {n : Nat} {h : Hp} {a1 : Nat} {x2 : Int32} {x3 : Int32} {a4 : Nat} {x5 : Int32} {x6 : Int32} {a7 : Nat} {x8 : Int32} (hp : g.2.2.2.2 = true) (t1 : lay a1 = (0, 5, 8)) (t4 : lay a4 = (0, 6, 2)) (t7 : lay a7 = (0, 4, 4)) (H : W_X0_quotientOf g d av Q n 244 [some (.ref 0), some (.ref a1), some (.int x2), some (.int x3), some (.ref a4), some (.int x5), some (.int x6), some (.ref a7), some (.int (x8 + (1 : Int32)))] [] h) : W_X0_quotientOf g d av Q n 334 [some (.ref 0), some (.ref a1), some (.int x2), some (.int x3), some (.ref a4), some (.int x5), some (.int x6), some (.ref a7), some (.int x8)] [] h := by
  refine r_iinc (v := (x8 + (1 : Int32))) (ls2 := [some (.ref 0), some (.ref a1), some (.int x2), some (.int x3), some (.ref a4), some (.int x5), some (.int x6), some (.ref a7), some (.int (x8 + (1 : Int32)))]) dX0_quotientOf_334 rfl rfl (by decide) rfl ?_
  refine r_goto (tgt := 244) dX0_quotientOf_337 rfl ?_
  exact H
abbrev W_X0_timesLines (g : GX) (d : Nat) (av : List Value) (Q : QT) (n : Nat) (pc : Nat) (ls : LV) (stk : List Value) (h : Hp) : Prop := RJ g m_X0_timesLines (d + 1) 0 0 av Q pc ls stk n h 0 0
theorem s_X0_timesLines_0 {g : GX} {d : Nat} {av : List Value} {Q : QT} {n : Nat} {h : Hp} {a1 : Nat} {x2 : Int32} {x3 : Int32} {x4 : Int32} {x5 : Int32} {x6 : Int32} (hp : g.2.2.2.2 = true) (t1 : lay a1 = (0, 4, 4)) (H : W_X0_timesLines g d av Q n 4 [some (.ref 0), some (.ref a1), some (.int x2), some (.int x3), some (.int x4), none, some (.int x6), some (.int x5)] [] h) : W_X0_timesLines g d av Q n 0 [some (.ref 0), some (.ref a1), some (.int x2), some (.int x3), some (.int x4), some (.int x5), some (.int x6), none] [] h := by
  refine r_iload dX0_timesLines_0 rfl ?_
  refine r_istore (ls2 := [some (.ref 0), some (.ref a1), some (.int x2), some (.int x3), some (.int x4), some (.int x5), some (.int x6), some (.int x5)]) dX0_timesLines_2 (by decide) rfl ?_
  refine r_prune [true, true, true, true, true, false, true, true] (ls2 := [some (.ref 0), some (.ref a1), some (.int x2), some (.int x3), some (.int x4), none, some (.int x6), some (.int x5)]) rfl ?_
  exact H
theorem s_X0_timesLines_4 {g : GX} {d : Nat} {av : List Value} {Q : QT} {n : Nat} {h : Hp} {a1 : Nat} {x2 : Int32} {x3 : Int32} {x4 : Int32} {x6 : Int32} {x7 : Int32} (hp : g.2.2.2.2 = true) (t1 : lay a1 = (0, 4, 4)) (H : ((x6 < x7) → (Q none n h)) ∧ ((¬ x6 < x7) → (CallV g m_X4_open d [.ref 43, .int (2 : Int32), .int (2 : Int32)] n h (fun h1 => (CallI g m_X0_rest d [.int (x4 + x7)] n h1 (fun v2 h2 => (vp_in (0 : Int32) (rm 44) ∧ ∀ h3, h3 = wi h2 44 ((0 : Int32)).toNatClampNeg v2 → (CallI g m_X0_rest d [.int x2] n h3 (fun v4 h4 => (vp_in (1 : Int32) (rm 44) ∧ ∀ h5, h5 = wi h4 44 ((1 : Int32)).toNatClampNeg v4 → (CallI g m_X0_rest d [.int x3] n h5 (fun v6 h6 => (vp_in (ri h5 43 0) (rm 44) ∧ ∀ h7, h7 = wi h6 44 ((ri h5 43 0)).toNatClampNeg v6 → (CallV g m_X4_trim d [.ref 43] n h7 (fun h8 => (CallV g m_X4_copy d [.ref 45, .ref a1] n h8 (fun h9 => (CallV g m_X4_product d [.ref a1, .ref 45, .ref 43] n h9 (fun h10 => (W_X0_timesLines g d av Q n 4 [some (.ref 0), some (.ref a1), some (.int x2), some (.int x3), some (.int x4), none, some (.int x6), some (.int (x7 + (1 : Int32)))] [] h10)))))))))))))))))))) : W_X0_timesLines g d av Q n 4 [some (.ref 0), some (.ref a1), some (.int x2), some (.int x3), some (.int x4), none, some (.int x6), some (.int x7)] [] h := by
  refine r_iload dX0_timesLines_4 rfl ?_
  refine r_iload dX0_timesLines_6 rfl ?_
  refine r_icmp_gt (tgt := 102) dX0_timesLines_8 rfl (fun cH => ?_) (fun cH => ?_)
  · replace H := H.1 cH
    exact r_vret dX0_timesLines_102 rfl (Nat.le_refl _) (Nat.le_refl _) H
  · replace H := H.2 cH
    refine r_aload_n dX0_timesLines_11 rfl rfl ?_
    refine m_getF (x := 43) hp fw_X0_50 dX0_timesLines_12 rfl ly_0 (ff_0_3 ly_0) ?_
    refine r_iconst (v := (2 : Int32)) dX0_timesLines_15 rfl ?_
    refine r_iconst (v := (2 : Int32)) dX0_timesLines_16 rfl ?_
    refine k_VV (As := [.int (2 : Int32), .int (2 : Int32)]) (stk := []) hp cv_X0_304 dX0_timesLines_17 rfl (Nat.le_of_ble_eq_true rfl) (lf_0_3 ly_0) (H.mono (fun h1 H => ?_)) ⟨Nat.le_refl _, Nat.le_refl _⟩
    refine r_aload_n dX0_timesLines_20 rfl rfl ?_
    refine m_getF (x := 43) hp fw_X0_50 dX0_timesLines_21 rfl ly_0 (ff_0_3 ly_0) ?_
    refine m_getF (x := 44) hp fw_X0_288 dX0_timesLines_24 rfl (lf_0_3 ly_0) (ff_4_1 (lf_0_3 ly_0)) ?_
    refine r_iconst (v := (0 : Int32)) dX0_timesLines_27 rfl ?_
    refine r_iload dX0_timesLines_28 rfl ?_
    refine r_iload dX0_timesLines_30 rfl ?_
    refine r_iadd dX0_timesLines_32 ?_
    refine k_SI (As := [.int (x4 + x7)]) (stk := [.int (0 : Int32), .ref 44]) cs_X0_543 dX0_timesLines_33 rfl (Nat.le_of_ble_eq_true rfl) (H.mono (fun v2 h2 H => ?_)) ⟨Nat.le_refl _, Nat.le_refl _⟩
    refine m_iast hp dX0_timesLines_36 (lf_4_1 (lf_0_3 ly_0)) H.1 (fun h3 eh3 => ?_)
    replace H := H.2 h3 eh3
    refine r_aload_n dX0_timesLines_37 rfl rfl ?_
    refine m_getF (x := 43) hp fw_X0_50 dX0_timesLines_38 rfl ly_0 (ff_0_3 ly_0) ?_
    refine m_getF (x := 44) hp fw_X0_288 dX0_timesLines_41 rfl (lf_0_3 ly_0) (ff_4_1 (lf_0_3 ly_0)) ?_
    refine r_iconst (v := (1 : Int32)) dX0_timesLines_44 rfl ?_
    refine r_iload_n dX0_timesLines_45 rfl rfl ?_
    refine k_SI (As := [.int x2]) (stk := [.int (1 : Int32), .ref 44]) cs_X0_543 dX0_timesLines_46 rfl (Nat.le_of_ble_eq_true rfl) (H.mono (fun v4 h4 H => ?_)) ⟨Nat.le_refl _, Nat.le_refl _⟩
    refine m_iast hp dX0_timesLines_49 (lf_4_1 (lf_0_3 ly_0)) H.1 (fun h5 eh5 => ?_)
    replace H := H.2 h5 eh5
    refine r_aload_n dX0_timesLines_50 rfl rfl ?_
    refine m_getF (x := 43) hp fw_X0_50 dX0_timesLines_51 rfl ly_0 (ff_0_3 ly_0) ?_
    refine m_getF (x := 44) hp fw_X0_288 dX0_timesLines_54 rfl (lf_0_3 ly_0) (ff_4_1 (lf_0_3 ly_0)) ?_
    refine r_aload_n dX0_timesLines_57 rfl rfl ?_
    refine m_getF (x := 43) hp fw_X0_50 dX0_timesLines_58 rfl ly_0 (ff_0_3 ly_0) ?_
    refine m_getI hp fw_X0_608 dX0_timesLines_61 rfl (lf_0_3 ly_0) ?_
    refine r_iload_n dX0_timesLines_64 rfl rfl ?_
    refine k_SI (As := [.int x3]) (stk := [.int (ri h5 43 0), .ref 44]) cs_X0_543 dX0_timesLines_65 rfl (Nat.le_of_ble_eq_true rfl) (H.mono (fun v6 h6 H => ?_)) ⟨Nat.le_refl _, Nat.le_refl _⟩
    refine m_iast hp dX0_timesLines_68 (lf_4_1 (lf_0_3 ly_0)) H.1 (fun h7 eh7 => ?_)
    replace H := H.2 h7 eh7
    refine r_aload_n dX0_timesLines_69 rfl rfl ?_
    refine m_getF (x := 43) hp fw_X0_50 dX0_timesLines_70 rfl ly_0 (ff_0_3 ly_0) ?_
    refine k_VV (As := []) (stk := []) hp cv_X0_611 dX0_timesLines_73 rfl (Nat.le_of_ble_eq_true rfl) (lf_0_3 ly_0) (H.mono (fun h8 H => ?_)) ⟨Nat.le_refl _, Nat.le_refl _⟩
    refine r_aload_n dX0_timesLines_76 rfl rfl ?_
    refine m_getF (x := 45) hp fw_X0_59 dX0_timesLines_77 rfl ly_0 (ff_0_4 ly_0) ?_
    refine r_aload_n dX0_timesLines_80 rfl rfl ?_
    refine k_VV (As := [.ref a1]) (stk := []) hp cv_X0_66 dX0_timesLines_81 rfl (Nat.le_of_ble_eq_true rfl) (lf_0_4 ly_0) (H.mono (fun h9 H => ?_)) ⟨Nat.le_refl _, Nat.le_refl _⟩
    refine r_aload_n dX0_timesLines_84 rfl rfl ?_
    refine r_aload_n dX0_timesLines_85 rfl rfl ?_
    refine m_getF (x := 45) hp fw_X0_59 dX0_timesLines_86 rfl ly_0 (ff_0_4 ly_0) ?_
    refine r_aload_n dX0_timesLines_89 rfl rfl ?_
    refine m_getF (x := 43) hp fw_X0_50 dX0_timesLines_90 rfl ly_0 (ff_0_3 ly_0) ?_
    refine k_VV (As := [.ref 45, .ref 43]) (stk := []) hp cv_X0_97 dX0_timesLines_93 rfl (Nat.le_of_ble_eq_true rfl) t1 (H.mono (fun h10 H => ?_)) ⟨Nat.le_refl _, Nat.le_refl _⟩
    refine r_iinc (v := (x7 + (1 : Int32))) (ls2 := [some (.ref 0), some (.ref a1), some (.int x2), some (.int x3), some (.int x4), none, some (.int x6), some (.int (x7 + (1 : Int32)))]) dX0_timesLines_96 rfl rfl (by decide) rfl ?_
    refine r_goto (tgt := 4) dX0_timesLines_99 rfl ?_
    exact H
abbrev W_X0_keepResult (g : GX) (d : Nat) (av : List Value) (Q : QT) (n : Nat) (pc : Nat) (ls : LV) (stk : List Value) (h : Hp) : Prop := RJ g m_X0_keepResult (d + 1) 0 0 av Q pc ls stk n h 0 0
theorem s_X0_keepResult_0 {g : GX} {d : Nat} {av : List Value} {Q : QT} {n : Nat} {h : Hp} {x1 : Int32} (hp : g.2.2.2.2 = true)  (H : CallV g m_X5_plain d [.ref 80] n h (fun h1 => (CallI g m_X0_keep d [.ref 0, .ref 80, .int x1] n h1 (fun v2 h2 => (Q (some (.int v2)) n h2))))) : W_X0_keepResult g d av Q n 0 [some (.ref 0), some (.int x1)] [] h := by
  refine r_aload_n dX0_keepResult_0 rfl rfl ?_
  refine m_getF (x := 80) hp fw_X0_330 dX0_keepResult_1 rfl ly_0 (ff_0_21 ly_0) ?_
  refine k_VV (As := []) (stk := []) hp cv_X0_301 dX0_keepResult_4 rfl (Nat.le_of_ble_eq_true rfl) (lf_0_21 ly_0) (H.mono (fun h1 H => ?_)) ⟨Nat.le_refl _, Nat.le_refl _⟩
  refine r_aload_n dX0_keepResult_7 rfl rfl ?_
  refine r_aload_n dX0_keepResult_8 rfl rfl ?_
  refine m_getF (x := 80) hp fw_X0_330 dX0_keepResult_9 rfl ly_0 (ff_0_21 ly_0) ?_
  refine r_iload_n dX0_keepResult_12 rfl rfl ?_
  refine k_VI (As := [.ref 80, .int x1]) (stk := []) hp cv_X0_515 dX0_keepResult_13 rfl (Nat.le_of_ble_eq_true rfl) ly_0 (H.mono (fun v2 h2 H => ?_)) ⟨Nat.le_refl _, Nat.le_refl _⟩
  exact r_zret dX0_keepResult_16 rfl rfl (Nat.le_refl _) (Nat.le_refl _) H
abbrev W_X0_form (g : GX) (d : Nat) (av : List Value) (Q : QT) (n : Nat) (pc : Nat) (ls : LV) (stk : List Value) (h : Hp) : Prop := RJ g m_X0_form (d + 1) 0 0 av Q pc ls stk n h 0 0
theorem s_X0_form_0 {g : GX} {d : Nat} {av : List Value} {Q : QT} {n : Nat} {h : Hp} {x1 : Int32} {x2 : Int32} {x3 : Int32} (hp : g.2.2.2.2 = true)  (H : CallI g m_X0_isSlot d [.int x1] n h (fun v1 h1 => (((v1 = (0 : Int32)) → (Q (some (.int (-1 : Int32))) n h1)) ∧ ((¬ v1 = (0 : Int32)) → (CallI g m_X0_isSlot d [.int x3] n h1 (fun v2 h2 => (((¬ v2 = (0 : Int32)) → (vp_in x1 12 ∧ ∀ r3, r3 = 1185 + 27 * (x1).toNatClampNeg → ((((ri h2 r3 0) = (1 : Int32)) → (vp_in x1 12 ∧ ∀ r4, r4 = 1185 + 27 * (x1).toNatClampNeg → (CallI g m_X0_within d [.int x2, .int (0 : Int32), .int (2 : Int32)] n h2 (fun v5 h5 => (((v5 = (0 : Int32)) → (Q (some (.int (-1 : Int32))) n h5)) ∧ ((¬ v5 = (0 : Int32)) → (CallI g m_X6_isZero d [.ref (r4 + 2)] n h5 (fun v6 h6 => (((v6 = (0 : Int32)) → (CallV g m_X4_copy d [.ref 39, .ref (r4 + 3)] n h6 (fun h7 => (CallV g m_X4_copy d [.ref 41, .ref (r4 + 5)] n h7 (fun h8 => (CallI g m_X0_findForm d [.ref 0] n h8 (fun v9 h9 => (((v9 = (0 : Int32)) → (Q (some (.int (-2 : Int32))) n h9)) ∧ ((¬ v9 = (0 : Int32)) → (CallI g m_X0_isModestForm d [.ref 0] n h9 (fun v10 h10 => (((¬ v10 = (0 : Int32)) → (CallV g m_X0_layForm d [.ref 0, .int x2] n h10 (fun h11 => (CallI g m_X0_give d [.ref 0, .ref 81] n h11 (fun v12 h12 => (CallI g m_X0_keepResult d [.ref 0, .int x3] n h12 (fun v13 h13 => (Q (some (.int v13)) n h13)))))))) ∧ ((v10 = (0 : Int32)) → (Q (some (.int (-2 : Int32))) n h10)))))))))))))) ∧ ((¬ v6 = (0 : Int32)) → (Q (some (.int (-1 : Int32))) n h6))))))))))) ∧ ((¬ (ri h2 r3 0) = (1 : Int32)) → (Q (some (.int (-3 : Int32))) n h2))))) ∧ ((v2 = (0 : Int32)) → (Q (some (.int (-1 : Int32))) n h2))))))))) : W_X0_form g d av Q n 0 [some (.ref 0), some (.int x1), some (.int x2), some (.int x3), none, none] [] h := by
  refine r_iload_n dX0_form_0 rfl rfl ?_
  refine k_SI (As := [.int x1]) (stk := []) cs_X0_519 dX0_form_1 rfl (Nat.le_of_ble_eq_true rfl) (H.mono (fun v1 h1 H => ?_)) ⟨Nat.le_refl _, Nat.le_refl _⟩
  refine r_if_eq (tgt := 14) dX0_form_4 rfl (fun cH => ?_) (fun cH => ?_)
  · replace H := H.1 cH
    refine r_iconst (v := (-1 : Int32)) dX0_form_14 rfl ?_
    exact r_zret dX0_form_15 rfl rfl (Nat.le_refl _) (Nat.le_refl _) H
  · replace H := H.2 cH
    refine r_iload_n dX0_form_7 rfl rfl ?_
    refine k_SI (As := [.int x3]) (stk := []) cs_X0_519 dX0_form_8 rfl (Nat.le_of_ble_eq_true rfl) (H.mono (fun v2 h2 H => ?_)) ⟨Nat.le_refl _, Nat.le_refl _⟩
    refine r_if_ne (tgt := 16) dX0_form_11 rfl (fun cH => ?_) (fun cH => ?_)
    · replace H := H.1 cH
      refine r_aload_n dX0_form_16 rfl rfl ?_
      refine m_getF (x := 79) hp fw_X0_326 dX0_form_17 rfl ly_0 (ff_0_20 ly_0) ?_
      refine r_iload_n dX0_form_20 rfl rfl ?_
      obtain ⟨r3, er3⟩ : ∃ y, y = 1185 + 27 * (x1).toNatClampNeg := ⟨_, rfl⟩
      have hir3 := H.1
      replace H := H.2 r3 er3
      have tLr3 := la_79 hir3 er3
      refine m_aalF (x := r3) hp dX0_form_21 (lf_0_20 ly_0) rfl rfl (lu_0_20 ly_0) hir3 (fa_79 hir3 er3) ?_
      refine m_getI hp fw_X0_509 dX0_form_22 rfl tLr3 ?_
      refine r_iconst (v := (1 : Int32)) dX0_form_25 rfl ?_
      refine r_icmp_eq (tgt := 32) dX0_form_26 rfl (fun cH => ?_) (fun cH => ?_)
      · replace H := H.1 cH
        refine r_aload_n dX0_form_32 rfl rfl ?_
        refine m_getF (x := 79) hp fw_X0_326 dX0_form_33 rfl ly_0 (ff_0_20 ly_0) ?_
        refine r_iload_n dX0_form_36 rfl rfl ?_
        obtain ⟨r4, er4⟩ : ∃ y, y = 1185 + 27 * (x1).toNatClampNeg := ⟨_, rfl⟩
        have hir4 := H.1
        replace H := H.2 r4 er4
        have tLr4 := la_79 hir4 er4
        refine m_aalF (x := r4) hp dX0_form_37 (lf_0_20 ly_0) rfl rfl (lu_0_20 ly_0) hir4 (fa_79 hir4 er4) ?_
        refine m_getF (x := (r4 + 1)) hp fw_X0_512 dX0_form_38 rfl tLr4 (ff_9_1 tLr4) ?_
        refine m_getF (x := (r4 + 2)) hp fw_X0_110 dX0_form_41 rfl (lf_9_1 tLr4) (ff_5_0 (lf_9_1 tLr4)) ?_
        refine r_astore (ls2 := [some (.ref 0), some (.int x1), some (.int x2), some (.int x3), some (.ref (r4 + 2)), none]) dX0_form_44 (by decide) rfl ?_
        refine r_iload_n dX0_form_46 rfl rfl ?_
        refine r_iconst (v := (0 : Int32)) dX0_form_47 rfl ?_
        refine r_iconst (v := (2 : Int32)) dX0_form_48 rfl ?_
        refine k_SI (As := [.int x2, .int (0 : Int32), .int (2 : Int32)]) (stk := []) cs_X0_173 dX0_form_49 rfl (Nat.le_of_ble_eq_true rfl) (H.mono (fun v5 h5 H => ?_)) ⟨Nat.le_refl _, Nat.le_refl _⟩
        refine r_if_eq (tgt := 63) dX0_form_52 rfl (fun cH => ?_) (fun cH => ?_)
        · replace H := H.1 cH
          refine r_iconst (v := (-1 : Int32)) dX0_form_63 rfl ?_
          exact r_zret dX0_form_64 rfl rfl (Nat.le_refl _) (Nat.le_refl _) H
        · replace H := H.2 cH
          refine r_aload dX0_form_55 rfl ?_
          refine k_VI (As := []) (stk := []) hp cv_X0_128 dX0_form_57 rfl (Nat.le_of_ble_eq_true rfl) (lf_5_0 (lf_9_1 tLr4)) (H.mono (fun v6 h6 H => ?_)) ⟨Nat.le_refl _, Nat.le_refl _⟩
          refine r_if_eq (tgt := 65) dX0_form_60 rfl (fun cH => ?_) (fun cH => ?_)
          · replace H := H.1 cH
            refine r_aload_n dX0_form_65 rfl rfl ?_
            refine m_getF (x := 39) hp fw_X0_31 dX0_form_66 rfl ly_0 (ff_0_1 ly_0) ?_
            refine r_aload dX0_form_69 rfl ?_
            refine m_getF (x := (r4 + 3)) hp fw_X0_89 dX0_form_71 rfl (lf_5_0 (lf_9_1 tLr4)) (ff_6_0 (lf_5_0 (lf_9_1 tLr4))) ?_
            refine k_VV (As := [.ref (r4 + 3)]) (stk := []) hp cv_X0_66 dX0_form_74 rfl (Nat.le_of_ble_eq_true rfl) (lf_0_1 ly_0) (H.mono (fun h7 H => ?_)) ⟨Nat.le_refl _, Nat.le_refl _⟩
            refine r_aload_n dX0_form_77 rfl rfl ?_
            refine m_getF (x := 41) hp fw_X0_39 dX0_form_78 rfl ly_0 (ff_0_2 ly_0) ?_
            refine r_aload dX0_form_81 rfl ?_
            refine m_getF (x := (r4 + 5)) hp fw_X0_94 dX0_form_83 rfl (lf_5_0 (lf_9_1 tLr4)) (ff_6_1 (lf_5_0 (lf_9_1 tLr4))) ?_
            refine k_VV (As := [.ref (r4 + 5)]) (stk := []) hp cv_X0_66 dX0_form_86 rfl (Nat.le_of_ble_eq_true rfl) (lf_0_2 ly_0) (H.mono (fun h8 H => ?_)) ⟨Nat.le_refl _, Nat.le_refl _⟩
            refine r_aload_n dX0_form_89 rfl rfl ?_
            refine k_VI (As := []) (stk := []) hp cv_X0_673 dX0_form_90 rfl (Nat.le_of_ble_eq_true rfl) ly_0 (H.mono (fun v9 h9 H => ?_)) ⟨Nat.le_refl _, Nat.le_refl _⟩
            refine r_if_eq (tgt := 103) dX0_form_93 rfl (fun cH => ?_) (fun cH => ?_)
            · replace H := H.1 cH
              refine r_bipush (v := (-2 : Int32)) dX0_form_103 rfl ?_
              exact r_zret dX0_form_105 rfl rfl (Nat.le_refl _) (Nat.le_refl _) H
            · replace H := H.2 cH
              refine r_aload_n dX0_form_96 rfl rfl ?_
              refine k_VI (As := []) (stk := []) hp cv_X0_676 dX0_form_97 rfl (Nat.le_of_ble_eq_true rfl) ly_0 (H.mono (fun v10 h10 H => ?_)) ⟨Nat.le_refl _, Nat.le_refl _⟩
              refine r_if_ne (tgt := 106) dX0_form_100 rfl (fun cH => ?_) (fun cH => ?_)
              · replace H := H.1 cH
                refine r_aload_n dX0_form_106 rfl rfl ?_
                refine r_iload_n dX0_form_107 rfl rfl ?_
                refine k_VV (As := [.int x2]) (stk := []) hp cv_X0_667 dX0_form_108 rfl (Nat.le_of_ble_eq_true rfl) ly_0 (H.mono (fun h11 H => ?_)) ⟨Nat.le_refl _, Nat.le_refl _⟩
                refine r_aload_n dX0_form_111 rfl rfl ?_
                refine r_aload_n dX0_form_112 rfl rfl ?_
                refine m_getF (x := 80) hp fw_X0_330 dX0_form_113 rfl ly_0 (ff_0_21 ly_0) ?_
                refine m_getF (x := 81) hp fw_X0_110 dX0_form_116 rfl (lf_0_21 ly_0) (ff_5_0 (lf_0_21 ly_0)) ?_
                refine k_VI (As := [.ref 81]) (stk := []) hp cv_X0_106 dX0_form_119 rfl (Nat.le_of_ble_eq_true rfl) ly_0 (H.mono (fun v12 h12 H => ?_)) ⟨Nat.le_refl _, Nat.le_refl _⟩
                refine r_istore (ls2 := [some (.ref 0), some (.int x1), some (.int x2), some (.int x3), some (.ref (r4 + 2)), some (.int v12)]) dX0_form_122 (by decide) rfl ?_
                refine r_aload_n dX0_form_124 rfl rfl ?_
                refine r_iload_n dX0_form_125 rfl rfl ?_
                refine k_VI (As := [.int x3]) (stk := []) hp cv_X0_628 dX0_form_126 rfl (Nat.le_of_ble_eq_true rfl) ly_0 (H.mono (fun v13 h13 H => ?_)) ⟨Nat.le_refl _, Nat.le_refl _⟩
                exact r_zret dX0_form_129 rfl rfl (Nat.le_refl _) (Nat.le_refl _) H
              · replace H := H.2 cH
                refine r_bipush (v := (-2 : Int32)) dX0_form_103 rfl ?_
                exact r_zret dX0_form_105 rfl rfl (Nat.le_refl _) (Nat.le_refl _) H
          · replace H := H.2 cH
            refine r_iconst (v := (-1 : Int32)) dX0_form_63 rfl ?_
            exact r_zret dX0_form_64 rfl rfl (Nat.le_refl _) (Nat.le_refl _) H
      · replace H := H.2 cH
        refine r_bipush (v := (-3 : Int32)) dX0_form_29 rfl ?_
        exact r_zret dX0_form_31 rfl rfl (Nat.le_refl _) (Nat.le_refl _) H
    · replace H := H.2 cH
      refine r_iconst (v := (-1 : Int32)) dX0_form_14 rfl ?_
      exact r_zret dX0_form_15 rfl rfl (Nat.le_refl _) (Nat.le_refl _) H
abbrev W_X0_findForm (g : GX) (d : Nat) (av : List Value) (Q : QT) (n : Nat) (pc : Nat) (ls : LV) (stk : List Value) (h : Hp) : Prop := RJ g m_X0_findForm (d + 1) 0 0 av Q pc ls stk n h 0 0
theorem s_X0_findForm_0 {g : GX} {d : Nat} {av : List Value} {Q : QT} {n : Nat} {h : Hp}  (hp : g.2.2.2.2 = true)  (H : CallV g m_X4_copy d [.ref 93, .ref 39] n h (fun h1 => (CallV g m_X4_copy d [.ref 95, .ref 41] n h1 (fun h2 => (CallV g m_X4_set d [.ref 97, .int (1 : Int32)] n h2 (fun h3 => (W_X0_findForm g d av Q n 32 [some (.ref 0), some (.int (0 : Int32))] [] h3))))))) : W_X0_findForm g d av Q n 0 [some (.ref 0), none] [] h := by
  refine r_aload_n dX0_findForm_0 rfl rfl ?_
  refine m_getF (x := 93) hp fw_X0_342 dX0_findForm_1 rfl ly_0 (ff_0_27 ly_0) ?_
  refine r_aload_n dX0_findForm_4 rfl rfl ?_
  refine m_getF (x := 39) hp fw_X0_31 dX0_findForm_5 rfl ly_0 (ff_0_1 ly_0) ?_
  refine k_VV (As := [.ref 39]) (stk := []) hp cv_X0_66 dX0_findForm_8 rfl (Nat.le_of_ble_eq_true rfl) (lf_0_27 ly_0) (H.mono (fun h1 H => ?_)) ⟨Nat.le_refl _, Nat.le_refl _⟩
  refine r_aload_n dX0_findForm_11 rfl rfl ?_
  refine m_getF (x := 95) hp fw_X0_345 dX0_findForm_12 rfl ly_0 (ff_0_28 ly_0) ?_
  refine r_aload_n dX0_findForm_15 rfl rfl ?_
  refine m_getF (x := 41) hp fw_X0_39 dX0_findForm_16 rfl ly_0 (ff_0_2 ly_0) ?_
  refine k_VV (As := [.ref 41]) (stk := []) hp cv_X0_66 dX0_findForm_19 rfl (Nat.le_of_ble_eq_true rfl) (lf_0_28 ly_0) (H.mono (fun h2 H => ?_)) ⟨Nat.le_refl _, Nat.le_refl _⟩
  refine r_aload_n dX0_findForm_22 rfl rfl ?_
  refine m_getF (x := 97) hp fw_X0_348 dX0_findForm_23 rfl ly_0 (ff_0_29 ly_0) ?_
  refine r_iconst (v := (1 : Int32)) dX0_findForm_26 rfl ?_
  refine k_VV (As := [.int (1 : Int32)]) (stk := []) hp cv_X0_42 dX0_findForm_27 rfl (Nat.le_of_ble_eq_true rfl) (lf_0_29 ly_0) (H.mono (fun h3 H => ?_)) ⟨Nat.le_refl _, Nat.le_refl _⟩
  refine r_iconst (v := (0 : Int32)) dX0_findForm_30 rfl ?_
  refine r_istore_n (ls2 := [some (.ref 0), some (.int (0 : Int32))]) dX0_findForm_31 rfl (by decide) rfl ?_
  exact H
theorem s_X0_findForm_32 {g : GX} {d : Nat} {av : List Value} {Q : QT} {n : Nat} {h : Hp} {x1 : Int32} (hp : g.2.2.2.2 = true)  (H : (((40 : Int32) < x1) → (W_X0_findForm g d av Q n 148 [some (.ref 0), none] [] h)) ∧ ((¬ (40 : Int32) < x1) → ((((ri h 93 3) ≤ (1 : Int32)) → (W_X0_findForm g d av Q n 148 [some (.ref 0), none] [] h)) ∧ ((¬ (ri h 93 3) ≤ (1 : Int32)) → ((((ri h 95 3) ≤ (1 : Int32)) → (W_X0_findForm g d av Q n 148 [some (.ref 0), none] [] h)) ∧ ((¬ (ri h 95 3) ≤ (1 : Int32)) → (CallI g m_X0_mayShare d [.ref 0, .int x1] n h (fun v1 h1 => (((v1 = (0 : Int32)) → (W_X0_findForm g d av Q n 142 [some (.ref 0), some (.int x1)] [] h1)) ∧ ((¬ v1 = (0 : Int32)) → (CallV g m_X4_copy d [.ref 99, .ref 95] n h1 (fun h2 => (CallV g m_X4_shiftK d [.ref 99, .int x1] n h2 (fun h3 => (CallV g m_X1_common d [.ref 1, .ref 93, .ref 99, .ref 101] n h3 (fun h4 => (CallV g m_X1_primitive d [.ref 1, .ref 101, .ref 103] n h4 (fun h5 => ((((ri h5 101 3) ≤ (1 : Int32)) → (W_X0_findForm g d av Q n 142 [some (.ref 0), some (.int x1)] [] h5)) ∧ ((¬ (ri h5 101 3) ≤ (1 : Int32)) → (CallI g m_X0_take d [.ref 0, .int x1] n h5 (fun v6 h6 => (((¬ v6 = (0 : Int32)) → (W_X0_findForm g d av Q n 142 [some (.ref 0), some (.int x1)] [] h6)) ∧ ((v6 = (0 : Int32)) → (Q (some (.int (0 : Int32))) n h6))))))))))))))))))))))))) : W_X0_findForm g d av Q n 32 [some (.ref 0), some (.int x1)] [] h := by
  refine r_iload_n dX0_findForm_32 rfl rfl ?_
  refine r_bipush (v := (40 : Int32)) dX0_findForm_33 rfl ?_
  refine r_icmp_gt (tgt := 148) dX0_findForm_35 rfl (fun cH => ?_) (fun cH => ?_)
  · replace H := H.1 cH
    refine r_prune [true, false] (ls2 := [some (.ref 0), none]) rfl ?_
    exact H
  · replace H := H.2 cH
    refine r_aload_n dX0_findForm_38 rfl rfl ?_
    refine m_getF (x := 93) hp fw_X0_342 dX0_findForm_39 rfl ly_0 (ff_0_27 ly_0) ?_
    refine m_getI hp fw_X0_28 dX0_findForm_42 rfl (lf_0_27 ly_0) ?_
    refine r_iconst (v := (1 : Int32)) dX0_findForm_45 rfl ?_
    refine r_icmp_le (tgt := 148) dX0_findForm_46 rfl (fun cH => ?_) (fun cH => ?_)
    · replace H := H.1 cH
      refine r_prune [true, false] (ls2 := [some (.ref 0), none]) rfl ?_
      exact H
    · replace H := H.2 cH
      refine r_aload_n dX0_findForm_49 rfl rfl ?_
      refine m_getF (x := 95) hp fw_X0_345 dX0_findForm_50 rfl ly_0 (ff_0_28 ly_0) ?_
      refine m_getI hp fw_X0_28 dX0_findForm_53 rfl (lf_0_28 ly_0) ?_
      refine r_iconst (v := (1 : Int32)) dX0_findForm_56 rfl ?_
      refine r_icmp_le (tgt := 148) dX0_findForm_57 rfl (fun cH => ?_) (fun cH => ?_)
      · replace H := H.1 cH
        refine r_prune [true, false] (ls2 := [some (.ref 0), none]) rfl ?_
        exact H
      · replace H := H.2 cH
        refine r_aload_n dX0_findForm_60 rfl rfl ?_
        refine r_iload_n dX0_findForm_61 rfl rfl ?_
        refine k_VI (As := [.int x1]) (stk := []) hp cv_X0_651 dX0_findForm_62 rfl (Nat.le_of_ble_eq_true rfl) ly_0 (H.mono (fun v1 h1 H => ?_)) ⟨Nat.le_refl _, Nat.le_refl _⟩
        refine r_if_eq (tgt := 142) dX0_findForm_65 rfl (fun cH => ?_) (fun cH => ?_)
        · replace H := H.1 cH
          exact H
        · replace H := H.2 cH
          refine r_aload_n dX0_findForm_68 rfl rfl ?_
          refine m_getF (x := 99) hp fw_X0_351 dX0_findForm_69 rfl ly_0 (ff_0_30 ly_0) ?_
          refine r_aload_n dX0_findForm_72 rfl rfl ?_
          refine m_getF (x := 95) hp fw_X0_345 dX0_findForm_73 rfl ly_0 (ff_0_28 ly_0) ?_
          refine k_VV (As := [.ref 95]) (stk := []) hp cv_X0_66 dX0_findForm_76 rfl (Nat.le_of_ble_eq_true rfl) (lf_0_30 ly_0) (H.mono (fun h2 H => ?_)) ⟨Nat.le_refl _, Nat.le_refl _⟩
          refine r_aload_n dX0_findForm_79 rfl rfl ?_
          refine m_getF (x := 99) hp fw_X0_351 dX0_findForm_80 rfl ly_0 (ff_0_30 ly_0) ?_
          refine r_iload_n dX0_findForm_83 rfl rfl ?_
          refine k_VV (As := [.int x1]) (stk := []) hp cv_X0_617 dX0_findForm_84 rfl (Nat.le_of_ble_eq_true rfl) (lf_0_30 ly_0) (H.mono (fun h3 H => ?_)) ⟨Nat.le_refl _, Nat.le_refl _⟩
          refine r_aload_n dX0_findForm_87 rfl rfl ?_
          refine m_getF (x := 1) hp fw_X0_46 dX0_findForm_88 rfl ly_0 (ff_0_0 ly_0) ?_
          refine r_aload_n dX0_findForm_91 rfl rfl ?_
          refine m_getF (x := 93) hp fw_X0_342 dX0_findForm_92 rfl ly_0 (ff_0_27 ly_0) ?_
          refine r_aload_n dX0_findForm_95 rfl rfl ?_
          refine m_getF (x := 99) hp fw_X0_351 dX0_findForm_96 rfl ly_0 (ff_0_30 ly_0) ?_
          refine r_aload_n dX0_findForm_99 rfl rfl ?_
          refine m_getF (x := 101) hp fw_X0_354 dX0_findForm_100 rfl ly_0 (ff_0_31 ly_0) ?_
          refine k_VV (As := [.ref 93, .ref 99, .ref 101]) (stk := []) hp cv_X0_53 dX0_findForm_103 rfl (Nat.le_of_ble_eq_true rfl) (lf_0_0 ly_0) (H.mono (fun h4 H => ?_)) ⟨Nat.le_refl _, Nat.le_refl _⟩
          refine r_aload_n dX0_findForm_106 rfl rfl ?_
          refine m_getF (x := 1) hp fw_X0_46 dX0_findForm_107 rfl ly_0 (ff_0_0 ly_0) ?_
          refine r_aload_n dX0_findForm_110 rfl rfl ?_
          refine m_getF (x := 101) hp fw_X0_354 dX0_findForm_111 rfl ly_0 (ff_0_31 ly_0) ?_
          refine r_aload_n dX0_findForm_114 rfl rfl ?_
          refine m_getF (x := 103) hp fw_X0_361 dX0_findForm_115 rfl ly_0 (ff_0_32 ly_0) ?_
          refine k_VV (As := [.ref 101, .ref 103]) (stk := []) hp cv_X0_654 dX0_findForm_118 rfl (Nat.le_of_ble_eq_true rfl) (lf_0_0 ly_0) (H.mono (fun h5 H => ?_)) ⟨Nat.le_refl _, Nat.le_refl _⟩
          refine r_aload_n dX0_findForm_121 rfl rfl ?_
          refine m_getF (x := 101) hp fw_X0_354 dX0_findForm_122 rfl ly_0 (ff_0_31 ly_0) ?_
          refine m_getI hp fw_X0_28 dX0_findForm_125 rfl (lf_0_31 ly_0) ?_
          refine r_iconst (v := (1 : Int32)) dX0_findForm_128 rfl ?_
          refine r_icmp_le (tgt := 142) dX0_findForm_129 rfl (fun cH => ?_) (fun cH => ?_)
          · replace H := H.1 cH
            exact H
          · replace H := H.2 cH
            refine r_aload_n dX0_findForm_132 rfl rfl ?_
            refine r_iload_n dX0_findForm_133 rfl rfl ?_
            refine k_VI (As := [.int x1]) (stk := []) hp cv_X0_658 dX0_findForm_134 rfl (Nat.le_of_ble_eq_true rfl) ly_0 (H.mono (fun v6 h6 H => ?_)) ⟨Nat.le_refl _, Nat.le_refl _⟩
            refine r_if_ne (tgt := 142) dX0_findForm_137 rfl (fun cH => ?_) (fun cH => ?_)
            · replace H := H.1 cH
              exact H
            · replace H := H.2 cH
              refine r_iconst (v := (0 : Int32)) dX0_findForm_140 rfl ?_
              exact r_zret dX0_findForm_141 rfl rfl (Nat.le_refl _) (Nat.le_refl _) H
theorem s_X0_findForm_142 {g : GX} {d : Nat} {av : List Value} {Q : QT} {n : Nat} {h : Hp} {x1 : Int32} (hp : g.2.2.2.2 = true)  (H : W_X0_findForm g d av Q n 32 [some (.ref 0), some (.int (x1 + (1 : Int32)))] [] h) : W_X0_findForm g d av Q n 142 [some (.ref 0), some (.int x1)] [] h := by
  refine r_iinc (v := (x1 + (1 : Int32))) (ls2 := [some (.ref 0), some (.int (x1 + (1 : Int32)))]) dX0_findForm_142 rfl rfl (by decide) rfl ?_
  refine r_goto (tgt := 32) dX0_findForm_145 rfl ?_
  exact H
theorem s_X0_findForm_148 {g : GX} {d : Nat} {av : List Value} {Q : QT} {n : Nat} {h : Hp}  (hp : g.2.2.2.2 = true)  (H : CallV g m_X4_row d [.ref 95, .int ((ri h 95 3) - (1 : Int32)), .ref 107] n h (fun h1 => (CallV g m_X4_row d [.ref 97, .int ((ri h1 97 3) - (1 : Int32)), .ref 109] n h1 (fun h2 => (Q (some (.int (1 : Int32))) n h2))))) : W_X0_findForm g d av Q n 148 [some (.ref 0), none] [] h := by
  refine r_aload_n dX0_findForm_148 rfl rfl ?_
  refine m_getF (x := 95) hp fw_X0_345 dX0_findForm_149 rfl ly_0 (ff_0_28 ly_0) ?_
  refine r_aload_n dX0_findForm_152 rfl rfl ?_
  refine m_getF (x := 95) hp fw_X0_345 dX0_findForm_153 rfl ly_0 (ff_0_28 ly_0) ?_
  refine m_getI hp fw_X0_28 dX0_findForm_156 rfl (lf_0_28 ly_0) ?_
  refine r_iconst (v := (1 : Int32)) dX0_findForm_159 rfl ?_
  refine r_isub dX0_findForm_160 ?_
  refine r_aload_n dX0_findForm_161 rfl rfl ?_
  refine m_getF (x := 107) hp fw_X0_368 dX0_findForm_162 rfl ly_0 (ff_0_34 ly_0) ?_
  refine k_VV (As := [.int ((ri h 95 3) - (1 : Int32)), .ref 107]) (stk := []) hp cv_X0_661 dX0_findForm_165 rfl (Nat.le_of_ble_eq_true rfl) (lf_0_28 ly_0) (H.mono (fun h1 H => ?_)) ⟨Nat.le_refl _, Nat.le_refl _⟩
  refine r_aload_n dX0_findForm_168 rfl rfl ?_
  refine m_getF (x := 97) hp fw_X0_348 dX0_findForm_169 rfl ly_0 (ff_0_29 ly_0) ?_
  refine r_aload_n dX0_findForm_172 rfl rfl ?_
  refine m_getF (x := 97) hp fw_X0_348 dX0_findForm_173 rfl ly_0 (ff_0_29 ly_0) ?_
  refine m_getI hp fw_X0_28 dX0_findForm_176 rfl (lf_0_29 ly_0) ?_
  refine r_iconst (v := (1 : Int32)) dX0_findForm_179 rfl ?_
  refine r_isub dX0_findForm_180 ?_
  refine r_aload_n dX0_findForm_181 rfl rfl ?_
  refine m_getF (x := 109) hp fw_X0_371 dX0_findForm_182 rfl ly_0 (ff_0_35 ly_0) ?_
  refine k_VV (As := [.int ((ri h1 97 3) - (1 : Int32)), .ref 109]) (stk := []) hp cv_X0_661 dX0_findForm_185 rfl (Nat.le_of_ble_eq_true rfl) (lf_0_29 ly_0) (H.mono (fun h2 H => ?_)) ⟨Nat.le_refl _, Nat.le_refl _⟩
  refine r_iconst (v := (1 : Int32)) dX0_findForm_188 rfl ?_
  exact r_zret dX0_findForm_189 rfl rfl (Nat.le_refl _) (Nat.le_refl _) H
abbrev W_X0_mayShare (g : GX) (d : Nat) (av : List Value) (Q : QT) (n : Nat) (pc : Nat) (ls : LV) (stk : List Value) (h : Hp) : Prop := RJ g m_X0_mayShare (d + 1) 0 0 av Q pc ls stk n h 0 0
theorem s_X0_mayShare_0 {g : GX} {d : Nat} {av : List Value} {Q : QT} {n : Nat} {h : Hp} {x1 : Int32} (hp : g.2.2.2.2 = true)  (H : W_X0_mayShare g d av Q n 4 [some (.ref 0), some (.int x1), some (.int (1000003 : Int32))] [] h) : W_X0_mayShare g d av Q n 0 [some (.ref 0), some (.int x1), none] [] h := by
  refine r_ldcw (own := "") (v := (1000003 : Int32)) dX0_mayShare_0 q1378 ?_
  refine r_istore_n (ls2 := [some (.ref 0), some (.int x1), some (.int (1000003 : Int32))]) dX0_mayShare_3 rfl (by decide) rfl ?_
  exact H
theorem s_X0_mayShare_4 {g : GX} {d : Nat} {av : List Value} {Q : QT} {n : Nat} {h : Hp} {x1 : Int32} {x2 : Int32} (hp : g.2.2.2.2 = true)  (H : CallV g m_X4_atN d [.ref 93, .int x2, .ref 103] n h (fun h1 => (CallV g m_X4_atN d [.ref 95, .int x2, .ref 105] n h1 (fun h2 => (((¬ (ri h2 103 1) = (ri h2 93 3)) → (W_X0_mayShare g d av Q n 109 [some (.ref 0), some (.int x1), some (.int x2)] [] h2)) ∧ (((ri h2 103 1) = (ri h2 93 3)) → (((¬ (ri h2 105 1) = (ri h2 95 3)) → (W_X0_mayShare g d av Q n 109 [some (.ref 0), some (.int x1), some (.int x2)] [] h2)) ∧ (((ri h2 105 1) = (ri h2 95 3)) → (CallV g m_X3_shift d [.ref 105, .int x1] n h2 (fun h3 => (CallV g m_X2_common d [.ref 2, .ref 103, .ref 105, .ref 103] n h3 (fun h4 => ((((ri h4 103 1) ≤ (1 : Int32)) → (Q (some (.int (0 : Int32))) n h4)) ∧ ((¬ (ri h4 103 1) ≤ (1 : Int32)) → (Q (some (.int (1 : Int32))) n h4))))))))))))))) : W_X0_mayShare g d av Q n 4 [some (.ref 0), some (.int x1), some (.int x2)] [] h := by
  refine r_aload_n dX0_mayShare_4 rfl rfl ?_
  refine m_getF (x := 93) hp fw_X0_342 dX0_mayShare_5 rfl ly_0 (ff_0_27 ly_0) ?_
  refine r_iload_n dX0_mayShare_8 rfl rfl ?_
  refine r_aload_n dX0_mayShare_9 rfl rfl ?_
  refine m_getF (x := 103) hp fw_X0_361 dX0_mayShare_10 rfl ly_0 (ff_0_32 ly_0) ?_
  refine k_VV (As := [.int x2, .ref 103]) (stk := []) hp cv_X0_632 dX0_mayShare_13 rfl (Nat.le_of_ble_eq_true rfl) (lf_0_27 ly_0) (H.mono (fun h1 H => ?_)) ⟨Nat.le_refl _, Nat.le_refl _⟩
  refine r_aload_n dX0_mayShare_16 rfl rfl ?_
  refine m_getF (x := 95) hp fw_X0_345 dX0_mayShare_17 rfl ly_0 (ff_0_28 ly_0) ?_
  refine r_iload_n dX0_mayShare_20 rfl rfl ?_
  refine r_aload_n dX0_mayShare_21 rfl rfl ?_
  refine m_getF (x := 105) hp fw_X0_365 dX0_mayShare_22 rfl ly_0 (ff_0_33 ly_0) ?_
  refine k_VV (As := [.int x2, .ref 105]) (stk := []) hp cv_X0_632 dX0_mayShare_25 rfl (Nat.le_of_ble_eq_true rfl) (lf_0_28 ly_0) (H.mono (fun h2 H => ?_)) ⟨Nat.le_refl _, Nat.le_refl _⟩
  refine r_aload_n dX0_mayShare_28 rfl rfl ?_
  refine m_getF (x := 103) hp fw_X0_361 dX0_mayShare_29 rfl ly_0 (ff_0_32 ly_0) ?_
  refine m_getI hp fw_X0_636 dX0_mayShare_32 rfl (lf_0_32 ly_0) ?_
  refine r_aload_n dX0_mayShare_35 rfl rfl ?_
  refine m_getF (x := 93) hp fw_X0_342 dX0_mayShare_36 rfl ly_0 (ff_0_27 ly_0) ?_
  refine m_getI hp fw_X0_28 dX0_mayShare_39 rfl (lf_0_27 ly_0) ?_
  refine r_icmp_ne (tgt := 109) dX0_mayShare_42 rfl (fun cH => ?_) (fun cH => ?_)
  · replace H := H.1 cH
    exact H
  · replace H := H.2 cH
    refine r_aload_n dX0_mayShare_45 rfl rfl ?_
    refine m_getF (x := 105) hp fw_X0_365 dX0_mayShare_46 rfl ly_0 (ff_0_33 ly_0) ?_
    refine m_getI hp fw_X0_636 dX0_mayShare_49 rfl (lf_0_33 ly_0) ?_
    refine r_aload_n dX0_mayShare_52 rfl rfl ?_
    refine m_getF (x := 95) hp fw_X0_345 dX0_mayShare_53 rfl ly_0 (ff_0_28 ly_0) ?_
    refine m_getI hp fw_X0_28 dX0_mayShare_56 rfl (lf_0_28 ly_0) ?_
    refine r_icmp_ne (tgt := 109) dX0_mayShare_59 rfl (fun cH => ?_) (fun cH => ?_)
    · replace H := H.1 cH
      exact H
    · replace H := H.2 cH
      refine r_aload_n dX0_mayShare_62 rfl rfl ?_
      refine m_getF (x := 105) hp fw_X0_365 dX0_mayShare_63 rfl ly_0 (ff_0_33 ly_0) ?_
      refine r_iload_n dX0_mayShare_66 rfl rfl ?_
      refine k_VV (As := [.int x1]) (stk := []) hp cv_X0_639 dX0_mayShare_67 rfl (Nat.le_of_ble_eq_true rfl) (lf_0_33 ly_0) (H.mono (fun h3 H => ?_)) ⟨Nat.le_refl _, Nat.le_refl _⟩
      refine r_aload_n dX0_mayShare_70 rfl rfl ?_
      refine m_getF (x := 1) hp fw_X0_46 dX0_mayShare_71 rfl ly_0 (ff_0_0 ly_0) ?_
      refine m_getF (x := 2) hp fw_X0_642 dX0_mayShare_74 rfl (lf_0_0 ly_0) (ff_1_0 (lf_0_0 ly_0)) ?_
      refine r_aload_n dX0_mayShare_77 rfl rfl ?_
      refine m_getF (x := 103) hp fw_X0_361 dX0_mayShare_78 rfl ly_0 (ff_0_32 ly_0) ?_
      refine r_aload_n dX0_mayShare_81 rfl rfl ?_
      refine m_getF (x := 105) hp fw_X0_365 dX0_mayShare_82 rfl ly_0 (ff_0_33 ly_0) ?_
      refine r_aload_n dX0_mayShare_85 rfl rfl ?_
      refine m_getF (x := 103) hp fw_X0_361 dX0_mayShare_86 rfl ly_0 (ff_0_32 ly_0) ?_
      refine k_VV (As := [.ref 103, .ref 105, .ref 103]) (stk := []) hp cv_X0_646 dX0_mayShare_89 rfl (Nat.le_of_ble_eq_true rfl) (lf_1_0 (lf_0_0 ly_0)) (H.mono (fun h4 H => ?_)) ⟨Nat.le_refl _, Nat.le_refl _⟩
      refine r_aload_n dX0_mayShare_92 rfl rfl ?_
      refine m_getF (x := 103) hp fw_X0_361 dX0_mayShare_93 rfl ly_0 (ff_0_32 ly_0) ?_
      refine m_getI hp fw_X0_636 dX0_mayShare_96 rfl (lf_0_32 ly_0) ?_
      refine r_iconst (v := (1 : Int32)) dX0_mayShare_99 rfl ?_
      refine r_icmp_le (tgt := 107) dX0_mayShare_100 rfl (fun cH => ?_) (fun cH => ?_)
      · replace H := H.1 cH
        refine r_iconst (v := (0 : Int32)) dX0_mayShare_107 rfl ?_
        exact r_zret dX0_mayShare_108 rfl rfl (Nat.le_refl _) (Nat.le_refl _) H
      · replace H := H.2 cH
        refine r_iconst (v := (1 : Int32)) dX0_mayShare_103 rfl ?_
        refine r_goto (tgt := 108) dX0_mayShare_104 rfl ?_
        exact r_zret dX0_mayShare_108 rfl rfl (Nat.le_refl _) (Nat.le_refl _) H
theorem s_X0_mayShare_109 {g : GX} {d : Nat} {av : List Value} {Q : QT} {n : Nat} {h : Hp} {x1 : Int32} {x2 : Int32} (hp : g.2.2.2.2 = true)  (H : W_X0_mayShare g d av Q n 4 [some (.ref 0), some (.int x1), some (.int (x2 + (1 : Int32)))] [] h) : W_X0_mayShare g d av Q n 109 [some (.ref 0), some (.int x1), some (.int x2)] [] h := by
  refine r_iinc (v := (x2 + (1 : Int32))) (ls2 := [some (.ref 0), some (.int x1), some (.int (x2 + (1 : Int32)))]) dX0_mayShare_109 rfl rfl (by decide) rfl ?_
  refine r_goto (tgt := 4) dX0_mayShare_112 rfl ?_
  exact H
abbrev W_X0_take (g : GX) (d : Nat) (av : List Value) (Q : QT) (n : Nat) (pc : Nat) (ls : LV) (stk : List Value) (h : Hp) : Prop := RJ g m_X0_take (d + 1) 0 0 av Q pc ls stk n h 0 0
theorem s_X0_take_0 {g : GX} {d : Nat} {av : List Value} {Q : QT} {n : Nat} {h : Hp} {x1 : Int32} (hp : g.2.2.2.2 = true)  (H : CallI g m_X1_divides d [.ref 1, .ref 101, .ref 93, .ref 45] n h (fun v1 h1 => (CallV g m_X4_copy d [.ref 93, .ref 45] n h1 (fun h2 => (CallV g m_X4_copy d [.ref 99, .ref 101] n h2 (fun h3 => (CallI g m_X0_rest d [.int (-x1)] n h3 (fun v4 h4 => (CallV g m_X4_shiftK d [.ref 99, .int v4] n h4 (fun h5 => (CallI g m_X1_divides d [.ref 1, .ref 99, .ref 95, .ref 45] n h5 (fun v6 h6 => (CallV g m_X4_copy d [.ref 95, .ref 45] n h6 (fun h7 => (W_X0_take g d av Q n 88 [some (.ref 0), some (.int x1), none, none, some (.int (1 : Int32))] [] h7))))))))))))))) : W_X0_take g d av Q n 0 [some (.ref 0), some (.int x1), none, none, none] [] h := by
  refine r_aload_n dX0_take_0 rfl rfl ?_
  refine m_getF (x := 1) hp fw_X0_46 dX0_take_1 rfl ly_0 (ff_0_0 ly_0) ?_
  refine r_aload_n dX0_take_4 rfl rfl ?_
  refine m_getF (x := 101) hp fw_X0_354 dX0_take_5 rfl ly_0 (ff_0_31 ly_0) ?_
  refine r_aload_n dX0_take_8 rfl rfl ?_
  refine m_getF (x := 93) hp fw_X0_342 dX0_take_9 rfl ly_0 (ff_0_27 ly_0) ?_
  refine r_aload_n dX0_take_12 rfl rfl ?_
  refine m_getF (x := 45) hp fw_X0_59 dX0_take_13 rfl ly_0 (ff_0_4 ly_0) ?_
  refine k_VI (As := [.ref 101, .ref 93, .ref 45]) (stk := []) hp cv_X0_62 dX0_take_16 rfl (Nat.le_of_ble_eq_true rfl) (lf_0_0 ly_0) (H.mono (fun v1 h1 H => ?_)) ⟨Nat.le_refl _, Nat.le_refl _⟩
  refine r_istore_n (ls2 := [some (.ref 0), some (.int x1), some (.int v1), none, none]) dX0_take_19 rfl (by decide) rfl ?_
  refine r_aload_n dX0_take_20 rfl rfl ?_
  refine m_getF (x := 93) hp fw_X0_342 dX0_take_21 rfl ly_0 (ff_0_27 ly_0) ?_
  refine r_aload_n dX0_take_24 rfl rfl ?_
  refine m_getF (x := 45) hp fw_X0_59 dX0_take_25 rfl ly_0 (ff_0_4 ly_0) ?_
  refine k_VV (As := [.ref 45]) (stk := []) hp cv_X0_66 dX0_take_28 rfl (Nat.le_of_ble_eq_true rfl) (lf_0_27 ly_0) (H.mono (fun h2 H => ?_)) ⟨Nat.le_refl _, Nat.le_refl _⟩
  refine r_aload_n dX0_take_31 rfl rfl ?_
  refine m_getF (x := 99) hp fw_X0_351 dX0_take_32 rfl ly_0 (ff_0_30 ly_0) ?_
  refine r_aload_n dX0_take_35 rfl rfl ?_
  refine m_getF (x := 101) hp fw_X0_354 dX0_take_36 rfl ly_0 (ff_0_31 ly_0) ?_
  refine k_VV (As := [.ref 101]) (stk := []) hp cv_X0_66 dX0_take_39 rfl (Nat.le_of_ble_eq_true rfl) (lf_0_30 ly_0) (H.mono (fun h3 H => ?_)) ⟨Nat.le_refl _, Nat.le_refl _⟩
  refine r_aload_n dX0_take_42 rfl rfl ?_
  refine m_getF (x := 99) hp fw_X0_351 dX0_take_43 rfl ly_0 (ff_0_30 ly_0) ?_
  refine r_iload_n dX0_take_46 rfl rfl ?_
  refine r_ineg dX0_take_47 ?_
  refine k_SI (As := [.int (-x1)]) (stk := [.ref 99]) cs_X0_543 dX0_take_48 rfl (Nat.le_of_ble_eq_true rfl) (H.mono (fun v4 h4 H => ?_)) ⟨Nat.le_refl _, Nat.le_refl _⟩
  refine k_VV (As := [.int v4]) (stk := []) hp cv_X0_617 dX0_take_51 rfl (Nat.le_of_ble_eq_true rfl) (lf_0_30 ly_0) (H.mono (fun h5 H => ?_)) ⟨Nat.le_refl _, Nat.le_refl _⟩
  refine r_aload_n dX0_take_54 rfl rfl ?_
  refine m_getF (x := 1) hp fw_X0_46 dX0_take_55 rfl ly_0 (ff_0_0 ly_0) ?_
  refine r_aload_n dX0_take_58 rfl rfl ?_
  refine m_getF (x := 99) hp fw_X0_351 dX0_take_59 rfl ly_0 (ff_0_30 ly_0) ?_
  refine r_aload_n dX0_take_62 rfl rfl ?_
  refine m_getF (x := 95) hp fw_X0_345 dX0_take_63 rfl ly_0 (ff_0_28 ly_0) ?_
  refine r_aload_n dX0_take_66 rfl rfl ?_
  refine m_getF (x := 45) hp fw_X0_59 dX0_take_67 rfl ly_0 (ff_0_4 ly_0) ?_
  refine k_VI (As := [.ref 99, .ref 95, .ref 45]) (stk := []) hp cv_X0_62 dX0_take_70 rfl (Nat.le_of_ble_eq_true rfl) (lf_0_0 ly_0) (H.mono (fun v6 h6 H => ?_)) ⟨Nat.le_refl _, Nat.le_refl _⟩
  refine r_istore_n (ls2 := [some (.ref 0), some (.int x1), some (.int v1), some (.int v6), none]) dX0_take_73 rfl (by decide) rfl ?_
  refine r_aload_n dX0_take_74 rfl rfl ?_
  refine m_getF (x := 95) hp fw_X0_345 dX0_take_75 rfl ly_0 (ff_0_28 ly_0) ?_
  refine r_aload_n dX0_take_78 rfl rfl ?_
  refine m_getF (x := 45) hp fw_X0_59 dX0_take_79 rfl ly_0 (ff_0_4 ly_0) ?_
  refine k_VV (As := [.ref 45]) (stk := []) hp cv_X0_66 dX0_take_82 rfl (Nat.le_of_ble_eq_true rfl) (lf_0_28 ly_0) (H.mono (fun h7 H => ?_)) ⟨Nat.le_refl _, Nat.le_refl _⟩
  refine r_iconst (v := (1 : Int32)) dX0_take_85 rfl ?_
  refine r_istore (ls2 := [some (.ref 0), some (.int x1), some (.int v1), some (.int v6), some (.int (1 : Int32))]) dX0_take_86 (by decide) rfl ?_
  refine r_prune [true, true, false, false, true] (ls2 := [some (.ref 0), some (.int x1), none, none, some (.int (1 : Int32))]) rfl ?_
  exact H
theorem s_X0_take_88 {g : GX} {d : Nat} {av : List Value} {Q : QT} {n : Nat} {h : Hp} {x1 : Int32} {x4 : Int32} (hp : g.2.2.2.2 = true)  (H : ((x1 < x4) → (Q (some (.int (1 : Int32))) n h)) ∧ ((¬ x1 < x4) → (CallV g m_X4_copy d [.ref 99, .ref 101] n h (fun h1 => (CallI g m_X0_rest d [.int (-x4)] n h1 (fun v2 h2 => (CallV g m_X4_shiftK d [.ref 99, .int v2] n h2 (fun h3 => (CallV g m_X4_copy d [.ref 45, .ref 97] n h3 (fun h4 => (CallV g m_X4_product d [.ref 97, .ref 45, .ref 99] n h4 (fun h5 => ((((ri h5 97 3) ≤ (9 : Int32)) → (W_X0_take g d av Q n 88 [some (.ref 0), some (.int x1), none, none, some (.int (x4 + (1 : Int32)))] [] h5)) ∧ ((¬ (ri h5 97 3) ≤ (9 : Int32)) → (Q (some (.int (0 : Int32))) n h5))))))))))))))) : W_X0_take g d av Q n 88 [some (.ref 0), some (.int x1), none, none, some (.int x4)] [] h := by
  refine r_iload dX0_take_88 rfl ?_
  refine r_iload_n dX0_take_90 rfl rfl ?_
  refine r_icmp_gt (tgt := 164) dX0_take_91 rfl (fun cH => ?_) (fun cH => ?_)
  · replace H := H.1 cH
    refine r_iconst (v := (1 : Int32)) dX0_take_164 rfl ?_
    exact r_zret dX0_take_165 rfl rfl (Nat.le_refl _) (Nat.le_refl _) H
  · replace H := H.2 cH
    refine r_aload_n dX0_take_94 rfl rfl ?_
    refine m_getF (x := 99) hp fw_X0_351 dX0_take_95 rfl ly_0 (ff_0_30 ly_0) ?_
    refine r_aload_n dX0_take_98 rfl rfl ?_
    refine m_getF (x := 101) hp fw_X0_354 dX0_take_99 rfl ly_0 (ff_0_31 ly_0) ?_
    refine k_VV (As := [.ref 101]) (stk := []) hp cv_X0_66 dX0_take_102 rfl (Nat.le_of_ble_eq_true rfl) (lf_0_30 ly_0) (H.mono (fun h1 H => ?_)) ⟨Nat.le_refl _, Nat.le_refl _⟩
    refine r_aload_n dX0_take_105 rfl rfl ?_
    refine m_getF (x := 99) hp fw_X0_351 dX0_take_106 rfl ly_0 (ff_0_30 ly_0) ?_
    refine r_iload dX0_take_109 rfl ?_
    refine r_ineg dX0_take_111 ?_
    refine k_SI (As := [.int (-x4)]) (stk := [.ref 99]) cs_X0_543 dX0_take_112 rfl (Nat.le_of_ble_eq_true rfl) (H.mono (fun v2 h2 H => ?_)) ⟨Nat.le_refl _, Nat.le_refl _⟩
    refine k_VV (As := [.int v2]) (stk := []) hp cv_X0_617 dX0_take_115 rfl (Nat.le_of_ble_eq_true rfl) (lf_0_30 ly_0) (H.mono (fun h3 H => ?_)) ⟨Nat.le_refl _, Nat.le_refl _⟩
    refine r_aload_n dX0_take_118 rfl rfl ?_
    refine m_getF (x := 45) hp fw_X0_59 dX0_take_119 rfl ly_0 (ff_0_4 ly_0) ?_
    refine r_aload_n dX0_take_122 rfl rfl ?_
    refine m_getF (x := 97) hp fw_X0_348 dX0_take_123 rfl ly_0 (ff_0_29 ly_0) ?_
    refine k_VV (As := [.ref 97]) (stk := []) hp cv_X0_66 dX0_take_126 rfl (Nat.le_of_ble_eq_true rfl) (lf_0_4 ly_0) (H.mono (fun h4 H => ?_)) ⟨Nat.le_refl _, Nat.le_refl _⟩
    refine r_aload_n dX0_take_129 rfl rfl ?_
    refine m_getF (x := 97) hp fw_X0_348 dX0_take_130 rfl ly_0 (ff_0_29 ly_0) ?_
    refine r_aload_n dX0_take_133 rfl rfl ?_
    refine m_getF (x := 45) hp fw_X0_59 dX0_take_134 rfl ly_0 (ff_0_4 ly_0) ?_
    refine r_aload_n dX0_take_137 rfl rfl ?_
    refine m_getF (x := 99) hp fw_X0_351 dX0_take_138 rfl ly_0 (ff_0_30 ly_0) ?_
    refine k_VV (As := [.ref 45, .ref 99]) (stk := []) hp cv_X0_97 dX0_take_141 rfl (Nat.le_of_ble_eq_true rfl) (lf_0_29 ly_0) (H.mono (fun h5 H => ?_)) ⟨Nat.le_refl _, Nat.le_refl _⟩
    refine r_aload_n dX0_take_144 rfl rfl ?_
    refine m_getF (x := 97) hp fw_X0_348 dX0_take_145 rfl ly_0 (ff_0_29 ly_0) ?_
    refine m_getI hp fw_X0_28 dX0_take_148 rfl (lf_0_29 ly_0) ?_
    refine r_bipush (v := (9 : Int32)) dX0_take_151 rfl ?_
    refine r_icmp_le (tgt := 158) dX0_take_153 rfl (fun cH => ?_) (fun cH => ?_)
    · replace H := H.1 cH
      refine r_iinc (v := (x4 + (1 : Int32))) (ls2 := [some (.ref 0), some (.int x1), none, none, some (.int (x4 + (1 : Int32)))]) dX0_take_158 rfl rfl (by decide) rfl ?_
      refine r_goto (tgt := 88) dX0_take_161 rfl ?_
      exact H
    · replace H := H.2 cH
      refine r_iconst (v := (0 : Int32)) dX0_take_156 rfl ?_
      exact r_zret dX0_take_157 rfl rfl (Nat.le_refl _) (Nat.le_refl _) H
abbrev W_X0_isModestForm (g : GX) (d : Nat) (av : List Value) (Q : QT) (n : Nat) (pc : Nat) (ls : LV) (stk : List Value) (h : Hp) : Prop := RJ g m_X0_isModestForm (d + 1) 0 0 av Q pc ls stk n h 0 0
theorem s_X0_isModestForm_0 {g : GX} {d : Nat} {av : List Value} {Q : QT} {n : Nat} {h : Hp}  (hp : g.2.2.2.2 = true)  (H : W_X0_isModestForm g d av Q n 4 [some (.ref 0), some (.int (1 : Int32)), some (.int (0 : Int32))] [] h) : W_X0_isModestForm g d av Q n 0 [some (.ref 0), none, none] [] h := by
  refine r_iconst (v := (1 : Int32)) dX0_isModestForm_0 rfl ?_
  refine r_istore_n (ls2 := [some (.ref 0), some (.int (1 : Int32)), none]) dX0_isModestForm_1 rfl (by decide) rfl ?_
  refine r_iconst (v := (0 : Int32)) dX0_isModestForm_2 rfl ?_
  refine r_istore_n (ls2 := [some (.ref 0), some (.int (1 : Int32)), some (.int (0 : Int32))]) dX0_isModestForm_3 rfl (by decide) rfl ?_
  exact H
theorem s_X0_isModestForm_4 {g : GX} {d : Nat} {av : List Value} {Q : QT} {n : Nat} {h : Hp} {x1 : Int32} {x2 : Int32} (hp : g.2.2.2.2 = true)  (H : (((3 : Int32) ≤ x2) → ((x1 = 0 ∨ x1 = 1) ∧ Q (some (.int x1)) n h)) ∧ ((¬ (3 : Int32) ≤ x2) → (((x1 = (0 : Int32)) → ((x1 = 0 ∨ x1 = 1) ∧ Q (some (.int x1)) n h)) ∧ ((¬ x1 = (0 : Int32)) → (CallV g m_X0_layForm d [.ref 0, .int x2] n h (fun h1 => (CallI g m_X0_isModest d [.ref 0] n h1 (fun v2 h2 => (W_X0_isModestForm g d av Q n 4 [some (.ref 0), some (.int v2), some (.int (x2 + (1 : Int32)))] [] h2))))))))) : W_X0_isModestForm g d av Q n 4 [some (.ref 0), some (.int x1), some (.int x2)] [] h := by
  refine r_iload_n dX0_isModestForm_4 rfl rfl ?_
  refine r_iconst (v := (3 : Int32)) dX0_isModestForm_5 rfl ?_
  refine r_icmp_ge (tgt := 29) dX0_isModestForm_6 rfl (fun cH => ?_) (fun cH => ?_)
  · replace H := H.1 cH
    refine r_iload_n dX0_isModestForm_29 rfl rfl ?_
    exact r_zret dX0_isModestForm_30 rfl (nar01 H.1) (Nat.le_refl _) (Nat.le_refl _) H.2
  · replace H := H.2 cH
    refine r_iload_n dX0_isModestForm_9 rfl rfl ?_
    refine r_if_eq (tgt := 29) dX0_isModestForm_10 rfl (fun cH => ?_) (fun cH => ?_)
    · replace H := H.1 cH
      refine r_iload_n dX0_isModestForm_29 rfl rfl ?_
      exact r_zret dX0_isModestForm_30 rfl (nar01 H.1) (Nat.le_refl _) (Nat.le_refl _) H.2
    · replace H := H.2 cH
      refine r_aload_n dX0_isModestForm_13 rfl rfl ?_
      refine r_iload_n dX0_isModestForm_14 rfl rfl ?_
      refine k_VV (As := [.int x2]) (stk := []) hp cv_X0_667 dX0_isModestForm_15 rfl (Nat.le_of_ble_eq_true rfl) ly_0 (H.mono (fun h1 H => ?_)) ⟨Nat.le_refl _, Nat.le_refl _⟩
      refine r_aload_n dX0_isModestForm_18 rfl rfl ?_
      refine k_VI (As := []) (stk := []) hp cv_X0_670 dX0_isModestForm_19 rfl (Nat.le_of_ble_eq_true rfl) ly_0 (H.mono (fun v2 h2 H => ?_)) ⟨Nat.le_refl _, Nat.le_refl _⟩
      refine r_istore_n (ls2 := [some (.ref 0), some (.int v2), some (.int x2)]) dX0_isModestForm_22 rfl (by decide) rfl ?_
      refine r_iinc (v := (x2 + (1 : Int32))) (ls2 := [some (.ref 0), some (.int v2), some (.int (x2 + (1 : Int32)))]) dX0_isModestForm_23 rfl rfl (by decide) rfl ?_
      refine r_goto (tgt := 4) dX0_isModestForm_26 rfl ?_
      exact H
abbrev W_X0_layForm (g : GX) (d : Nat) (av : List Value) (Q : QT) (n : Nat) (pc : Nat) (ls : LV) (stk : List Value) (h : Hp) : Prop := RJ g m_X0_layForm (d + 1) 0 0 av Q pc ls stk n h 0 0
theorem s_X0_layForm_0 {g : GX} {d : Nat} {av : List Value} {Q : QT} {n : Nat} {h : Hp} {x1 : Int32} (hp : g.2.2.2.2 = true)  (H : ((¬ x1 = (0 : Int32)) → (((¬ x1 = (1 : Int32)) → (W_X0_layForm g d av Q n 31 [some (.ref 0), some (.int x1), none] [.ref 97, .ref 39] h)) ∧ ((x1 = (1 : Int32)) → (W_X0_layForm g d av Q n 31 [some (.ref 0), some (.int x1), none] [.ref 95, .ref 39] h)))) ∧ ((x1 = (0 : Int32)) → (W_X0_layForm g d av Q n 31 [some (.ref 0), some (.int x1), none] [.ref 93, .ref 39] h))) : W_X0_layForm g d av Q n 0 [some (.ref 0), some (.int x1), none] [] h := by
  refine r_aload_n dX0_layForm_0 rfl rfl ?_
  refine m_getF (x := 39) hp fw_X0_31 dX0_layForm_1 rfl ly_0 (ff_0_1 ly_0) ?_
  refine r_iload_n dX0_layForm_4 rfl rfl ?_
  refine r_if_ne (tgt := 15) dX0_layForm_5 rfl (fun cH => ?_) (fun cH => ?_)
  · replace H := H.1 cH
    refine r_iload_n dX0_layForm_15 rfl rfl ?_
    refine r_iconst (v := (1 : Int32)) dX0_layForm_16 rfl ?_
    refine r_icmp_ne (tgt := 27) dX0_layForm_17 rfl (fun cH => ?_) (fun cH => ?_)
    · replace H := H.1 cH
      refine r_aload_n dX0_layForm_27 rfl rfl ?_
      refine m_getF (x := 97) hp fw_X0_348 dX0_layForm_28 rfl ly_0 (ff_0_29 ly_0) ?_
      exact H
    · replace H := H.2 cH
      refine r_aload_n dX0_layForm_20 rfl rfl ?_
      refine m_getF (x := 95) hp fw_X0_345 dX0_layForm_21 rfl ly_0 (ff_0_28 ly_0) ?_
      refine r_goto (tgt := 31) dX0_layForm_24 rfl ?_
      exact H
  · replace H := H.2 cH
    refine r_aload_n dX0_layForm_8 rfl rfl ?_
    refine m_getF (x := 93) hp fw_X0_342 dX0_layForm_9 rfl ly_0 (ff_0_27 ly_0) ?_
    refine r_goto (tgt := 31) dX0_layForm_12 rfl ?_
    exact H
theorem s_X0_layForm_31 {g : GX} {d : Nat} {av : List Value} {Q : QT} {n : Nat} {h : Hp} {x1 : Int32} {as0 : Nat} {as1 : Nat} (hp : g.2.2.2.2 = true) (ts0 : lay as0 = (0, 4, 4)) (ts1 : lay as1 = (0, 4, 4)) (H : CallV g m_X4_copy d [.ref as1, .ref as0] n h (fun h1 => (((¬ x1 = (2 : Int32)) → (W_X0_layForm g d av Q n 50 [some (.ref 0), none, none] [.ref 107] h1)) ∧ ((x1 = (2 : Int32)) → (W_X0_layForm g d av Q n 50 [some (.ref 0), none, none] [.ref 109] h1))))) : W_X0_layForm g d av Q n 31 [some (.ref 0), some (.int x1), none] [.ref as0, .ref as1] h := by
  refine k_VV (As := [.ref as0]) (stk := []) hp cv_X0_66 dX0_layForm_31 rfl (Nat.le_of_ble_eq_true rfl) ts1 (H.mono (fun h1 H => ?_)) ⟨Nat.le_refl _, Nat.le_refl _⟩
  refine r_iload_n dX0_layForm_34 rfl rfl ?_
  refine r_iconst (v := (2 : Int32)) dX0_layForm_35 rfl ?_
  refine r_icmp_ne (tgt := 46) dX0_layForm_36 rfl (fun cH => ?_) (fun cH => ?_)
  · replace H := H.1 cH
    refine r_aload_n dX0_layForm_46 rfl rfl ?_
    refine m_getF (x := 107) hp fw_X0_368 dX0_layForm_47 rfl ly_0 (ff_0_34 ly_0) ?_
    refine r_prune [true, false, false] (ls2 := [some (.ref 0), none, none]) rfl ?_
    exact H
  · replace H := H.2 cH
    refine r_aload_n dX0_layForm_39 rfl rfl ?_
    refine m_getF (x := 109) hp fw_X0_371 dX0_layForm_40 rfl ly_0 (ff_0_35 ly_0) ?_
    refine r_goto (tgt := 50) dX0_layForm_43 rfl ?_
    refine r_prune [true, false, false] (ls2 := [some (.ref 0), none, none]) rfl ?_
    exact H
theorem s_X0_layForm_50 {g : GX} {d : Nat} {av : List Value} {Q : QT} {n : Nat} {h : Hp} {as0 : Nat} (hp : g.2.2.2.2 = true) (ts0 : lay as0 = (0, 3, 2)) (H : CallV g m_X4_open d [.ref 41, .int (ri h as0 1), .int (1 : Int32)] n h (fun h1 => (CallV g m_X4_putRow d [.ref 41, .int (0 : Int32), .ref as0] n h1 (fun h2 => (CallV g m_X0_reduce d [.ref 0] n h2 (fun h3 => (Q none n h3))))))) : W_X0_layForm g d av Q n 50 [some (.ref 0), none, none] [.ref as0] h := by
  refine r_astore_n (ls2 := [some (.ref 0), none, some (.ref as0)]) dX0_layForm_50 rfl (by decide) rfl ?_
  refine r_aload_n dX0_layForm_51 rfl rfl ?_
  refine m_getF (x := 41) hp fw_X0_39 dX0_layForm_52 rfl ly_0 (ff_0_2 ly_0) ?_
  refine r_aload_n dX0_layForm_55 rfl rfl ?_
  refine m_getI hp fw_X0_636 dX0_layForm_56 rfl ts0 ?_
  refine r_iconst (v := (1 : Int32)) dX0_layForm_59 rfl ?_
  refine k_VV (As := [.int (ri h as0 1), .int (1 : Int32)]) (stk := []) hp cv_X0_304 dX0_layForm_60 rfl (Nat.le_of_ble_eq_true rfl) (lf_0_2 ly_0) (H.mono (fun h1 H => ?_)) ⟨Nat.le_refl _, Nat.le_refl _⟩
  refine r_aload_n dX0_layForm_63 rfl rfl ?_
  refine m_getF (x := 41) hp fw_X0_39 dX0_layForm_64 rfl ly_0 (ff_0_2 ly_0) ?_
  refine r_iconst (v := (0 : Int32)) dX0_layForm_67 rfl ?_
  refine r_aload_n dX0_layForm_68 rfl rfl ?_
  refine k_VV (As := [.int (0 : Int32), .ref as0]) (stk := []) hp cv_X0_664 dX0_layForm_69 rfl (Nat.le_of_ble_eq_true rfl) (lf_0_2 ly_0) (H.mono (fun h2 H => ?_)) ⟨Nat.le_refl _, Nat.le_refl _⟩
  refine r_aload_n dX0_layForm_72 rfl rfl ?_
  refine k_VV (As := []) (stk := []) hp cv_X0_81 dX0_layForm_73 rfl (Nat.le_of_ble_eq_true rfl) ly_0 (H.mono (fun h3 H => ?_)) ⟨Nat.le_refl _, Nat.le_refl _⟩
  exact r_vret dX0_layForm_76 rfl (Nat.le_refl _) (Nat.le_refl _) H
abbrev W_X0_isModest (g : GX) (d : Nat) (av : List Value) (Q : QT) (n : Nat) (pc : Nat) (ls : LV) (stk : List Value) (h : Hp) : Prop := RJ g m_X0_isModest d 0 0 av Q pc ls stk n h 0 0
theorem s_X0_isModest_0 {g : GX} {d : Nat} {av : List Value} {Q : QT} {n : Nat} {h : Hp}  (hp : g.2.2.2.2 = true)  (H : (((9 : Int32) < (ri h 39 3)) → (Q (some (.int (0 : Int32))) n h)) ∧ ((¬ (9 : Int32) < (ri h 39 3)) → ((((9 : Int32) < (ri h 41 3)) → (Q (some (.int (0 : Int32))) n h)) ∧ ((¬ (9 : Int32) < (ri h 41 3)) → ((((13 : Int32) < (ri h 39 2)) → (Q (some (.int (0 : Int32))) n h)) ∧ ((¬ (13 : Int32) < (ri h 39 2)) → ((((13 : Int32) < (ri h 41 2)) → (Q (some (.int (0 : Int32))) n h)) ∧ ((¬ (13 : Int32) < (ri h 41 2)) → (Q (some (.int (1 : Int32))) n h))))))))) : W_X0_isModest g d av Q n 0 [some (.ref 0)] [] h := by
  refine r_aload_n dX0_isModest_0 rfl rfl ?_
  refine m_getF (x := 39) hp fw_X0_31 dX0_isModest_1 rfl ly_0 (ff_0_1 ly_0) ?_
  refine m_getI hp fw_X0_28 dX0_isModest_4 rfl (lf_0_1 ly_0) ?_
  refine r_bipush (v := (9 : Int32)) dX0_isModest_7 rfl ?_
  refine r_icmp_gt (tgt := 52) dX0_isModest_9 rfl (fun cH => ?_) (fun cH => ?_)
  · replace H := H.1 cH
    refine r_iconst (v := (0 : Int32)) dX0_isModest_52 rfl ?_
    exact r_zret dX0_isModest_53 rfl rfl (Nat.le_refl _) (Nat.le_refl _) H
  · replace H := H.2 cH
    refine r_aload_n dX0_isModest_12 rfl rfl ?_
    refine m_getF (x := 41) hp fw_X0_39 dX0_isModest_13 rfl ly_0 (ff_0_2 ly_0) ?_
    refine m_getI hp fw_X0_28 dX0_isModest_16 rfl (lf_0_2 ly_0) ?_
    refine r_bipush (v := (9 : Int32)) dX0_isModest_19 rfl ?_
    refine r_icmp_gt (tgt := 52) dX0_isModest_21 rfl (fun cH => ?_) (fun cH => ?_)
    · replace H := H.1 cH
      refine r_iconst (v := (0 : Int32)) dX0_isModest_52 rfl ?_
      exact r_zret dX0_isModest_53 rfl rfl (Nat.le_refl _) (Nat.le_refl _) H
    · replace H := H.2 cH
      refine r_aload_n dX0_isModest_24 rfl rfl ?_
      refine m_getF (x := 39) hp fw_X0_31 dX0_isModest_25 rfl ly_0 (ff_0_1 ly_0) ?_
      refine m_getI hp fw_X0_22 dX0_isModest_28 rfl (lf_0_1 ly_0) ?_
      refine r_bipush (v := (13 : Int32)) dX0_isModest_31 rfl ?_
      refine r_icmp_gt (tgt := 52) dX0_isModest_33 rfl (fun cH => ?_) (fun cH => ?_)
      · replace H := H.1 cH
        refine r_iconst (v := (0 : Int32)) dX0_isModest_52 rfl ?_
        exact r_zret dX0_isModest_53 rfl rfl (Nat.le_refl _) (Nat.le_refl _) H
      · replace H := H.2 cH
        refine r_aload_n dX0_isModest_36 rfl rfl ?_
        refine m_getF (x := 41) hp fw_X0_39 dX0_isModest_37 rfl ly_0 (ff_0_2 ly_0) ?_
        refine m_getI hp fw_X0_22 dX0_isModest_40 rfl (lf_0_2 ly_0) ?_
        refine r_bipush (v := (13 : Int32)) dX0_isModest_43 rfl ?_
        refine r_icmp_gt (tgt := 52) dX0_isModest_45 rfl (fun cH => ?_) (fun cH => ?_)
        · replace H := H.1 cH
          refine r_iconst (v := (0 : Int32)) dX0_isModest_52 rfl ?_
          exact r_zret dX0_isModest_53 rfl rfl (Nat.le_refl _) (Nat.le_refl _) H
        · replace H := H.2 cH
          refine r_iconst (v := (1 : Int32)) dX0_isModest_48 rfl ?_
          refine r_goto (tgt := 53) dX0_isModest_49 rfl ?_
          exact r_zret dX0_isModest_53 rfl rfl (Nat.le_refl _) (Nat.le_refl _) H
abbrev W_X0_close (g : GX) (d : Nat) (av : List Value) (Q : QT) (n : Nat) (pc : Nat) (ls : LV) (stk : List Value) (h : Hp) : Prop := RJ g m_X0_close (d + 1) 0 0 av Q pc ls stk n h 0 0
theorem s_X0_close_0 {g : GX} {d : Nat} {av : List Value} {Q : QT} {n : Nat} {h : Hp} {x1 : Int32} {x2 : Int32} (hp : g.2.2.2.2 = true)  (H : CallI g m_X0_isSlot d [.int x1] n h (fun v1 h1 => (((v1 = (0 : Int32)) → (Q (some (.int (-1 : Int32))) n h1)) ∧ ((¬ v1 = (0 : Int32)) → (CallI g m_X0_isSlot d [.int x2] n h1 (fun v2 h2 => (((¬ v2 = (0 : Int32)) → (CallI g m_X0_hasItem d [.ref 0, .int x1] n h2 (fun v3 h3 => (((¬ v3 = (0 : Int32)) → (vp_in x1 12 ∧ ∀ r4, r4 = 1185 + 27 * (x1).toNatClampNeg → (CallI g m_X6_isZero d [.ref (r4 + 2)] n h3 (fun v5 h5 => (((v5 = (0 : Int32)) → (CallI g m_X0_quotientOf d [.ref 0, .ref (r4 + 1), .int (1 : Int32), .int (1 : Int32), .ref 81] n h5 (fun v6 h6 => (((¬ v6 = (0 : Int32)) → (CallV g m_X4_copy d [.ref 39, .ref 82] n h6 (fun h7 => (CallV g m_X4_copy d [.ref 41, .ref 84] n h7 (fun h8 => (CallI g m_X0_findForm d [.ref 0] n h8 (fun v9 h9 => (((v9 = (0 : Int32)) → (Q (some (.int (-2 : Int32))) n h9)) ∧ ((¬ v9 = (0 : Int32)) → (CallI g m_X0_isModestForm d [.ref 0] n h9 (fun v10 h10 => (((¬ v10 = (0 : Int32)) → (CallI g m_X4_degreeK d [.ref 97] n h10 (fun v11 h11 => (CallI g m_X0_depth d [.ref 0, .int v11] n h11 (fun v12 h12 => (((v12 ≤ (8 : Int32)) → (vp_in (0 : Int32) 4 ∧ ∀ r13, r13 = 2509 + 11 * ((0 : Int32)).toNatClampNeg → (CallV g m_X4_set d [.ref r13, .int (1 : Int32)] n h12 (fun h14 => (((v12 < (0 : Int32)) → (Q (some (.int (-1 : Int32))) n h14)) ∧ ((¬ v12 < (0 : Int32)) → (CallI g m_X0_solveFor d [.ref 0, .int (0 : Int32), .int v12] n h14 (fun v15 h15 => (((¬ v15 = (0 : Int32)) → (CallV g m_X3_set d [.ref 834, .int (1 : Int32)] n h15 (fun h16 => (CallV g m_X4_set d [.ref 836, .int (1 : Int32)] n h16 (fun h17 => (CallV g m_X3_set d [.ref 111, .int (1 : Int32)] n h17 (fun h18 => (CallI g m_X0_giveSum d [.ref 0, .ref 836, .ref 834, .ref 81] n h18 (fun v19 h19 => (((¬ v19 = (0 : Int32)) → (CallI g m_X0_keepResult d [.ref 0, .int x2] n h19 (fun v20 h20 => (Q (some (.int (1 : Int32))) n h20)))) ∧ ((v19 = (0 : Int32)) → (Q (some (.int (-2 : Int32))) n h19)))))))))))) ∧ ((v15 = (0 : Int32)) → (Q (some (.int (-1 : Int32))) n h15))))))))))) ∧ ((¬ v12 ≤ (8 : Int32)) → (Q (some (.int (-2 : Int32))) n h12)))))))) ∧ ((v10 = (0 : Int32)) → (Q (some (.int (-2 : Int32))) n h10)))))))))))))) ∧ ((v6 = (0 : Int32)) → (Q (some (.int (-2 : Int32))) n h6)))))) ∧ ((¬ v5 = (0 : Int32)) → (Q (some (.int (-1 : Int32))) n h5))))))) ∧ ((v3 = (0 : Int32)) → (Q (some (.int (-3 : Int32))) n h3)))))) ∧ ((v2 = (0 : Int32)) → (Q (some (.int (-1 : Int32))) n h2))))))))) : W_X0_close g d av Q n 0 [some (.ref 0), some (.int x1), some (.int x2), none, none, none] [] h := by
  refine r_iload_n dX0_close_0 rfl rfl ?_
  refine k_SI (As := [.int x1]) (stk := []) cs_X0_519 dX0_close_1 rfl (Nat.le_of_ble_eq_true rfl) (H.mono (fun v1 h1 H => ?_)) ⟨Nat.le_refl _, Nat.le_refl _⟩
  refine r_if_eq (tgt := 14) dX0_close_4 rfl (fun cH => ?_) (fun cH => ?_)
  · replace H := H.1 cH
    refine r_iconst (v := (-1 : Int32)) dX0_close_14 rfl ?_
    exact r_zret dX0_close_15 rfl rfl (Nat.le_refl _) (Nat.le_refl _) H
  · replace H := H.2 cH
    refine r_iload_n dX0_close_7 rfl rfl ?_
    refine k_SI (As := [.int x2]) (stk := []) cs_X0_519 dX0_close_8 rfl (Nat.le_of_ble_eq_true rfl) (H.mono (fun v2 h2 H => ?_)) ⟨Nat.le_refl _, Nat.le_refl _⟩
    refine r_if_ne (tgt := 16) dX0_close_11 rfl (fun cH => ?_) (fun cH => ?_)
    · replace H := H.1 cH
      refine r_aload_n dX0_close_16 rfl rfl ?_
      refine r_iload_n dX0_close_17 rfl rfl ?_
      refine k_VI (As := [.int x1]) (stk := []) hp cv_X0_546 dX0_close_18 rfl (Nat.le_of_ble_eq_true rfl) ly_0 (H.mono (fun v3 h3 H => ?_)) ⟨Nat.le_refl _, Nat.le_refl _⟩
      refine r_if_ne (tgt := 27) dX0_close_21 rfl (fun cH => ?_) (fun cH => ?_)
      · replace H := H.1 cH
        refine r_aload_n dX0_close_27 rfl rfl ?_
        refine m_getF (x := 79) hp fw_X0_326 dX0_close_28 rfl ly_0 (ff_0_20 ly_0) ?_
        refine r_iload_n dX0_close_31 rfl rfl ?_
        obtain ⟨r4, er4⟩ : ∃ y, y = 1185 + 27 * (x1).toNatClampNeg := ⟨_, rfl⟩
        have hir4 := H.1
        replace H := H.2 r4 er4
        have tLr4 := la_79 hir4 er4
        refine m_aalF (x := r4) hp dX0_close_32 (lf_0_20 ly_0) rfl rfl (lu_0_20 ly_0) hir4 (fa_79 hir4 er4) ?_
        refine m_getF (x := (r4 + 1)) hp fw_X0_512 dX0_close_33 rfl tLr4 (ff_9_1 tLr4) ?_
        refine r_astore_n (ls2 := [some (.ref 0), some (.int x1), some (.int x2), some (.ref (r4 + 1)), none, none]) dX0_close_36 rfl (by decide) rfl ?_
        refine r_aload_n dX0_close_37 rfl rfl ?_
        refine m_getF (x := (r4 + 2)) hp fw_X0_110 dX0_close_38 rfl (lf_9_1 tLr4) (ff_5_0 (lf_9_1 tLr4)) ?_
        refine k_VI (As := []) (stk := []) hp cv_X0_128 dX0_close_41 rfl (Nat.le_of_ble_eq_true rfl) (lf_5_0 (lf_9_1 tLr4)) (H.mono (fun v5 h5 H => ?_)) ⟨Nat.le_refl _, Nat.le_refl _⟩
        refine r_if_eq (tgt := 49) dX0_close_44 rfl (fun cH => ?_) (fun cH => ?_)
        · replace H := H.1 cH
          refine r_aload_n dX0_close_49 rfl rfl ?_
          refine r_aload_n dX0_close_50 rfl rfl ?_
          refine r_iconst (v := (1 : Int32)) dX0_close_51 rfl ?_
          refine r_iconst (v := (1 : Int32)) dX0_close_52 rfl ?_
          refine r_aload_n dX0_close_53 rfl rfl ?_
          refine m_getF (x := 80) hp fw_X0_330 dX0_close_54 rfl ly_0 (ff_0_21 ly_0) ?_
          refine m_getF (x := 81) hp fw_X0_110 dX0_close_57 rfl (lf_0_21 ly_0) (ff_5_0 (lf_0_21 ly_0)) ?_
          refine k_VI (As := [.ref (r4 + 1), .int (1 : Int32), .int (1 : Int32), .ref 81]) (stk := []) hp cv_X0_624 dX0_close_60 rfl (Nat.le_of_ble_eq_true rfl) ly_0 (H.mono (fun v6 h6 H => ?_)) ⟨Nat.le_refl _, Nat.le_refl _⟩
          refine r_if_ne (tgt := 69) dX0_close_63 rfl (fun cH => ?_) (fun cH => ?_)
          · replace H := H.1 cH
            refine r_aload_n dX0_close_69 rfl rfl ?_
            refine m_getF (x := 39) hp fw_X0_31 dX0_close_70 rfl ly_0 (ff_0_1 ly_0) ?_
            refine r_aload_n dX0_close_73 rfl rfl ?_
            refine m_getF (x := 80) hp fw_X0_330 dX0_close_74 rfl ly_0 (ff_0_21 ly_0) ?_
            refine m_getF (x := 81) hp fw_X0_110 dX0_close_77 rfl (lf_0_21 ly_0) (ff_5_0 (lf_0_21 ly_0)) ?_
            refine m_getF (x := 82) hp fw_X0_89 dX0_close_80 rfl (lf_5_0 (lf_0_21 ly_0)) (ff_6_0 (lf_5_0 (lf_0_21 ly_0))) ?_
            refine k_VV (As := [.ref 82]) (stk := []) hp cv_X0_66 dX0_close_83 rfl (Nat.le_of_ble_eq_true rfl) (lf_0_1 ly_0) (H.mono (fun h7 H => ?_)) ⟨Nat.le_refl _, Nat.le_refl _⟩
            refine r_aload_n dX0_close_86 rfl rfl ?_
            refine m_getF (x := 41) hp fw_X0_39 dX0_close_87 rfl ly_0 (ff_0_2 ly_0) ?_
            refine r_aload_n dX0_close_90 rfl rfl ?_
            refine m_getF (x := 80) hp fw_X0_330 dX0_close_91 rfl ly_0 (ff_0_21 ly_0) ?_
            refine m_getF (x := 81) hp fw_X0_110 dX0_close_94 rfl (lf_0_21 ly_0) (ff_5_0 (lf_0_21 ly_0)) ?_
            refine m_getF (x := 84) hp fw_X0_94 dX0_close_97 rfl (lf_5_0 (lf_0_21 ly_0)) (ff_6_1 (lf_5_0 (lf_0_21 ly_0))) ?_
            refine k_VV (As := [.ref 84]) (stk := []) hp cv_X0_66 dX0_close_100 rfl (Nat.le_of_ble_eq_true rfl) (lf_0_2 ly_0) (H.mono (fun h8 H => ?_)) ⟨Nat.le_refl _, Nat.le_refl _⟩
            refine r_aload_n dX0_close_103 rfl rfl ?_
            refine k_VI (As := []) (stk := []) hp cv_X0_673 dX0_close_104 rfl (Nat.le_of_ble_eq_true rfl) ly_0 (H.mono (fun v9 h9 H => ?_)) ⟨Nat.le_refl _, Nat.le_refl _⟩
            refine r_if_eq (tgt := 117) dX0_close_107 rfl (fun cH => ?_) (fun cH => ?_)
            · replace H := H.1 cH
              refine r_bipush (v := (-2 : Int32)) dX0_close_117 rfl ?_
              exact r_zret dX0_close_119 rfl rfl (Nat.le_refl _) (Nat.le_refl _) H
            · replace H := H.2 cH
              refine r_aload_n dX0_close_110 rfl rfl ?_
              refine k_VI (As := []) (stk := []) hp cv_X0_676 dX0_close_111 rfl (Nat.le_of_ble_eq_true rfl) ly_0 (H.mono (fun v10 h10 H => ?_)) ⟨Nat.le_refl _, Nat.le_refl _⟩
              refine r_if_ne (tgt := 120) dX0_close_114 rfl (fun cH => ?_) (fun cH => ?_)
              · replace H := H.1 cH
                refine r_aload_n dX0_close_120 rfl rfl ?_
                refine r_aload_n dX0_close_121 rfl rfl ?_
                refine m_getF (x := 97) hp fw_X0_348 dX0_close_122 rfl ly_0 (ff_0_29 ly_0) ?_
                refine k_VI (As := []) (stk := [.ref 0]) hp cv_X0_572 dX0_close_125 rfl (Nat.le_of_ble_eq_true rfl) (lf_0_29 ly_0) (H.mono (fun v11 h11 H => ?_)) ⟨Nat.le_refl _, Nat.le_refl _⟩
                refine k_VI (As := [.int v11]) (stk := []) hp cv_X0_727 dX0_close_128 rfl (Nat.le_of_ble_eq_true rfl) ly_0 (H.mono (fun v12 h12 H => ?_)) ⟨Nat.le_refl _, Nat.le_refl _⟩
                refine r_istore (ls2 := [some (.ref 0), some (.int x1), some (.int x2), some (.ref (r4 + 1)), some (.int v12), none]) dX0_close_131 (by decide) rfl ?_
                refine r_iload dX0_close_133 rfl ?_
                refine r_bipush (v := (8 : Int32)) dX0_close_135 rfl ?_
                refine r_icmp_le (tgt := 143) dX0_close_137 rfl (fun cH => ?_) (fun cH => ?_)
                · replace H := H.1 cH
                  refine r_aload_n dX0_close_143 rfl rfl ?_
                  refine m_getF (x := 818) hp fw_X0_386 dX0_close_144 rfl ly_0 (ff_0_38 ly_0) ?_
                  refine r_iconst (v := (0 : Int32)) dX0_close_147 rfl ?_
                  obtain ⟨r13, er13⟩ : ∃ y, y = 2509 + 11 * ((0 : Int32)).toNatClampNeg := ⟨_, rfl⟩
                  have hir13 := H.1
                  replace H := H.2 r13 er13
                  have tLr13 := la_818 hir13 er13
                  refine m_aalF (x := r13) hp dX0_close_148 (lf_0_38 ly_0) rfl rfl (lu_0_38 ly_0) hir13 (fa_818 hir13 er13) ?_
                  refine r_iconst (v := (1 : Int32)) dX0_close_149 rfl ?_
                  refine k_VV (As := [.int (1 : Int32)]) (stk := []) hp cv_X0_42 dX0_close_150 rfl (Nat.le_of_ble_eq_true rfl) tLr13 (H.mono (fun h14 H => ?_)) ⟨Nat.le_refl _, Nat.le_refl _⟩
                  refine r_iload dX0_close_153 rfl ?_
                  refine r_if_lt (tgt := 168) dX0_close_155 rfl (fun cH => ?_) (fun cH => ?_)
                  · replace H := H.1 cH
                    refine r_iconst (v := (-1 : Int32)) dX0_close_168 rfl ?_
                    exact r_zret dX0_close_169 rfl rfl (Nat.le_refl _) (Nat.le_refl _) H
                  · replace H := H.2 cH
                    refine r_aload_n dX0_close_158 rfl rfl ?_
                    refine r_iconst (v := (0 : Int32)) dX0_close_159 rfl ?_
                    refine r_iload dX0_close_160 rfl ?_
                    refine k_VI (As := [.int (0 : Int32), .int v12]) (stk := []) hp cv_X0_730 dX0_close_162 rfl (Nat.le_of_ble_eq_true rfl) ly_0 (H.mono (fun v15 h15 H => ?_)) ⟨Nat.le_refl _, Nat.le_refl _⟩
                    refine r_if_ne (tgt := 170) dX0_close_165 rfl (fun cH => ?_) (fun cH => ?_)
                    · replace H := H.1 cH
                      refine r_aload_n dX0_close_170 rfl rfl ?_
                      refine m_getF (x := 834) hp fw_X0_414 dX0_close_171 rfl ly_0 (ff_0_48 ly_0) ?_
                      refine r_iconst (v := (1 : Int32)) dX0_close_174 rfl ?_
                      refine k_VV (As := [.int (1 : Int32)]) (stk := []) hp cv_X0_734 dX0_close_175 rfl (Nat.le_of_ble_eq_true rfl) (lf_0_48 ly_0) (H.mono (fun h16 H => ?_)) ⟨Nat.le_refl _, Nat.le_refl _⟩
                      refine r_aload_n dX0_close_178 rfl rfl ?_
                      refine m_getF (x := 836) hp fw_X0_417 dX0_close_179 rfl ly_0 (ff_0_49 ly_0) ?_
                      refine r_iconst (v := (1 : Int32)) dX0_close_182 rfl ?_
                      refine k_VV (As := [.int (1 : Int32)]) (stk := []) hp cv_X0_42 dX0_close_183 rfl (Nat.le_of_ble_eq_true rfl) (lf_0_49 ly_0) (H.mono (fun h17 H => ?_)) ⟨Nat.le_refl _, Nat.le_refl _⟩
                      refine r_aload_n dX0_close_186 rfl rfl ?_
                      refine m_getF (x := 111) hp fw_X0_374 dX0_close_187 rfl ly_0 (ff_0_36 ly_0) ?_
                      refine r_iconst (v := (1 : Int32)) dX0_close_190 rfl ?_
                      refine k_VV (As := [.int (1 : Int32)]) (stk := []) hp cv_X0_734 dX0_close_191 rfl (Nat.le_of_ble_eq_true rfl) (lf_0_36 ly_0) (H.mono (fun h18 H => ?_)) ⟨Nat.le_refl _, Nat.le_refl _⟩
                      refine r_aload_n dX0_close_194 rfl rfl ?_
                      refine r_aload_n dX0_close_195 rfl rfl ?_
                      refine m_getF (x := 836) hp fw_X0_417 dX0_close_196 rfl ly_0 (ff_0_49 ly_0) ?_
                      refine r_aload_n dX0_close_199 rfl rfl ?_
                      refine m_getF (x := 834) hp fw_X0_414 dX0_close_200 rfl ly_0 (ff_0_48 ly_0) ?_
                      refine r_aload_n dX0_close_203 rfl rfl ?_
                      refine m_getF (x := 80) hp fw_X0_330 dX0_close_204 rfl ly_0 (ff_0_21 ly_0) ?_
                      refine m_getF (x := 81) hp fw_X0_110 dX0_close_207 rfl (lf_0_21 ly_0) (ff_5_0 (lf_0_21 ly_0)) ?_
                      refine k_VI (As := [.ref 836, .ref 834, .ref 81]) (stk := []) hp cv_X0_735 dX0_close_210 rfl (Nat.le_of_ble_eq_true rfl) ly_0 (H.mono (fun v19 h19 H => ?_)) ⟨Nat.le_refl _, Nat.le_refl _⟩
                      refine r_if_ne (tgt := 219) dX0_close_213 rfl (fun cH => ?_) (fun cH => ?_)
                      · replace H := H.1 cH
                        refine r_aload_n dX0_close_219 rfl rfl ?_
                        refine r_iload_n dX0_close_220 rfl rfl ?_
                        refine k_VI (As := [.int x2]) (stk := []) hp cv_X0_628 dX0_close_221 rfl (Nat.le_of_ble_eq_true rfl) ly_0 (H.mono (fun v20 h20 H => ?_)) ⟨Nat.le_refl _, Nat.le_refl _⟩
                        refine r_istore (ls2 := [some (.ref 0), some (.int x1), some (.int x2), some (.ref (r4 + 1)), some (.int v12), some (.int v20)]) dX0_close_224 (by decide) rfl ?_
                        refine r_iconst (v := (1 : Int32)) dX0_close_226 rfl ?_
                        exact r_zret dX0_close_227 rfl rfl (Nat.le_refl _) (Nat.le_refl _) H
                      · replace H := H.2 cH
                        refine r_bipush (v := (-2 : Int32)) dX0_close_216 rfl ?_
                        exact r_zret dX0_close_218 rfl rfl (Nat.le_refl _) (Nat.le_refl _) H
                    · replace H := H.2 cH
                      refine r_iconst (v := (-1 : Int32)) dX0_close_168 rfl ?_
                      exact r_zret dX0_close_169 rfl rfl (Nat.le_refl _) (Nat.le_refl _) H
                · replace H := H.2 cH
                  refine r_bipush (v := (-2 : Int32)) dX0_close_140 rfl ?_
                  exact r_zret dX0_close_142 rfl rfl (Nat.le_refl _) (Nat.le_refl _) H
              · replace H := H.2 cH
                refine r_bipush (v := (-2 : Int32)) dX0_close_117 rfl ?_
                exact r_zret dX0_close_119 rfl rfl (Nat.le_refl _) (Nat.le_refl _) H
          · replace H := H.2 cH
            refine r_bipush (v := (-2 : Int32)) dX0_close_66 rfl ?_
            exact r_zret dX0_close_68 rfl rfl (Nat.le_refl _) (Nat.le_refl _) H
        · replace H := H.2 cH
          refine r_iconst (v := (-1 : Int32)) dX0_close_47 rfl ?_
          exact r_zret dX0_close_48 rfl rfl (Nat.le_refl _) (Nat.le_refl _) H
      · replace H := H.2 cH
        refine r_bipush (v := (-3 : Int32)) dX0_close_24 rfl ?_
        exact r_zret dX0_close_26 rfl rfl (Nat.le_refl _) (Nat.le_refl _) H
    · replace H := H.2 cH
      refine r_iconst (v := (-1 : Int32)) dX0_close_14 rfl ?_
      exact r_zret dX0_close_15 rfl rfl (Nat.le_refl _) (Nat.le_refl _) H
abbrev W_X0_depth (g : GX) (d : Nat) (av : List Value) (Q : QT) (n : Nat) (pc : Nat) (ls : LV) (stk : List Value) (h : Hp) : Prop := RJ g m_X0_depth (d + 1) 0 0 av Q pc ls stk n h 0 0
theorem s_X0_depth_0 {g : GX} {d : Nat} {av : List Value} {Q : QT} {n : Nat} {h : Hp} {x1 : Int32} (hp : g.2.2.2.2 = true)  (H : CallI g m_X4_degreeK d [.ref 93] n h (fun v1 h1 => (CallI g m_X4_degreeK d [.ref 95] n h1 (fun v2 h2 => (CallI g m_J3_max d [.int v1, .int v2] n h2 (fun v3 h3 => (CallV g m_X4_copy d [.ref 819, .ref 95] n h3 (fun h4 => (CallV g m_X4_shiftK d [.ref 819, .int (2147483646 : Int32)] n h4 (fun h5 => (CallV g m_X4_row d [.ref 93, .int v3, .ref 103] n h5 (fun h6 => (CallV g m_X4_row d [.ref 819, .int v3, .ref 105] n h6 (fun h7 => (CallI g m_X3_isSame d [.ref 103, .ref 105] n h7 (fun v8 h8 => (((¬ v8 = (0 : Int32)) → (CallV g m_X3_copy d [.ref 832, .ref 103] n h8 (fun h9 => (CallV g m_X4_row d [.ref 93, .int (v3 - (1 : Int32)), .ref 103] n h9 (fun h10 => (CallV g m_X4_row d [.ref 819, .int (v3 - (1 : Int32)), .ref 105] n h10 (fun h11 => (CallV g m_X3_add d [.ref 105, .ref 103, .int (2147483646 : Int32), .int (0 : Int32)] n h11 (fun h12 => (CallI g m_X3_isZero d [.ref 105] n h12 (fun v13 h13 => (((v13 = (0 : Int32)) → (((¬ (ri h13 105 1) = (ri h13 832 1)) → (W_X0_depth g d av Q n 230 [none, some (.int x1), some (.int v3), some (.int (-1 : Int32)), none] [] h13)) ∧ (((ri h13 105 1) = (ri h13 832 1)) → (CallI g m_X3_head d [.ref 105] n h13 (fun v14 h14 => (CallI g m_X3_head d [.ref 832] n h14 (fun v15 h15 => (CallI g m_X0_inverse d [.int v15] n h15 (fun v16 h16 => (CallI g m_X0_times d [.int v14, .int v16] n h16 (fun v17 h17 => (CallV g m_X3_add d [.ref 105, .ref 832, .int ((2147483647 : Int32) - v17), .int (0 : Int32)] n h17 (fun h18 => (CallI g m_X3_isZero d [.ref 105] n h18 (fun v19 h19 => (((v19 = (0 : Int32)) → (W_X0_depth g d av Q n 228 [none, some (.int x1), some (.int v3), none, none] [] h19)) ∧ ((¬ v19 = (0 : Int32)) → ((((12 : Int32) < v17) → (W_X0_depth g d av Q n 228 [none, some (.int x1), some (.int v3), none, none] [] h19)) ∧ ((¬ (12 : Int32) < v17) → (W_X0_depth g d av Q n 229 [none, some (.int x1), some (.int v3), none, none] [.int v17] h19)))))))))))))))))))) ∧ ((¬ v13 = (0 : Int32)) → (W_X0_depth g d av Q n 230 [none, some (.int x1), some (.int v3), some (.int (0 : Int32)), none] [] h13)))))))))))))) ∧ ((v8 = (0 : Int32)) → (Q (some (.int (x1 - v3))) n h8))))))))))))))))))) : W_X0_depth g d av Q n 0 [some (.ref 0), some (.int x1), none, none, none] [] h := by
  refine r_aload_n dX0_depth_0 rfl rfl ?_
  refine m_getF (x := 93) hp fw_X0_342 dX0_depth_1 rfl ly_0 (ff_0_27 ly_0) ?_
  refine k_VI (As := []) (stk := []) hp cv_X0_572 dX0_depth_4 rfl (Nat.le_of_ble_eq_true rfl) (lf_0_27 ly_0) (H.mono (fun v1 h1 H => ?_)) ⟨Nat.le_refl _, Nat.le_refl _⟩
  refine r_aload_n dX0_depth_7 rfl rfl ?_
  refine m_getF (x := 95) hp fw_X0_345 dX0_depth_8 rfl ly_0 (ff_0_28 ly_0) ?_
  refine k_VI (As := []) (stk := [.int v1]) hp cv_X0_572 dX0_depth_11 rfl (Nat.le_of_ble_eq_true rfl) (lf_0_28 ly_0) (H.mono (fun v2 h2 H => ?_)) ⟨Nat.le_refl _, Nat.le_refl _⟩
  refine k_SI (As := [.int v1, .int v2]) (stk := []) cs_X0_679 dX0_depth_14 rfl (Nat.le_of_ble_eq_true rfl) (H.mono (fun v3 h3 H => ?_)) ⟨Nat.le_refl _, Nat.le_refl _⟩
  refine r_istore_n (ls2 := [some (.ref 0), some (.int x1), some (.int v3), none, none]) dX0_depth_17 rfl (by decide) rfl ?_
  refine r_aload_n dX0_depth_18 rfl rfl ?_
  refine m_getF (x := 819) hp fw_X0_390 dX0_depth_19 rfl ly_0 (ff_0_39 ly_0) ?_
  refine r_aload_n dX0_depth_22 rfl rfl ?_
  refine m_getF (x := 95) hp fw_X0_345 dX0_depth_23 rfl ly_0 (ff_0_28 ly_0) ?_
  refine k_VV (As := [.ref 95]) (stk := []) hp cv_X0_66 dX0_depth_26 rfl (Nat.le_of_ble_eq_true rfl) (lf_0_39 ly_0) (H.mono (fun h4 H => ?_)) ⟨Nat.le_refl _, Nat.le_refl _⟩
  refine r_aload_n dX0_depth_29 rfl rfl ?_
  refine m_getF (x := 819) hp fw_X0_390 dX0_depth_30 rfl ly_0 (ff_0_39 ly_0) ?_
  refine r_ldc (own := "") (v := (2147483646 : Int32)) dX0_depth_33 q1022 ?_
  refine k_VV (As := [.int (2147483646 : Int32)]) (stk := []) hp cv_X0_617 dX0_depth_35 rfl (Nat.le_of_ble_eq_true rfl) (lf_0_39 ly_0) (H.mono (fun h5 H => ?_)) ⟨Nat.le_refl _, Nat.le_refl _⟩
  refine r_aload_n dX0_depth_38 rfl rfl ?_
  refine m_getF (x := 93) hp fw_X0_342 dX0_depth_39 rfl ly_0 (ff_0_27 ly_0) ?_
  refine r_iload_n dX0_depth_42 rfl rfl ?_
  refine r_aload_n dX0_depth_43 rfl rfl ?_
  refine m_getF (x := 103) hp fw_X0_361 dX0_depth_44 rfl ly_0 (ff_0_32 ly_0) ?_
  refine k_VV (As := [.int v3, .ref 103]) (stk := []) hp cv_X0_661 dX0_depth_47 rfl (Nat.le_of_ble_eq_true rfl) (lf_0_27 ly_0) (H.mono (fun h6 H => ?_)) ⟨Nat.le_refl _, Nat.le_refl _⟩
  refine r_aload_n dX0_depth_50 rfl rfl ?_
  refine m_getF (x := 819) hp fw_X0_390 dX0_depth_51 rfl ly_0 (ff_0_39 ly_0) ?_
  refine r_iload_n dX0_depth_54 rfl rfl ?_
  refine r_aload_n dX0_depth_55 rfl rfl ?_
  refine m_getF (x := 105) hp fw_X0_365 dX0_depth_56 rfl ly_0 (ff_0_33 ly_0) ?_
  refine k_VV (As := [.int v3, .ref 105]) (stk := []) hp cv_X0_661 dX0_depth_59 rfl (Nat.le_of_ble_eq_true rfl) (lf_0_39 ly_0) (H.mono (fun h7 H => ?_)) ⟨Nat.le_refl _, Nat.le_refl _⟩
  refine r_aload_n dX0_depth_62 rfl rfl ?_
  refine m_getF (x := 103) hp fw_X0_361 dX0_depth_63 rfl ly_0 (ff_0_32 ly_0) ?_
  refine r_aload_n dX0_depth_66 rfl rfl ?_
  refine m_getF (x := 105) hp fw_X0_365 dX0_depth_67 rfl ly_0 (ff_0_33 ly_0) ?_
  refine k_VI (As := [.ref 105]) (stk := []) hp cv_X0_682 dX0_depth_70 rfl (Nat.le_of_ble_eq_true rfl) (lf_0_32 ly_0) (H.mono (fun v8 h8 H => ?_)) ⟨Nat.le_refl _, Nat.le_refl _⟩
  refine r_if_ne (tgt := 80) dX0_depth_73 rfl (fun cH => ?_) (fun cH => ?_)
  · replace H := H.1 cH
    refine r_aload_n dX0_depth_80 rfl rfl ?_
    refine m_getF (x := 832) hp fw_X0_411 dX0_depth_81 rfl ly_0 (ff_0_46 ly_0) ?_
    refine r_aload_n dX0_depth_84 rfl rfl ?_
    refine m_getF (x := 103) hp fw_X0_361 dX0_depth_85 rfl ly_0 (ff_0_32 ly_0) ?_
    refine k_VV (As := [.ref 103]) (stk := []) hp cv_X0_686 dX0_depth_88 rfl (Nat.le_of_ble_eq_true rfl) (lf_0_46 ly_0) (H.mono (fun h9 H => ?_)) ⟨Nat.le_refl _, Nat.le_refl _⟩
    refine r_aload_n dX0_depth_91 rfl rfl ?_
    refine m_getF (x := 93) hp fw_X0_342 dX0_depth_92 rfl ly_0 (ff_0_27 ly_0) ?_
    refine r_iload_n dX0_depth_95 rfl rfl ?_
    refine r_iconst (v := (1 : Int32)) dX0_depth_96 rfl ?_
    refine r_isub dX0_depth_97 ?_
    refine r_aload_n dX0_depth_98 rfl rfl ?_
    refine m_getF (x := 103) hp fw_X0_361 dX0_depth_99 rfl ly_0 (ff_0_32 ly_0) ?_
    refine k_VV (As := [.int (v3 - (1 : Int32)), .ref 103]) (stk := []) hp cv_X0_661 dX0_depth_102 rfl (Nat.le_of_ble_eq_true rfl) (lf_0_27 ly_0) (H.mono (fun h10 H => ?_)) ⟨Nat.le_refl _, Nat.le_refl _⟩
    refine r_aload_n dX0_depth_105 rfl rfl ?_
    refine m_getF (x := 819) hp fw_X0_390 dX0_depth_106 rfl ly_0 (ff_0_39 ly_0) ?_
    refine r_iload_n dX0_depth_109 rfl rfl ?_
    refine r_iconst (v := (1 : Int32)) dX0_depth_110 rfl ?_
    refine r_isub dX0_depth_111 ?_
    refine r_aload_n dX0_depth_112 rfl rfl ?_
    refine m_getF (x := 105) hp fw_X0_365 dX0_depth_113 rfl ly_0 (ff_0_33 ly_0) ?_
    refine k_VV (As := [.int (v3 - (1 : Int32)), .ref 105]) (stk := []) hp cv_X0_661 dX0_depth_116 rfl (Nat.le_of_ble_eq_true rfl) (lf_0_39 ly_0) (H.mono (fun h11 H => ?_)) ⟨Nat.le_refl _, Nat.le_refl _⟩
    refine r_aload_n dX0_depth_119 rfl rfl ?_
    refine m_getF (x := 105) hp fw_X0_365 dX0_depth_120 rfl ly_0 (ff_0_33 ly_0) ?_
    refine r_aload_n dX0_depth_123 rfl rfl ?_
    refine m_getF (x := 103) hp fw_X0_361 dX0_depth_124 rfl ly_0 (ff_0_32 ly_0) ?_
    refine r_ldc (own := "") (v := (2147483646 : Int32)) dX0_depth_127 q1022 ?_
    refine r_iconst (v := (0 : Int32)) dX0_depth_129 rfl ?_
    refine k_VV (As := [.ref 103, .int (2147483646 : Int32), .int (0 : Int32)]) (stk := []) hp cv_X0_689 dX0_depth_130 rfl (Nat.le_of_ble_eq_true rfl) (lf_0_33 ly_0) (H.mono (fun h12 H => ?_)) ⟨Nat.le_refl _, Nat.le_refl _⟩
    refine r_iconst (v := (-1 : Int32)) dX0_depth_133 rfl ?_
    refine r_istore_n (ls2 := [some (.ref 0), some (.int x1), some (.int v3), some (.int (-1 : Int32)), none]) dX0_depth_134 rfl (by decide) rfl ?_
    refine r_aload_n dX0_depth_135 rfl rfl ?_
    refine m_getF (x := 105) hp fw_X0_365 dX0_depth_136 rfl ly_0 (ff_0_33 ly_0) ?_
    refine k_VI (As := []) (stk := []) hp cv_X0_692 dX0_depth_139 rfl (Nat.le_of_ble_eq_true rfl) (lf_0_33 ly_0) (H.mono (fun v13 h13 H => ?_)) ⟨Nat.le_refl _, Nat.le_refl _⟩
    refine r_if_eq (tgt := 150) dX0_depth_142 rfl (fun cH => ?_) (fun cH => ?_)
    · replace H := H.1 cH
      refine r_aload_n dX0_depth_150 rfl rfl ?_
      refine m_getF (x := 105) hp fw_X0_365 dX0_depth_151 rfl ly_0 (ff_0_33 ly_0) ?_
      refine m_getI hp fw_X0_636 dX0_depth_154 rfl (lf_0_33 ly_0) ?_
      refine r_aload_n dX0_depth_157 rfl rfl ?_
      refine m_getF (x := 832) hp fw_X0_411 dX0_depth_158 rfl ly_0 (ff_0_46 ly_0) ?_
      refine m_getI hp fw_X0_636 dX0_depth_161 rfl (lf_0_46 ly_0) ?_
      refine r_icmp_ne (tgt := 230) dX0_depth_164 rfl (fun cH => ?_) (fun cH => ?_)
      · replace H := H.1 cH
        refine r_prune [false, true, true, true, false] (ls2 := [none, some (.int x1), some (.int v3), some (.int (-1 : Int32)), none]) rfl ?_
        exact H
      · replace H := H.2 cH
        refine r_aload_n dX0_depth_167 rfl rfl ?_
        refine m_getF (x := 105) hp fw_X0_365 dX0_depth_168 rfl ly_0 (ff_0_33 ly_0) ?_
        refine k_VI (As := []) (stk := []) hp cv_X0_693 dX0_depth_171 rfl (Nat.le_of_ble_eq_true rfl) (lf_0_33 ly_0) (H.mono (fun v14 h14 H => ?_)) ⟨Nat.le_refl _, Nat.le_refl _⟩
        refine r_aload_n dX0_depth_174 rfl rfl ?_
        refine m_getF (x := 832) hp fw_X0_411 dX0_depth_175 rfl ly_0 (ff_0_46 ly_0) ?_
        refine k_VI (As := []) (stk := [.int v14]) hp cv_X0_693 dX0_depth_178 rfl (Nat.le_of_ble_eq_true rfl) (lf_0_46 ly_0) (H.mono (fun v15 h15 H => ?_)) ⟨Nat.le_refl _, Nat.le_refl _⟩
        refine k_SI (As := [.int v15]) (stk := [.int v14]) cs_X0_74 dX0_depth_181 rfl (Nat.le_of_ble_eq_true rfl) (H.mono (fun v16 h16 H => ?_)) ⟨Nat.le_refl _, Nat.le_refl _⟩
        refine k_SI (As := [.int v14, .int v16]) (stk := []) cs_X0_6 dX0_depth_184 rfl (Nat.le_of_ble_eq_true rfl) (H.mono (fun v17 h17 H => ?_)) ⟨Nat.le_refl _, Nat.le_refl _⟩
        refine r_istore (ls2 := [some (.ref 0), some (.int x1), some (.int v3), some (.int (-1 : Int32)), some (.int v17)]) dX0_depth_187 (by decide) rfl ?_
        refine r_aload_n dX0_depth_189 rfl rfl ?_
        refine m_getF (x := 105) hp fw_X0_365 dX0_depth_190 rfl ly_0 (ff_0_33 ly_0) ?_
        refine r_aload_n dX0_depth_193 rfl rfl ?_
        refine m_getF (x := 832) hp fw_X0_411 dX0_depth_194 rfl ly_0 (ff_0_46 ly_0) ?_
        refine r_ldc (own := "") (v := (2147483647 : Int32)) dX0_depth_197 q907 ?_
        refine r_iload dX0_depth_199 rfl ?_
        refine r_isub dX0_depth_201 ?_
        refine r_iconst (v := (0 : Int32)) dX0_depth_202 rfl ?_
        refine k_VV (As := [.ref 832, .int ((2147483647 : Int32) - v17), .int (0 : Int32)]) (stk := []) hp cv_X0_689 dX0_depth_203 rfl (Nat.le_of_ble_eq_true rfl) (lf_0_33 ly_0) (H.mono (fun h18 H => ?_)) ⟨Nat.le_refl _, Nat.le_refl _⟩
        refine r_aload_n dX0_depth_206 rfl rfl ?_
        refine m_getF (x := 105) hp fw_X0_365 dX0_depth_207 rfl ly_0 (ff_0_33 ly_0) ?_
        refine k_VI (As := []) (stk := []) hp cv_X0_692 dX0_depth_210 rfl (Nat.le_of_ble_eq_true rfl) (lf_0_33 ly_0) (H.mono (fun v19 h19 H => ?_)) ⟨Nat.le_refl _, Nat.le_refl _⟩
        refine r_if_eq (tgt := 228) dX0_depth_213 rfl (fun cH => ?_) (fun cH => ?_)
        · replace H := H.1 cH
          refine r_prune [false, true, true, false, false] (ls2 := [none, some (.int x1), some (.int v3), none, none]) rfl ?_
          exact H
        · replace H := H.2 cH
          refine r_iload dX0_depth_216 rfl ?_
          refine r_bipush (v := (12 : Int32)) dX0_depth_218 rfl ?_
          refine r_icmp_gt (tgt := 228) dX0_depth_220 rfl (fun cH => ?_) (fun cH => ?_)
          · replace H := H.1 cH
            refine r_prune [false, true, true, false, false] (ls2 := [none, some (.int x1), some (.int v3), none, none]) rfl ?_
            exact H
          · replace H := H.2 cH
            refine r_iload dX0_depth_223 rfl ?_
            refine r_goto (tgt := 229) dX0_depth_225 rfl ?_
            refine r_prune [false, true, true, false, false] (ls2 := [none, some (.int x1), some (.int v3), none, none]) rfl ?_
            exact H
    · replace H := H.2 cH
      refine r_iconst (v := (0 : Int32)) dX0_depth_145 rfl ?_
      refine r_istore_n (ls2 := [some (.ref 0), some (.int x1), some (.int v3), some (.int (0 : Int32)), none]) dX0_depth_146 rfl (by decide) rfl ?_
      refine r_goto (tgt := 230) dX0_depth_147 rfl ?_
      refine r_prune [false, true, true, true, false] (ls2 := [none, some (.int x1), some (.int v3), some (.int (0 : Int32)), none]) rfl ?_
      exact H
  · replace H := H.2 cH
    refine r_iload_n dX0_depth_76 rfl rfl ?_
    refine r_iload_n dX0_depth_77 rfl rfl ?_
    refine r_isub dX0_depth_78 ?_
    exact r_zret dX0_depth_79 rfl rfl (Nat.le_refl _) (Nat.le_refl _) H
theorem s_X0_depth_228 {g : GX} {d : Nat} {av : List Value} {Q : QT} {n : Nat} {h : Hp} {x1 : Int32} {x2 : Int32} (hp : g.2.2.2.2 = true)  (H : W_X0_depth g d av Q n 229 [none, some (.int x1), some (.int x2), none, none] [.int (-1 : Int32)] h) : W_X0_depth g d av Q n 228 [none, some (.int x1), some (.int x2), none, none] [] h := by
  refine r_iconst (v := (-1 : Int32)) dX0_depth_228 rfl ?_
  exact H
theorem s_X0_depth_229 {g : GX} {d : Nat} {av : List Value} {Q : QT} {n : Nat} {h : Hp} {x1 : Int32} {x2 : Int32} {xs0 : Int32} (hp : g.2.2.2.2 = true)  (H : W_X0_depth g d av Q n 230 [none, some (.int x1), some (.int x2), some (.int xs0), none] [] h) : W_X0_depth g d av Q n 229 [none, some (.int x1), some (.int x2), none, none] [.int xs0] h := by
  refine r_istore_n (ls2 := [none, some (.int x1), some (.int x2), some (.int xs0), none]) dX0_depth_229 rfl (by decide) rfl ?_
  exact H
theorem s_X0_depth_230 {g : GX} {d : Nat} {av : List Value} {Q : QT} {n : Nat} {h : Hp} {x1 : Int32} {x2 : Int32} {x3 : Int32} (hp : g.2.2.2.2 = true)  (H : CallI g m_J3_max d [.int ((x1 - x2) + (1 : Int32)), .int x3] n h (fun v1 h1 => (Q (some (.int v1)) n h1))) : W_X0_depth g d av Q n 230 [none, some (.int x1), some (.int x2), some (.int x3), none] [] h := by
  refine r_iload_n dX0_depth_230 rfl rfl ?_
  refine r_iload_n dX0_depth_231 rfl rfl ?_
  refine r_isub dX0_depth_232 ?_
  refine r_iconst (v := (1 : Int32)) dX0_depth_233 rfl ?_
  refine r_iadd dX0_depth_234 ?_
  refine r_iload_n dX0_depth_235 rfl rfl ?_
  refine k_SI (As := [.int ((x1 - x2) + (1 : Int32)), .int x3]) (stk := []) cs_X0_679 dX0_depth_236 rfl (Nat.le_of_ble_eq_true rfl) (H.mono (fun v1 h1 H => ?_)) ⟨Nat.le_refl _, Nat.le_refl _⟩
  exact r_zret dX0_depth_239 rfl rfl (Nat.le_refl _) (Nat.le_refl _) H
abbrev W_X0_solveFor (g : GX) (d : Nat) (av : List Value) (Q : QT) (n : Nat) (pc : Nat) (ls : LV) (stk : List Value) (h : Hp) : Prop := RJ g m_X0_solveFor (d + 1) 0 0 av Q pc ls stk n h 0 0
theorem s_X0_solveFor_0 {g : GX} {d : Nat} {av : List Value} {Q : QT} {n : Nat} {h : Hp} {x1 : Int32} {x2 : Int32} (hp : g.2.2.2.2 = true)  (H : CallI g m_J3_max d [.int (0 : Int32), .int (x2 + (1 : Int32))] n h (fun v1 h1 => (CallI g m_J3_max d [.int (ri h1 93 3), .int (ri h1 95 3)] n h1 (fun v2 h2 => (W_X0_solveFor g d av Q n 32 [some (.ref 0), some (.int x1), none, some (.int v1), some (.int (v2 + v1)), some (.int (0 : Int32)), none] [] h2))))) : W_X0_solveFor g d av Q n 0 [some (.ref 0), some (.int x1), some (.int x2), none, none, none, none] [] h := by
  refine r_iconst (v := (0 : Int32)) dX0_solveFor_0 rfl ?_
  refine r_iload_n dX0_solveFor_1 rfl rfl ?_
  refine r_iconst (v := (1 : Int32)) dX0_solveFor_2 rfl ?_
  refine r_iadd dX0_solveFor_3 ?_
  refine k_SI (As := [.int (0 : Int32), .int (x2 + (1 : Int32))]) (stk := []) cs_X0_679 dX0_solveFor_4 rfl (Nat.le_of_ble_eq_true rfl) (H.mono (fun v1 h1 H => ?_)) ⟨Nat.le_refl _, Nat.le_refl _⟩
  refine r_istore_n (ls2 := [some (.ref 0), some (.int x1), some (.int x2), some (.int v1), none, none, none]) dX0_solveFor_7 rfl (by decide) rfl ?_
  refine r_aload_n dX0_solveFor_8 rfl rfl ?_
  refine m_getF (x := 93) hp fw_X0_342 dX0_solveFor_9 rfl ly_0 (ff_0_27 ly_0) ?_
  refine m_getI hp fw_X0_28 dX0_solveFor_12 rfl (lf_0_27 ly_0) ?_
  refine r_aload_n dX0_solveFor_15 rfl rfl ?_
  refine m_getF (x := 95) hp fw_X0_345 dX0_solveFor_16 rfl ly_0 (ff_0_28 ly_0) ?_
  refine m_getI hp fw_X0_28 dX0_solveFor_19 rfl (lf_0_28 ly_0) ?_
  refine k_SI (As := [.int (ri h1 93 3), .int (ri h1 95 3)]) (stk := []) cs_X0_679 dX0_solveFor_22 rfl (Nat.le_of_ble_eq_true rfl) (H.mono (fun v2 h2 H => ?_)) ⟨Nat.le_refl _, Nat.le_refl _⟩
  refine r_iload_n dX0_solveFor_25 rfl rfl ?_
  refine r_iadd dX0_solveFor_26 ?_
  refine r_istore (ls2 := [some (.ref 0), some (.int x1), some (.int x2), some (.int v1), some (.int (v2 + v1)), none, none]) dX0_solveFor_27 (by decide) rfl ?_
  refine r_iconst (v := (0 : Int32)) dX0_solveFor_29 rfl ?_
  refine r_istore (ls2 := [some (.ref 0), some (.int x1), some (.int x2), some (.int v1), some (.int (v2 + v1)), some (.int (0 : Int32)), none]) dX0_solveFor_30 (by decide) rfl ?_
  refine r_prune [true, true, false, true, true, true, false] (ls2 := [some (.ref 0), some (.int x1), none, some (.int v1), some (.int (v2 + v1)), some (.int (0 : Int32)), none]) rfl ?_
  exact H
theorem s_X0_solveFor_32 {g : GX} {d : Nat} {av : List Value} {Q : QT} {n : Nat} {h : Hp} {x1 : Int32} {x3 : Int32} {x4 : Int32} {x5 : Int32} (hp : g.2.2.2.2 = true)  (H : ((x1 < x5) → (CallV g m_X7_open d [.ref 113, .int x4, .int ((x3 + x1) + (1 : Int32))] n h (fun h1 => (CallV g m_X4_set d [.ref 99, .int (1 : Int32)] n h1 (fun h2 => (W_X0_solveFor g d av Q n 94 [some (.ref 0), some (.int x1), none, some (.int x3), none, some (.int (0 : Int32)), none] [] h2)))))) ∧ ((¬ x1 < x5) → (vp_in x5 4 ∧ ∀ r3, r3 = 2509 + 11 * (x5).toNatClampNeg → (CallI g m_J3_max d [.int x4, .int ((ri h 97 3) + (ri h r3 3))] n h (fun v4 h4 => (W_X0_solveFor g d av Q n 32 [some (.ref 0), some (.int x1), none, some (.int x3), some (.int v4), some (.int (x5 + (1 : Int32))), none] [] h4)))))) : W_X0_solveFor g d av Q n 32 [some (.ref 0), some (.int x1), none, some (.int x3), some (.int x4), some (.int x5), none] [] h := by
  refine r_iload dX0_solveFor_32 rfl ?_
  refine r_iload_n dX0_solveFor_34 rfl rfl ?_
  refine r_icmp_gt (tgt := 69) dX0_solveFor_35 rfl (fun cH => ?_) (fun cH => ?_)
  · replace H := H.1 cH
    refine r_aload_n dX0_solveFor_69 rfl rfl ?_
    refine m_getF (x := 113) hp fw_X0_382 dX0_solveFor_70 rfl ly_0 (ff_0_37 ly_0) ?_
    refine r_iload dX0_solveFor_73 rfl ?_
    refine r_iload_n dX0_solveFor_75 rfl rfl ?_
    refine r_iload_n dX0_solveFor_76 rfl rfl ?_
    refine r_iadd dX0_solveFor_77 ?_
    refine r_iconst (v := (1 : Int32)) dX0_solveFor_78 rfl ?_
    refine r_iadd dX0_solveFor_79 ?_
    refine k_VV (As := [.int x4, .int ((x3 + x1) + (1 : Int32))]) (stk := []) hp cv_X0_698 dX0_solveFor_80 rfl (Nat.le_of_ble_eq_true rfl) (lf_0_37 ly_0) (H.mono (fun h1 H => ?_)) ⟨Nat.le_refl _, Nat.le_refl _⟩
    refine r_aload_n dX0_solveFor_83 rfl rfl ?_
    refine m_getF (x := 99) hp fw_X0_351 dX0_solveFor_84 rfl ly_0 (ff_0_30 ly_0) ?_
    refine r_iconst (v := (1 : Int32)) dX0_solveFor_87 rfl ?_
    refine k_VV (As := [.int (1 : Int32)]) (stk := []) hp cv_X0_42 dX0_solveFor_88 rfl (Nat.le_of_ble_eq_true rfl) (lf_0_30 ly_0) (H.mono (fun h2 H => ?_)) ⟨Nat.le_refl _, Nat.le_refl _⟩
    refine r_iconst (v := (0 : Int32)) dX0_solveFor_91 rfl ?_
    refine r_istore (ls2 := [some (.ref 0), some (.int x1), none, some (.int x3), some (.int x4), some (.int (0 : Int32)), none]) dX0_solveFor_92 (by decide) rfl ?_
    refine r_prune [true, true, false, true, false, true, false] (ls2 := [some (.ref 0), some (.int x1), none, some (.int x3), none, some (.int (0 : Int32)), none]) rfl ?_
    exact H
  · replace H := H.2 cH
    refine r_iload dX0_solveFor_38 rfl ?_
    refine r_aload_n dX0_solveFor_40 rfl rfl ?_
    refine m_getF (x := 97) hp fw_X0_348 dX0_solveFor_41 rfl ly_0 (ff_0_29 ly_0) ?_
    refine m_getI hp fw_X0_28 dX0_solveFor_44 rfl (lf_0_29 ly_0) ?_
    refine r_aload_n dX0_solveFor_47 rfl rfl ?_
    refine m_getF (x := 818) hp fw_X0_386 dX0_solveFor_48 rfl ly_0 (ff_0_38 ly_0) ?_
    refine r_iload dX0_solveFor_51 rfl ?_
    obtain ⟨r3, er3⟩ : ∃ y, y = 2509 + 11 * (x5).toNatClampNeg := ⟨_, rfl⟩
    have hir3 := H.1
    replace H := H.2 r3 er3
    have tLr3 := la_818 hir3 er3
    refine m_aalF (x := r3) hp dX0_solveFor_53 (lf_0_38 ly_0) rfl rfl (lu_0_38 ly_0) hir3 (fa_818 hir3 er3) ?_
    refine m_getI hp fw_X0_28 dX0_solveFor_54 rfl tLr3 ?_
    refine r_iadd dX0_solveFor_57 ?_
    refine k_SI (As := [.int x4, .int ((ri h 97 3) + (ri h r3 3))]) (stk := []) cs_X0_679 dX0_solveFor_58 rfl (Nat.le_of_ble_eq_true rfl) (H.mono (fun v4 h4 H => ?_)) ⟨Nat.le_refl _, Nat.le_refl _⟩
    refine r_istore (ls2 := [some (.ref 0), some (.int x1), none, some (.int x3), some (.int v4), some (.int x5), none]) dX0_solveFor_61 (by decide) rfl ?_
    refine r_iinc (v := (x5 + (1 : Int32))) (ls2 := [some (.ref 0), some (.int x1), none, some (.int x3), some (.int v4), some (.int (x5 + (1 : Int32))), none]) dX0_solveFor_63 rfl rfl (by decide) rfl ?_
    refine r_goto (tgt := 32) dX0_solveFor_66 rfl ?_
    exact H
theorem s_X0_solveFor_94 {g : GX} {d : Nat} {av : List Value} {Q : QT} {n : Nat} {h : Hp} {x1 : Int32} {x3 : Int32} {x5 : Int32} (hp : g.2.2.2.2 = true)  (H : ((x3 ≤ x5) → (W_X0_solveFor g d av Q n 283 [some (.ref 0), some (.int x1), none, some (.int x3), none, some (.int (0 : Int32)), none] [] h)) ∧ ((¬ x3 ≤ x5) → (CallV g m_X4_product d [.ref 821, .ref 93, .ref 99] n h (fun h1 => (CallV g m_X4_open d [.ref 45, .int (ri h1 819 2), .int ((ri h1 819 3) + x5)] n h1 (fun h2 => (W_X0_solveFor g d av Q n 142 [some (.ref 0), some (.int x1), none, some (.int x3), none, some (.int x5), some (.int (0 : Int32))] [] h2))))))) : W_X0_solveFor g d av Q n 94 [some (.ref 0), some (.int x1), none, some (.int x3), none, some (.int x5), none] [] h := by
  refine r_iload dX0_solveFor_94 rfl ?_
  refine r_iload_n dX0_solveFor_96 rfl rfl ?_
  refine r_icmp_ge (tgt := 280) dX0_solveFor_97 rfl (fun cH => ?_) (fun cH => ?_)
  · replace H := H.1 cH
    refine r_iconst (v := (0 : Int32)) dX0_solveFor_280 rfl ?_
    refine r_istore (ls2 := [some (.ref 0), some (.int x1), none, some (.int x3), none, some (.int (0 : Int32)), none]) dX0_solveFor_281 (by decide) rfl ?_
    exact H
  · replace H := H.2 cH
    refine r_aload_n dX0_solveFor_100 rfl rfl ?_
    refine m_getF (x := 821) hp fw_X0_393 dX0_solveFor_101 rfl ly_0 (ff_0_40 ly_0) ?_
    refine r_aload_n dX0_solveFor_104 rfl rfl ?_
    refine m_getF (x := 93) hp fw_X0_342 dX0_solveFor_105 rfl ly_0 (ff_0_27 ly_0) ?_
    refine r_aload_n dX0_solveFor_108 rfl rfl ?_
    refine m_getF (x := 99) hp fw_X0_351 dX0_solveFor_109 rfl ly_0 (ff_0_30 ly_0) ?_
    refine k_VV (As := [.ref 93, .ref 99]) (stk := []) hp cv_X0_97 dX0_solveFor_112 rfl (Nat.le_of_ble_eq_true rfl) (lf_0_40 ly_0) (H.mono (fun h1 H => ?_)) ⟨Nat.le_refl _, Nat.le_refl _⟩
    refine r_aload_n dX0_solveFor_115 rfl rfl ?_
    refine m_getF (x := 45) hp fw_X0_59 dX0_solveFor_116 rfl ly_0 (ff_0_4 ly_0) ?_
    refine r_aload_n dX0_solveFor_119 rfl rfl ?_
    refine m_getF (x := 819) hp fw_X0_390 dX0_solveFor_120 rfl ly_0 (ff_0_39 ly_0) ?_
    refine m_getI hp fw_X0_22 dX0_solveFor_123 rfl (lf_0_39 ly_0) ?_
    refine r_aload_n dX0_solveFor_126 rfl rfl ?_
    refine m_getF (x := 819) hp fw_X0_390 dX0_solveFor_127 rfl ly_0 (ff_0_39 ly_0) ?_
    refine m_getI hp fw_X0_28 dX0_solveFor_130 rfl (lf_0_39 ly_0) ?_
    refine r_iload dX0_solveFor_133 rfl ?_
    refine r_iadd dX0_solveFor_135 ?_
    refine k_VV (As := [.int (ri h1 819 2), .int ((ri h1 819 3) + x5)]) (stk := []) hp cv_X0_304 dX0_solveFor_136 rfl (Nat.le_of_ble_eq_true rfl) (lf_0_4 ly_0) (H.mono (fun h2 H => ?_)) ⟨Nat.le_refl _, Nat.le_refl _⟩
    refine r_iconst (v := (0 : Int32)) dX0_solveFor_139 rfl ?_
    refine r_istore (ls2 := [some (.ref 0), some (.int x1), none, some (.int x3), none, some (.int x5), some (.int (0 : Int32))]) dX0_solveFor_140 (by decide) rfl ?_
    exact H
theorem s_X0_solveFor_142 {g : GX} {d : Nat} {av : List Value} {Q : QT} {n : Nat} {h : Hp} {x1 : Int32} {x3 : Int32} {x5 : Int32} {x6 : Int32} (hp : g.2.2.2.2 = true)  (H : (((ri h 819 3) ≤ x6) → (CallV g m_X4_add d [.ref 821, .ref 45, .int (2147483646 : Int32)] n h (fun h1 => (CallV g m_X0_layColumn d [.ref 0, .int x5, .ref 821, .int (1 : Int32)] n h1 (fun h2 => (CallV g m_X4_copy d [.ref 45, .ref 99] n h2 (fun h3 => (CallV g m_X4_open d [.ref 43, .int (1 : Int32), .int (2 : Int32)] n h3 (fun h4 => (vp_in (0 : Int32) (rm 44) ∧ ∀ h5, h5 = wi h4 44 ((0 : Int32)).toNatClampNeg (1 : Int32) → (vp_in (ri h5 43 0) (rm 44) ∧ ∀ h6, h6 = wi h5 44 ((ri h5 43 0)).toNatClampNeg (1 : Int32) → (CallV g m_X4_product d [.ref 99, .ref 45, .ref 43] n h6 (fun h7 => (W_X0_solveFor g d av Q n 94 [some (.ref 0), some (.int x1), none, some (.int x3), none, some (.int (x5 + (1 : Int32))), none] [] h7)))))))))))))) ∧ ((¬ (ri h 819 3) ≤ x6) → (CallV g m_X4_row d [.ref 819, .int x6, .ref 103] n h (fun h8 => (CallV g m_X4_putRow d [.ref 45, .int (x6 + x5), .ref 103] n h8 (fun h9 => (W_X0_solveFor g d av Q n 142 [some (.ref 0), some (.int x1), none, some (.int x3), none, some (.int x5), some (.int (x6 + (1 : Int32)))] [] h9))))))) : W_X0_solveFor g d av Q n 142 [some (.ref 0), some (.int x1), none, some (.int x3), none, some (.int x5), some (.int x6)] [] h := by
  refine r_iload dX0_solveFor_142 rfl ?_
  refine r_aload_n dX0_solveFor_144 rfl rfl ?_
  refine m_getF (x := 819) hp fw_X0_390 dX0_solveFor_145 rfl ly_0 (ff_0_39 ly_0) ?_
  refine m_getI hp fw_X0_28 dX0_solveFor_148 rfl (lf_0_39 ly_0) ?_
  refine r_icmp_ge (tgt := 189) dX0_solveFor_151 rfl (fun cH => ?_) (fun cH => ?_)
  · replace H := H.1 cH
    refine r_aload_n dX0_solveFor_189 rfl rfl ?_
    refine m_getF (x := 821) hp fw_X0_393 dX0_solveFor_190 rfl ly_0 (ff_0_40 ly_0) ?_
    refine r_aload_n dX0_solveFor_193 rfl rfl ?_
    refine m_getF (x := 45) hp fw_X0_59 dX0_solveFor_194 rfl ly_0 (ff_0_4 ly_0) ?_
    refine r_ldc (own := "") (v := (2147483646 : Int32)) dX0_solveFor_197 q1022 ?_
    refine k_VV (As := [.ref 45, .int (2147483646 : Int32)]) (stk := []) hp cv_X0_102 dX0_solveFor_199 rfl (Nat.le_of_ble_eq_true rfl) (lf_0_40 ly_0) (H.mono (fun h1 H => ?_)) ⟨Nat.le_refl _, Nat.le_refl _⟩
    refine r_aload_n dX0_solveFor_202 rfl rfl ?_
    refine r_iload dX0_solveFor_203 rfl ?_
    refine r_aload_n dX0_solveFor_205 rfl rfl ?_
    refine m_getF (x := 821) hp fw_X0_393 dX0_solveFor_206 rfl ly_0 (ff_0_40 ly_0) ?_
    refine r_iconst (v := (1 : Int32)) dX0_solveFor_209 rfl ?_
    refine k_VV (As := [.int x5, .ref 821, .int (1 : Int32)]) (stk := []) hp cv_X0_699 dX0_solveFor_210 rfl (Nat.le_of_ble_eq_true rfl) ly_0 (H.mono (fun h2 H => ?_)) ⟨Nat.le_refl _, Nat.le_refl _⟩
    refine r_aload_n dX0_solveFor_213 rfl rfl ?_
    refine m_getF (x := 45) hp fw_X0_59 dX0_solveFor_214 rfl ly_0 (ff_0_4 ly_0) ?_
    refine r_aload_n dX0_solveFor_217 rfl rfl ?_
    refine m_getF (x := 99) hp fw_X0_351 dX0_solveFor_218 rfl ly_0 (ff_0_30 ly_0) ?_
    refine k_VV (As := [.ref 99]) (stk := []) hp cv_X0_66 dX0_solveFor_221 rfl (Nat.le_of_ble_eq_true rfl) (lf_0_4 ly_0) (H.mono (fun h3 H => ?_)) ⟨Nat.le_refl _, Nat.le_refl _⟩
    refine r_aload_n dX0_solveFor_224 rfl rfl ?_
    refine m_getF (x := 43) hp fw_X0_50 dX0_solveFor_225 rfl ly_0 (ff_0_3 ly_0) ?_
    refine r_iconst (v := (1 : Int32)) dX0_solveFor_228 rfl ?_
    refine r_iconst (v := (2 : Int32)) dX0_solveFor_229 rfl ?_
    refine k_VV (As := [.int (1 : Int32), .int (2 : Int32)]) (stk := []) hp cv_X0_304 dX0_solveFor_230 rfl (Nat.le_of_ble_eq_true rfl) (lf_0_3 ly_0) (H.mono (fun h4 H => ?_)) ⟨Nat.le_refl _, Nat.le_refl _⟩
    refine r_aload_n dX0_solveFor_233 rfl rfl ?_
    refine m_getF (x := 43) hp fw_X0_50 dX0_solveFor_234 rfl ly_0 (ff_0_3 ly_0) ?_
    refine m_getF (x := 44) hp fw_X0_288 dX0_solveFor_237 rfl (lf_0_3 ly_0) (ff_4_1 (lf_0_3 ly_0)) ?_
    refine r_iconst (v := (0 : Int32)) dX0_solveFor_240 rfl ?_
    refine r_iconst (v := (1 : Int32)) dX0_solveFor_241 rfl ?_
    refine m_iast hp dX0_solveFor_242 (lf_4_1 (lf_0_3 ly_0)) H.1 (fun h5 eh5 => ?_)
    replace H := H.2 h5 eh5
    refine r_aload_n dX0_solveFor_243 rfl rfl ?_
    refine m_getF (x := 43) hp fw_X0_50 dX0_solveFor_244 rfl ly_0 (ff_0_3 ly_0) ?_
    refine m_getF (x := 44) hp fw_X0_288 dX0_solveFor_247 rfl (lf_0_3 ly_0) (ff_4_1 (lf_0_3 ly_0)) ?_
    refine r_aload_n dX0_solveFor_250 rfl rfl ?_
    refine m_getF (x := 43) hp fw_X0_50 dX0_solveFor_251 rfl ly_0 (ff_0_3 ly_0) ?_
    refine m_getI hp fw_X0_608 dX0_solveFor_254 rfl (lf_0_3 ly_0) ?_
    refine r_iconst (v := (1 : Int32)) dX0_solveFor_257 rfl ?_
    refine m_iast hp dX0_solveFor_258 (lf_4_1 (lf_0_3 ly_0)) H.1 (fun h6 eh6 => ?_)
    replace H := H.2 h6 eh6
    refine r_aload_n dX0_solveFor_259 rfl rfl ?_
    refine m_getF (x := 99) hp fw_X0_351 dX0_solveFor_260 rfl ly_0 (ff_0_30 ly_0) ?_
    refine r_aload_n dX0_solveFor_263 rfl rfl ?_
    refine m_getF (x := 45) hp fw_X0_59 dX0_solveFor_264 rfl ly_0 (ff_0_4 ly_0) ?_
    refine r_aload_n dX0_solveFor_267 rfl rfl ?_
    refine m_getF (x := 43) hp fw_X0_50 dX0_solveFor_268 rfl ly_0 (ff_0_3 ly_0) ?_
    refine k_VV (As := [.ref 45, .ref 43]) (stk := []) hp cv_X0_97 dX0_solveFor_271 rfl (Nat.le_of_ble_eq_true rfl) (lf_0_30 ly_0) (H.mono (fun h7 H => ?_)) ⟨Nat.le_refl _, Nat.le_refl _⟩
    refine r_iinc (v := (x5 + (1 : Int32))) (ls2 := [some (.ref 0), some (.int x1), none, some (.int x3), none, some (.int (x5 + (1 : Int32))), some (.int x6)]) dX0_solveFor_274 rfl rfl (by decide) rfl ?_
    refine r_goto (tgt := 94) dX0_solveFor_277 rfl ?_
    refine r_prune [true, true, false, true, false, true, false] (ls2 := [some (.ref 0), some (.int x1), none, some (.int x3), none, some (.int (x5 + (1 : Int32))), none]) rfl ?_
    exact H
  · replace H := H.2 cH
    refine r_aload_n dX0_solveFor_154 rfl rfl ?_
    refine m_getF (x := 819) hp fw_X0_390 dX0_solveFor_155 rfl ly_0 (ff_0_39 ly_0) ?_
    refine r_iload dX0_solveFor_158 rfl ?_
    refine r_aload_n dX0_solveFor_160 rfl rfl ?_
    refine m_getF (x := 103) hp fw_X0_361 dX0_solveFor_161 rfl ly_0 (ff_0_32 ly_0) ?_
    refine k_VV (As := [.int x6, .ref 103]) (stk := []) hp cv_X0_661 dX0_solveFor_164 rfl (Nat.le_of_ble_eq_true rfl) (lf_0_39 ly_0) (H.mono (fun h8 H => ?_)) ⟨Nat.le_refl _, Nat.le_refl _⟩
    refine r_aload_n dX0_solveFor_167 rfl rfl ?_
    refine m_getF (x := 45) hp fw_X0_59 dX0_solveFor_168 rfl ly_0 (ff_0_4 ly_0) ?_
    refine r_iload dX0_solveFor_171 rfl ?_
    refine r_iload dX0_solveFor_173 rfl ?_
    refine r_iadd dX0_solveFor_175 ?_
    refine r_aload_n dX0_solveFor_176 rfl rfl ?_
    refine m_getF (x := 103) hp fw_X0_361 dX0_solveFor_177 rfl ly_0 (ff_0_32 ly_0) ?_
    refine k_VV (As := [.int (x6 + x5), .ref 103]) (stk := []) hp cv_X0_664 dX0_solveFor_180 rfl (Nat.le_of_ble_eq_true rfl) (lf_0_4 ly_0) (H.mono (fun h9 H => ?_)) ⟨Nat.le_refl _, Nat.le_refl _⟩
    refine r_iinc (v := (x6 + (1 : Int32))) (ls2 := [some (.ref 0), some (.int x1), none, some (.int x3), none, some (.int x5), some (.int (x6 + (1 : Int32)))]) dX0_solveFor_183 rfl rfl (by decide) rfl ?_
    refine r_goto (tgt := 142) dX0_solveFor_186 rfl ?_
    exact H
theorem s_X0_solveFor_283 {g : GX} {d : Nat} {av : List Value} {Q : QT} {n : Nat} {h : Hp} {x1 : Int32} {x3 : Int32} {x5 : Int32} (hp : g.2.2.2.2 = true)  (H : ((x1 < x5) → (CallI g m_X7_clear d [.ref 113, .int x3] n h (fun v1 h1 => ((((0 : Int32) ≤ v1) → (∀ h2, h2 = wi h1 0 47 (v1 - x3) → (CallV g m_X3_clear d [.ref 828] n h2 (fun h3 => (W_X0_solveFor g d av Q n 362 [some (.ref 0), none, none, some (.int x3), none, some (.int v1), some (.int (0 : Int32))] [] h3))))) ∧ ((¬ (0 : Int32) ≤ v1) → (Q (some (.int (0 : Int32))) n h1)))))) ∧ ((¬ x1 < x5) → (vp_in x5 4 ∧ ∀ r4, r4 = 2509 + 11 * (x5).toNatClampNeg → (CallV g m_X4_product d [.ref 821, .ref 97, .ref r4] n h (fun h5 => (CallV g m_X0_layColumn d [.ref 0, .int (x3 + x5), .ref 821, .int (2147483646 : Int32)] n h5 (fun h6 => (W_X0_solveFor g d av Q n 283 [some (.ref 0), some (.int x1), none, some (.int x3), none, some (.int (x5 + (1 : Int32))), none] [] h6)))))))) : W_X0_solveFor g d av Q n 283 [some (.ref 0), some (.int x1), none, some (.int x3), none, some (.int x5), none] [] h := by
  refine r_iload dX0_solveFor_283 rfl ?_
  refine r_iload_n dX0_solveFor_285 rfl rfl ?_
  refine r_icmp_gt (tgt := 327) dX0_solveFor_286 rfl (fun cH => ?_) (fun cH => ?_)
  · replace H := H.1 cH
    refine r_aload_n dX0_solveFor_327 rfl rfl ?_
    refine m_getF (x := 113) hp fw_X0_382 dX0_solveFor_328 rfl ly_0 (ff_0_37 ly_0) ?_
    refine r_iload_n dX0_solveFor_331 rfl rfl ?_
    refine k_VI (As := [.int x3]) (stk := []) hp cv_X0_703 dX0_solveFor_332 rfl (Nat.le_of_ble_eq_true rfl) (lf_0_37 ly_0) (H.mono (fun v1 h1 H => ?_)) ⟨Nat.le_refl _, Nat.le_refl _⟩
    refine r_istore (ls2 := [some (.ref 0), some (.int x1), none, some (.int x3), none, some (.int v1), none]) dX0_solveFor_335 (by decide) rfl ?_
    refine r_iload dX0_solveFor_337 rfl ?_
    refine r_if_ge (tgt := 344) dX0_solveFor_339 rfl (fun cH => ?_) (fun cH => ?_)
    · replace H := H.1 cH
      refine r_aload_n dX0_solveFor_344 rfl rfl ?_
      refine r_iload dX0_solveFor_345 rfl ?_
      refine r_iload_n dX0_solveFor_347 rfl rfl ?_
      refine r_isub dX0_solveFor_348 ?_
      refine m_putI hp fw_X0_706 dX0_solveFor_349 rfl rfl ly_0 (fun h2 eh2 => ?_)
      replace H := H h2 eh2
      refine r_aload_n dX0_solveFor_352 rfl rfl ?_
      refine m_getF (x := 828) hp fw_X0_406 dX0_solveFor_353 rfl ly_0 (ff_0_44 ly_0) ?_
      refine k_VV (As := []) (stk := []) hp cv_X0_709 dX0_solveFor_356 rfl (Nat.le_of_ble_eq_true rfl) (lf_0_44 ly_0) (H.mono (fun h3 H => ?_)) ⟨Nat.le_refl _, Nat.le_refl _⟩
      refine r_iconst (v := (0 : Int32)) dX0_solveFor_359 rfl ?_
      refine r_istore (ls2 := [some (.ref 0), some (.int x1), none, some (.int x3), none, some (.int v1), some (.int (0 : Int32))]) dX0_solveFor_360 (by decide) rfl ?_
      refine r_prune [true, false, false, true, false, true, true] (ls2 := [some (.ref 0), none, none, some (.int x3), none, some (.int v1), some (.int (0 : Int32))]) rfl ?_
      exact H
    · replace H := H.2 cH
      refine r_iconst (v := (0 : Int32)) dX0_solveFor_342 rfl ?_
      exact r_zret dX0_solveFor_343 rfl rfl (Nat.le_refl _) (Nat.le_refl _) H
  · replace H := H.2 cH
    refine r_aload_n dX0_solveFor_289 rfl rfl ?_
    refine m_getF (x := 821) hp fw_X0_393 dX0_solveFor_290 rfl ly_0 (ff_0_40 ly_0) ?_
    refine r_aload_n dX0_solveFor_293 rfl rfl ?_
    refine m_getF (x := 97) hp fw_X0_348 dX0_solveFor_294 rfl ly_0 (ff_0_29 ly_0) ?_
    refine r_aload_n dX0_solveFor_297 rfl rfl ?_
    refine m_getF (x := 818) hp fw_X0_386 dX0_solveFor_298 rfl ly_0 (ff_0_38 ly_0) ?_
    refine r_iload dX0_solveFor_301 rfl ?_
    obtain ⟨r4, er4⟩ : ∃ y, y = 2509 + 11 * (x5).toNatClampNeg := ⟨_, rfl⟩
    have hir4 := H.1
    replace H := H.2 r4 er4
    have tLr4 := la_818 hir4 er4
    refine m_aalF (x := r4) hp dX0_solveFor_303 (lf_0_38 ly_0) rfl rfl (lu_0_38 ly_0) hir4 (fa_818 hir4 er4) ?_
    refine k_VV (As := [.ref 97, .ref r4]) (stk := []) hp cv_X0_97 dX0_solveFor_304 rfl (Nat.le_of_ble_eq_true rfl) (lf_0_40 ly_0) (H.mono (fun h5 H => ?_)) ⟨Nat.le_refl _, Nat.le_refl _⟩
    refine r_aload_n dX0_solveFor_307 rfl rfl ?_
    refine r_iload_n dX0_solveFor_308 rfl rfl ?_
    refine r_iload dX0_solveFor_309 rfl ?_
    refine r_iadd dX0_solveFor_311 ?_
    refine r_aload_n dX0_solveFor_312 rfl rfl ?_
    refine m_getF (x := 821) hp fw_X0_393 dX0_solveFor_313 rfl ly_0 (ff_0_40 ly_0) ?_
    refine r_ldc (own := "") (v := (2147483646 : Int32)) dX0_solveFor_316 q1022 ?_
    refine k_VV (As := [.int (x3 + x5), .ref 821, .int (2147483646 : Int32)]) (stk := []) hp cv_X0_699 dX0_solveFor_318 rfl (Nat.le_of_ble_eq_true rfl) ly_0 (H.mono (fun h6 H => ?_)) ⟨Nat.le_refl _, Nat.le_refl _⟩
    refine r_iinc (v := (x5 + (1 : Int32))) (ls2 := [some (.ref 0), some (.int x1), none, some (.int x3), none, some (.int (x5 + (1 : Int32))), none]) dX0_solveFor_321 rfl rfl (by decide) rfl ?_
    refine r_goto (tgt := 283) dX0_solveFor_324 rfl ?_
    exact H
theorem s_X0_solveFor_362 {g : GX} {d : Nat} {av : List Value} {Q : QT} {n : Nat} {h : Hp} {x3 : Int32} {x5 : Int32} {x6 : Int32} (hp : g.2.2.2.2 = true)  (H : (((ri h 0 47) < x6) → (CallV g m_X0_readSolution d [.ref 0, .int x3, .int x5] n h (fun h1 => (Q (some (.int (1 : Int32))) n h1)))) ∧ ((¬ (ri h 0 47) < x6) → (vp_in x6 4 ∧ ∀ r2, r2 = 2511 + 11 * (x6).toNatClampNeg → (CallV g m_X7_number d [.ref 113, .int (x3 + x6), .int x5, .ref r2] n h (fun h3 => (vp_in x6 4 ∧ ∀ r4, r4 = 2511 + 11 * (x6).toNatClampNeg → (CallV g m_X2_common d [.ref 2, .ref 828, .ref r4, .ref 828] n h3 (fun h5 => (W_X0_solveFor g d av Q n 362 [some (.ref 0), none, none, some (.int x3), none, some (.int x5), some (.int (x6 + (1 : Int32)))] [] h5))))))))) : W_X0_solveFor g d av Q n 362 [some (.ref 0), none, none, some (.int x3), none, some (.int x5), some (.int x6)] [] h := by
  refine r_iload dX0_solveFor_362 rfl ?_
  refine r_aload_n dX0_solveFor_364 rfl rfl ?_
  refine m_getI hp fw_X0_706 dX0_solveFor_365 rfl ly_0 ?_
  refine r_icmp_gt (tgt := 422) dX0_solveFor_368 rfl (fun cH => ?_) (fun cH => ?_)
  · replace H := H.1 cH
    refine r_aload_n dX0_solveFor_422 rfl rfl ?_
    refine r_iload_n dX0_solveFor_423 rfl rfl ?_
    refine r_iload dX0_solveFor_424 rfl ?_
    refine k_VV (As := [.int x3, .int x5]) (stk := []) hp cv_X0_715 dX0_solveFor_426 rfl (Nat.le_of_ble_eq_true rfl) ly_0 (H.mono (fun h1 H => ?_)) ⟨Nat.le_refl _, Nat.le_refl _⟩
    refine r_iconst (v := (1 : Int32)) dX0_solveFor_429 rfl ?_
    exact r_zret dX0_solveFor_430 rfl rfl (Nat.le_refl _) (Nat.le_refl _) H
  · replace H := H.2 cH
    refine r_aload_n dX0_solveFor_371 rfl rfl ?_
    refine m_getF (x := 113) hp fw_X0_382 dX0_solveFor_372 rfl ly_0 (ff_0_37 ly_0) ?_
    refine r_iload_n dX0_solveFor_375 rfl rfl ?_
    refine r_iload dX0_solveFor_376 rfl ?_
    refine r_iadd dX0_solveFor_378 ?_
    refine r_iload dX0_solveFor_379 rfl ?_
    refine r_aload_n dX0_solveFor_381 rfl rfl ?_
    refine m_getF (x := 827) hp fw_X0_402 dX0_solveFor_382 rfl ly_0 (ff_0_43 ly_0) ?_
    refine r_iload dX0_solveFor_385 rfl ?_
    obtain ⟨r2, er2⟩ : ∃ y, y = 2511 + 11 * (x6).toNatClampNeg := ⟨_, rfl⟩
    have hir2 := H.1
    replace H := H.2 r2 er2
    have tLr2 := la_827 hir2 er2
    refine m_aalF (x := r2) hp dX0_solveFor_387 (lf_0_43 ly_0) rfl rfl (lu_0_43 ly_0) hir2 (fa_827 hir2 er2) ?_
    refine k_VV (As := [.int (x3 + x6), .int x5, .ref r2]) (stk := []) hp cv_X0_711 dX0_solveFor_388 rfl (Nat.le_of_ble_eq_true rfl) (lf_0_37 ly_0) (H.mono (fun h3 H => ?_)) ⟨Nat.le_refl _, Nat.le_refl _⟩
    refine r_aload_n dX0_solveFor_391 rfl rfl ?_
    refine m_getF (x := 1) hp fw_X0_46 dX0_solveFor_392 rfl ly_0 (ff_0_0 ly_0) ?_
    refine m_getF (x := 2) hp fw_X0_642 dX0_solveFor_395 rfl (lf_0_0 ly_0) (ff_1_0 (lf_0_0 ly_0)) ?_
    refine r_aload_n dX0_solveFor_398 rfl rfl ?_
    refine m_getF (x := 828) hp fw_X0_406 dX0_solveFor_399 rfl ly_0 (ff_0_44 ly_0) ?_
    refine r_aload_n dX0_solveFor_402 rfl rfl ?_
    refine m_getF (x := 827) hp fw_X0_402 dX0_solveFor_403 rfl ly_0 (ff_0_43 ly_0) ?_
    refine r_iload dX0_solveFor_406 rfl ?_
    obtain ⟨r4, er4⟩ : ∃ y, y = 2511 + 11 * (x6).toNatClampNeg := ⟨_, rfl⟩
    have hir4 := H.1
    replace H := H.2 r4 er4
    have tLr4 := la_827 hir4 er4
    refine m_aalF (x := r4) hp dX0_solveFor_408 (lf_0_43 ly_0) rfl rfl (lu_0_43 ly_0) hir4 (fa_827 hir4 er4) ?_
    refine r_aload_n dX0_solveFor_409 rfl rfl ?_
    refine m_getF (x := 828) hp fw_X0_406 dX0_solveFor_410 rfl ly_0 (ff_0_44 ly_0) ?_
    refine k_VV (As := [.ref 828, .ref r4, .ref 828]) (stk := []) hp cv_X0_646 dX0_solveFor_413 rfl (Nat.le_of_ble_eq_true rfl) (lf_1_0 (lf_0_0 ly_0)) (H.mono (fun h5 H => ?_)) ⟨Nat.le_refl _, Nat.le_refl _⟩
    refine r_iinc (v := (x6 + (1 : Int32))) (ls2 := [some (.ref 0), none, none, some (.int x3), none, some (.int x5), some (.int (x6 + (1 : Int32)))]) dX0_solveFor_416 rfl rfl (by decide) rfl ?_
    refine r_goto (tgt := 362) dX0_solveFor_419 rfl ?_
    exact H
abbrev W_X0_layColumn (g : GX) (d : Nat) (av : List Value) (Q : QT) (n : Nat) (pc : Nat) (ls : LV) (stk : List Value) (h : Hp) : Prop := RJ g m_X0_layColumn (d + 1) 0 0 av Q pc ls stk n h 0 0
theorem s_X0_layColumn_0 {g : GX} {d : Nat} {av : List Value} {Q : QT} {n : Nat} {h : Hp} {x1 : Int32} {a2 : Nat} {x3 : Int32} (hp : g.2.2.2.2 = true) (t2 : lay a2 = (0, 4, 4)) (H : W_X0_layColumn g d av Q n 3 [some (.ref 0), some (.int x1), some (.ref a2), some (.int x3), some (.int (0 : Int32))] [] h) : W_X0_layColumn g d av Q n 0 [some (.ref 0), some (.int x1), some (.ref a2), some (.int x3), none] [] h := by
  refine r_iconst (v := (0 : Int32)) dX0_layColumn_0 rfl ?_
  refine r_istore (ls2 := [some (.ref 0), some (.int x1), some (.ref a2), some (.int x3), some (.int (0 : Int32))]) dX0_layColumn_1 (by decide) rfl ?_
  exact H
theorem s_X0_layColumn_3 {g : GX} {d : Nat} {av : List Value} {Q : QT} {n : Nat} {h : Hp} {x1 : Int32} {a2 : Nat} {x3 : Int32} {x4 : Int32} (hp : g.2.2.2.2 = true) (t2 : lay a2 = (0, 4, 4)) (H : (((ri h a2 3) ≤ x4) → (Q none n h)) ∧ ((¬ (ri h a2 3) ≤ x4) → (vp_in x4 24 ∧ ∃ r1 Lr1, rr h 114 (x4).toNatClampNeg = some r1 ∧ (lay r1 = (2, Lr1, 3) ∧ r1 < N0) ∧ (vp_in x1 Lr1 ∧ ∃ r2, rr h r1 (x1).toNatClampNeg = some r2 ∧ lay r2 = (0, 3, 2) ∧ (CallV g m_X4_row d [.ref a2, .int x4, .ref r2] n h (fun h3 => (vp_in x4 24 ∧ ∃ r4 Lr4, rr h3 114 (x4).toNatClampNeg = some r4 ∧ (lay r4 = (2, Lr4, 3) ∧ r4 < N0) ∧ (vp_in x1 Lr4 ∧ ∃ r5, rr h3 r4 (x1).toNatClampNeg = some r5 ∧ lay r5 = (0, 3, 2) ∧ (CallV g m_X3_scale d [.ref r5, .int x3] n h3 (fun h6 => (W_X0_layColumn g d av Q n 3 [some (.ref 0), some (.int x1), some (.ref a2), some (.int x3), some (.int (x4 + (1 : Int32)))] [] h6))))))))))) : W_X0_layColumn g d av Q n 3 [some (.ref 0), some (.int x1), some (.ref a2), some (.int x3), some (.int x4)] [] h := by
  refine r_iload dX0_layColumn_3 rfl ?_
  refine r_aload_n dX0_layColumn_5 rfl rfl ?_
  refine m_getI hp fw_X0_28 dX0_layColumn_6 rfl t2 ?_
  refine r_icmp_ge (tgt := 52) dX0_layColumn_9 rfl (fun cH => ?_) (fun cH => ?_)
  · replace H := H.1 cH
    exact r_vret dX0_layColumn_52 rfl (Nat.le_refl _) (Nat.le_refl _) H
  · replace H := H.2 cH
    refine r_aload_n dX0_layColumn_12 rfl rfl ?_
    refine r_iload dX0_layColumn_13 rfl ?_
    refine r_aload_n dX0_layColumn_15 rfl rfl ?_
    refine m_getF (x := 113) hp fw_X0_382 dX0_layColumn_16 rfl ly_0 (ff_0_37 ly_0) ?_
    refine m_getF (x := 114) hp fw_X0_694 dX0_layColumn_19 rfl (lf_0_37 ly_0) (ff_7_1 (lf_0_37 ly_0)) ?_
    refine r_iload dX0_layColumn_22 rfl ?_
    have hir1 := H.1
    obtain ⟨r1, Lr1, er1, tr1, H⟩ := H.2
    refine m_aalM (x := r1) hp dX0_layColumn_24 (lf_7_1 (lf_0_37 ly_0)) rfl rfl (lu_7_1 (lf_0_37 ly_0)) hir1 er1 ?_
    refine r_iload_n dX0_layColumn_25 rfl rfl ?_
    have hir2 := H.1
    obtain ⟨r2, er2, tr2, H⟩ := H.2
    refine m_aalM (x := r2) hp dX0_layColumn_26 tr1.1 rfl rfl tr1.2 hir2 er2 ?_
    refine k_VV (As := [.int x4, .ref r2]) (stk := []) hp cv_X0_661 dX0_layColumn_27 rfl (Nat.le_of_ble_eq_true rfl) t2 (H.mono (fun h3 H => ?_)) ⟨Nat.le_refl _, Nat.le_refl _⟩
    refine r_aload_n dX0_layColumn_30 rfl rfl ?_
    refine m_getF (x := 113) hp fw_X0_382 dX0_layColumn_31 rfl ly_0 (ff_0_37 ly_0) ?_
    refine m_getF (x := 114) hp fw_X0_694 dX0_layColumn_34 rfl (lf_0_37 ly_0) (ff_7_1 (lf_0_37 ly_0)) ?_
    refine r_iload dX0_layColumn_37 rfl ?_
    have hir4 := H.1
    obtain ⟨r4, Lr4, er4, tr4, H⟩ := H.2
    refine m_aalM (x := r4) hp dX0_layColumn_39 (lf_7_1 (lf_0_37 ly_0)) rfl rfl (lu_7_1 (lf_0_37 ly_0)) hir4 er4 ?_
    refine r_iload_n dX0_layColumn_40 rfl rfl ?_
    have hir5 := H.1
    obtain ⟨r5, er5, tr5, H⟩ := H.2
    refine m_aalM (x := r5) hp dX0_layColumn_41 tr4.1 rfl rfl tr4.2 hir5 er5 ?_
    refine r_iload_n dX0_layColumn_42 rfl rfl ?_
    refine k_VV (As := [.int x3]) (stk := []) hp cv_X0_697 dX0_layColumn_43 rfl (Nat.le_of_ble_eq_true rfl) tr5 (H.mono (fun h6 H => ?_)) ⟨Nat.le_refl _, Nat.le_refl _⟩
    refine r_iinc (v := (x4 + (1 : Int32))) (ls2 := [some (.ref 0), some (.int x1), some (.ref a2), some (.int x3), some (.int (x4 + (1 : Int32)))]) dX0_layColumn_46 rfl rfl (by decide) rfl ?_
    refine r_goto (tgt := 3) dX0_layColumn_49 rfl ?_
    exact H
abbrev W_X0_readSolution (g : GX) (d : Nat) (av : List Value) (Q : QT) (n : Nat) (pc : Nat) (ls : LV) (stk : List Value) (h : Hp) : Prop := RJ g m_X0_readSolution (d + 1) 0 0 av Q pc ls stk n h 0 0
theorem s_X0_readSolution_0 {g : GX} {d : Nat} {av : List Value} {Q : QT} {n : Nat} {h : Hp} {x1 : Int32} {x2 : Int32} (hp : g.2.2.2.2 = true)  (H : W_X0_readSolution g d av Q n 2 [some (.ref 0), some (.int x1), some (.int x2), some (.int (0 : Int32)), none, none] [] h) : W_X0_readSolution g d av Q n 0 [some (.ref 0), some (.int x1), some (.int x2), none, none, none] [] h := by
  refine r_iconst (v := (0 : Int32)) dX0_readSolution_0 rfl ?_
  refine r_istore_n (ls2 := [some (.ref 0), some (.int x1), some (.int x2), some (.int (0 : Int32)), none, none]) dX0_readSolution_1 rfl (by decide) rfl ?_
  exact H
theorem s_X0_readSolution_2 {g : GX} {d : Nat} {av : List Value} {Q : QT} {n : Nat} {h : Hp} {x1 : Int32} {x2 : Int32} {x3 : Int32} (hp : g.2.2.2.2 = true)  (H : (((ri h 0 47) < x3) → (vp_in (ri h 0 47) 4 ∧ ∀ r1, r1 = 2511 + 11 * ((ri h 0 47)).toNatClampNeg → (CallI g m_X3_head d [.ref r1] n h (fun v2 h2 => (W_X0_readSolution g d av Q n 52 [some (.ref 0), some (.int x1), some (.int x2), some (.int v2), some (.int (0 : Int32)), none] [] h2))))) ∧ ((¬ (ri h 0 47) < x3) → (vp_in x3 4 ∧ ∀ r3, r3 = 2511 + 11 * (x3).toNatClampNeg → (CallV g m_X2_divideExactly d [.ref 2, .ref r3, .ref 828] n h (fun h4 => (W_X0_readSolution g d av Q n 2 [some (.ref 0), some (.int x1), some (.int x2), some (.int (x3 + (1 : Int32))), none, none] [] h4)))))) : W_X0_readSolution g d av Q n 2 [some (.ref 0), some (.int x1), some (.int x2), some (.int x3), none, none] [] h := by
  refine r_iload_n dX0_readSolution_2 rfl rfl ?_
  refine r_aload_n dX0_readSolution_3 rfl rfl ?_
  refine m_getI hp fw_X0_706 dX0_readSolution_4 rfl ly_0 ?_
  refine r_icmp_gt (tgt := 36) dX0_readSolution_7 rfl (fun cH => ?_) (fun cH => ?_)
  · replace H := H.1 cH
    refine r_aload_n dX0_readSolution_36 rfl rfl ?_
    refine m_getF (x := 827) hp fw_X0_402 dX0_readSolution_37 rfl ly_0 (ff_0_43 ly_0) ?_
    refine r_aload_n dX0_readSolution_40 rfl rfl ?_
    refine m_getI hp fw_X0_706 dX0_readSolution_41 rfl ly_0 ?_
    obtain ⟨r1, er1⟩ : ∃ y, y = 2511 + 11 * ((ri h 0 47)).toNatClampNeg := ⟨_, rfl⟩
    have hir1 := H.1
    replace H := H.2 r1 er1
    have tLr1 := la_827 hir1 er1
    refine m_aalF (x := r1) hp dX0_readSolution_44 (lf_0_43 ly_0) rfl rfl (lu_0_43 ly_0) hir1 (fa_827 hir1 er1) ?_
    refine k_VI (As := []) (stk := []) hp cv_X0_693 dX0_readSolution_45 rfl (Nat.le_of_ble_eq_true rfl) tLr1 (H.mono (fun v2 h2 H => ?_)) ⟨Nat.le_refl _, Nat.le_refl _⟩
    refine r_istore_n (ls2 := [some (.ref 0), some (.int x1), some (.int x2), some (.int v2), none, none]) dX0_readSolution_48 rfl (by decide) rfl ?_
    refine r_iconst (v := (0 : Int32)) dX0_readSolution_49 rfl ?_
    refine r_istore (ls2 := [some (.ref 0), some (.int x1), some (.int x2), some (.int v2), some (.int (0 : Int32)), none]) dX0_readSolution_50 (by decide) rfl ?_
    exact H
  · replace H := H.2 cH
    refine r_aload_n dX0_readSolution_10 rfl rfl ?_
    refine m_getF (x := 1) hp fw_X0_46 dX0_readSolution_11 rfl ly_0 (ff_0_0 ly_0) ?_
    refine m_getF (x := 2) hp fw_X0_642 dX0_readSolution_14 rfl (lf_0_0 ly_0) (ff_1_0 (lf_0_0 ly_0)) ?_
    refine r_aload_n dX0_readSolution_17 rfl rfl ?_
    refine m_getF (x := 827) hp fw_X0_402 dX0_readSolution_18 rfl ly_0 (ff_0_43 ly_0) ?_
    refine r_iload_n dX0_readSolution_21 rfl rfl ?_
    obtain ⟨r3, er3⟩ : ∃ y, y = 2511 + 11 * (x3).toNatClampNeg := ⟨_, rfl⟩
    have hir3 := H.1
    replace H := H.2 r3 er3
    have tLr3 := la_827 hir3 er3
    refine m_aalF (x := r3) hp dX0_readSolution_22 (lf_0_43 ly_0) rfl rfl (lu_0_43 ly_0) hir3 (fa_827 hir3 er3) ?_
    refine r_aload_n dX0_readSolution_23 rfl rfl ?_
    refine m_getF (x := 828) hp fw_X0_406 dX0_readSolution_24 rfl ly_0 (ff_0_44 ly_0) ?_
    refine k_VV (As := [.ref r3, .ref 828]) (stk := []) hp cv_X0_718 dX0_readSolution_27 rfl (Nat.le_of_ble_eq_true rfl) (lf_1_0 (lf_0_0 ly_0)) (H.mono (fun h4 H => ?_)) ⟨Nat.le_refl _, Nat.le_refl _⟩
    refine r_iinc (v := (x3 + (1 : Int32))) (ls2 := [some (.ref 0), some (.int x1), some (.int x2), some (.int (x3 + (1 : Int32))), none, none]) dX0_readSolution_30 rfl rfl (by decide) rfl ?_
    refine r_goto (tgt := 2) dX0_readSolution_33 rfl ?_
    exact H
theorem s_X0_readSolution_52 {g : GX} {d : Nat} {av : List Value} {Q : QT} {n : Nat} {h : Hp} {x1 : Int32} {x2 : Int32} {x3 : Int32} {x4 : Int32} (hp : g.2.2.2.2 = true)  (H : (((ri h 0 47) < x4) → (W_X0_readSolution g d av Q n 87 [some (.ref 0), some (.int x1), some (.int x2), some (.int x3), some (.int (0 : Int32)), some (.int (0 : Int32))] [] h)) ∧ ((¬ (ri h 0 47) < x4) → (vp_in x4 4 ∧ ∀ r1, r1 = 2511 + 11 * (x4).toNatClampNeg → (CallI g m_X0_inverse d [.int x3] n h (fun v2 h2 => (CallV g m_X3_scale d [.ref r1, .int v2] n h2 (fun h3 => (W_X0_readSolution g d av Q n 52 [some (.ref 0), some (.int x1), some (.int x2), some (.int x3), some (.int (x4 + (1 : Int32))), none] [] h3)))))))) : W_X0_readSolution g d av Q n 52 [some (.ref 0), some (.int x1), some (.int x2), some (.int x3), some (.int x4), none] [] h := by
  refine r_iload dX0_readSolution_52 rfl ?_
  refine r_aload_n dX0_readSolution_54 rfl rfl ?_
  refine m_getI hp fw_X0_706 dX0_readSolution_55 rfl ly_0 ?_
  refine r_icmp_gt (tgt := 81) dX0_readSolution_58 rfl (fun cH => ?_) (fun cH => ?_)
  · replace H := H.1 cH
    refine r_iconst (v := (0 : Int32)) dX0_readSolution_81 rfl ?_
    refine r_istore (ls2 := [some (.ref 0), some (.int x1), some (.int x2), some (.int x3), some (.int (0 : Int32)), none]) dX0_readSolution_82 (by decide) rfl ?_
    refine r_iconst (v := (0 : Int32)) dX0_readSolution_84 rfl ?_
    refine r_istore (ls2 := [some (.ref 0), some (.int x1), some (.int x2), some (.int x3), some (.int (0 : Int32)), some (.int (0 : Int32))]) dX0_readSolution_85 (by decide) rfl ?_
    exact H
  · replace H := H.2 cH
    refine r_aload_n dX0_readSolution_61 rfl rfl ?_
    refine m_getF (x := 827) hp fw_X0_402 dX0_readSolution_62 rfl ly_0 (ff_0_43 ly_0) ?_
    refine r_iload dX0_readSolution_65 rfl ?_
    obtain ⟨r1, er1⟩ : ∃ y, y = 2511 + 11 * (x4).toNatClampNeg := ⟨_, rfl⟩
    have hir1 := H.1
    replace H := H.2 r1 er1
    have tLr1 := la_827 hir1 er1
    refine m_aalF (x := r1) hp dX0_readSolution_67 (lf_0_43 ly_0) rfl rfl (lu_0_43 ly_0) hir1 (fa_827 hir1 er1) ?_
    refine r_iload_n dX0_readSolution_68 rfl rfl ?_
    refine k_SI (As := [.int x3]) (stk := [.ref r1]) cs_X0_74 dX0_readSolution_69 rfl (Nat.le_of_ble_eq_true rfl) (H.mono (fun v2 h2 H => ?_)) ⟨Nat.le_refl _, Nat.le_refl _⟩
    refine k_VV (As := [.int v2]) (stk := []) hp cv_X0_697 dX0_readSolution_72 rfl (Nat.le_of_ble_eq_true rfl) tLr1 (H.mono (fun h3 H => ?_)) ⟨Nat.le_refl _, Nat.le_refl _⟩
    refine r_iinc (v := (x4 + (1 : Int32))) (ls2 := [some (.ref 0), some (.int x1), some (.int x2), some (.int x3), some (.int (x4 + (1 : Int32))), none]) dX0_readSolution_75 rfl rfl (by decide) rfl ?_
    refine r_goto (tgt := 52) dX0_readSolution_78 rfl ?_
    exact H
theorem s_X0_readSolution_87 {g : GX} {d : Nat} {av : List Value} {Q : QT} {n : Nat} {h : Hp} {x1 : Int32} {x2 : Int32} {x3 : Int32} {x4 : Int32} {x5 : Int32} (hp : g.2.2.2.2 = true)  (H : ((x1 ≤ x5) → (CallV g m_X4_open d [.ref 823, .int x4, .int x1] n h (fun h1 => (W_X0_readSolution g d av Q n 140 [some (.ref 0), some (.int x1), some (.int x2), some (.int x3), none, some (.int (0 : Int32))] [] h1)))) ∧ ((¬ x1 ≤ x5) → (CallV g m_X7_number d [.ref 113, .int x5, .int x2, .ref 832] n h (fun h2 => (CallI g m_J3_max d [.int x4, .int (ri h2 832 1)] n h2 (fun v3 h3 => (W_X0_readSolution g d av Q n 87 [some (.ref 0), some (.int x1), some (.int x2), some (.int x3), some (.int v3), some (.int (x5 + (1 : Int32)))] [] h3))))))) : W_X0_readSolution g d av Q n 87 [some (.ref 0), some (.int x1), some (.int x2), some (.int x3), some (.int x4), some (.int x5)] [] h := by
  refine r_iload dX0_readSolution_87 rfl ?_
  refine r_iload_n dX0_readSolution_89 rfl rfl ?_
  refine r_icmp_ge (tgt := 127) dX0_readSolution_90 rfl (fun cH => ?_) (fun cH => ?_)
  · replace H := H.1 cH
    refine r_aload_n dX0_readSolution_127 rfl rfl ?_
    refine m_getF (x := 823) hp fw_X0_396 dX0_readSolution_128 rfl ly_0 (ff_0_41 ly_0) ?_
    refine r_iload dX0_readSolution_131 rfl ?_
    refine r_iload_n dX0_readSolution_133 rfl rfl ?_
    refine k_VV (As := [.int x4, .int x1]) (stk := []) hp cv_X0_304 dX0_readSolution_134 rfl (Nat.le_of_ble_eq_true rfl) (lf_0_41 ly_0) (H.mono (fun h1 H => ?_)) ⟨Nat.le_refl _, Nat.le_refl _⟩
    refine r_iconst (v := (0 : Int32)) dX0_readSolution_137 rfl ?_
    refine r_istore (ls2 := [some (.ref 0), some (.int x1), some (.int x2), some (.int x3), some (.int x4), some (.int (0 : Int32))]) dX0_readSolution_138 (by decide) rfl ?_
    refine r_prune [true, true, true, true, false, true] (ls2 := [some (.ref 0), some (.int x1), some (.int x2), some (.int x3), none, some (.int (0 : Int32))]) rfl ?_
    exact H
  · replace H := H.2 cH
    refine r_aload_n dX0_readSolution_93 rfl rfl ?_
    refine m_getF (x := 113) hp fw_X0_382 dX0_readSolution_94 rfl ly_0 (ff_0_37 ly_0) ?_
    refine r_iload dX0_readSolution_97 rfl ?_
    refine r_iload_n dX0_readSolution_99 rfl rfl ?_
    refine r_aload_n dX0_readSolution_100 rfl rfl ?_
    refine m_getF (x := 832) hp fw_X0_411 dX0_readSolution_101 rfl ly_0 (ff_0_46 ly_0) ?_
    refine k_VV (As := [.int x5, .int x2, .ref 832]) (stk := []) hp cv_X0_711 dX0_readSolution_104 rfl (Nat.le_of_ble_eq_true rfl) (lf_0_37 ly_0) (H.mono (fun h2 H => ?_)) ⟨Nat.le_refl _, Nat.le_refl _⟩
    refine r_iload dX0_readSolution_107 rfl ?_
    refine r_aload_n dX0_readSolution_109 rfl rfl ?_
    refine m_getF (x := 832) hp fw_X0_411 dX0_readSolution_110 rfl ly_0 (ff_0_46 ly_0) ?_
    refine m_getI hp fw_X0_636 dX0_readSolution_113 rfl (lf_0_46 ly_0) ?_
    refine k_SI (As := [.int x4, .int (ri h2 832 1)]) (stk := []) cs_X0_679 dX0_readSolution_116 rfl (Nat.le_of_ble_eq_true rfl) (H.mono (fun v3 h3 H => ?_)) ⟨Nat.le_refl _, Nat.le_refl _⟩
    refine r_istore (ls2 := [some (.ref 0), some (.int x1), some (.int x2), some (.int x3), some (.int v3), some (.int x5)]) dX0_readSolution_119 (by decide) rfl ?_
    refine r_iinc (v := (x5 + (1 : Int32))) (ls2 := [some (.ref 0), some (.int x1), some (.int x2), some (.int x3), some (.int v3), some (.int (x5 + (1 : Int32)))]) dX0_readSolution_121 rfl rfl (by decide) rfl ?_
    refine r_goto (tgt := 87) dX0_readSolution_124 rfl ?_
    exact H
theorem s_X0_readSolution_140 {g : GX} {d : Nat} {av : List Value} {Q : QT} {n : Nat} {h : Hp} {x1 : Int32} {x2 : Int32} {x3 : Int32} {x5 : Int32} (hp : g.2.2.2.2 = true)  (H : ((x1 ≤ x5) → (CallV g m_X4_trim d [.ref 823] n h (fun h1 => (CallV g m_X3_copy d [.ref 830, .ref 828] n h1 (fun h2 => (CallV g m_X3_scale d [.ref 830, .int x3] n h2 (fun h3 => (CallV g m_X3_copy d [.ref 103, .ref 828] n h3 (fun h4 => (W_X0_readSolution g d av Q n 219 [some (.ref 0), none, none, none, none, some (.int (0 : Int32))] [] h4)))))))))) ∧ ((¬ x1 ≤ x5) → (CallV g m_X7_number d [.ref 113, .int x5, .int x2, .ref 832] n h (fun h5 => (CallV g m_X4_putRow d [.ref 823, .int x5, .ref 832] n h5 (fun h6 => (W_X0_readSolution g d av Q n 140 [some (.ref 0), some (.int x1), some (.int x2), some (.int x3), none, some (.int (x5 + (1 : Int32)))] [] h6))))))) : W_X0_readSolution g d av Q n 140 [some (.ref 0), some (.int x1), some (.int x2), some (.int x3), none, some (.int x5)] [] h := by
  refine r_iload dX0_readSolution_140 rfl ?_
  refine r_iload_n dX0_readSolution_142 rfl rfl ?_
  refine r_icmp_ge (tgt := 179) dX0_readSolution_143 rfl (fun cH => ?_) (fun cH => ?_)
  · replace H := H.1 cH
    refine r_aload_n dX0_readSolution_179 rfl rfl ?_
    refine m_getF (x := 823) hp fw_X0_396 dX0_readSolution_180 rfl ly_0 (ff_0_41 ly_0) ?_
    refine k_VV (As := []) (stk := []) hp cv_X0_611 dX0_readSolution_183 rfl (Nat.le_of_ble_eq_true rfl) (lf_0_41 ly_0) (H.mono (fun h1 H => ?_)) ⟨Nat.le_refl _, Nat.le_refl _⟩
    refine r_aload_n dX0_readSolution_186 rfl rfl ?_
    refine m_getF (x := 830) hp fw_X0_408 dX0_readSolution_187 rfl ly_0 (ff_0_45 ly_0) ?_
    refine r_aload_n dX0_readSolution_190 rfl rfl ?_
    refine m_getF (x := 828) hp fw_X0_406 dX0_readSolution_191 rfl ly_0 (ff_0_44 ly_0) ?_
    refine k_VV (As := [.ref 828]) (stk := []) hp cv_X0_686 dX0_readSolution_194 rfl (Nat.le_of_ble_eq_true rfl) (lf_0_45 ly_0) (H.mono (fun h2 H => ?_)) ⟨Nat.le_refl _, Nat.le_refl _⟩
    refine r_aload_n dX0_readSolution_197 rfl rfl ?_
    refine m_getF (x := 830) hp fw_X0_408 dX0_readSolution_198 rfl ly_0 (ff_0_45 ly_0) ?_
    refine r_iload_n dX0_readSolution_201 rfl rfl ?_
    refine k_VV (As := [.int x3]) (stk := []) hp cv_X0_697 dX0_readSolution_202 rfl (Nat.le_of_ble_eq_true rfl) (lf_0_45 ly_0) (H.mono (fun h3 H => ?_)) ⟨Nat.le_refl _, Nat.le_refl _⟩
    refine r_aload_n dX0_readSolution_205 rfl rfl ?_
    refine m_getF (x := 103) hp fw_X0_361 dX0_readSolution_206 rfl ly_0 (ff_0_32 ly_0) ?_
    refine r_aload_n dX0_readSolution_209 rfl rfl ?_
    refine m_getF (x := 828) hp fw_X0_406 dX0_readSolution_210 rfl ly_0 (ff_0_44 ly_0) ?_
    refine k_VV (As := [.ref 828]) (stk := []) hp cv_X0_686 dX0_readSolution_213 rfl (Nat.le_of_ble_eq_true rfl) (lf_0_32 ly_0) (H.mono (fun h4 H => ?_)) ⟨Nat.le_refl _, Nat.le_refl _⟩
    refine r_iconst (v := (0 : Int32)) dX0_readSolution_216 rfl ?_
    refine r_istore (ls2 := [some (.ref 0), some (.int x1), some (.int x2), some (.int x3), none, some (.int (0 : Int32))]) dX0_readSolution_217 (by decide) rfl ?_
    refine r_prune [true, false, false, false, false, true] (ls2 := [some (.ref 0), none, none, none, none, some (.int (0 : Int32))]) rfl ?_
    exact H
  · replace H := H.2 cH
    refine r_aload_n dX0_readSolution_146 rfl rfl ?_
    refine m_getF (x := 113) hp fw_X0_382 dX0_readSolution_147 rfl ly_0 (ff_0_37 ly_0) ?_
    refine r_iload dX0_readSolution_150 rfl ?_
    refine r_iload_n dX0_readSolution_152 rfl rfl ?_
    refine r_aload_n dX0_readSolution_153 rfl rfl ?_
    refine m_getF (x := 832) hp fw_X0_411 dX0_readSolution_154 rfl ly_0 (ff_0_46 ly_0) ?_
    refine k_VV (As := [.int x5, .int x2, .ref 832]) (stk := []) hp cv_X0_711 dX0_readSolution_157 rfl (Nat.le_of_ble_eq_true rfl) (lf_0_37 ly_0) (H.mono (fun h5 H => ?_)) ⟨Nat.le_refl _, Nat.le_refl _⟩
    refine r_aload_n dX0_readSolution_160 rfl rfl ?_
    refine m_getF (x := 823) hp fw_X0_396 dX0_readSolution_161 rfl ly_0 (ff_0_41 ly_0) ?_
    refine r_iload dX0_readSolution_164 rfl ?_
    refine r_aload_n dX0_readSolution_166 rfl rfl ?_
    refine m_getF (x := 832) hp fw_X0_411 dX0_readSolution_167 rfl ly_0 (ff_0_46 ly_0) ?_
    refine k_VV (As := [.int x5, .ref 832]) (stk := []) hp cv_X0_664 dX0_readSolution_170 rfl (Nat.le_of_ble_eq_true rfl) (lf_0_41 ly_0) (H.mono (fun h6 H => ?_)) ⟨Nat.le_refl _, Nat.le_refl _⟩
    refine r_iinc (v := (x5 + (1 : Int32))) (ls2 := [some (.ref 0), some (.int x1), some (.int x2), some (.int x3), none, some (.int (x5 + (1 : Int32)))]) dX0_readSolution_173 rfl rfl (by decide) rfl ?_
    refine r_goto (tgt := 140) dX0_readSolution_176 rfl ?_
    exact H
theorem s_X0_readSolution_219 {g : GX} {d : Nat} {av : List Value} {Q : QT} {n : Nat} {h : Hp} {x5 : Int32} (hp : g.2.2.2.2 = true)  (H : (((ri h 823 3) ≤ x5) → (W_X0_readSolution g d av Q n 283 [some (.ref 0), none, none, none, none, none] [] h)) ∧ ((¬ (ri h 823 3) ≤ x5) → ((((ri h 103 1) ≤ (1 : Int32)) → (W_X0_readSolution g d av Q n 283 [some (.ref 0), none, none, none, none, none] [] h)) ∧ ((¬ (ri h 103 1) ≤ (1 : Int32)) → (CallV g m_X4_row d [.ref 823, .int x5, .ref 105] n h (fun h1 => (CallV g m_X2_common d [.ref 2, .ref 103, .ref 105, .ref 103] n h1 (fun h2 => (W_X0_readSolution g d av Q n 219 [some (.ref 0), none, none, none, none, some (.int (x5 + (1 : Int32)))] [] h2))))))))) : W_X0_readSolution g d av Q n 219 [some (.ref 0), none, none, none, none, some (.int x5)] [] h := by
  refine r_iload dX0_readSolution_219 rfl ?_
  refine r_aload_n dX0_readSolution_221 rfl rfl ?_
  refine m_getF (x := 823) hp fw_X0_396 dX0_readSolution_222 rfl ly_0 (ff_0_41 ly_0) ?_
  refine m_getI hp fw_X0_28 dX0_readSolution_225 rfl (lf_0_41 ly_0) ?_
  refine r_icmp_ge (tgt := 283) dX0_readSolution_228 rfl (fun cH => ?_) (fun cH => ?_)
  · replace H := H.1 cH
    refine r_prune [true, false, false, false, false, false] (ls2 := [some (.ref 0), none, none, none, none, none]) rfl ?_
    exact H
  · replace H := H.2 cH
    refine r_aload_n dX0_readSolution_231 rfl rfl ?_
    refine m_getF (x := 103) hp fw_X0_361 dX0_readSolution_232 rfl ly_0 (ff_0_32 ly_0) ?_
    refine m_getI hp fw_X0_636 dX0_readSolution_235 rfl (lf_0_32 ly_0) ?_
    refine r_iconst (v := (1 : Int32)) dX0_readSolution_238 rfl ?_
    refine r_icmp_le (tgt := 283) dX0_readSolution_239 rfl (fun cH => ?_) (fun cH => ?_)
    · replace H := H.1 cH
      refine r_prune [true, false, false, false, false, false] (ls2 := [some (.ref 0), none, none, none, none, none]) rfl ?_
      exact H
    · replace H := H.2 cH
      refine r_aload_n dX0_readSolution_242 rfl rfl ?_
      refine m_getF (x := 823) hp fw_X0_396 dX0_readSolution_243 rfl ly_0 (ff_0_41 ly_0) ?_
      refine r_iload dX0_readSolution_246 rfl ?_
      refine r_aload_n dX0_readSolution_248 rfl rfl ?_
      refine m_getF (x := 105) hp fw_X0_365 dX0_readSolution_249 rfl ly_0 (ff_0_33 ly_0) ?_
      refine k_VV (As := [.int x5, .ref 105]) (stk := []) hp cv_X0_661 dX0_readSolution_252 rfl (Nat.le_of_ble_eq_true rfl) (lf_0_41 ly_0) (H.mono (fun h1 H => ?_)) ⟨Nat.le_refl _, Nat.le_refl _⟩
      refine r_aload_n dX0_readSolution_255 rfl rfl ?_
      refine m_getF (x := 1) hp fw_X0_46 dX0_readSolution_256 rfl ly_0 (ff_0_0 ly_0) ?_
      refine m_getF (x := 2) hp fw_X0_642 dX0_readSolution_259 rfl (lf_0_0 ly_0) (ff_1_0 (lf_0_0 ly_0)) ?_
      refine r_aload_n dX0_readSolution_262 rfl rfl ?_
      refine m_getF (x := 103) hp fw_X0_361 dX0_readSolution_263 rfl ly_0 (ff_0_32 ly_0) ?_
      refine r_aload_n dX0_readSolution_266 rfl rfl ?_
      refine m_getF (x := 105) hp fw_X0_365 dX0_readSolution_267 rfl ly_0 (ff_0_33 ly_0) ?_
      refine r_aload_n dX0_readSolution_270 rfl rfl ?_
      refine m_getF (x := 103) hp fw_X0_361 dX0_readSolution_271 rfl ly_0 (ff_0_32 ly_0) ?_
      refine k_VV (As := [.ref 103, .ref 105, .ref 103]) (stk := []) hp cv_X0_646 dX0_readSolution_274 rfl (Nat.le_of_ble_eq_true rfl) (lf_1_0 (lf_0_0 ly_0)) (H.mono (fun h2 H => ?_)) ⟨Nat.le_refl _, Nat.le_refl _⟩
      refine r_iinc (v := (x5 + (1 : Int32))) (ls2 := [some (.ref 0), none, none, none, none, some (.int (x5 + (1 : Int32)))]) dX0_readSolution_277 rfl rfl (by decide) rfl ?_
      refine r_goto (tgt := 219) dX0_readSolution_280 rfl ?_
      exact H
theorem s_X0_readSolution_283 {g : GX} {d : Nat} {av : List Value} {Q : QT} {n : Nat} {h : Hp}  (hp : g.2.2.2.2 = true)  (H : (((ri h 103 1) ≤ (1 : Int32)) → (Q none n h)) ∧ ((¬ (ri h 103 1) ≤ (1 : Int32)) → (CallV g m_X2_divideExactly d [.ref 2, .ref 830, .ref 103] n h (fun h1 => (W_X0_readSolution g d av Q n 315 [some (.ref 0), none, none, none, none, some (.int (0 : Int32))] [] h1))))) : W_X0_readSolution g d av Q n 283 [some (.ref 0), none, none, none, none, none] [] h := by
  refine r_aload_n dX0_readSolution_283 rfl rfl ?_
  refine m_getF (x := 103) hp fw_X0_361 dX0_readSolution_284 rfl ly_0 (ff_0_32 ly_0) ?_
  refine m_getI hp fw_X0_636 dX0_readSolution_287 rfl (lf_0_32 ly_0) ?_
  refine r_iconst (v := (1 : Int32)) dX0_readSolution_290 rfl ?_
  refine r_icmp_le (tgt := 384) dX0_readSolution_291 rfl (fun cH => ?_) (fun cH => ?_)
  · replace H := H.1 cH
    exact r_vret dX0_readSolution_384 rfl (Nat.le_refl _) (Nat.le_refl _) H
  · replace H := H.2 cH
    refine r_aload_n dX0_readSolution_294 rfl rfl ?_
    refine m_getF (x := 1) hp fw_X0_46 dX0_readSolution_295 rfl ly_0 (ff_0_0 ly_0) ?_
    refine m_getF (x := 2) hp fw_X0_642 dX0_readSolution_298 rfl (lf_0_0 ly_0) (ff_1_0 (lf_0_0 ly_0)) ?_
    refine r_aload_n dX0_readSolution_301 rfl rfl ?_
    refine m_getF (x := 830) hp fw_X0_408 dX0_readSolution_302 rfl ly_0 (ff_0_45 ly_0) ?_
    refine r_aload_n dX0_readSolution_305 rfl rfl ?_
    refine m_getF (x := 103) hp fw_X0_361 dX0_readSolution_306 rfl ly_0 (ff_0_32 ly_0) ?_
    refine k_VV (As := [.ref 830, .ref 103]) (stk := []) hp cv_X0_718 dX0_readSolution_309 rfl (Nat.le_of_ble_eq_true rfl) (lf_1_0 (lf_0_0 ly_0)) (H.mono (fun h1 H => ?_)) ⟨Nat.le_refl _, Nat.le_refl _⟩
    refine r_iconst (v := (0 : Int32)) dX0_readSolution_312 rfl ?_
    refine r_istore (ls2 := [some (.ref 0), none, none, none, none, some (.int (0 : Int32))]) dX0_readSolution_313 (by decide) rfl ?_
    exact H
theorem s_X0_readSolution_315 {g : GX} {d : Nat} {av : List Value} {Q : QT} {n : Nat} {h : Hp} {x5 : Int32} (hp : g.2.2.2.2 = true)  (H : (((ri h 823 3) ≤ x5) → (CallV g m_X4_trim d [.ref 823] n h (fun h1 => (Q none n h1)))) ∧ ((¬ (ri h 823 3) ≤ x5) → (CallV g m_X4_row d [.ref 823, .int x5, .ref 105] n h (fun h2 => (CallV g m_X2_divideExactly d [.ref 2, .ref 105, .ref 103] n h2 (fun h3 => (CallV g m_X4_putRow d [.ref 823, .int x5, .ref 105] n h3 (fun h4 => (W_X0_readSolution g d av Q n 315 [some (.ref 0), none, none, none, none, some (.int (x5 + (1 : Int32)))] [] h4))))))))) : W_X0_readSolution g d av Q n 315 [some (.ref 0), none, none, none, none, some (.int x5)] [] h := by
  refine r_iload dX0_readSolution_315 rfl ?_
  refine r_aload_n dX0_readSolution_317 rfl rfl ?_
  refine m_getF (x := 823) hp fw_X0_396 dX0_readSolution_318 rfl ly_0 (ff_0_41 ly_0) ?_
  refine m_getI hp fw_X0_28 dX0_readSolution_321 rfl (lf_0_41 ly_0) ?_
  refine r_icmp_ge (tgt := 377) dX0_readSolution_324 rfl (fun cH => ?_) (fun cH => ?_)
  · replace H := H.1 cH
    refine r_aload_n dX0_readSolution_377 rfl rfl ?_
    refine m_getF (x := 823) hp fw_X0_396 dX0_readSolution_378 rfl ly_0 (ff_0_41 ly_0) ?_
    refine k_VV (As := []) (stk := []) hp cv_X0_611 dX0_readSolution_381 rfl (Nat.le_of_ble_eq_true rfl) (lf_0_41 ly_0) (H.mono (fun h1 H => ?_)) ⟨Nat.le_refl _, Nat.le_refl _⟩
    exact r_vret dX0_readSolution_384 rfl (Nat.le_refl _) (Nat.le_refl _) H
  · replace H := H.2 cH
    refine r_aload_n dX0_readSolution_327 rfl rfl ?_
    refine m_getF (x := 823) hp fw_X0_396 dX0_readSolution_328 rfl ly_0 (ff_0_41 ly_0) ?_
    refine r_iload dX0_readSolution_331 rfl ?_
    refine r_aload_n dX0_readSolution_333 rfl rfl ?_
    refine m_getF (x := 105) hp fw_X0_365 dX0_readSolution_334 rfl ly_0 (ff_0_33 ly_0) ?_
    refine k_VV (As := [.int x5, .ref 105]) (stk := []) hp cv_X0_661 dX0_readSolution_337 rfl (Nat.le_of_ble_eq_true rfl) (lf_0_41 ly_0) (H.mono (fun h2 H => ?_)) ⟨Nat.le_refl _, Nat.le_refl _⟩
    refine r_aload_n dX0_readSolution_340 rfl rfl ?_
    refine m_getF (x := 1) hp fw_X0_46 dX0_readSolution_341 rfl ly_0 (ff_0_0 ly_0) ?_
    refine m_getF (x := 2) hp fw_X0_642 dX0_readSolution_344 rfl (lf_0_0 ly_0) (ff_1_0 (lf_0_0 ly_0)) ?_
    refine r_aload_n dX0_readSolution_347 rfl rfl ?_
    refine m_getF (x := 105) hp fw_X0_365 dX0_readSolution_348 rfl ly_0 (ff_0_33 ly_0) ?_
    refine r_aload_n dX0_readSolution_351 rfl rfl ?_
    refine m_getF (x := 103) hp fw_X0_361 dX0_readSolution_352 rfl ly_0 (ff_0_32 ly_0) ?_
    refine k_VV (As := [.ref 105, .ref 103]) (stk := []) hp cv_X0_718 dX0_readSolution_355 rfl (Nat.le_of_ble_eq_true rfl) (lf_1_0 (lf_0_0 ly_0)) (H.mono (fun h3 H => ?_)) ⟨Nat.le_refl _, Nat.le_refl _⟩
    refine r_aload_n dX0_readSolution_358 rfl rfl ?_
    refine m_getF (x := 823) hp fw_X0_396 dX0_readSolution_359 rfl ly_0 (ff_0_41 ly_0) ?_
    refine r_iload dX0_readSolution_362 rfl ?_
    refine r_aload_n dX0_readSolution_364 rfl rfl ?_
    refine m_getF (x := 105) hp fw_X0_365 dX0_readSolution_365 rfl ly_0 (ff_0_33 ly_0) ?_
    refine k_VV (As := [.int x5, .ref 105]) (stk := []) hp cv_X0_664 dX0_readSolution_368 rfl (Nat.le_of_ble_eq_true rfl) (lf_0_41 ly_0) (H.mono (fun h4 H => ?_)) ⟨Nat.le_refl _, Nat.le_refl _⟩
    refine r_iinc (v := (x5 + (1 : Int32))) (ls2 := [some (.ref 0), none, none, none, none, some (.int (x5 + (1 : Int32)))]) dX0_readSolution_371 rfl rfl (by decide) rfl ?_
    refine r_goto (tgt := 315) dX0_readSolution_374 rfl ?_
    exact H
abbrev W_X0_giveSum (g : GX) (d : Nat) (av : List Value) (Q : QT) (n : Nat) (pc : Nat) (ls : LV) (stk : List Value) (h : Hp) : Prop := RJ g m_X0_giveSum (d + 1) 0 0 av Q pc ls stk n h 0 0
theorem s_X0_giveSum_0 {g : GX} {d : Nat} {av : List Value} {Q : QT} {n : Nat} {h : Hp} {a1 : Nat} {a2 : Nat} {a3 : Nat} (hp : g.2.2.2.2 = true) (t1 : lay a1 = (0, 4, 4)) (t2 : lay a2 = (0, 3, 2)) (t3 : lay a3 = (0, 6, 2)) (H : CallI g m_X4_isZero d [.ref 823] n h (fun v1 h1 => (((v1 = (0 : Int32)) → ((((900 : Int32) < (((ri h1 823 2) + (ri h1 819 2)) + (ri h1 111 1))) → (Q (some (.int (0 : Int32))) n h1)) ∧ ((¬ (900 : Int32) < (((ri h1 823 2) + (ri h1 819 2)) + (ri h1 111 1))) → (((((((ri h1 830 1) + (ri h1 a2 1)) + (ri h1 97 2)) + (ri h1 a1 2)) ≤ (900 : Int32)) → (CallV g m_X4_product d [.ref 45, .ref 819, .ref 823] n h1 (fun h2 => (CallV g m_X4_copy d [.ref 39, .ref 45] n h2 (fun h3 => (CallV g m_X4_timesPoly d [.ref 39, .ref 111, .ref 45] n h3 (fun h4 => (CallV g m_X4_product d [.ref 41, .ref 97, .ref a1] n h4 (fun h5 => (CallV g m_X4_timesPoly d [.ref 41, .ref 830, .ref 45] n h5 (fun h6 => (CallV g m_X4_timesPoly d [.ref 41, .ref a2, .ref 45] n h6 (fun h7 => (CallI g m_X0_give d [.ref 0, .ref a3] n h7 (fun v8 h8 => ((v8 = 0 ∨ v8 = 1) ∧ Q (some (.int v8)) n h8)))))))))))))))) ∧ ((¬ ((((ri h1 830 1) + (ri h1 a2 1)) + (ri h1 97 2)) + (ri h1 a1 2)) ≤ (900 : Int32)) → (Q (some (.int (0 : Int32))) n h1)))))) ∧ ((¬ v1 = (0 : Int32)) → (CallV g m_X6_set d [.ref a3, .int (0 : Int32)] n h1 (fun h9 => (Q (some (.int (1 : Int32))) n h9))))))) : W_X0_giveSum g d av Q n 0 [some (.ref 0), some (.ref a1), some (.ref a2), some (.ref a3)] [] h := by
  refine r_aload_n dX0_giveSum_0 rfl rfl ?_
  refine m_getF (x := 823) hp fw_X0_396 dX0_giveSum_1 rfl ly_0 (ff_0_41 ly_0) ?_
  refine k_VI (As := []) (stk := []) hp cv_X0_35 dX0_giveSum_4 rfl (Nat.le_of_ble_eq_true rfl) (lf_0_41 ly_0) (H.mono (fun v1 h1 H => ?_)) ⟨Nat.le_refl _, Nat.le_refl _⟩
  refine r_if_eq (tgt := 17) dX0_giveSum_7 rfl (fun cH => ?_) (fun cH => ?_)
  · replace H := H.1 cH
    refine r_aload_n dX0_giveSum_17 rfl rfl ?_
    refine m_getF (x := 823) hp fw_X0_396 dX0_giveSum_18 rfl ly_0 (ff_0_41 ly_0) ?_
    refine m_getI hp fw_X0_22 dX0_giveSum_21 rfl (lf_0_41 ly_0) ?_
    refine r_aload_n dX0_giveSum_24 rfl rfl ?_
    refine m_getF (x := 819) hp fw_X0_390 dX0_giveSum_25 rfl ly_0 (ff_0_39 ly_0) ?_
    refine m_getI hp fw_X0_22 dX0_giveSum_28 rfl (lf_0_39 ly_0) ?_
    refine r_iadd dX0_giveSum_31 ?_
    refine r_aload_n dX0_giveSum_32 rfl rfl ?_
    refine m_getF (x := 111) hp fw_X0_374 dX0_giveSum_33 rfl ly_0 (ff_0_36 ly_0) ?_
    refine m_getI hp fw_X0_636 dX0_giveSum_36 rfl (lf_0_36 ly_0) ?_
    refine r_iadd dX0_giveSum_39 ?_
    refine r_sipush (v := (900 : Int32)) dX0_giveSum_40 rfl ?_
    refine r_icmp_gt (tgt := 77) dX0_giveSum_43 rfl (fun cH => ?_) (fun cH => ?_)
    · replace H := H.1 cH
      refine r_iconst (v := (0 : Int32)) dX0_giveSum_77 rfl ?_
      exact r_zret dX0_giveSum_78 rfl rfl (Nat.le_refl _) (Nat.le_refl _) H
    · replace H := H.2 cH
      refine r_aload_n dX0_giveSum_46 rfl rfl ?_
      refine m_getF (x := 830) hp fw_X0_408 dX0_giveSum_47 rfl ly_0 (ff_0_45 ly_0) ?_
      refine m_getI hp fw_X0_636 dX0_giveSum_50 rfl (lf_0_45 ly_0) ?_
      refine r_aload_n dX0_giveSum_53 rfl rfl ?_
      refine m_getI hp fw_X0_636 dX0_giveSum_54 rfl t2 ?_
      refine r_iadd dX0_giveSum_57 ?_
      refine r_aload_n dX0_giveSum_58 rfl rfl ?_
      refine m_getF (x := 97) hp fw_X0_348 dX0_giveSum_59 rfl ly_0 (ff_0_29 ly_0) ?_
      refine m_getI hp fw_X0_22 dX0_giveSum_62 rfl (lf_0_29 ly_0) ?_
      refine r_iadd dX0_giveSum_65 ?_
      refine r_aload_n dX0_giveSum_66 rfl rfl ?_
      refine m_getI hp fw_X0_22 dX0_giveSum_67 rfl t1 ?_
      refine r_iadd dX0_giveSum_70 ?_
      refine r_sipush (v := (900 : Int32)) dX0_giveSum_71 rfl ?_
      refine r_icmp_le (tgt := 79) dX0_giveSum_74 rfl (fun cH => ?_) (fun cH => ?_)
      · replace H := H.1 cH
        refine r_aload_n dX0_giveSum_79 rfl rfl ?_
        refine m_getF (x := 45) hp fw_X0_59 dX0_giveSum_80 rfl ly_0 (ff_0_4 ly_0) ?_
        refine r_aload_n dX0_giveSum_83 rfl rfl ?_
        refine m_getF (x := 819) hp fw_X0_390 dX0_giveSum_84 rfl ly_0 (ff_0_39 ly_0) ?_
        refine r_aload_n dX0_giveSum_87 rfl rfl ?_
        refine m_getF (x := 823) hp fw_X0_396 dX0_giveSum_88 rfl ly_0 (ff_0_41 ly_0) ?_
        refine k_VV (As := [.ref 819, .ref 823]) (stk := []) hp cv_X0_97 dX0_giveSum_91 rfl (Nat.le_of_ble_eq_true rfl) (lf_0_4 ly_0) (H.mono (fun h2 H => ?_)) ⟨Nat.le_refl _, Nat.le_refl _⟩
        refine r_aload_n dX0_giveSum_94 rfl rfl ?_
        refine m_getF (x := 39) hp fw_X0_31 dX0_giveSum_95 rfl ly_0 (ff_0_1 ly_0) ?_
        refine r_aload_n dX0_giveSum_98 rfl rfl ?_
        refine m_getF (x := 45) hp fw_X0_59 dX0_giveSum_99 rfl ly_0 (ff_0_4 ly_0) ?_
        refine k_VV (As := [.ref 45]) (stk := []) hp cv_X0_66 dX0_giveSum_102 rfl (Nat.le_of_ble_eq_true rfl) (lf_0_1 ly_0) (H.mono (fun h3 H => ?_)) ⟨Nat.le_refl _, Nat.le_refl _⟩
        refine r_aload_n dX0_giveSum_105 rfl rfl ?_
        refine m_getF (x := 39) hp fw_X0_31 dX0_giveSum_106 rfl ly_0 (ff_0_1 ly_0) ?_
        refine r_aload_n dX0_giveSum_109 rfl rfl ?_
        refine m_getF (x := 111) hp fw_X0_374 dX0_giveSum_110 rfl ly_0 (ff_0_36 ly_0) ?_
        refine r_aload_n dX0_giveSum_113 rfl rfl ?_
        refine m_getF (x := 45) hp fw_X0_59 dX0_giveSum_114 rfl ly_0 (ff_0_4 ly_0) ?_
        refine k_VV (As := [.ref 111, .ref 45]) (stk := []) hp cv_X0_723 dX0_giveSum_117 rfl (Nat.le_of_ble_eq_true rfl) (lf_0_1 ly_0) (H.mono (fun h4 H => ?_)) ⟨Nat.le_refl _, Nat.le_refl _⟩
        refine r_aload_n dX0_giveSum_120 rfl rfl ?_
        refine m_getF (x := 41) hp fw_X0_39 dX0_giveSum_121 rfl ly_0 (ff_0_2 ly_0) ?_
        refine r_aload_n dX0_giveSum_124 rfl rfl ?_
        refine m_getF (x := 97) hp fw_X0_348 dX0_giveSum_125 rfl ly_0 (ff_0_29 ly_0) ?_
        refine r_aload_n dX0_giveSum_128 rfl rfl ?_
        refine k_VV (As := [.ref 97, .ref a1]) (stk := []) hp cv_X0_97 dX0_giveSum_129 rfl (Nat.le_of_ble_eq_true rfl) (lf_0_2 ly_0) (H.mono (fun h5 H => ?_)) ⟨Nat.le_refl _, Nat.le_refl _⟩
        refine r_aload_n dX0_giveSum_132 rfl rfl ?_
        refine m_getF (x := 41) hp fw_X0_39 dX0_giveSum_133 rfl ly_0 (ff_0_2 ly_0) ?_
        refine r_aload_n dX0_giveSum_136 rfl rfl ?_
        refine m_getF (x := 830) hp fw_X0_408 dX0_giveSum_137 rfl ly_0 (ff_0_45 ly_0) ?_
        refine r_aload_n dX0_giveSum_140 rfl rfl ?_
        refine m_getF (x := 45) hp fw_X0_59 dX0_giveSum_141 rfl ly_0 (ff_0_4 ly_0) ?_
        refine k_VV (As := [.ref 830, .ref 45]) (stk := []) hp cv_X0_723 dX0_giveSum_144 rfl (Nat.le_of_ble_eq_true rfl) (lf_0_2 ly_0) (H.mono (fun h6 H => ?_)) ⟨Nat.le_refl _, Nat.le_refl _⟩
        refine r_aload_n dX0_giveSum_147 rfl rfl ?_
        refine m_getF (x := 41) hp fw_X0_39 dX0_giveSum_148 rfl ly_0 (ff_0_2 ly_0) ?_
        refine r_aload_n dX0_giveSum_151 rfl rfl ?_
        refine r_aload_n dX0_giveSum_152 rfl rfl ?_
        refine m_getF (x := 45) hp fw_X0_59 dX0_giveSum_153 rfl ly_0 (ff_0_4 ly_0) ?_
        refine k_VV (As := [.ref a2, .ref 45]) (stk := []) hp cv_X0_723 dX0_giveSum_156 rfl (Nat.le_of_ble_eq_true rfl) (lf_0_2 ly_0) (H.mono (fun h7 H => ?_)) ⟨Nat.le_refl _, Nat.le_refl _⟩
        refine r_aload_n dX0_giveSum_159 rfl rfl ?_
        refine r_aload_n dX0_giveSum_160 rfl rfl ?_
        refine k_VI (As := [.ref a3]) (stk := []) hp cv_X0_106 dX0_giveSum_161 rfl (Nat.le_of_ble_eq_true rfl) ly_0 (H.mono (fun v8 h8 H => ?_)) ⟨Nat.le_refl _, Nat.le_refl _⟩
        exact r_zret dX0_giveSum_164 rfl (nar01 H.1) (Nat.le_refl _) (Nat.le_refl _) H.2
      · replace H := H.2 cH
        refine r_iconst (v := (0 : Int32)) dX0_giveSum_77 rfl ?_
        exact r_zret dX0_giveSum_78 rfl rfl (Nat.le_refl _) (Nat.le_refl _) H
  · replace H := H.2 cH
    refine r_aload_n dX0_giveSum_10 rfl rfl ?_
    refine r_iconst (v := (0 : Int32)) dX0_giveSum_11 rfl ?_
    refine k_VV (As := [.int (0 : Int32)]) (stk := []) hp cv_X0_722 dX0_giveSum_12 rfl (Nat.le_of_ble_eq_true rfl) t3 (H.mono (fun h9 H => ?_)) ⟨Nat.le_refl _, Nat.le_refl _⟩
    refine r_iconst (v := (1 : Int32)) dX0_giveSum_15 rfl ?_
    exact r_zret dX0_giveSum_16 rfl rfl (Nat.le_refl _) (Nat.le_refl _) H
abbrev W_X0_recur (g : GX) (d : Nat) (av : List Value) (Q : QT) (n : Nat) (pc : Nat) (ls : LV) (stk : List Value) (h : Hp) : Prop := RJ g m_X0_recur (d + 1) 0 0 av Q pc ls stk n h 0 0
theorem s_X0_recur_0 {g : GX} {d : Nat} {av : List Value} {Q : QT} {n : Nat} {h : Hp} {x1 : Int32} {x2 : Int32} {x3 : Int32} (hp : g.2.2.2.2 = true)  (H : CallI g m_X0_isSlot d [.int x1] n h (fun v1 h1 => (((v1 = (0 : Int32)) → (Q (some (.int (-1 : Int32))) n h1)) ∧ ((¬ v1 = (0 : Int32)) → (CallI g m_X0_isSlot d [.int x3] n h1 (fun v2 h2 => (((¬ v2 = (0 : Int32)) → (CallI g m_X0_hasItem d [.ref 0, .int x1] n h2 (fun v3 h3 => (((¬ v3 = (0 : Int32)) → (vp_in x1 12 ∧ ∀ r4, r4 = 1185 + 27 * (x1).toNatClampNeg → (CallI g m_X6_isZero d [.ref (r4 + 2)] n h3 (fun v5 h5 => (((¬ v5 = (0 : Int32)) → (Q (some (.int (-1 : Int32))) n h5)) ∧ ((v5 = (0 : Int32)) → (CallI g m_X0_within d [.int x2, .int (0 : Int32), .int (3 : Int32)] n h5 (fun v6 h6 => (((¬ v6 = (0 : Int32)) → (CallI g m_X0_findSteps d [.ref 0, .ref (r4 + 1), .int x2] n h6 (fun v7 h7 => (((¬ v7 = (0 : Int32)) → (W_X0_recur g d av Q n 79 [some (.ref 0), none, some (.int x2), some (.int x3), none, some (.int (0 : Int32)), some (.int (0 : Int32)), none] [] h7)) ∧ ((v7 = (0 : Int32)) → (Q (some (.int (-2 : Int32))) n h7)))))) ∧ ((v6 = (0 : Int32)) → (Q (some (.int (-1 : Int32))) n h6))))))))))) ∧ ((v3 = (0 : Int32)) → (Q (some (.int (-3 : Int32))) n h3)))))) ∧ ((v2 = (0 : Int32)) → (Q (some (.int (-1 : Int32))) n h2))))))))) : W_X0_recur g d av Q n 0 [some (.ref 0), some (.int x1), some (.int x2), some (.int x3), none, none, none, none] [] h := by
  refine r_iload_n dX0_recur_0 rfl rfl ?_
  refine k_SI (As := [.int x1]) (stk := []) cs_X0_519 dX0_recur_1 rfl (Nat.le_of_ble_eq_true rfl) (H.mono (fun v1 h1 H => ?_)) ⟨Nat.le_refl _, Nat.le_refl _⟩
  refine r_if_eq (tgt := 14) dX0_recur_4 rfl (fun cH => ?_) (fun cH => ?_)
  · replace H := H.1 cH
    refine r_iconst (v := (-1 : Int32)) dX0_recur_14 rfl ?_
    exact r_zret dX0_recur_15 rfl rfl (Nat.le_refl _) (Nat.le_refl _) H
  · replace H := H.2 cH
    refine r_iload_n dX0_recur_7 rfl rfl ?_
    refine k_SI (As := [.int x3]) (stk := []) cs_X0_519 dX0_recur_8 rfl (Nat.le_of_ble_eq_true rfl) (H.mono (fun v2 h2 H => ?_)) ⟨Nat.le_refl _, Nat.le_refl _⟩
    refine r_if_ne (tgt := 16) dX0_recur_11 rfl (fun cH => ?_) (fun cH => ?_)
    · replace H := H.1 cH
      refine r_aload_n dX0_recur_16 rfl rfl ?_
      refine r_iload_n dX0_recur_17 rfl rfl ?_
      refine k_VI (As := [.int x1]) (stk := []) hp cv_X0_546 dX0_recur_18 rfl (Nat.le_of_ble_eq_true rfl) ly_0 (H.mono (fun v3 h3 H => ?_)) ⟨Nat.le_refl _, Nat.le_refl _⟩
      refine r_if_ne (tgt := 27) dX0_recur_21 rfl (fun cH => ?_) (fun cH => ?_)
      · replace H := H.1 cH
        refine r_aload_n dX0_recur_27 rfl rfl ?_
        refine m_getF (x := 79) hp fw_X0_326 dX0_recur_28 rfl ly_0 (ff_0_20 ly_0) ?_
        refine r_iload_n dX0_recur_31 rfl rfl ?_
        obtain ⟨r4, er4⟩ : ∃ y, y = 1185 + 27 * (x1).toNatClampNeg := ⟨_, rfl⟩
        have hir4 := H.1
        replace H := H.2 r4 er4
        have tLr4 := la_79 hir4 er4
        refine m_aalF (x := r4) hp dX0_recur_32 (lf_0_20 ly_0) rfl rfl (lu_0_20 ly_0) hir4 (fa_79 hir4 er4) ?_
        refine m_getF (x := (r4 + 1)) hp fw_X0_512 dX0_recur_33 rfl tLr4 (ff_9_1 tLr4) ?_
        refine r_astore (ls2 := [some (.ref 0), some (.int x1), some (.int x2), some (.int x3), some (.ref (r4 + 1)), none, none, none]) dX0_recur_36 (by decide) rfl ?_
        refine r_aload dX0_recur_38 rfl ?_
        refine m_getF (x := (r4 + 2)) hp fw_X0_110 dX0_recur_40 rfl (lf_9_1 tLr4) (ff_5_0 (lf_9_1 tLr4)) ?_
        refine k_VI (As := []) (stk := []) hp cv_X0_128 dX0_recur_43 rfl (Nat.le_of_ble_eq_true rfl) (lf_5_0 (lf_9_1 tLr4)) (H.mono (fun v5 h5 H => ?_)) ⟨Nat.le_refl _, Nat.le_refl _⟩
        refine r_if_ne (tgt := 58) dX0_recur_46 rfl (fun cH => ?_) (fun cH => ?_)
        · replace H := H.1 cH
          refine r_iconst (v := (-1 : Int32)) dX0_recur_58 rfl ?_
          exact r_zret dX0_recur_59 rfl rfl (Nat.le_refl _) (Nat.le_refl _) H
        · replace H := H.2 cH
          refine r_iload_n dX0_recur_49 rfl rfl ?_
          refine r_iconst (v := (0 : Int32)) dX0_recur_50 rfl ?_
          refine r_iconst (v := (3 : Int32)) dX0_recur_51 rfl ?_
          refine k_SI (As := [.int x2, .int (0 : Int32), .int (3 : Int32)]) (stk := []) cs_X0_173 dX0_recur_52 rfl (Nat.le_of_ble_eq_true rfl) (H.mono (fun v6 h6 H => ?_)) ⟨Nat.le_refl _, Nat.le_refl _⟩
          refine r_if_ne (tgt := 60) dX0_recur_55 rfl (fun cH => ?_) (fun cH => ?_)
          · replace H := H.1 cH
            refine r_aload_n dX0_recur_60 rfl rfl ?_
            refine r_aload dX0_recur_61 rfl ?_
            refine r_iload_n dX0_recur_63 rfl rfl ?_
            refine k_VI (As := [.ref (r4 + 1), .int x2]) (stk := []) hp cv_X0_750 dX0_recur_64 rfl (Nat.le_of_ble_eq_true rfl) ly_0 (H.mono (fun v7 h7 H => ?_)) ⟨Nat.le_refl _, Nat.le_refl _⟩
            refine r_if_ne (tgt := 73) dX0_recur_67 rfl (fun cH => ?_) (fun cH => ?_)
            · replace H := H.1 cH
              refine r_iconst (v := (0 : Int32)) dX0_recur_73 rfl ?_
              refine r_istore (ls2 := [some (.ref 0), some (.int x1), some (.int x2), some (.int x3), some (.ref (r4 + 1)), some (.int (0 : Int32)), none, none]) dX0_recur_74 (by decide) rfl ?_
              refine r_iconst (v := (0 : Int32)) dX0_recur_76 rfl ?_
              refine r_istore (ls2 := [some (.ref 0), some (.int x1), some (.int x2), some (.int x3), some (.ref (r4 + 1)), some (.int (0 : Int32)), some (.int (0 : Int32)), none]) dX0_recur_77 (by decide) rfl ?_
              refine r_prune [true, false, true, true, false, true, true, false] (ls2 := [some (.ref 0), none, some (.int x2), some (.int x3), none, some (.int (0 : Int32)), some (.int (0 : Int32)), none]) rfl ?_
              exact H
            · replace H := H.2 cH
              refine r_bipush (v := (-2 : Int32)) dX0_recur_70 rfl ?_
              exact r_zret dX0_recur_72 rfl rfl (Nat.le_refl _) (Nat.le_refl _) H
          · replace H := H.2 cH
            refine r_iconst (v := (-1 : Int32)) dX0_recur_58 rfl ?_
            exact r_zret dX0_recur_59 rfl rfl (Nat.le_refl _) (Nat.le_refl _) H
      · replace H := H.2 cH
        refine r_bipush (v := (-3 : Int32)) dX0_recur_24 rfl ?_
        exact r_zret dX0_recur_26 rfl rfl (Nat.le_refl _) (Nat.le_refl _) H
    · replace H := H.2 cH
      refine r_iconst (v := (-1 : Int32)) dX0_recur_14 rfl ?_
      exact r_zret dX0_recur_15 rfl rfl (Nat.le_refl _) (Nat.le_refl _) H
theorem s_X0_recur_79 {g : GX} {d : Nat} {av : List Value} {Q : QT} {n : Nat} {h : Hp} {x2 : Int32} {x3 : Int32} {x5 : Int32} {x6 : Int32} (hp : g.2.2.2.2 = true)  (H : ((x2 < x6) → (W_X0_recur g d av Q n 104 [some (.ref 0), none, none, some (.int x3), none, some (.int x5), none, none] [] h)) ∧ ((¬ x2 < x6) → (((¬ x5 = (0 : Int32)) → (W_X0_recur g d av Q n 104 [some (.ref 0), none, none, some (.int x3), none, some (.int x5), none, none] [] h)) ∧ ((x5 = (0 : Int32)) → (CallI g m_X0_tryOrder d [.ref 0, .int x6] n h (fun v1 h1 => (W_X0_recur g d av Q n 79 [some (.ref 0), none, some (.int x2), some (.int x3), none, some (.int v1), some (.int (x6 + (1 : Int32))), none] [] h1))))))) : W_X0_recur g d av Q n 79 [some (.ref 0), none, some (.int x2), some (.int x3), none, some (.int x5), some (.int x6), none] [] h := by
  refine r_iload dX0_recur_79 rfl ?_
  refine r_iload_n dX0_recur_81 rfl rfl ?_
  refine r_icmp_gt (tgt := 104) dX0_recur_82 rfl (fun cH => ?_) (fun cH => ?_)
  · replace H := H.1 cH
    refine r_prune [true, false, false, true, false, true, false, false] (ls2 := [some (.ref 0), none, none, some (.int x3), none, some (.int x5), none, none]) rfl ?_
    exact H
  · replace H := H.2 cH
    refine r_iload dX0_recur_85 rfl ?_
    refine r_if_ne (tgt := 104) dX0_recur_87 rfl (fun cH => ?_) (fun cH => ?_)
    · replace H := H.1 cH
      refine r_prune [true, false, false, true, false, true, false, false] (ls2 := [some (.ref 0), none, none, some (.int x3), none, some (.int x5), none, none]) rfl ?_
      exact H
    · replace H := H.2 cH
      refine r_aload_n dX0_recur_90 rfl rfl ?_
      refine r_iload dX0_recur_91 rfl ?_
      refine k_VI (As := [.int x6]) (stk := []) hp cv_X0_754 dX0_recur_93 rfl (Nat.le_of_ble_eq_true rfl) ly_0 (H.mono (fun v1 h1 H => ?_)) ⟨Nat.le_refl _, Nat.le_refl _⟩
      refine r_istore (ls2 := [some (.ref 0), none, some (.int x2), some (.int x3), none, some (.int v1), some (.int x6), none]) dX0_recur_96 (by decide) rfl ?_
      refine r_iinc (v := (x6 + (1 : Int32))) (ls2 := [some (.ref 0), none, some (.int x2), some (.int x3), none, some (.int v1), some (.int (x6 + (1 : Int32))), none]) dX0_recur_98 rfl rfl (by decide) rfl ?_
      refine r_goto (tgt := 79) dX0_recur_101 rfl ?_
      exact H
theorem s_X0_recur_104 {g : GX} {d : Nat} {av : List Value} {Q : QT} {n : Nat} {h : Hp} {x3 : Int32} {x5 : Int32} (hp : g.2.2.2.2 = true)  (H : ((x5 = (1 : Int32)) → (CallI g m_X0_giveSum d [.ref 0, .ref 844, .ref 847, .ref 81] n h (fun v1 h1 => (W_X0_recur g d av Q n 146 [some (.ref 0), none, none, some (.int x3), none, none, some (.int v1), some (.int (0 : Int32))] [] h1)))) ∧ ((¬ x5 = (1 : Int32)) → (((¬ x5 = (0 : Int32)) → (Q (some (.int (-2 : Int32))) n h)) ∧ ((x5 = (0 : Int32)) → (Q (some (.int (-1 : Int32))) n h))))) : W_X0_recur g d av Q n 104 [some (.ref 0), none, none, some (.int x3), none, some (.int x5), none, none] [] h := by
  refine r_iload dX0_recur_104 rfl ?_
  refine r_iconst (v := (1 : Int32)) dX0_recur_106 rfl ?_
  refine r_icmp_eq (tgt := 122) dX0_recur_107 rfl (fun cH => ?_) (fun cH => ?_)
  · replace H := H.1 cH
    refine r_aload_n dX0_recur_122 rfl rfl ?_
    refine r_aload_n dX0_recur_123 rfl rfl ?_
    refine m_getF (x := 844) hp fw_X0_428 dX0_recur_124 rfl ly_0 (ff_0_52 ly_0) ?_
    refine r_aload_n dX0_recur_127 rfl rfl ?_
    refine m_getF (x := 847) hp fw_X0_434 dX0_recur_128 rfl ly_0 (ff_0_54 ly_0) ?_
    refine r_aload_n dX0_recur_131 rfl rfl ?_
    refine m_getF (x := 80) hp fw_X0_330 dX0_recur_132 rfl ly_0 (ff_0_21 ly_0) ?_
    refine m_getF (x := 81) hp fw_X0_110 dX0_recur_135 rfl (lf_0_21 ly_0) (ff_5_0 (lf_0_21 ly_0)) ?_
    refine k_VI (As := [.ref 844, .ref 847, .ref 81]) (stk := []) hp cv_X0_735 dX0_recur_138 rfl (Nat.le_of_ble_eq_true rfl) ly_0 (H.mono (fun v1 h1 H => ?_)) ⟨Nat.le_refl _, Nat.le_refl _⟩
    refine r_istore (ls2 := [some (.ref 0), none, none, some (.int x3), none, some (.int x5), some (.int v1), none]) dX0_recur_141 (by decide) rfl ?_
    refine r_iconst (v := (0 : Int32)) dX0_recur_143 rfl ?_
    refine r_istore (ls2 := [some (.ref 0), none, none, some (.int x3), none, some (.int x5), some (.int v1), some (.int (0 : Int32))]) dX0_recur_144 (by decide) rfl ?_
    refine r_prune [true, false, false, true, false, false, true, true] (ls2 := [some (.ref 0), none, none, some (.int x3), none, none, some (.int v1), some (.int (0 : Int32))]) rfl ?_
    exact H
  · replace H := H.2 cH
    refine r_iload dX0_recur_110 rfl ?_
    refine r_if_ne (tgt := 119) dX0_recur_112 rfl (fun cH => ?_) (fun cH => ?_)
    · replace H := H.1 cH
      refine r_bipush (v := (-2 : Int32)) dX0_recur_119 rfl ?_
      exact r_zret dX0_recur_121 rfl rfl (Nat.le_refl _) (Nat.le_refl _) H
    · replace H := H.2 cH
      refine r_iconst (v := (-1 : Int32)) dX0_recur_115 rfl ?_
      refine r_goto (tgt := 121) dX0_recur_116 rfl ?_
      exact r_zret dX0_recur_121 rfl rfl (Nat.le_refl _) (Nat.le_refl _) H
theorem s_X0_recur_146 {g : GX} {d : Nat} {av : List Value} {Q : QT} {n : Nat} {h : Hp} {x3 : Int32} {x6 : Int32} {x7 : Int32} (hp : g.2.2.2.2 = true)  (H : (((ri h 0 47) < x7) → (((x6 = (0 : Int32)) → (Q (some (.int (-2 : Int32))) n h)) ∧ ((¬ x6 = (0 : Int32)) → (CallI g m_X0_keepRecord d [.ref 0, .int x3] n h (fun v1 h1 => (Q (some (.int v1)) n h1)))))) ∧ ((¬ (ri h 0 47) < x7) → (((x6 = (0 : Int32)) → (W_X0_recur g d av Q n 179 [some (.ref 0), none, none, some (.int x3), none, none, none, some (.int x7)] [] h)) ∧ ((¬ x6 = (0 : Int32)) → (vp_in x7 4 ∧ ∀ r2, r2 = 2511 + 11 * (x7).toNatClampNeg → ((((25 : Int32) < (ri h r2 1)) → (W_X0_recur g d av Q n 179 [some (.ref 0), none, none, some (.int x3), none, none, none, some (.int x7)] [] h)) ∧ ((¬ (25 : Int32) < (ri h r2 1)) → (W_X0_recur g d av Q n 180 [some (.ref 0), none, none, some (.int x3), none, none, none, some (.int x7)] [.int (1 : Int32)] h)))))))) : W_X0_recur g d av Q n 146 [some (.ref 0), none, none, some (.int x3), none, none, some (.int x6), some (.int x7)] [] h := by
  refine r_iload dX0_recur_146 rfl ?_
  refine r_aload_n dX0_recur_148 rfl rfl ?_
  refine m_getI hp fw_X0_706 dX0_recur_149 rfl ly_0 ?_
  refine r_icmp_gt (tgt := 188) dX0_recur_152 rfl (fun cH => ?_) (fun cH => ?_)
  · replace H := H.1 cH
    refine r_iload dX0_recur_188 rfl ?_
    refine r_if_eq (tgt := 201) dX0_recur_190 rfl (fun cH => ?_) (fun cH => ?_)
    · replace H := H.1 cH
      refine r_bipush (v := (-2 : Int32)) dX0_recur_201 rfl ?_
      exact r_zret dX0_recur_203 rfl rfl (Nat.le_refl _) (Nat.le_refl _) H
    · replace H := H.2 cH
      refine r_aload_n dX0_recur_193 rfl rfl ?_
      refine r_iload_n dX0_recur_194 rfl rfl ?_
      refine k_VI (As := [.int x3]) (stk := []) hp cv_X0_757 dX0_recur_195 rfl (Nat.le_of_ble_eq_true rfl) ly_0 (H.mono (fun v1 h1 H => ?_)) ⟨Nat.le_refl _, Nat.le_refl _⟩
      refine r_goto (tgt := 203) dX0_recur_198 rfl ?_
      exact r_zret dX0_recur_203 rfl rfl (Nat.le_refl _) (Nat.le_refl _) H
  · replace H := H.2 cH
    refine r_iload dX0_recur_155 rfl ?_
    refine r_if_eq (tgt := 179) dX0_recur_157 rfl (fun cH => ?_) (fun cH => ?_)
    · replace H := H.1 cH
      refine r_prune [true, false, false, true, false, false, false, true] (ls2 := [some (.ref 0), none, none, some (.int x3), none, none, none, some (.int x7)]) rfl ?_
      exact H
    · replace H := H.2 cH
      refine r_aload_n dX0_recur_160 rfl rfl ?_
      refine m_getF (x := 827) hp fw_X0_402 dX0_recur_161 rfl ly_0 (ff_0_43 ly_0) ?_
      refine r_iload dX0_recur_164 rfl ?_
      obtain ⟨r2, er2⟩ : ∃ y, y = 2511 + 11 * (x7).toNatClampNeg := ⟨_, rfl⟩
      have hir2 := H.1
      replace H := H.2 r2 er2
      have tLr2 := la_827 hir2 er2
      refine m_aalF (x := r2) hp dX0_recur_166 (lf_0_43 ly_0) rfl rfl (lu_0_43 ly_0) hir2 (fa_827 hir2 er2) ?_
      refine m_getI hp fw_X0_636 dX0_recur_167 rfl tLr2 ?_
      refine r_bipush (v := (25 : Int32)) dX0_recur_170 rfl ?_
      refine r_icmp_gt (tgt := 179) dX0_recur_172 rfl (fun cH => ?_) (fun cH => ?_)
      · replace H := H.1 cH
        refine r_prune [true, false, false, true, false, false, false, true] (ls2 := [some (.ref 0), none, none, some (.int x3), none, none, none, some (.int x7)]) rfl ?_
        exact H
      · replace H := H.2 cH
        refine r_iconst (v := (1 : Int32)) dX0_recur_175 rfl ?_
        refine r_goto (tgt := 180) dX0_recur_176 rfl ?_
        refine r_prune [true, false, false, true, false, false, false, true] (ls2 := [some (.ref 0), none, none, some (.int x3), none, none, none, some (.int x7)]) rfl ?_
        exact H
theorem s_X0_recur_179 {g : GX} {d : Nat} {av : List Value} {Q : QT} {n : Nat} {h : Hp} {x3 : Int32} {x7 : Int32} (hp : g.2.2.2.2 = true)  (H : W_X0_recur g d av Q n 180 [some (.ref 0), none, none, some (.int x3), none, none, none, some (.int x7)] [.int (0 : Int32)] h) : W_X0_recur g d av Q n 179 [some (.ref 0), none, none, some (.int x3), none, none, none, some (.int x7)] [] h := by
  refine r_iconst (v := (0 : Int32)) dX0_recur_179 rfl ?_
  exact H
theorem s_X0_recur_180 {g : GX} {d : Nat} {av : List Value} {Q : QT} {n : Nat} {h : Hp} {x3 : Int32} {x7 : Int32} {xs0 : Int32} (hp : g.2.2.2.2 = true)  (H : W_X0_recur g d av Q n 146 [some (.ref 0), none, none, some (.int x3), none, none, some (.int xs0), some (.int (x7 + (1 : Int32)))] [] h) : W_X0_recur g d av Q n 180 [some (.ref 0), none, none, some (.int x3), none, none, none, some (.int x7)] [.int xs0] h := by
  refine r_istore (ls2 := [some (.ref 0), none, none, some (.int x3), none, none, some (.int xs0), some (.int x7)]) dX0_recur_180 (by decide) rfl ?_
  refine r_iinc (v := (x7 + (1 : Int32))) (ls2 := [some (.ref 0), none, none, some (.int x3), none, none, some (.int xs0), some (.int (x7 + (1 : Int32)))]) dX0_recur_182 rfl rfl (by decide) rfl ?_
  refine r_goto (tgt := 146) dX0_recur_185 rfl ?_
  exact H
abbrev W_X0_findSteps (g : GX) (d : Nat) (av : List Value) (Q : QT) (n : Nat) (pc : Nat) (ls : LV) (stk : List Value) (h : Hp) : Prop := RJ g m_X0_findSteps (d + 1) 0 0 av Q pc ls stk n h 0 0
theorem s_X0_findSteps_0 {g : GX} {d : Nat} {av : List Value} {Q : QT} {n : Nat} {h : Hp} {a1 : Nat} {x2 : Int32} (hp : g.2.2.2.2 = true) (t1 : lay a1 = (0, 5, 8)) (H : CallI g m_X0_quotientOf d [.ref 0, .ref a1, .int (1 : Int32), .int (1 : Int32), .ref 839] n h (fun v1 h1 => (W_X0_findSteps g d av Q n 15 [some (.ref 0), some (.ref a1), some (.int x2), some (.int v1), some (.int (0 : Int32))] [] h1))) : W_X0_findSteps g d av Q n 0 [some (.ref 0), some (.ref a1), some (.int x2), none, none] [] h := by
  refine r_aload_n dX0_findSteps_0 rfl rfl ?_
  refine r_aload_n dX0_findSteps_1 rfl rfl ?_
  refine r_iconst (v := (1 : Int32)) dX0_findSteps_2 rfl ?_
  refine r_iconst (v := (1 : Int32)) dX0_findSteps_3 rfl ?_
  refine r_aload_n dX0_findSteps_4 rfl rfl ?_
  refine m_getF (x := 839) hp fw_X0_425 dX0_findSteps_5 rfl ly_0 (ff_0_51 ly_0) ?_
  refine k_VI (As := [.ref a1, .int (1 : Int32), .int (1 : Int32), .ref 839]) (stk := []) hp cv_X0_624 dX0_findSteps_8 rfl (Nat.le_of_ble_eq_true rfl) ly_0 (H.mono (fun v1 h1 H => ?_)) ⟨Nat.le_refl _, Nat.le_refl _⟩
  refine r_istore_n (ls2 := [some (.ref 0), some (.ref a1), some (.int x2), some (.int v1), none]) dX0_findSteps_11 rfl (by decide) rfl ?_
  refine r_iconst (v := (0 : Int32)) dX0_findSteps_12 rfl ?_
  refine r_istore (ls2 := [some (.ref 0), some (.ref a1), some (.int x2), some (.int v1), some (.int (0 : Int32))]) dX0_findSteps_13 (by decide) rfl ?_
  exact H
theorem s_X0_findSteps_15 {g : GX} {d : Nat} {av : List Value} {Q : QT} {n : Nat} {h : Hp} {a1 : Nat} {x2 : Int32} {x3 : Int32} {x4 : Int32} (hp : g.2.2.2.2 = true) (t1 : lay a1 = (0, 5, 8)) (H : ((x2 < x4) → ((x3 = 0 ∨ x3 = 1) ∧ Q (some (.int x3)) n h)) ∧ ((¬ x2 < x4) → (((x3 = (0 : Int32)) → ((x3 = 0 ∨ x3 = 1) ∧ Q (some (.int x3)) n h)) ∧ ((¬ x3 = (0 : Int32)) → (vp_in x4 4 ∧ ∀ r1, r1 = 2513 + 11 * (x4).toNatClampNeg → (CallI g m_X0_quotientOf d [.ref 0, .ref a1, .int (0 : Int32), .int x4, .ref r1] n h (fun v2 h2 => (W_X0_findSteps g d av Q n 15 [some (.ref 0), some (.ref a1), some (.int x2), some (.int v2), some (.int (x4 + (1 : Int32)))] [] h2)))))))) : W_X0_findSteps g d av Q n 15 [some (.ref 0), some (.ref a1), some (.int x2), some (.int x3), some (.int x4)] [] h := by
  refine r_iload dX0_findSteps_15 rfl ?_
  refine r_iload_n dX0_findSteps_17 rfl rfl ?_
  refine r_icmp_gt (tgt := 47) dX0_findSteps_18 rfl (fun cH => ?_) (fun cH => ?_)
  · replace H := H.1 cH
    refine r_iload_n dX0_findSteps_47 rfl rfl ?_
    exact r_zret dX0_findSteps_48 rfl (nar01 H.1) (Nat.le_refl _) (Nat.le_refl _) H.2
  · replace H := H.2 cH
    refine r_iload_n dX0_findSteps_21 rfl rfl ?_
    refine r_if_eq (tgt := 47) dX0_findSteps_22 rfl (fun cH => ?_) (fun cH => ?_)
    · replace H := H.1 cH
      refine r_iload_n dX0_findSteps_47 rfl rfl ?_
      exact r_zret dX0_findSteps_48 rfl (nar01 H.1) (Nat.le_refl _) (Nat.le_refl _) H.2
    · replace H := H.2 cH
      refine r_aload_n dX0_findSteps_25 rfl rfl ?_
      refine r_aload_n dX0_findSteps_26 rfl rfl ?_
      refine r_iconst (v := (0 : Int32)) dX0_findSteps_27 rfl ?_
      refine r_iload dX0_findSteps_28 rfl ?_
      refine r_aload_n dX0_findSteps_30 rfl rfl ?_
      refine m_getF (x := 838) hp fw_X0_420 dX0_findSteps_31 rfl ly_0 (ff_0_50 ly_0) ?_
      refine r_iload dX0_findSteps_34 rfl ?_
      obtain ⟨r1, er1⟩ : ∃ y, y = 2513 + 11 * (x4).toNatClampNeg := ⟨_, rfl⟩
      have hir1 := H.1
      replace H := H.2 r1 er1
      have tLr1 := la_838 hir1 er1
      refine m_aalF (x := r1) hp dX0_findSteps_36 (lf_0_50 ly_0) rfl rfl (lu_0_50 ly_0) hir1 (fa_838 hir1 er1) ?_
      refine k_VI (As := [.ref a1, .int (0 : Int32), .int x4, .ref r1]) (stk := []) hp cv_X0_624 dX0_findSteps_37 rfl (Nat.le_of_ble_eq_true rfl) ly_0 (H.mono (fun v2 h2 H => ?_)) ⟨Nat.le_refl _, Nat.le_refl _⟩
      refine r_istore_n (ls2 := [some (.ref 0), some (.ref a1), some (.int x2), some (.int v2), some (.int x4)]) dX0_findSteps_40 rfl (by decide) rfl ?_
      refine r_iinc (v := (x4 + (1 : Int32))) (ls2 := [some (.ref 0), some (.ref a1), some (.int x2), some (.int v2), some (.int (x4 + (1 : Int32)))]) dX0_findSteps_41 rfl rfl (by decide) rfl ?_
      refine r_goto (tgt := 15) dX0_findSteps_44 rfl ?_
      exact H
abbrev W_X0_tryOrder (g : GX) (d : Nat) (av : List Value) (Q : QT) (n : Nat) (pc : Nat) (ls : LV) (stk : List Value) (h : Hp) : Prop := RJ g m_X0_tryOrder (d + 1) 0 0 av Q pc ls stk n h 0 0
theorem s_X0_tryOrder_0 {g : GX} {d : Nat} {av : List Value} {Q : QT} {n : Nat} {h : Hp} {x1 : Int32} (hp : g.2.2.2.2 = true)  (H : CallV g m_X0_findMultiple d [.ref 0, .int x1] n h (fun h1 => (CallI g m_X0_findStepForm d [.ref 0] n h1 (fun v2 h2 => (((v2 = (0 : Int32)) → (Q (some (.int (-2 : Int32))) n h2)) ∧ ((¬ v2 = (0 : Int32)) → (CallI g m_X0_findAsked d [.ref 0, .int x1] n h2 (fun v3 h3 => (((¬ v3 = (0 : Int32)) → (W_X0_tryOrder g d av Q n 27 [some (.ref 0), some (.int x1), some (.int (0 : Int32)), some (.int (0 : Int32))] [] h3)) ∧ ((v3 = (0 : Int32)) → (Q (some (.int (-2 : Int32))) n h3))))))))))) : W_X0_tryOrder g d av Q n 0 [some (.ref 0), some (.int x1), none, none] [] h := by
  refine r_aload_n dX0_tryOrder_0 rfl rfl ?_
  refine r_iload_n dX0_tryOrder_1 rfl rfl ?_
  refine k_VV (As := [.int x1]) (stk := []) hp cv_X0_741 dX0_tryOrder_2 rfl (Nat.le_of_ble_eq_true rfl) ly_0 (H.mono (fun h1 H => ?_)) ⟨Nat.le_refl _, Nat.le_refl _⟩
  refine r_aload_n dX0_tryOrder_5 rfl rfl ?_
  refine k_VI (As := []) (stk := []) hp cv_X0_744 dX0_tryOrder_6 rfl (Nat.le_of_ble_eq_true rfl) ly_0 (H.mono (fun v2 h2 H => ?_)) ⟨Nat.le_refl _, Nat.le_refl _⟩
  refine r_if_eq (tgt := 20) dX0_tryOrder_9 rfl (fun cH => ?_) (fun cH => ?_)
  · replace H := H.1 cH
    refine r_bipush (v := (-2 : Int32)) dX0_tryOrder_20 rfl ?_
    exact r_zret dX0_tryOrder_22 rfl rfl (Nat.le_refl _) (Nat.le_refl _) H
  · replace H := H.2 cH
    refine r_aload_n dX0_tryOrder_12 rfl rfl ?_
    refine r_iload_n dX0_tryOrder_13 rfl rfl ?_
    refine k_VI (As := [.int x1]) (stk := []) hp cv_X0_747 dX0_tryOrder_14 rfl (Nat.le_of_ble_eq_true rfl) ly_0 (H.mono (fun v3 h3 H => ?_)) ⟨Nat.le_refl _, Nat.le_refl _⟩
    refine r_if_ne (tgt := 23) dX0_tryOrder_17 rfl (fun cH => ?_) (fun cH => ?_)
    · replace H := H.1 cH
      refine r_iconst (v := (0 : Int32)) dX0_tryOrder_23 rfl ?_
      refine r_istore_n (ls2 := [some (.ref 0), some (.int x1), some (.int (0 : Int32)), none]) dX0_tryOrder_24 rfl (by decide) rfl ?_
      refine r_iconst (v := (0 : Int32)) dX0_tryOrder_25 rfl ?_
      refine r_istore_n (ls2 := [some (.ref 0), some (.int x1), some (.int (0 : Int32)), some (.int (0 : Int32))]) dX0_tryOrder_26 rfl (by decide) rfl ?_
      exact H
    · replace H := H.2 cH
      refine r_bipush (v := (-2 : Int32)) dX0_tryOrder_20 rfl ?_
      exact r_zret dX0_tryOrder_22 rfl rfl (Nat.le_refl _) (Nat.le_refl _) H
theorem s_X0_tryOrder_27 {g : GX} {d : Nat} {av : List Value} {Q : QT} {n : Nat} {h : Hp} {x1 : Int32} {x2 : Int32} {x3 : Int32} (hp : g.2.2.2.2 = true)  (H : ((x1 < x3) → (CallI g m_X4_degreeK d [.ref 97] n h (fun v1 h1 => (CallI g m_X0_depth d [.ref 0, .int (v1 + x2)] n h1 (fun v2 h2 => (((v2 ≤ (8 : Int32)) → (CallI g m_X0_solveFor d [.ref 0, .int x1, .int v2] n h2 (fun v3 h3 => (((v3 = (0 : Int32)) → (Q (some (.int (0 : Int32))) n h3)) ∧ ((¬ v3 = (0 : Int32)) → (Q (some (.int (1 : Int32))) n h3)))))) ∧ ((¬ v2 ≤ (8 : Int32)) → (Q (some (.int (-2 : Int32))) n h2)))))))) ∧ ((¬ x1 < x3) → (vp_in x3 4 ∧ ∀ r4, r4 = 2509 + 11 * (x3).toNatClampNeg → (CallI g m_X4_degreeK d [.ref r4] n h (fun v5 h5 => (CallI g m_J3_max d [.int x2, .int v5] n h5 (fun v6 h6 => (W_X0_tryOrder g d av Q n 27 [some (.ref 0), some (.int x1), some (.int v6), some (.int (x3 + (1 : Int32)))] [] h6)))))))) : W_X0_tryOrder g d av Q n 27 [some (.ref 0), some (.int x1), some (.int x2), some (.int x3)] [] h := by
  refine r_iload_n dX0_tryOrder_27 rfl rfl ?_
  refine r_iload_n dX0_tryOrder_28 rfl rfl ?_
  refine r_icmp_gt (tgt := 52) dX0_tryOrder_29 rfl (fun cH => ?_) (fun cH => ?_)
  · replace H := H.1 cH
    refine r_aload_n dX0_tryOrder_52 rfl rfl ?_
    refine r_aload_n dX0_tryOrder_53 rfl rfl ?_
    refine m_getF (x := 97) hp fw_X0_348 dX0_tryOrder_54 rfl ly_0 (ff_0_29 ly_0) ?_
    refine k_VI (As := []) (stk := [.ref 0]) hp cv_X0_572 dX0_tryOrder_57 rfl (Nat.le_of_ble_eq_true rfl) (lf_0_29 ly_0) (H.mono (fun v1 h1 H => ?_)) ⟨Nat.le_refl _, Nat.le_refl _⟩
    refine r_iload_n dX0_tryOrder_60 rfl rfl ?_
    refine r_iadd dX0_tryOrder_61 ?_
    refine k_VI (As := [.int (v1 + x2)]) (stk := []) hp cv_X0_727 dX0_tryOrder_62 rfl (Nat.le_of_ble_eq_true rfl) ly_0 (H.mono (fun v2 h2 H => ?_)) ⟨Nat.le_refl _, Nat.le_refl _⟩
    refine r_istore_n (ls2 := [some (.ref 0), some (.int x1), some (.int x2), some (.int v2)]) dX0_tryOrder_65 rfl (by decide) rfl ?_
    refine r_iload_n dX0_tryOrder_66 rfl rfl ?_
    refine r_bipush (v := (8 : Int32)) dX0_tryOrder_67 rfl ?_
    refine r_icmp_le (tgt := 75) dX0_tryOrder_69 rfl (fun cH => ?_) (fun cH => ?_)
    · replace H := H.1 cH
      refine r_aload_n dX0_tryOrder_75 rfl rfl ?_
      refine r_iload_n dX0_tryOrder_76 rfl rfl ?_
      refine r_iload_n dX0_tryOrder_77 rfl rfl ?_
      refine k_VI (As := [.int x1, .int v2]) (stk := []) hp cv_X0_730 dX0_tryOrder_78 rfl (Nat.le_of_ble_eq_true rfl) ly_0 (H.mono (fun v3 h3 H => ?_)) ⟨Nat.le_refl _, Nat.le_refl _⟩
      refine r_if_eq (tgt := 88) dX0_tryOrder_81 rfl (fun cH => ?_) (fun cH => ?_)
      · replace H := H.1 cH
        refine r_iconst (v := (0 : Int32)) dX0_tryOrder_88 rfl ?_
        exact r_zret dX0_tryOrder_89 rfl rfl (Nat.le_refl _) (Nat.le_refl _) H
      · replace H := H.2 cH
        refine r_iconst (v := (1 : Int32)) dX0_tryOrder_84 rfl ?_
        refine r_goto (tgt := 89) dX0_tryOrder_85 rfl ?_
        exact r_zret dX0_tryOrder_89 rfl rfl (Nat.le_refl _) (Nat.le_refl _) H
    · replace H := H.2 cH
      refine r_bipush (v := (-2 : Int32)) dX0_tryOrder_72 rfl ?_
      exact r_zret dX0_tryOrder_74 rfl rfl (Nat.le_refl _) (Nat.le_refl _) H
  · replace H := H.2 cH
    refine r_iload_n dX0_tryOrder_32 rfl rfl ?_
    refine r_aload_n dX0_tryOrder_33 rfl rfl ?_
    refine m_getF (x := 818) hp fw_X0_386 dX0_tryOrder_34 rfl ly_0 (ff_0_38 ly_0) ?_
    refine r_iload_n dX0_tryOrder_37 rfl rfl ?_
    obtain ⟨r4, er4⟩ : ∃ y, y = 2509 + 11 * (x3).toNatClampNeg := ⟨_, rfl⟩
    have hir4 := H.1
    replace H := H.2 r4 er4
    have tLr4 := la_818 hir4 er4
    refine m_aalF (x := r4) hp dX0_tryOrder_38 (lf_0_38 ly_0) rfl rfl (lu_0_38 ly_0) hir4 (fa_818 hir4 er4) ?_
    refine k_VI (As := []) (stk := [.int x2]) hp cv_X0_572 dX0_tryOrder_39 rfl (Nat.le_of_ble_eq_true rfl) tLr4 (H.mono (fun v5 h5 H => ?_)) ⟨Nat.le_refl _, Nat.le_refl _⟩
    refine k_SI (As := [.int x2, .int v5]) (stk := []) cs_X0_679 dX0_tryOrder_42 rfl (Nat.le_of_ble_eq_true rfl) (H.mono (fun v6 h6 H => ?_)) ⟨Nat.le_refl _, Nat.le_refl _⟩
    refine r_istore_n (ls2 := [some (.ref 0), some (.int x1), some (.int v6), some (.int x3)]) dX0_tryOrder_45 rfl (by decide) rfl ?_
    refine r_iinc (v := (x3 + (1 : Int32))) (ls2 := [some (.ref 0), some (.int x1), some (.int v6), some (.int (x3 + (1 : Int32)))]) dX0_tryOrder_46 rfl rfl (by decide) rfl ?_
    refine r_goto (tgt := 27) dX0_tryOrder_49 rfl ?_
    exact H
abbrev W_X0_findMultiple (g : GX) (d : Nat) (av : List Value) (Q : QT) (n : Nat) (pc : Nat) (ls : LV) (stk : List Value) (h : Hp) : Prop := RJ g m_X0_findMultiple (d + 1) 0 0 av Q pc ls stk n h 0 0
theorem s_X0_findMultiple_0 {g : GX} {d : Nat} {av : List Value} {Q : QT} {n : Nat} {h : Hp} {x1 : Int32} (hp : g.2.2.2.2 = true)  (H : CallV g m_X4_set d [.ref 844, .int (1 : Int32)] n h (fun h1 => (W_X0_findMultiple g d av Q n 10 [some (.ref 0), some (.int x1), some (.int (0 : Int32)), none] [] h1))) : W_X0_findMultiple g d av Q n 0 [some (.ref 0), some (.int x1), none, none] [] h := by
  refine r_aload_n dX0_findMultiple_0 rfl rfl ?_
  refine m_getF (x := 844) hp fw_X0_428 dX0_findMultiple_1 rfl ly_0 (ff_0_52 ly_0) ?_
  refine r_iconst (v := (1 : Int32)) dX0_findMultiple_4 rfl ?_
  refine k_VV (As := [.int (1 : Int32)]) (stk := []) hp cv_X0_42 dX0_findMultiple_5 rfl (Nat.le_of_ble_eq_true rfl) (lf_0_52 ly_0) (H.mono (fun h1 H => ?_)) ⟨Nat.le_refl _, Nat.le_refl _⟩
  refine r_iconst (v := (0 : Int32)) dX0_findMultiple_8 rfl ?_
  refine r_istore_n (ls2 := [some (.ref 0), some (.int x1), some (.int (0 : Int32)), none]) dX0_findMultiple_9 rfl (by decide) rfl ?_
  exact H
theorem s_X0_findMultiple_10 {g : GX} {d : Nat} {av : List Value} {Q : QT} {n : Nat} {h : Hp} {x1 : Int32} {x2 : Int32} (hp : g.2.2.2.2 = true)  (H : ((x1 < x2) → (CallV g m_X4_row d [.ref 844, .int ((ri h 844 3) - (1 : Int32)), .ref 111] n h (fun h1 => (Q none n h1)))) ∧ ((¬ x1 < x2) → (vp_in x2 4 ∧ ∀ r2, r2 = 2513 + 11 * (x2).toNatClampNeg → (CallV g m_X4_copy d [.ref 99, .ref (r2 + 3)] n h (fun h3 => (CallV g m_X1_primitive d [.ref 1, .ref 99, .ref 103] n h3 (fun h4 => (CallV g m_X1_common d [.ref 1, .ref 844, .ref 99, .ref 101] n h4 (fun h5 => (CallV g m_X1_primitive d [.ref 1, .ref 101, .ref 103] n h5 (fun h6 => (CallI g m_X1_divides d [.ref 1, .ref 101, .ref 99, .ref 45] n h6 (fun v7 h7 => (CallV g m_X4_copy d [.ref 99, .ref 45] n h7 (fun h8 => (CallV g m_X4_copy d [.ref 45, .ref 844] n h8 (fun h9 => (CallV g m_X4_product d [.ref 844, .ref 45, .ref 99] n h9 (fun h10 => (W_X0_findMultiple g d av Q n 10 [some (.ref 0), some (.int x1), some (.int (x2 + (1 : Int32))), none] [] h10)))))))))))))))))))) : W_X0_findMultiple g d av Q n 10 [some (.ref 0), some (.int x1), some (.int x2), none] [] h := by
  refine r_iload_n dX0_findMultiple_10 rfl rfl ?_
  refine r_iload_n dX0_findMultiple_11 rfl rfl ?_
  refine r_icmp_gt (tgt := 143) dX0_findMultiple_12 rfl (fun cH => ?_) (fun cH => ?_)
  · replace H := H.1 cH
    refine r_aload_n dX0_findMultiple_143 rfl rfl ?_
    refine m_getF (x := 844) hp fw_X0_428 dX0_findMultiple_144 rfl ly_0 (ff_0_52 ly_0) ?_
    refine r_aload_n dX0_findMultiple_147 rfl rfl ?_
    refine m_getF (x := 844) hp fw_X0_428 dX0_findMultiple_148 rfl ly_0 (ff_0_52 ly_0) ?_
    refine m_getI hp fw_X0_28 dX0_findMultiple_151 rfl (lf_0_52 ly_0) ?_
    refine r_iconst (v := (1 : Int32)) dX0_findMultiple_154 rfl ?_
    refine r_isub dX0_findMultiple_155 ?_
    refine r_aload_n dX0_findMultiple_156 rfl rfl ?_
    refine m_getF (x := 111) hp fw_X0_374 dX0_findMultiple_157 rfl ly_0 (ff_0_36 ly_0) ?_
    refine k_VV (As := [.int ((ri h 844 3) - (1 : Int32)), .ref 111]) (stk := []) hp cv_X0_661 dX0_findMultiple_160 rfl (Nat.le_of_ble_eq_true rfl) (lf_0_52 ly_0) (H.mono (fun h1 H => ?_)) ⟨Nat.le_refl _, Nat.le_refl _⟩
    exact r_vret dX0_findMultiple_163 rfl (Nat.le_refl _) (Nat.le_refl _) H
  · replace H := H.2 cH
    refine r_aload_n dX0_findMultiple_15 rfl rfl ?_
    refine m_getF (x := 99) hp fw_X0_351 dX0_findMultiple_16 rfl ly_0 (ff_0_30 ly_0) ?_
    refine r_aload_n dX0_findMultiple_19 rfl rfl ?_
    refine m_getF (x := 838) hp fw_X0_420 dX0_findMultiple_20 rfl ly_0 (ff_0_50 ly_0) ?_
    refine r_iload_n dX0_findMultiple_23 rfl rfl ?_
    obtain ⟨r2, er2⟩ : ∃ y, y = 2513 + 11 * (x2).toNatClampNeg := ⟨_, rfl⟩
    have hir2 := H.1
    replace H := H.2 r2 er2
    have tLr2 := la_838 hir2 er2
    refine m_aalF (x := r2) hp dX0_findMultiple_24 (lf_0_50 ly_0) rfl rfl (lu_0_50 ly_0) hir2 (fa_838 hir2 er2) ?_
    refine m_getF (x := (r2 + 3)) hp fw_X0_94 dX0_findMultiple_25 rfl tLr2 (ff_6_1 tLr2) ?_
    refine k_VV (As := [.ref (r2 + 3)]) (stk := []) hp cv_X0_66 dX0_findMultiple_28 rfl (Nat.le_of_ble_eq_true rfl) (lf_0_30 ly_0) (H.mono (fun h3 H => ?_)) ⟨Nat.le_refl _, Nat.le_refl _⟩
    refine r_aload_n dX0_findMultiple_31 rfl rfl ?_
    refine m_getF (x := 1) hp fw_X0_46 dX0_findMultiple_32 rfl ly_0 (ff_0_0 ly_0) ?_
    refine r_aload_n dX0_findMultiple_35 rfl rfl ?_
    refine m_getF (x := 99) hp fw_X0_351 dX0_findMultiple_36 rfl ly_0 (ff_0_30 ly_0) ?_
    refine r_aload_n dX0_findMultiple_39 rfl rfl ?_
    refine m_getF (x := 103) hp fw_X0_361 dX0_findMultiple_40 rfl ly_0 (ff_0_32 ly_0) ?_
    refine k_VV (As := [.ref 99, .ref 103]) (stk := []) hp cv_X0_654 dX0_findMultiple_43 rfl (Nat.le_of_ble_eq_true rfl) (lf_0_0 ly_0) (H.mono (fun h4 H => ?_)) ⟨Nat.le_refl _, Nat.le_refl _⟩
    refine r_aload_n dX0_findMultiple_46 rfl rfl ?_
    refine m_getF (x := 1) hp fw_X0_46 dX0_findMultiple_47 rfl ly_0 (ff_0_0 ly_0) ?_
    refine r_aload_n dX0_findMultiple_50 rfl rfl ?_
    refine m_getF (x := 844) hp fw_X0_428 dX0_findMultiple_51 rfl ly_0 (ff_0_52 ly_0) ?_
    refine r_aload_n dX0_findMultiple_54 rfl rfl ?_
    refine m_getF (x := 99) hp fw_X0_351 dX0_findMultiple_55 rfl ly_0 (ff_0_30 ly_0) ?_
    refine r_aload_n dX0_findMultiple_58 rfl rfl ?_
    refine m_getF (x := 101) hp fw_X0_354 dX0_findMultiple_59 rfl ly_0 (ff_0_31 ly_0) ?_
    refine k_VV (As := [.ref 844, .ref 99, .ref 101]) (stk := []) hp cv_X0_53 dX0_findMultiple_62 rfl (Nat.le_of_ble_eq_true rfl) (lf_0_0 ly_0) (H.mono (fun h5 H => ?_)) ⟨Nat.le_refl _, Nat.le_refl _⟩
    refine r_aload_n dX0_findMultiple_65 rfl rfl ?_
    refine m_getF (x := 1) hp fw_X0_46 dX0_findMultiple_66 rfl ly_0 (ff_0_0 ly_0) ?_
    refine r_aload_n dX0_findMultiple_69 rfl rfl ?_
    refine m_getF (x := 101) hp fw_X0_354 dX0_findMultiple_70 rfl ly_0 (ff_0_31 ly_0) ?_
    refine r_aload_n dX0_findMultiple_73 rfl rfl ?_
    refine m_getF (x := 103) hp fw_X0_361 dX0_findMultiple_74 rfl ly_0 (ff_0_32 ly_0) ?_
    refine k_VV (As := [.ref 101, .ref 103]) (stk := []) hp cv_X0_654 dX0_findMultiple_77 rfl (Nat.le_of_ble_eq_true rfl) (lf_0_0 ly_0) (H.mono (fun h6 H => ?_)) ⟨Nat.le_refl _, Nat.le_refl _⟩
    refine r_aload_n dX0_findMultiple_80 rfl rfl ?_
    refine m_getF (x := 1) hp fw_X0_46 dX0_findMultiple_81 rfl ly_0 (ff_0_0 ly_0) ?_
    refine r_aload_n dX0_findMultiple_84 rfl rfl ?_
    refine m_getF (x := 101) hp fw_X0_354 dX0_findMultiple_85 rfl ly_0 (ff_0_31 ly_0) ?_
    refine r_aload_n dX0_findMultiple_88 rfl rfl ?_
    refine m_getF (x := 99) hp fw_X0_351 dX0_findMultiple_89 rfl ly_0 (ff_0_30 ly_0) ?_
    refine r_aload_n dX0_findMultiple_92 rfl rfl ?_
    refine m_getF (x := 45) hp fw_X0_59 dX0_findMultiple_93 rfl ly_0 (ff_0_4 ly_0) ?_
    refine k_VI (As := [.ref 101, .ref 99, .ref 45]) (stk := []) hp cv_X0_62 dX0_findMultiple_96 rfl (Nat.le_of_ble_eq_true rfl) (lf_0_0 ly_0) (H.mono (fun v7 h7 H => ?_)) ⟨Nat.le_refl _, Nat.le_refl _⟩
    refine r_istore_n (ls2 := [some (.ref 0), some (.int x1), some (.int x2), some (.int v7)]) dX0_findMultiple_99 rfl (by decide) rfl ?_
    refine r_aload_n dX0_findMultiple_100 rfl rfl ?_
    refine m_getF (x := 99) hp fw_X0_351 dX0_findMultiple_101 rfl ly_0 (ff_0_30 ly_0) ?_
    refine r_aload_n dX0_findMultiple_104 rfl rfl ?_
    refine m_getF (x := 45) hp fw_X0_59 dX0_findMultiple_105 rfl ly_0 (ff_0_4 ly_0) ?_
    refine k_VV (As := [.ref 45]) (stk := []) hp cv_X0_66 dX0_findMultiple_108 rfl (Nat.le_of_ble_eq_true rfl) (lf_0_30 ly_0) (H.mono (fun h8 H => ?_)) ⟨Nat.le_refl _, Nat.le_refl _⟩
    refine r_aload_n dX0_findMultiple_111 rfl rfl ?_
    refine m_getF (x := 45) hp fw_X0_59 dX0_findMultiple_112 rfl ly_0 (ff_0_4 ly_0) ?_
    refine r_aload_n dX0_findMultiple_115 rfl rfl ?_
    refine m_getF (x := 844) hp fw_X0_428 dX0_findMultiple_116 rfl ly_0 (ff_0_52 ly_0) ?_
    refine k_VV (As := [.ref 844]) (stk := []) hp cv_X0_66 dX0_findMultiple_119 rfl (Nat.le_of_ble_eq_true rfl) (lf_0_4 ly_0) (H.mono (fun h9 H => ?_)) ⟨Nat.le_refl _, Nat.le_refl _⟩
    refine r_aload_n dX0_findMultiple_122 rfl rfl ?_
    refine m_getF (x := 844) hp fw_X0_428 dX0_findMultiple_123 rfl ly_0 (ff_0_52 ly_0) ?_
    refine r_aload_n dX0_findMultiple_126 rfl rfl ?_
    refine m_getF (x := 45) hp fw_X0_59 dX0_findMultiple_127 rfl ly_0 (ff_0_4 ly_0) ?_
    refine r_aload_n dX0_findMultiple_130 rfl rfl ?_
    refine m_getF (x := 99) hp fw_X0_351 dX0_findMultiple_131 rfl ly_0 (ff_0_30 ly_0) ?_
    refine k_VV (As := [.ref 45, .ref 99]) (stk := []) hp cv_X0_97 dX0_findMultiple_134 rfl (Nat.le_of_ble_eq_true rfl) (lf_0_52 ly_0) (H.mono (fun h10 H => ?_)) ⟨Nat.le_refl _, Nat.le_refl _⟩
    refine r_iinc (v := (x2 + (1 : Int32))) (ls2 := [some (.ref 0), some (.int x1), some (.int (x2 + (1 : Int32))), some (.int v7)]) dX0_findMultiple_137 rfl rfl (by decide) rfl ?_
    refine r_goto (tgt := 10) dX0_findMultiple_140 rfl ?_
    refine r_prune [true, true, true, false] (ls2 := [some (.ref 0), some (.int x1), some (.int (x2 + (1 : Int32))), none]) rfl ?_
    exact H
abbrev W_X0_findStepForm (g : GX) (d : Nat) (av : List Value) (Q : QT) (n : Nat) (pc : Nat) (ls : LV) (stk : List Value) (h : Hp) : Prop := RJ g m_X0_findStepForm (d + 1) 0 0 av Q pc ls stk n h 0 0
theorem s_X0_findStepForm_0 {g : GX} {d : Nat} {av : List Value} {Q : QT} {n : Nat} {h : Hp}  (hp : g.2.2.2.2 = true)  (H : CallV g m_X4_product d [.ref 39, .ref 840, .ref 844] n h (fun h1 => (CallV g m_X4_copy d [.ref 99, .ref 844] n h1 (fun h2 => (CallV g m_X4_shiftK d [.ref 99, .int (1 : Int32)] n h2 (fun h3 => (CallV g m_X4_product d [.ref 41, .ref 842, .ref 99] n h3 (fun h4 => (CallV g m_X0_reduce d [.ref 0] n h4 (fun h5 => (CallI g m_X0_findForm d [.ref 0] n h5 (fun v6 h6 => (((v6 = (0 : Int32)) → (Q (some (.int (0 : Int32))) n h6)) ∧ ((¬ v6 = (0 : Int32)) → (CallI g m_X0_isModestForm d [.ref 0] n h6 (fun v7 h7 => (((v7 = (0 : Int32)) → (Q (some (.int (0 : Int32))) n h7)) ∧ ((¬ v7 = (0 : Int32)) → (Q (some (.int (1 : Int32))) n h7))))))))))))))))))) : W_X0_findStepForm g d av Q n 0 [some (.ref 0)] [] h := by
  refine r_aload_n dX0_findStepForm_0 rfl rfl ?_
  refine m_getF (x := 39) hp fw_X0_31 dX0_findStepForm_1 rfl ly_0 (ff_0_1 ly_0) ?_
  refine r_aload_n dX0_findStepForm_4 rfl rfl ?_
  refine m_getF (x := 839) hp fw_X0_425 dX0_findStepForm_5 rfl ly_0 (ff_0_51 ly_0) ?_
  refine m_getF (x := 840) hp fw_X0_89 dX0_findStepForm_8 rfl (lf_0_51 ly_0) (ff_6_0 (lf_0_51 ly_0)) ?_
  refine r_aload_n dX0_findStepForm_11 rfl rfl ?_
  refine m_getF (x := 844) hp fw_X0_428 dX0_findStepForm_12 rfl ly_0 (ff_0_52 ly_0) ?_
  refine k_VV (As := [.ref 840, .ref 844]) (stk := []) hp cv_X0_97 dX0_findStepForm_15 rfl (Nat.le_of_ble_eq_true rfl) (lf_0_1 ly_0) (H.mono (fun h1 H => ?_)) ⟨Nat.le_refl _, Nat.le_refl _⟩
  refine r_aload_n dX0_findStepForm_18 rfl rfl ?_
  refine m_getF (x := 99) hp fw_X0_351 dX0_findStepForm_19 rfl ly_0 (ff_0_30 ly_0) ?_
  refine r_aload_n dX0_findStepForm_22 rfl rfl ?_
  refine m_getF (x := 844) hp fw_X0_428 dX0_findStepForm_23 rfl ly_0 (ff_0_52 ly_0) ?_
  refine k_VV (As := [.ref 844]) (stk := []) hp cv_X0_66 dX0_findStepForm_26 rfl (Nat.le_of_ble_eq_true rfl) (lf_0_30 ly_0) (H.mono (fun h2 H => ?_)) ⟨Nat.le_refl _, Nat.le_refl _⟩
  refine r_aload_n dX0_findStepForm_29 rfl rfl ?_
  refine m_getF (x := 99) hp fw_X0_351 dX0_findStepForm_30 rfl ly_0 (ff_0_30 ly_0) ?_
  refine r_iconst (v := (1 : Int32)) dX0_findStepForm_33 rfl ?_
  refine k_VV (As := [.int (1 : Int32)]) (stk := []) hp cv_X0_617 dX0_findStepForm_34 rfl (Nat.le_of_ble_eq_true rfl) (lf_0_30 ly_0) (H.mono (fun h3 H => ?_)) ⟨Nat.le_refl _, Nat.le_refl _⟩
  refine r_aload_n dX0_findStepForm_37 rfl rfl ?_
  refine m_getF (x := 41) hp fw_X0_39 dX0_findStepForm_38 rfl ly_0 (ff_0_2 ly_0) ?_
  refine r_aload_n dX0_findStepForm_41 rfl rfl ?_
  refine m_getF (x := 839) hp fw_X0_425 dX0_findStepForm_42 rfl ly_0 (ff_0_51 ly_0) ?_
  refine m_getF (x := 842) hp fw_X0_94 dX0_findStepForm_45 rfl (lf_0_51 ly_0) (ff_6_1 (lf_0_51 ly_0)) ?_
  refine r_aload_n dX0_findStepForm_48 rfl rfl ?_
  refine m_getF (x := 99) hp fw_X0_351 dX0_findStepForm_49 rfl ly_0 (ff_0_30 ly_0) ?_
  refine k_VV (As := [.ref 842, .ref 99]) (stk := []) hp cv_X0_97 dX0_findStepForm_52 rfl (Nat.le_of_ble_eq_true rfl) (lf_0_2 ly_0) (H.mono (fun h4 H => ?_)) ⟨Nat.le_refl _, Nat.le_refl _⟩
  refine r_aload_n dX0_findStepForm_55 rfl rfl ?_
  refine k_VV (As := []) (stk := []) hp cv_X0_81 dX0_findStepForm_56 rfl (Nat.le_of_ble_eq_true rfl) ly_0 (H.mono (fun h5 H => ?_)) ⟨Nat.le_refl _, Nat.le_refl _⟩
  refine r_aload_n dX0_findStepForm_59 rfl rfl ?_
  refine k_VI (As := []) (stk := []) hp cv_X0_673 dX0_findStepForm_60 rfl (Nat.le_of_ble_eq_true rfl) ly_0 (H.mono (fun v6 h6 H => ?_)) ⟨Nat.le_refl _, Nat.le_refl _⟩
  refine r_if_eq (tgt := 77) dX0_findStepForm_63 rfl (fun cH => ?_) (fun cH => ?_)
  · replace H := H.1 cH
    refine r_iconst (v := (0 : Int32)) dX0_findStepForm_77 rfl ?_
    exact r_zret dX0_findStepForm_78 rfl rfl (Nat.le_refl _) (Nat.le_refl _) H
  · replace H := H.2 cH
    refine r_aload_n dX0_findStepForm_66 rfl rfl ?_
    refine k_VI (As := []) (stk := []) hp cv_X0_676 dX0_findStepForm_67 rfl (Nat.le_of_ble_eq_true rfl) ly_0 (H.mono (fun v7 h7 H => ?_)) ⟨Nat.le_refl _, Nat.le_refl _⟩
    refine r_if_eq (tgt := 77) dX0_findStepForm_70 rfl (fun cH => ?_) (fun cH => ?_)
    · replace H := H.1 cH
      refine r_iconst (v := (0 : Int32)) dX0_findStepForm_77 rfl ?_
      exact r_zret dX0_findStepForm_78 rfl rfl (Nat.le_refl _) (Nat.le_refl _) H
    · replace H := H.2 cH
      refine r_iconst (v := (1 : Int32)) dX0_findStepForm_73 rfl ?_
      refine r_goto (tgt := 78) dX0_findStepForm_74 rfl ?_
      exact r_zret dX0_findStepForm_78 rfl rfl (Nat.le_refl _) (Nat.le_refl _) H
abbrev W_X0_findAsked (g : GX) (d : Nat) (av : List Value) (Q : QT) (n : Nat) (pc : Nat) (ls : LV) (stk : List Value) (h : Hp) : Prop := RJ g m_X0_findAsked (d + 1) 0 0 av Q pc ls stk n h 0 0
theorem s_X0_findAsked_0 {g : GX} {d : Nat} {av : List Value} {Q : QT} {n : Nat} {h : Hp} {x1 : Int32} (hp : g.2.2.2.2 = true)  (H : CallV g m_X4_copy d [.ref 39, .ref 844] n h (fun h1 => (CallV g m_X4_open d [.ref 41, .int (ri h1 111 1), .int (1 : Int32)] n h1 (fun h2 => (CallV g m_X4_putRow d [.ref 41, .int (0 : Int32), .ref 111] n h2 (fun h3 => (CallV g m_X0_reduce d [.ref 0] n h3 (fun h4 => (CallI g m_X0_isModest d [.ref 0] n h4 (fun v5 h5 => (((¬ v5 = (0 : Int32)) → (CallV g m_X3_set d [.ref 847, .int (1 : Int32)] n h5 (fun h6 => (W_X0_findAsked g d av Q n 61 [some (.ref 0), some (.int x1), some (.int (0 : Int32))] [] h6)))) ∧ ((v5 = (0 : Int32)) → (Q (some (.int (0 : Int32))) n h5))))))))))))) : W_X0_findAsked g d av Q n 0 [some (.ref 0), some (.int x1), none] [] h := by
  refine r_aload_n dX0_findAsked_0 rfl rfl ?_
  refine m_getF (x := 39) hp fw_X0_31 dX0_findAsked_1 rfl ly_0 (ff_0_1 ly_0) ?_
  refine r_aload_n dX0_findAsked_4 rfl rfl ?_
  refine m_getF (x := 844) hp fw_X0_428 dX0_findAsked_5 rfl ly_0 (ff_0_52 ly_0) ?_
  refine k_VV (As := [.ref 844]) (stk := []) hp cv_X0_66 dX0_findAsked_8 rfl (Nat.le_of_ble_eq_true rfl) (lf_0_1 ly_0) (H.mono (fun h1 H => ?_)) ⟨Nat.le_refl _, Nat.le_refl _⟩
  refine r_aload_n dX0_findAsked_11 rfl rfl ?_
  refine m_getF (x := 41) hp fw_X0_39 dX0_findAsked_12 rfl ly_0 (ff_0_2 ly_0) ?_
  refine r_aload_n dX0_findAsked_15 rfl rfl ?_
  refine m_getF (x := 111) hp fw_X0_374 dX0_findAsked_16 rfl ly_0 (ff_0_36 ly_0) ?_
  refine m_getI hp fw_X0_636 dX0_findAsked_19 rfl (lf_0_36 ly_0) ?_
  refine r_iconst (v := (1 : Int32)) dX0_findAsked_22 rfl ?_
  refine k_VV (As := [.int (ri h1 111 1), .int (1 : Int32)]) (stk := []) hp cv_X0_304 dX0_findAsked_23 rfl (Nat.le_of_ble_eq_true rfl) (lf_0_2 ly_0) (H.mono (fun h2 H => ?_)) ⟨Nat.le_refl _, Nat.le_refl _⟩
  refine r_aload_n dX0_findAsked_26 rfl rfl ?_
  refine m_getF (x := 41) hp fw_X0_39 dX0_findAsked_27 rfl ly_0 (ff_0_2 ly_0) ?_
  refine r_iconst (v := (0 : Int32)) dX0_findAsked_30 rfl ?_
  refine r_aload_n dX0_findAsked_31 rfl rfl ?_
  refine m_getF (x := 111) hp fw_X0_374 dX0_findAsked_32 rfl ly_0 (ff_0_36 ly_0) ?_
  refine k_VV (As := [.int (0 : Int32), .ref 111]) (stk := []) hp cv_X0_664 dX0_findAsked_35 rfl (Nat.le_of_ble_eq_true rfl) (lf_0_2 ly_0) (H.mono (fun h3 H => ?_)) ⟨Nat.le_refl _, Nat.le_refl _⟩
  refine r_aload_n dX0_findAsked_38 rfl rfl ?_
  refine k_VV (As := []) (stk := []) hp cv_X0_81 dX0_findAsked_39 rfl (Nat.le_of_ble_eq_true rfl) ly_0 (H.mono (fun h4 H => ?_)) ⟨Nat.le_refl _, Nat.le_refl _⟩
  refine r_aload_n dX0_findAsked_42 rfl rfl ?_
  refine k_VI (As := []) (stk := []) hp cv_X0_670 dX0_findAsked_43 rfl (Nat.le_of_ble_eq_true rfl) ly_0 (H.mono (fun v5 h5 H => ?_)) ⟨Nat.le_refl _, Nat.le_refl _⟩
  refine r_if_ne (tgt := 51) dX0_findAsked_46 rfl (fun cH => ?_) (fun cH => ?_)
  · replace H := H.1 cH
    refine r_aload_n dX0_findAsked_51 rfl rfl ?_
    refine m_getF (x := 847) hp fw_X0_434 dX0_findAsked_52 rfl ly_0 (ff_0_54 ly_0) ?_
    refine r_iconst (v := (1 : Int32)) dX0_findAsked_55 rfl ?_
    refine k_VV (As := [.int (1 : Int32)]) (stk := []) hp cv_X0_734 dX0_findAsked_56 rfl (Nat.le_of_ble_eq_true rfl) (lf_0_54 ly_0) (H.mono (fun h6 H => ?_)) ⟨Nat.le_refl _, Nat.le_refl _⟩
    refine r_iconst (v := (0 : Int32)) dX0_findAsked_59 rfl ?_
    refine r_istore_n (ls2 := [some (.ref 0), some (.int x1), some (.int (0 : Int32))]) dX0_findAsked_60 rfl (by decide) rfl ?_
    exact H
  · replace H := H.2 cH
    refine r_iconst (v := (0 : Int32)) dX0_findAsked_49 rfl ?_
    exact r_zret dX0_findAsked_50 rfl rfl (Nat.le_refl _) (Nat.le_refl _) H
theorem s_X0_findAsked_61 {g : GX} {d : Nat} {av : List Value} {Q : QT} {n : Nat} {h : Hp} {x1 : Int32} {x2 : Int32} (hp : g.2.2.2.2 = true)  (H : ((x1 < x2) → (W_X0_findAsked g d av Q n 246 [some (.ref 0), some (.int x1), some (.int (0 : Int32))] [] h)) ∧ ((¬ x1 < x2) → (vp_in x2 4 ∧ ∀ r1, r1 = 2513 + 11 * (x2).toNatClampNeg → (CallV g m_X4_product d [.ref 39, .ref (r1 + 1), .ref 844] n h (fun h2 => (vp_in x2 4 ∧ ∀ r3, r3 = 2513 + 11 * (x2).toNatClampNeg → (CallV g m_X4_copy d [.ref 41, .ref (r3 + 3)] n h2 (fun h4 => (CallV g m_X4_timesPoly d [.ref 41, .ref 111, .ref 45] n h4 (fun h5 => (CallV g m_X0_reduce d [.ref 0] n h5 (fun h6 => (CallI g m_X0_isModest d [.ref 0] n h6 (fun v7 h7 => (((¬ v7 = (0 : Int32)) → (vp_in x2 4 ∧ ∀ r8, r8 = 2509 + 11 * (x2).toNatClampNeg → (CallV g m_X4_copy d [.ref r8, .ref 39] n h7 (fun h9 => (vp_in x2 4 ∧ ∀ r10, r10 = 2518 + 11 * (x2).toNatClampNeg → (CallV g m_X4_row d [.ref 41, .int (0 : Int32), .ref r10] n h9 (fun h11 => (vp_in x2 4 ∧ ∀ r12, r12 = 2518 + 11 * (x2).toNatClampNeg → (CallV g m_X2_common d [.ref 2, .ref 847, .ref r12, .ref 103] n h11 (fun h13 => (vp_in x2 4 ∧ ∀ r14, r14 = 2518 + 11 * (x2).toNatClampNeg → (CallV g m_X3_copy d [.ref 105, .ref r14] n h13 (fun h15 => (CallV g m_X2_divideExactly d [.ref 2, .ref 105, .ref 103] n h15 (fun h16 => (CallV g m_X3_copy d [.ref 832, .ref 847] n h16 (fun h17 => (CallV g m_X3_product d [.ref 847, .ref 832, .ref 105] n h17 (fun h18 => (W_X0_findAsked g d av Q n 61 [some (.ref 0), some (.int x1), some (.int (x2 + (1 : Int32)))] [] h18)))))))))))))))))))) ∧ ((v7 = (0 : Int32)) → (Q (some (.int (0 : Int32))) n h7))))))))))))))))) : W_X0_findAsked g d av Q n 61 [some (.ref 0), some (.int x1), some (.int x2)] [] h := by
  refine r_iload_n dX0_findAsked_61 rfl rfl ?_
  refine r_iload_n dX0_findAsked_62 rfl rfl ?_
  refine r_icmp_gt (tgt := 244) dX0_findAsked_63 rfl (fun cH => ?_) (fun cH => ?_)
  · replace H := H.1 cH
    refine r_iconst (v := (0 : Int32)) dX0_findAsked_244 rfl ?_
    refine r_istore_n (ls2 := [some (.ref 0), some (.int x1), some (.int (0 : Int32))]) dX0_findAsked_245 rfl (by decide) rfl ?_
    exact H
  · replace H := H.2 cH
    refine r_aload_n dX0_findAsked_66 rfl rfl ?_
    refine m_getF (x := 39) hp fw_X0_31 dX0_findAsked_67 rfl ly_0 (ff_0_1 ly_0) ?_
    refine r_aload_n dX0_findAsked_70 rfl rfl ?_
    refine m_getF (x := 838) hp fw_X0_420 dX0_findAsked_71 rfl ly_0 (ff_0_50 ly_0) ?_
    refine r_iload_n dX0_findAsked_74 rfl rfl ?_
    obtain ⟨r1, er1⟩ : ∃ y, y = 2513 + 11 * (x2).toNatClampNeg := ⟨_, rfl⟩
    have hir1 := H.1
    replace H := H.2 r1 er1
    have tLr1 := la_838 hir1 er1
    refine m_aalF (x := r1) hp dX0_findAsked_75 (lf_0_50 ly_0) rfl rfl (lu_0_50 ly_0) hir1 (fa_838 hir1 er1) ?_
    refine m_getF (x := (r1 + 1)) hp fw_X0_89 dX0_findAsked_76 rfl tLr1 (ff_6_0 tLr1) ?_
    refine r_aload_n dX0_findAsked_79 rfl rfl ?_
    refine m_getF (x := 844) hp fw_X0_428 dX0_findAsked_80 rfl ly_0 (ff_0_52 ly_0) ?_
    refine k_VV (As := [.ref (r1 + 1), .ref 844]) (stk := []) hp cv_X0_97 dX0_findAsked_83 rfl (Nat.le_of_ble_eq_true rfl) (lf_0_1 ly_0) (H.mono (fun h2 H => ?_)) ⟨Nat.le_refl _, Nat.le_refl _⟩
    refine r_aload_n dX0_findAsked_86 rfl rfl ?_
    refine m_getF (x := 41) hp fw_X0_39 dX0_findAsked_87 rfl ly_0 (ff_0_2 ly_0) ?_
    refine r_aload_n dX0_findAsked_90 rfl rfl ?_
    refine m_getF (x := 838) hp fw_X0_420 dX0_findAsked_91 rfl ly_0 (ff_0_50 ly_0) ?_
    refine r_iload_n dX0_findAsked_94 rfl rfl ?_
    obtain ⟨r3, er3⟩ : ∃ y, y = 2513 + 11 * (x2).toNatClampNeg := ⟨_, rfl⟩
    have hir3 := H.1
    replace H := H.2 r3 er3
    have tLr3 := la_838 hir3 er3
    refine m_aalF (x := r3) hp dX0_findAsked_95 (lf_0_50 ly_0) rfl rfl (lu_0_50 ly_0) hir3 (fa_838 hir3 er3) ?_
    refine m_getF (x := (r3 + 3)) hp fw_X0_94 dX0_findAsked_96 rfl tLr3 (ff_6_1 tLr3) ?_
    refine k_VV (As := [.ref (r3 + 3)]) (stk := []) hp cv_X0_66 dX0_findAsked_99 rfl (Nat.le_of_ble_eq_true rfl) (lf_0_2 ly_0) (H.mono (fun h4 H => ?_)) ⟨Nat.le_refl _, Nat.le_refl _⟩
    refine r_aload_n dX0_findAsked_102 rfl rfl ?_
    refine m_getF (x := 41) hp fw_X0_39 dX0_findAsked_103 rfl ly_0 (ff_0_2 ly_0) ?_
    refine r_aload_n dX0_findAsked_106 rfl rfl ?_
    refine m_getF (x := 111) hp fw_X0_374 dX0_findAsked_107 rfl ly_0 (ff_0_36 ly_0) ?_
    refine r_aload_n dX0_findAsked_110 rfl rfl ?_
    refine m_getF (x := 45) hp fw_X0_59 dX0_findAsked_111 rfl ly_0 (ff_0_4 ly_0) ?_
    refine k_VV (As := [.ref 111, .ref 45]) (stk := []) hp cv_X0_723 dX0_findAsked_114 rfl (Nat.le_of_ble_eq_true rfl) (lf_0_2 ly_0) (H.mono (fun h5 H => ?_)) ⟨Nat.le_refl _, Nat.le_refl _⟩
    refine r_aload_n dX0_findAsked_117 rfl rfl ?_
    refine k_VV (As := []) (stk := []) hp cv_X0_81 dX0_findAsked_118 rfl (Nat.le_of_ble_eq_true rfl) ly_0 (H.mono (fun h6 H => ?_)) ⟨Nat.le_refl _, Nat.le_refl _⟩
    refine r_aload_n dX0_findAsked_121 rfl rfl ?_
    refine k_VI (As := []) (stk := []) hp cv_X0_670 dX0_findAsked_122 rfl (Nat.le_of_ble_eq_true rfl) ly_0 (H.mono (fun v7 h7 H => ?_)) ⟨Nat.le_refl _, Nat.le_refl _⟩
    refine r_if_ne (tgt := 130) dX0_findAsked_125 rfl (fun cH => ?_) (fun cH => ?_)
    · replace H := H.1 cH
      refine r_aload_n dX0_findAsked_130 rfl rfl ?_
      refine m_getF (x := 818) hp fw_X0_386 dX0_findAsked_131 rfl ly_0 (ff_0_38 ly_0) ?_
      refine r_iload_n dX0_findAsked_134 rfl rfl ?_
      obtain ⟨r8, er8⟩ : ∃ y, y = 2509 + 11 * (x2).toNatClampNeg := ⟨_, rfl⟩
      have hir8 := H.1
      replace H := H.2 r8 er8
      have tLr8 := la_818 hir8 er8
      refine m_aalF (x := r8) hp dX0_findAsked_135 (lf_0_38 ly_0) rfl rfl (lu_0_38 ly_0) hir8 (fa_818 hir8 er8) ?_
      refine r_aload_n dX0_findAsked_136 rfl rfl ?_
      refine m_getF (x := 39) hp fw_X0_31 dX0_findAsked_137 rfl ly_0 (ff_0_1 ly_0) ?_
      refine k_VV (As := [.ref 39]) (stk := []) hp cv_X0_66 dX0_findAsked_140 rfl (Nat.le_of_ble_eq_true rfl) tLr8 (H.mono (fun h9 H => ?_)) ⟨Nat.le_refl _, Nat.le_refl _⟩
      refine r_aload_n dX0_findAsked_143 rfl rfl ?_
      refine m_getF (x := 41) hp fw_X0_39 dX0_findAsked_144 rfl ly_0 (ff_0_2 ly_0) ?_
      refine r_iconst (v := (0 : Int32)) dX0_findAsked_147 rfl ?_
      refine r_aload_n dX0_findAsked_148 rfl rfl ?_
      refine m_getF (x := 846) hp fw_X0_431 dX0_findAsked_149 rfl ly_0 (ff_0_53 ly_0) ?_
      refine r_iload_n dX0_findAsked_152 rfl rfl ?_
      obtain ⟨r10, er10⟩ : ∃ y, y = 2518 + 11 * (x2).toNatClampNeg := ⟨_, rfl⟩
      have hir10 := H.1
      replace H := H.2 r10 er10
      have tLr10 := la_846 hir10 er10
      refine m_aalF (x := r10) hp dX0_findAsked_153 (lf_0_53 ly_0) rfl rfl (lu_0_53 ly_0) hir10 (fa_846 hir10 er10) ?_
      refine k_VV (As := [.int (0 : Int32), .ref r10]) (stk := []) hp cv_X0_661 dX0_findAsked_154 rfl (Nat.le_of_ble_eq_true rfl) (lf_0_2 ly_0) (H.mono (fun h11 H => ?_)) ⟨Nat.le_refl _, Nat.le_refl _⟩
      refine r_aload_n dX0_findAsked_157 rfl rfl ?_
      refine m_getF (x := 1) hp fw_X0_46 dX0_findAsked_158 rfl ly_0 (ff_0_0 ly_0) ?_
      refine m_getF (x := 2) hp fw_X0_642 dX0_findAsked_161 rfl (lf_0_0 ly_0) (ff_1_0 (lf_0_0 ly_0)) ?_
      refine r_aload_n dX0_findAsked_164 rfl rfl ?_
      refine m_getF (x := 847) hp fw_X0_434 dX0_findAsked_165 rfl ly_0 (ff_0_54 ly_0) ?_
      refine r_aload_n dX0_findAsked_168 rfl rfl ?_
      refine m_getF (x := 846) hp fw_X0_431 dX0_findAsked_169 rfl ly_0 (ff_0_53 ly_0) ?_
      refine r_iload_n dX0_findAsked_172 rfl rfl ?_
      obtain ⟨r12, er12⟩ : ∃ y, y = 2518 + 11 * (x2).toNatClampNeg := ⟨_, rfl⟩
      have hir12 := H.1
      replace H := H.2 r12 er12
      have tLr12 := la_846 hir12 er12
      refine m_aalF (x := r12) hp dX0_findAsked_173 (lf_0_53 ly_0) rfl rfl (lu_0_53 ly_0) hir12 (fa_846 hir12 er12) ?_
      refine r_aload_n dX0_findAsked_174 rfl rfl ?_
      refine m_getF (x := 103) hp fw_X0_361 dX0_findAsked_175 rfl ly_0 (ff_0_32 ly_0) ?_
      refine k_VV (As := [.ref 847, .ref r12, .ref 103]) (stk := []) hp cv_X0_646 dX0_findAsked_178 rfl (Nat.le_of_ble_eq_true rfl) (lf_1_0 (lf_0_0 ly_0)) (H.mono (fun h13 H => ?_)) ⟨Nat.le_refl _, Nat.le_refl _⟩
      refine r_aload_n dX0_findAsked_181 rfl rfl ?_
      refine m_getF (x := 105) hp fw_X0_365 dX0_findAsked_182 rfl ly_0 (ff_0_33 ly_0) ?_
      refine r_aload_n dX0_findAsked_185 rfl rfl ?_
      refine m_getF (x := 846) hp fw_X0_431 dX0_findAsked_186 rfl ly_0 (ff_0_53 ly_0) ?_
      refine r_iload_n dX0_findAsked_189 rfl rfl ?_
      obtain ⟨r14, er14⟩ : ∃ y, y = 2518 + 11 * (x2).toNatClampNeg := ⟨_, rfl⟩
      have hir14 := H.1
      replace H := H.2 r14 er14
      have tLr14 := la_846 hir14 er14
      refine m_aalF (x := r14) hp dX0_findAsked_190 (lf_0_53 ly_0) rfl rfl (lu_0_53 ly_0) hir14 (fa_846 hir14 er14) ?_
      refine k_VV (As := [.ref r14]) (stk := []) hp cv_X0_686 dX0_findAsked_191 rfl (Nat.le_of_ble_eq_true rfl) (lf_0_33 ly_0) (H.mono (fun h15 H => ?_)) ⟨Nat.le_refl _, Nat.le_refl _⟩
      refine r_aload_n dX0_findAsked_194 rfl rfl ?_
      refine m_getF (x := 1) hp fw_X0_46 dX0_findAsked_195 rfl ly_0 (ff_0_0 ly_0) ?_
      refine m_getF (x := 2) hp fw_X0_642 dX0_findAsked_198 rfl (lf_0_0 ly_0) (ff_1_0 (lf_0_0 ly_0)) ?_
      refine r_aload_n dX0_findAsked_201 rfl rfl ?_
      refine m_getF (x := 105) hp fw_X0_365 dX0_findAsked_202 rfl ly_0 (ff_0_33 ly_0) ?_
      refine r_aload_n dX0_findAsked_205 rfl rfl ?_
      refine m_getF (x := 103) hp fw_X0_361 dX0_findAsked_206 rfl ly_0 (ff_0_32 ly_0) ?_
      refine k_VV (As := [.ref 105, .ref 103]) (stk := []) hp cv_X0_718 dX0_findAsked_209 rfl (Nat.le_of_ble_eq_true rfl) (lf_1_0 (lf_0_0 ly_0)) (H.mono (fun h16 H => ?_)) ⟨Nat.le_refl _, Nat.le_refl _⟩
      refine r_aload_n dX0_findAsked_212 rfl rfl ?_
      refine m_getF (x := 832) hp fw_X0_411 dX0_findAsked_213 rfl ly_0 (ff_0_46 ly_0) ?_
      refine r_aload_n dX0_findAsked_216 rfl rfl ?_
      refine m_getF (x := 847) hp fw_X0_434 dX0_findAsked_217 rfl ly_0 (ff_0_54 ly_0) ?_
      refine k_VV (As := [.ref 847]) (stk := []) hp cv_X0_686 dX0_findAsked_220 rfl (Nat.le_of_ble_eq_true rfl) (lf_0_46 ly_0) (H.mono (fun h17 H => ?_)) ⟨Nat.le_refl _, Nat.le_refl _⟩
      refine r_aload_n dX0_findAsked_223 rfl rfl ?_
      refine m_getF (x := 847) hp fw_X0_434 dX0_findAsked_224 rfl ly_0 (ff_0_54 ly_0) ?_
      refine r_aload_n dX0_findAsked_227 rfl rfl ?_
      refine m_getF (x := 832) hp fw_X0_411 dX0_findAsked_228 rfl ly_0 (ff_0_46 ly_0) ?_
      refine r_aload_n dX0_findAsked_231 rfl rfl ?_
      refine m_getF (x := 105) hp fw_X0_365 dX0_findAsked_232 rfl ly_0 (ff_0_33 ly_0) ?_
      refine k_VV (As := [.ref 832, .ref 105]) (stk := []) hp cv_X0_739 dX0_findAsked_235 rfl (Nat.le_of_ble_eq_true rfl) (lf_0_54 ly_0) (H.mono (fun h18 H => ?_)) ⟨Nat.le_refl _, Nat.le_refl _⟩
      refine r_iinc (v := (x2 + (1 : Int32))) (ls2 := [some (.ref 0), some (.int x1), some (.int (x2 + (1 : Int32)))]) dX0_findAsked_238 rfl rfl (by decide) rfl ?_
      refine r_goto (tgt := 61) dX0_findAsked_241 rfl ?_
      exact H
    · replace H := H.2 cH
      refine r_iconst (v := (0 : Int32)) dX0_findAsked_128 rfl ?_
      exact r_zret dX0_findAsked_129 rfl rfl (Nat.le_refl _) (Nat.le_refl _) H
theorem s_X0_findAsked_246 {g : GX} {d : Nat} {av : List Value} {Q : QT} {n : Nat} {h : Hp} {x1 : Int32} {x2 : Int32} (hp : g.2.2.2.2 = true)  (H : ((x1 < x2) → (Q (some (.int (1 : Int32))) n h)) ∧ ((¬ x1 < x2) → (CallV g m_X3_copy d [.ref 103, .ref 847] n h (fun h1 => (vp_in x2 4 ∧ ∀ r2, r2 = 2518 + 11 * (x2).toNatClampNeg → (CallV g m_X2_divideExactly d [.ref 2, .ref 103, .ref r2] n h1 (fun h3 => (vp_in x2 4 ∧ ∀ r4, r4 = 2509 + 11 * (x2).toNatClampNeg → (CallV g m_X4_timesPoly d [.ref r4, .ref 103, .ref 45] n h3 (fun h5 => (W_X0_findAsked g d av Q n 246 [some (.ref 0), some (.int x1), some (.int (x2 + (1 : Int32)))] [] h5))))))))))) : W_X0_findAsked g d av Q n 246 [some (.ref 0), some (.int x1), some (.int x2)] [] h := by
  refine r_iload_n dX0_findAsked_246 rfl rfl ?_
  refine r_iload_n dX0_findAsked_247 rfl rfl ?_
  refine r_icmp_gt (tgt := 305) dX0_findAsked_248 rfl (fun cH => ?_) (fun cH => ?_)
  · replace H := H.1 cH
    refine r_iconst (v := (1 : Int32)) dX0_findAsked_305 rfl ?_
    exact r_zret dX0_findAsked_306 rfl rfl (Nat.le_refl _) (Nat.le_refl _) H
  · replace H := H.2 cH
    refine r_aload_n dX0_findAsked_251 rfl rfl ?_
    refine m_getF (x := 103) hp fw_X0_361 dX0_findAsked_252 rfl ly_0 (ff_0_32 ly_0) ?_
    refine r_aload_n dX0_findAsked_255 rfl rfl ?_
    refine m_getF (x := 847) hp fw_X0_434 dX0_findAsked_256 rfl ly_0 (ff_0_54 ly_0) ?_
    refine k_VV (As := [.ref 847]) (stk := []) hp cv_X0_686 dX0_findAsked_259 rfl (Nat.le_of_ble_eq_true rfl) (lf_0_32 ly_0) (H.mono (fun h1 H => ?_)) ⟨Nat.le_refl _, Nat.le_refl _⟩
    refine r_aload_n dX0_findAsked_262 rfl rfl ?_
    refine m_getF (x := 1) hp fw_X0_46 dX0_findAsked_263 rfl ly_0 (ff_0_0 ly_0) ?_
    refine m_getF (x := 2) hp fw_X0_642 dX0_findAsked_266 rfl (lf_0_0 ly_0) (ff_1_0 (lf_0_0 ly_0)) ?_
    refine r_aload_n dX0_findAsked_269 rfl rfl ?_
    refine m_getF (x := 103) hp fw_X0_361 dX0_findAsked_270 rfl ly_0 (ff_0_32 ly_0) ?_
    refine r_aload_n dX0_findAsked_273 rfl rfl ?_
    refine m_getF (x := 846) hp fw_X0_431 dX0_findAsked_274 rfl ly_0 (ff_0_53 ly_0) ?_
    refine r_iload_n dX0_findAsked_277 rfl rfl ?_
    obtain ⟨r2, er2⟩ : ∃ y, y = 2518 + 11 * (x2).toNatClampNeg := ⟨_, rfl⟩
    have hir2 := H.1
    replace H := H.2 r2 er2
    have tLr2 := la_846 hir2 er2
    refine m_aalF (x := r2) hp dX0_findAsked_278 (lf_0_53 ly_0) rfl rfl (lu_0_53 ly_0) hir2 (fa_846 hir2 er2) ?_
    refine k_VV (As := [.ref 103, .ref r2]) (stk := []) hp cv_X0_718 dX0_findAsked_279 rfl (Nat.le_of_ble_eq_true rfl) (lf_1_0 (lf_0_0 ly_0)) (H.mono (fun h3 H => ?_)) ⟨Nat.le_refl _, Nat.le_refl _⟩
    refine r_aload_n dX0_findAsked_282 rfl rfl ?_
    refine m_getF (x := 818) hp fw_X0_386 dX0_findAsked_283 rfl ly_0 (ff_0_38 ly_0) ?_
    refine r_iload_n dX0_findAsked_286 rfl rfl ?_
    obtain ⟨r4, er4⟩ : ∃ y, y = 2509 + 11 * (x2).toNatClampNeg := ⟨_, rfl⟩
    have hir4 := H.1
    replace H := H.2 r4 er4
    have tLr4 := la_818 hir4 er4
    refine m_aalF (x := r4) hp dX0_findAsked_287 (lf_0_38 ly_0) rfl rfl (lu_0_38 ly_0) hir4 (fa_818 hir4 er4) ?_
    refine r_aload_n dX0_findAsked_288 rfl rfl ?_
    refine m_getF (x := 103) hp fw_X0_361 dX0_findAsked_289 rfl ly_0 (ff_0_32 ly_0) ?_
    refine r_aload_n dX0_findAsked_292 rfl rfl ?_
    refine m_getF (x := 45) hp fw_X0_59 dX0_findAsked_293 rfl ly_0 (ff_0_4 ly_0) ?_
    refine k_VV (As := [.ref 103, .ref 45]) (stk := []) hp cv_X0_723 dX0_findAsked_296 rfl (Nat.le_of_ble_eq_true rfl) tLr4 (H.mono (fun h5 H => ?_)) ⟨Nat.le_refl _, Nat.le_refl _⟩
    refine r_iinc (v := (x2 + (1 : Int32))) (ls2 := [some (.ref 0), some (.int x1), some (.int (x2 + (1 : Int32)))]) dX0_findAsked_299 rfl rfl (by decide) rfl ?_
    refine r_goto (tgt := 246) dX0_findAsked_302 rfl ?_
    exact H
abbrev W_X0_keepRecord (g : GX) (d : Nat) (av : List Value) (Q : QT) (n : Nat) (pc : Nat) (ls : LV) (stk : List Value) (h : Hp) : Prop := RJ g m_X0_keepRecord (d + 1) 0 0 av Q pc ls stk n h 0 0
theorem s_X0_keepRecord_0 {g : GX} {d : Nat} {av : List Value} {Q : QT} {n : Nat} {h : Hp} {x1 : Int32} (hp : g.2.2.2.2 = true)  (H : vp_in x1 12 ∧ ∀ r1, r1 = 1185 + 27 * (x1).toNatClampNeg → (CallV g m_X5_plain d [.ref 80] n h (fun h2 => (CallV g m_X5_copy d [.ref (r1 + 1), .ref 80] n h2 (fun h3 => (∀ h4, h4 = wi h3 r1 0 (3 : Int32) → (∀ h5, h5 = wi h4 r1 3 (ri h4 0 47) → (W_X0_keepRecord g d av Q n 40 [some (.ref 0), none, some (.ref r1), some (.int (0 : Int32))] [] h5)))))))) : W_X0_keepRecord g d av Q n 0 [some (.ref 0), some (.int x1), none, none] [] h := by
  refine r_aload_n dX0_keepRecord_0 rfl rfl ?_
  refine m_getF (x := 79) hp fw_X0_326 dX0_keepRecord_1 rfl ly_0 (ff_0_20 ly_0) ?_
  refine r_iload_n dX0_keepRecord_4 rfl rfl ?_
  obtain ⟨r1, er1⟩ : ∃ y, y = 1185 + 27 * (x1).toNatClampNeg := ⟨_, rfl⟩
  have hir1 := H.1
  replace H := H.2 r1 er1
  have tLr1 := la_79 hir1 er1
  refine m_aalF (x := r1) hp dX0_keepRecord_5 (lf_0_20 ly_0) rfl rfl (lu_0_20 ly_0) hir1 (fa_79 hir1 er1) ?_
  refine r_astore_n (ls2 := [some (.ref 0), some (.int x1), some (.ref r1), none]) dX0_keepRecord_6 rfl (by decide) rfl ?_
  refine r_aload_n dX0_keepRecord_7 rfl rfl ?_
  refine m_getF (x := 80) hp fw_X0_330 dX0_keepRecord_8 rfl ly_0 (ff_0_21 ly_0) ?_
  refine k_VV (As := []) (stk := []) hp cv_X0_301 dX0_keepRecord_11 rfl (Nat.le_of_ble_eq_true rfl) (lf_0_21 ly_0) (H.mono (fun h2 H => ?_)) ⟨Nat.le_refl _, Nat.le_refl _⟩
  refine r_aload_n dX0_keepRecord_14 rfl rfl ?_
  refine m_getF (x := (r1 + 1)) hp fw_X0_512 dX0_keepRecord_15 rfl tLr1 (ff_9_1 tLr1) ?_
  refine r_aload_n dX0_keepRecord_18 rfl rfl ?_
  refine m_getF (x := 80) hp fw_X0_330 dX0_keepRecord_19 rfl ly_0 (ff_0_21 ly_0) ?_
  refine k_VV (As := [.ref 80]) (stk := []) hp cv_X0_158 dX0_keepRecord_22 rfl (Nat.le_of_ble_eq_true rfl) (lf_9_1 tLr1) (H.mono (fun h3 H => ?_)) ⟨Nat.le_refl _, Nat.le_refl _⟩
  refine r_aload_n dX0_keepRecord_25 rfl rfl ?_
  refine r_iconst (v := (3 : Int32)) dX0_keepRecord_26 rfl ?_
  refine m_putI hp fw_X0_509 dX0_keepRecord_27 rfl rfl tLr1 (fun h4 eh4 => ?_)
  replace H := H h4 eh4
  refine r_aload_n dX0_keepRecord_30 rfl rfl ?_
  refine r_aload_n dX0_keepRecord_31 rfl rfl ?_
  refine m_getI hp fw_X0_706 dX0_keepRecord_32 rfl ly_0 ?_
  refine m_putI hp fw_X0_575 dX0_keepRecord_35 rfl rfl tLr1 (fun h5 eh5 => ?_)
  replace H := H h5 eh5
  refine r_iconst (v := (0 : Int32)) dX0_keepRecord_38 rfl ?_
  refine r_istore_n (ls2 := [some (.ref 0), some (.int x1), some (.ref r1), some (.int (0 : Int32))]) dX0_keepRecord_39 rfl (by decide) rfl ?_
  refine r_prune [true, false, true, true] (ls2 := [some (.ref 0), none, some (.ref r1), some (.int (0 : Int32))]) rfl ?_
  exact H
theorem s_X0_keepRecord_40 {g : GX} {d : Nat} {av : List Value} {Q : QT} {n : Nat} {h : Hp} {a2 : Nat} {x3 : Int32} (hp : g.2.2.2.2 = true) (t2 : lay a2 = (0, 9, 8)) (H : (((ri h 0 47) < x3) → (Q (some (.int (ri h 0 47))) n h)) ∧ ((¬ (ri h 0 47) < x3) → (vp_in x3 7 ∧ ∀ r1, r1 = (a2 + 13) + 2 * (x3).toNatClampNeg → (vp_in x3 4 ∧ ∀ r2, r2 = 2511 + 11 * (x3).toNatClampNeg → (CallV g m_X3_copy d [.ref r1, .ref r2] n h (fun h3 => (W_X0_keepRecord g d av Q n 40 [some (.ref 0), none, some (.ref a2), some (.int (x3 + (1 : Int32)))] [] h3))))))) : W_X0_keepRecord g d av Q n 40 [some (.ref 0), none, some (.ref a2), some (.int x3)] [] h := by
  refine r_iload_n dX0_keepRecord_40 rfl rfl ?_
  refine r_aload_n dX0_keepRecord_41 rfl rfl ?_
  refine m_getI hp fw_X0_706 dX0_keepRecord_42 rfl ly_0 ?_
  refine r_icmp_gt (tgt := 69) dX0_keepRecord_45 rfl (fun cH => ?_) (fun cH => ?_)
  · replace H := H.1 cH
    refine r_aload_n dX0_keepRecord_69 rfl rfl ?_
    refine m_getI hp fw_X0_706 dX0_keepRecord_70 rfl ly_0 ?_
    exact r_zret dX0_keepRecord_73 rfl rfl (Nat.le_refl _) (Nat.le_refl _) H
  · replace H := H.2 cH
    refine r_aload_n dX0_keepRecord_48 rfl rfl ?_
    refine m_getF (x := (a2 + 11)) hp fw_X0_578 dX0_keepRecord_49 rfl t2 (ff_9_2 t2) ?_
    refine r_iload_n dX0_keepRecord_52 rfl rfl ?_
    obtain ⟨r1, er1⟩ : ∃ y, y = (a2 + 13) + 2 * (x3).toNatClampNeg := ⟨_, rfl⟩
    have hir1 := H.1
    replace H := H.2 r1 er1
    have tLr1 := le_9 t2 hir1 er1
    refine m_aalF (x := r1) hp dX0_keepRecord_53 (lf_9_2 t2) rfl rfl (lu_9_2 t2) hir1 (fe_9 t2 hir1 er1) ?_
    refine r_aload_n dX0_keepRecord_54 rfl rfl ?_
    refine m_getF (x := 827) hp fw_X0_402 dX0_keepRecord_55 rfl ly_0 (ff_0_43 ly_0) ?_
    refine r_iload_n dX0_keepRecord_58 rfl rfl ?_
    obtain ⟨r2, er2⟩ : ∃ y, y = 2511 + 11 * (x3).toNatClampNeg := ⟨_, rfl⟩
    have hir2 := H.1
    replace H := H.2 r2 er2
    have tLr2 := la_827 hir2 er2
    refine m_aalF (x := r2) hp dX0_keepRecord_59 (lf_0_43 ly_0) rfl rfl (lu_0_43 ly_0) hir2 (fa_827 hir2 er2) ?_
    refine k_VV (As := [.ref r2]) (stk := []) hp cv_X0_686 dX0_keepRecord_60 rfl (Nat.le_of_ble_eq_true rfl) tLr1 (H.mono (fun h3 H => ?_)) ⟨Nat.le_refl _, Nat.le_refl _⟩
    refine r_iinc (v := (x3 + (1 : Int32))) (ls2 := [some (.ref 0), none, some (.ref a2), some (.int (x3 + (1 : Int32)))]) dX0_keepRecord_63 rfl rfl (by decide) rfl ?_
    refine r_goto (tgt := 40) dX0_keepRecord_66 rfl ?_
    exact H
