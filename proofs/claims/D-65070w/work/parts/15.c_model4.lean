set_option maxRecDepth 100000
theorem dX10_column_0 : decode cX10_column 0 = .ok (.iconst 0, 1) := by decide +kernel
theorem dX10_column_1 : decode cX10_column 1 = .ok (.istore 4, 2) := by decide +kernel
theorem dX10_column_3 : decode cX10_column 3 = .ok (.iload 4, 2) := by decide +kernel
theorem dX10_column_5 : decode cX10_column 5 = .ok (.aload_n 0, 1) := by decide +kernel
theorem dX10_column_6 : decode cX10_column 6 = .ok (.getfield 721, 3) := by decide +kernel
theorem dX10_column_9 : decode cX10_column 9 = .ok (.if_icmp .ge 69, 3) := by decide +kernel
theorem dX10_column_12 : decode cX10_column 12 = .ok (.aload_n 0, 1) := by decide +kernel
theorem dX10_column_13 : decode cX10_column 13 = .ok (.getfield 487, 3) := by decide +kernel
theorem dX10_column_16 : decode cX10_column 16 = .ok (.iload 4, 2) := by decide +kernel
theorem dX10_column_18 : decode cX10_column 18 = .ok (.aaload, 1) := by decide +kernel
theorem dX10_column_19 : decode cX10_column 19 = .ok (.iload_n 1, 1) := by decide +kernel
theorem dX10_column_20 : decode cX10_column 20 = .ok (.aaload, 1) := by decide +kernel
theorem dX10_column_21 : decode cX10_column 21 = .ok (.astore 5, 2) := by decide +kernel
theorem dX10_column_23 : decode cX10_column 23 = .ok (.aload 5, 2) := by decide +kernel
theorem dX10_column_25 : decode cX10_column 25 = .ok (.iconst 0, 1) := by decide +kernel
theorem dX10_column_26 : decode cX10_column 26 = .ok (.putfield 25, 3) := by decide +kernel
theorem dX10_column_29 : decode cX10_column 29 = .ok (.iload 4, 2) := by decide +kernel
theorem dX10_column_31 : decode cX10_column 31 = .ok (.aload_n 2, 1) := by decide +kernel
theorem dX10_column_32 : decode cX10_column 32 = .ok (.getfield 93, 3) := by decide +kernel
theorem dX10_column_35 : decode cX10_column 35 = .ok (.if_icmp .ge 37, 3) := by decide +kernel
theorem dX10_column_38 : decode cX10_column 38 = .ok (.iload_n 3, 1) := by decide +kernel
theorem dX10_column_39 : decode cX10_column 39 = .ok (.ifCond .eq 21, 3) := by decide +kernel
theorem dX10_column_42 : decode cX10_column 42 = .ok (.aload 5, 2) := by decide +kernel
theorem dX10_column_44 : decode cX10_column 44 = .ok (.aload_n 2, 1) := by decide +kernel
theorem dX10_column_45 : decode cX10_column 45 = .ok (.getfield 98, 3) := by decide +kernel
theorem dX10_column_48 : decode cX10_column 48 = .ok (.iload 4, 2) := by decide +kernel
theorem dX10_column_50 : decode cX10_column 50 = .ok (.aaload, 1) := by decide +kernel
theorem dX10_column_51 : decode cX10_column 51 = .ok (.ldc_w 720, 3) := by decide +kernel
theorem dX10_column_54 : decode cX10_column 54 = .ok (.invokestatic 70, 3) := by decide +kernel
theorem dX10_column_57 : decode cX10_column 57 = .ok (.goto 15, 3) := by decide +kernel
theorem dX10_column_60 : decode cX10_column 60 = .ok (.aload 5, 2) := by decide +kernel
theorem dX10_column_62 : decode cX10_column 62 = .ok (.aload_n 2, 1) := by decide +kernel
theorem dX10_column_63 : decode cX10_column 63 = .ok (.getfield 98, 3) := by decide +kernel
theorem dX10_column_66 : decode cX10_column 66 = .ok (.iload 4, 2) := by decide +kernel
theorem dX10_column_68 : decode cX10_column 68 = .ok (.aaload, 1) := by decide +kernel
theorem dX10_column_69 : decode cX10_column 69 = .ok (.invokestatic 62, 3) := by decide +kernel
theorem dX10_column_72 : decode cX10_column 72 = .ok (.iinc 4 1, 3) := by decide +kernel
theorem dX10_column_75 : decode cX10_column 75 = .ok (.goto (-72), 3) := by decide +kernel
theorem dX10_column_78 : decode cX10_column 78 = .ok (.return_, 1) := by decide +kernel
theorem dX10_solveBy_0 : decode cX10_solveBy 0 = .ok (.iconst 0, 1) := by decide +kernel
theorem dX10_solveBy_1 : decode cX10_solveBy 1 = .ok (.istore 4, 2) := by decide +kernel
theorem dX10_solveBy_3 : decode cX10_solveBy 3 = .ok (.iload 4, 2) := by decide +kernel
theorem dX10_solveBy_5 : decode cX10_solveBy 5 = .ok (.iload_n 2, 1) := by decide +kernel
theorem dX10_solveBy_6 : decode cX10_solveBy 6 = .ok (.if_icmp .ge 83, 3) := by decide +kernel
theorem dX10_solveBy_9 : decode cX10_solveBy 9 = .ok (.aload_n 0, 1) := by decide +kernel
theorem dX10_solveBy_10 : decode cX10_solveBy 10 = .ok (.getfield 490, 3) := by decide +kernel
theorem dX10_solveBy_13 : decode cX10_solveBy 13 = .ok (.iload 4, 2) := by decide +kernel
theorem dX10_solveBy_15 : decode cX10_solveBy 15 = .ok (.aload_n 0, 1) := by decide +kernel
theorem dX10_solveBy_16 : decode cX10_solveBy 16 = .ok (.invokevirtual 74, 3) := by decide +kernel
theorem dX10_solveBy_19 : decode cX10_solveBy 19 = .ok (.aastore, 1) := by decide +kernel
theorem dX10_solveBy_20 : decode cX10_solveBy 20 = .ok (.iload 4, 2) := by decide +kernel
theorem dX10_solveBy_22 : decode cX10_solveBy 22 = .ok (.iload_n 1, 1) := by decide +kernel
theorem dX10_solveBy_23 : decode cX10_solveBy 23 = .ok (.if_icmp .ne 17, 3) := by decide +kernel
theorem dX10_solveBy_26 : decode cX10_solveBy 26 = .ok (.aload_n 0, 1) := by decide +kernel
theorem dX10_solveBy_27 : decode cX10_solveBy 27 = .ok (.getfield 490, 3) := by decide +kernel
theorem dX10_solveBy_30 : decode cX10_solveBy 30 = .ok (.iload 4, 2) := by decide +kernel
theorem dX10_solveBy_32 : decode cX10_solveBy 32 = .ok (.aaload, 1) := by decide +kernel
theorem dX10_solveBy_33 : decode cX10_solveBy 33 = .ok (.aload_n 3, 1) := by decide +kernel
theorem dX10_solveBy_34 : decode cX10_solveBy 34 = .ok (.invokestatic 62, 3) := by decide +kernel
theorem dX10_solveBy_37 : decode cX10_solveBy 37 = .ok (.goto 46, 3) := by decide +kernel
theorem dX10_solveBy_40 : decode cX10_solveBy 40 = .ok (.aload_n 0, 1) := by decide +kernel
theorem dX10_solveBy_41 : decode cX10_solveBy 41 = .ok (.getfield 493, 3) := by decide +kernel
theorem dX10_solveBy_44 : decode cX10_solveBy 44 = .ok (.iload 4, 2) := by decide +kernel
theorem dX10_solveBy_46 : decode cX10_solveBy 46 = .ok (.baload, 1) := by decide +kernel
theorem dX10_solveBy_47 : decode cX10_solveBy 47 = .ok (.ifCond .eq 36, 3) := by decide +kernel
theorem dX10_solveBy_50 : decode cX10_solveBy 50 = .ok (.iload 4, 2) := by decide +kernel
theorem dX10_solveBy_52 : decode cX10_solveBy 52 = .ok (.iload_n 1, 1) := by decide +kernel
theorem dX10_solveBy_53 : decode cX10_solveBy 53 = .ok (.if_icmp .ge 30, 3) := by decide +kernel
theorem dX10_solveBy_56 : decode cX10_solveBy 56 = .ok (.aload_n 0, 1) := by decide +kernel
theorem dX10_solveBy_57 : decode cX10_solveBy 57 = .ok (.getfield 490, 3) := by decide +kernel
theorem dX10_solveBy_60 : decode cX10_solveBy 60 = .ok (.iload 4, 2) := by decide +kernel
theorem dX10_solveBy_62 : decode cX10_solveBy 62 = .ok (.aaload, 1) := by decide +kernel
theorem dX10_solveBy_63 : decode cX10_solveBy 63 = .ok (.aload_n 0, 1) := by decide +kernel
theorem dX10_solveBy_64 : decode cX10_solveBy 64 = .ok (.getfield 487, 3) := by decide +kernel
theorem dX10_solveBy_67 : decode cX10_solveBy 67 = .ok (.aload_n 0, 1) := by decide +kernel
theorem dX10_solveBy_68 : decode cX10_solveBy 68 = .ok (.getfield 496, 3) := by decide +kernel
theorem dX10_solveBy_71 : decode cX10_solveBy 71 = .ok (.iload 4, 2) := by decide +kernel
theorem dX10_solveBy_73 : decode cX10_solveBy 73 = .ok (.iaload, 1) := by decide +kernel
theorem dX10_solveBy_74 : decode cX10_solveBy 74 = .ok (.aaload, 1) := by decide +kernel
theorem dX10_solveBy_75 : decode cX10_solveBy 75 = .ok (.iload_n 1, 1) := by decide +kernel
theorem dX10_solveBy_76 : decode cX10_solveBy 76 = .ok (.aaload, 1) := by decide +kernel
theorem dX10_solveBy_77 : decode cX10_solveBy 77 = .ok (.ldc_w 720, 3) := by decide +kernel
theorem dX10_solveBy_80 : decode cX10_solveBy 80 = .ok (.invokestatic 70, 3) := by decide +kernel
theorem dX10_solveBy_83 : decode cX10_solveBy 83 = .ok (.iinc 4 1, 3) := by decide +kernel
theorem dX10_solveBy_86 : decode cX10_solveBy 86 = .ok (.goto (-83), 3) := by decide +kernel
theorem dX10_solveBy_89 : decode cX10_solveBy 89 = .ok (.return_, 1) := by decide +kernel
theorem dX10_certificate_0 : decode cX10_certificate 0 = .ok (.aload_n 0, 1) := by decide +kernel
theorem dX10_certificate_1 : decode cX10_certificate 1 = .ok (.invokevirtual 74, 3) := by decide +kernel
theorem dX10_certificate_4 : decode cX10_certificate 4 = .ok (.astore 7, 2) := by decide +kernel
theorem dX10_certificate_6 : decode cX10_certificate 6 = .ok (.aload_n 0, 1) := by decide +kernel
theorem dX10_certificate_7 : decode cX10_certificate 7 = .ok (.invokevirtual 74, 3) := by decide +kernel
theorem dX10_certificate_10 : decode cX10_certificate 10 = .ok (.astore 8, 2) := by decide +kernel
theorem dX10_certificate_12 : decode cX10_certificate 12 = .ok (.aload 7, 2) := by decide +kernel
theorem dX10_certificate_14 : decode cX10_certificate 14 = .ok (.iconst 0, 1) := by decide +kernel
theorem dX10_certificate_15 : decode cX10_certificate 15 = .ok (.putfield 25, 3) := by decide +kernel
theorem dX10_certificate_18 : decode cX10_certificate 18 = .ok (.iconst 0, 1) := by decide +kernel
theorem dX10_certificate_19 : decode cX10_certificate 19 = .ok (.istore 9, 2) := by decide +kernel
theorem dX10_certificate_21 : decode cX10_certificate 21 = .ok (.iload 9, 2) := by decide +kernel
theorem dX10_certificate_23 : decode cX10_certificate 23 = .ok (.iload_n 3, 1) := by decide +kernel
theorem dX10_certificate_24 : decode cX10_certificate 24 = .ok (.if_icmp .gt 24, 3) := by decide +kernel
theorem dX10_certificate_27 : decode cX10_certificate 27 = .ok (.aload_n 0, 1) := by decide +kernel
theorem dX10_certificate_28 : decode cX10_certificate 28 = .ok (.aload 7, 2) := by decide +kernel
theorem dX10_certificate_30 : decode cX10_certificate 30 = .ok (.aload 7, 2) := by decide +kernel
theorem dX10_certificate_32 : decode cX10_certificate 32 = .ok (.aload_n 0, 1) := by decide +kernel
theorem dX10_certificate_33 : decode cX10_certificate 33 = .ok (.getfield 490, 3) := by decide +kernel
theorem dX10_certificate_36 : decode cX10_certificate 36 = .ok (.iload 9, 2) := by decide +kernel
theorem dX10_certificate_38 : decode cX10_certificate 38 = .ok (.aaload, 1) := by decide +kernel
theorem dX10_certificate_39 : decode cX10_certificate 39 = .ok (.invokevirtual 125, 3) := by decide +kernel
theorem dX10_certificate_42 : decode cX10_certificate 42 = .ok (.iinc 9 1, 3) := by decide +kernel
theorem dX10_certificate_45 : decode cX10_certificate 45 = .ok (.goto (-24), 3) := by decide +kernel
theorem dX10_certificate_48 : decode cX10_certificate 48 = .ok (.aload 7, 2) := by decide +kernel
theorem dX10_certificate_50 : decode cX10_certificate 50 = .ok (.getfield 25, 3) := by decide +kernel
theorem dX10_certificate_53 : decode cX10_certificate 53 = .ok (.ifCond .ne 15, 3) := by decide +kernel
theorem dX10_certificate_56 : decode cX10_certificate 56 = .ok (.aload_n 1, 1) := by decide +kernel
theorem dX10_certificate_57 : decode cX10_certificate 57 = .ok (.iconst 0, 1) := by decide +kernel
theorem dX10_certificate_58 : decode cX10_certificate 58 = .ok (.invokevirtual 158, 3) := by decide +kernel
theorem dX10_certificate_61 : decode cX10_certificate 61 = .ok (.aload_n 2, 1) := by decide +kernel
theorem dX10_certificate_62 : decode cX10_certificate 62 = .ok (.iconst 1, 1) := by decide +kernel
theorem dX10_certificate_63 : decode cX10_certificate 63 = .ok (.invokevirtual 158, 3) := by decide +kernel
theorem dX10_certificate_66 : decode cX10_certificate 66 = .ok (.iconst 1, 1) := by decide +kernel
theorem dX10_certificate_67 : decode cX10_certificate 67 = .ok (.ireturn, 1) := by decide +kernel
theorem dX10_certificate_68 : decode cX10_certificate 68 = .ok (.aload 8, 2) := by decide +kernel
theorem dX10_certificate_70 : decode cX10_certificate 70 = .ok (.aload 4, 2) := by decide +kernel
theorem dX10_certificate_72 : decode cX10_certificate 72 = .ok (.aload 7, 2) := by decide +kernel
theorem dX10_certificate_74 : decode cX10_certificate 74 = .ok (.invokestatic 106, 3) := by decide +kernel
theorem dX10_certificate_77 : decode cX10_certificate 77 = .ok (.aload_n 0, 1) := by decide +kernel
theorem dX10_certificate_78 : decode cX10_certificate 78 = .ok (.invokevirtual 74, 3) := by decide +kernel
theorem dX10_certificate_81 : decode cX10_certificate 81 = .ok (.astore 9, 2) := by decide +kernel
theorem dX10_certificate_83 : decode cX10_certificate 83 = .ok (.aload_n 0, 1) := by decide +kernel
theorem dX10_certificate_84 : decode cX10_certificate 84 = .ok (.aload 9, 2) := by decide +kernel
theorem dX10_certificate_86 : decode cX10_certificate 86 = .ok (.aload 8, 2) := by decide +kernel
theorem dX10_certificate_88 : decode cX10_certificate 88 = .ok (.aload 5, 2) := by decide +kernel
theorem dX10_certificate_90 : decode cX10_certificate 90 = .ok (.invokevirtual 125, 3) := by decide +kernel
theorem dX10_certificate_93 : decode cX10_certificate 93 = .ok (.aload_n 0, 1) := by decide +kernel
theorem dX10_certificate_94 : decode cX10_certificate 94 = .ok (.aload 8, 2) := by decide +kernel
theorem dX10_certificate_96 : decode cX10_certificate 96 = .ok (.aload 8, 2) := by decide +kernel
theorem dX10_certificate_98 : decode cX10_certificate 98 = .ok (.aload 9, 2) := by decide +kernel
theorem dX10_certificate_100 : decode cX10_certificate 100 = .ok (.invokevirtual 110, 3) := by decide +kernel
theorem dX10_certificate_103 : decode cX10_certificate 103 = .ok (.aload_n 0, 1) := by decide +kernel
theorem dX10_certificate_104 : decode cX10_certificate 104 = .ok (.invokevirtual 74, 3) := by decide +kernel
theorem dX10_certificate_107 : decode cX10_certificate 107 = .ok (.astore 10, 2) := by decide +kernel
theorem dX10_certificate_109 : decode cX10_certificate 109 = .ok (.aload_n 0, 1) := by decide +kernel
theorem dX10_certificate_110 : decode cX10_certificate 110 = .ok (.aload 10, 2) := by decide +kernel
theorem dX10_certificate_112 : decode cX10_certificate 112 = .ok (.aload 5, 2) := by decide +kernel
theorem dX10_certificate_114 : decode cX10_certificate 114 = .ok (.aload 9, 2) := by decide +kernel
theorem dX10_certificate_116 : decode cX10_certificate 116 = .ok (.invokevirtual 110, 3) := by decide +kernel
theorem dX10_certificate_119 : decode cX10_certificate 119 = .ok (.aload_n 0, 1) := by decide +kernel
theorem dX10_certificate_120 : decode cX10_certificate 120 = .ok (.invokevirtual 140, 3) := by decide +kernel
theorem dX10_certificate_123 : decode cX10_certificate 123 = .ok (.astore 11, 2) := by decide +kernel
theorem dX10_certificate_125 : decode cX10_certificate 125 = .ok (.iconst 0, 1) := by decide +kernel
theorem dX10_certificate_126 : decode cX10_certificate 126 = .ok (.istore 12, 2) := by decide +kernel
theorem dX10_certificate_128 : decode cX10_certificate 128 = .ok (.iconst 0, 1) := by decide +kernel
theorem dX10_certificate_129 : decode cX10_certificate 129 = .ok (.istore 13, 2) := by decide +kernel
theorem dX10_certificate_131 : decode cX10_certificate 131 = .ok (.iload 13, 2) := by decide +kernel
theorem dX10_certificate_133 : decode cX10_certificate 133 = .ok (.iload_n 3, 1) := by decide +kernel
theorem dX10_certificate_134 : decode cX10_certificate 134 = .ok (.if_icmp .gt 65, 3) := by decide +kernel
theorem dX10_certificate_137 : decode cX10_certificate 137 = .ok (.aload_n 0, 1) := by decide +kernel
theorem dX10_certificate_138 : decode cX10_certificate 138 = .ok (.invokevirtual 74, 3) := by decide +kernel
theorem dX10_certificate_141 : decode cX10_certificate 141 = .ok (.astore 14, 2) := by decide +kernel
theorem dX10_certificate_143 : decode cX10_certificate 143 = .ok (.aload_n 0, 1) := by decide +kernel
theorem dX10_certificate_144 : decode cX10_certificate 144 = .ok (.aload 14, 2) := by decide +kernel
theorem dX10_certificate_146 : decode cX10_certificate 146 = .ok (.aload_n 0, 1) := by decide +kernel
theorem dX10_certificate_147 : decode cX10_certificate 147 = .ok (.getfield 490, 3) := by decide +kernel
theorem dX10_certificate_150 : decode cX10_certificate 150 = .ok (.iload 13, 2) := by decide +kernel
theorem dX10_certificate_152 : decode cX10_certificate 152 = .ok (.aaload, 1) := by decide +kernel
theorem dX10_certificate_153 : decode cX10_certificate 153 = .ok (.aload 7, 2) := by decide +kernel
theorem dX10_certificate_155 : decode cX10_certificate 155 = .ok (.invokevirtual 110, 3) := by decide +kernel
theorem dX10_certificate_158 : decode cX10_certificate 158 = .ok (.iload 12, 2) := by decide +kernel
theorem dX10_certificate_160 : decode cX10_certificate 160 = .ok (.aload 14, 2) := by decide +kernel
theorem dX10_certificate_162 : decode cX10_certificate 162 = .ok (.getfield 25, 3) := by decide +kernel
theorem dX10_certificate_165 : decode cX10_certificate 165 = .ok (.invokestatic 40, 3) := by decide +kernel
theorem dX10_certificate_168 : decode cX10_certificate 168 = .ok (.istore 12, 2) := by decide +kernel
theorem dX10_certificate_170 : decode cX10_certificate 170 = .ok (.aload 14, 2) := by decide +kernel
theorem dX10_certificate_172 : decode cX10_certificate 172 = .ok (.getfield 25, 3) := by decide +kernel
theorem dX10_certificate_175 : decode cX10_certificate 175 = .ok (.bipush 100, 2) := by decide +kernel
theorem dX10_certificate_177 : decode cX10_certificate 177 = .ok (.if_icmp .gt 16, 3) := by decide +kernel
theorem dX10_certificate_180 : decode cX10_certificate 180 = .ok (.aload 11, 2) := by decide +kernel
theorem dX10_certificate_182 : decode cX10_certificate 182 = .ok (.getfield 98, 3) := by decide +kernel
theorem dX10_certificate_185 : decode cX10_certificate 185 = .ok (.iload 13, 2) := by decide +kernel
theorem dX10_certificate_187 : decode cX10_certificate 187 = .ok (.aaload, 1) := by decide +kernel
theorem dX10_certificate_188 : decode cX10_certificate 188 = .ok (.aload 14, 2) := by decide +kernel
theorem dX10_certificate_190 : decode cX10_certificate 190 = .ok (.invokestatic 62, 3) := by decide +kernel
theorem dX10_certificate_193 : decode cX10_certificate 193 = .ok (.iinc 13 1, 3) := by decide +kernel
theorem dX10_certificate_196 : decode cX10_certificate 196 = .ok (.goto (-65), 3) := by decide +kernel
theorem dX10_certificate_199 : decode cX10_certificate 199 = .ok (.iload 12, 2) := by decide +kernel
theorem dX10_certificate_201 : decode cX10_certificate 201 = .ok (.bipush 100, 2) := by decide +kernel
theorem dX10_certificate_203 : decode cX10_certificate 203 = .ok (.if_icmp .gt 26, 3) := by decide +kernel
theorem dX10_certificate_206 : decode cX10_certificate 206 = .ok (.iload 12, 2) := by decide +kernel
theorem dX10_certificate_208 : decode cX10_certificate 208 = .ok (.aload 8, 2) := by decide +kernel
theorem dX10_certificate_210 : decode cX10_certificate 210 = .ok (.getfield 25, 3) := by decide +kernel
theorem dX10_certificate_213 : decode cX10_certificate 213 = .ok (.iadd, 1) := by decide +kernel
theorem dX10_certificate_214 : decode cX10_certificate 214 = .ok (.bipush 70, 2) := by decide +kernel
theorem dX10_certificate_216 : decode cX10_certificate 216 = .ok (.if_icmp .gt 13, 3) := by decide +kernel
theorem dX10_certificate_219 : decode cX10_certificate 219 = .ok (.aload 10, 2) := by decide +kernel
theorem dX10_certificate_221 : decode cX10_certificate 221 = .ok (.getfield 25, 3) := by decide +kernel
theorem dX10_certificate_224 : decode cX10_certificate 224 = .ok (.bipush 25, 2) := by decide +kernel
theorem dX10_certificate_226 : decode cX10_certificate 226 = .ok (.if_icmp .le 5, 3) := by decide +kernel
theorem dX10_certificate_229 : decode cX10_certificate 229 = .ok (.iconst 0, 1) := by decide +kernel
theorem dX10_certificate_230 : decode cX10_certificate 230 = .ok (.ireturn, 1) := by decide +kernel
theorem dX10_certificate_231 : decode cX10_certificate 231 = .ok (.aload 11, 2) := by decide +kernel
theorem dX10_certificate_233 : decode cX10_certificate 233 = .ok (.iload_n 3, 1) := by decide +kernel
theorem dX10_certificate_234 : decode cX10_certificate 234 = .ok (.iconst 1, 1) := by decide +kernel
theorem dX10_certificate_235 : decode cX10_certificate 235 = .ok (.iadd, 1) := by decide +kernel
theorem dX10_certificate_236 : decode cX10_certificate 236 = .ok (.putfield 93, 3) := by decide +kernel
theorem dX10_certificate_239 : decode cX10_certificate 239 = .ok (.aload 11, 2) := by decide +kernel
theorem dX10_certificate_241 : decode cX10_certificate 241 = .ok (.invokevirtual 105, 3) := by decide +kernel
theorem dX10_certificate_244 : decode cX10_certificate 244 = .ok (.aload_n 0, 1) := by decide +kernel
theorem dX10_certificate_245 : decode cX10_certificate 245 = .ok (.invokevirtual 140, 3) := by decide +kernel
theorem dX10_certificate_248 : decode cX10_certificate 248 = .ok (.astore 13, 2) := by decide +kernel
theorem dX10_certificate_250 : decode cX10_certificate 250 = .ok (.aload_n 0, 1) := by decide +kernel
theorem dX10_certificate_251 : decode cX10_certificate 251 = .ok (.invokevirtual 140, 3) := by decide +kernel
theorem dX10_certificate_254 : decode cX10_certificate 254 = .ok (.astore 14, 2) := by decide +kernel
theorem dX10_certificate_256 : decode cX10_certificate 256 = .ok (.aload 13, 2) := by decide +kernel
theorem dX10_certificate_258 : decode cX10_certificate 258 = .ok (.aload_n 0, 1) := by decide +kernel
theorem dX10_certificate_259 : decode cX10_certificate 259 = .ok (.getfield 699, 3) := by decide +kernel
theorem dX10_certificate_262 : decode cX10_certificate 262 = .ok (.ldc_w 720, 3) := by decide +kernel
theorem dX10_certificate_265 : decode cX10_certificate 265 = .ok (.invokestatic 626, 3) := by decide +kernel
theorem dX10_certificate_268 : decode cX10_certificate 268 = .ok (.aload_n 0, 1) := by decide +kernel
theorem dX10_certificate_269 : decode cX10_certificate 269 = .ok (.aload 14, 2) := by decide +kernel
theorem dX10_certificate_271 : decode cX10_certificate 271 = .ok (.aload 11, 2) := by decide +kernel
theorem dX10_certificate_273 : decode cX10_certificate 273 = .ok (.aload 13, 2) := by decide +kernel
theorem dX10_certificate_275 : decode cX10_certificate 275 = .ok (.invokevirtual 197, 3) := by decide +kernel
theorem dX10_certificate_278 : decode cX10_certificate 278 = .ok (.aload_n 0, 1) := by decide +kernel
theorem dX10_certificate_279 : decode cX10_certificate 279 = .ok (.aload_n 1, 1) := by decide +kernel
theorem dX10_certificate_280 : decode cX10_certificate 280 = .ok (.aload 14, 2) := by decide +kernel
theorem dX10_certificate_282 : decode cX10_certificate 282 = .ok (.aload 8, 2) := by decide +kernel
theorem dX10_certificate_284 : decode cX10_certificate 284 = .ok (.invokevirtual 178, 3) := by decide +kernel
theorem dX10_certificate_287 : decode cX10_certificate 287 = .ok (.aload_n 0, 1) := by decide +kernel
theorem dX10_certificate_288 : decode cX10_certificate 288 = .ok (.aload 14, 2) := by decide +kernel
theorem dX10_certificate_290 : decode cX10_certificate 290 = .ok (.aload_n 0, 1) := by decide +kernel
theorem dX10_certificate_291 : decode cX10_certificate 291 = .ok (.getfield 702, 3) := by decide +kernel
theorem dX10_certificate_294 : decode cX10_certificate 294 = .ok (.aload 6, 2) := by decide +kernel
theorem dX10_certificate_296 : decode cX10_certificate 296 = .ok (.invokevirtual 197, 3) := by decide +kernel
theorem dX10_certificate_299 : decode cX10_certificate 299 = .ok (.aload_n 0, 1) := by decide +kernel
theorem dX10_certificate_300 : decode cX10_certificate 300 = .ok (.aload_n 2, 1) := by decide +kernel
theorem dX10_certificate_301 : decode cX10_certificate 301 = .ok (.aload 14, 2) := by decide +kernel
theorem dX10_certificate_303 : decode cX10_certificate 303 = .ok (.aload 10, 2) := by decide +kernel
theorem dX10_certificate_305 : decode cX10_certificate 305 = .ok (.invokevirtual 178, 3) := by decide +kernel
theorem dX10_certificate_308 : decode cX10_certificate 308 = .ok (.aload_n 0, 1) := by decide +kernel
theorem dX10_certificate_309 : decode cX10_certificate 309 = .ok (.aload_n 1, 1) := by decide +kernel
theorem dX10_certificate_310 : decode cX10_certificate 310 = .ok (.aload_n 2, 1) := by decide +kernel
theorem dX10_certificate_311 : decode cX10_certificate 311 = .ok (.invokevirtual 659, 3) := by decide +kernel
theorem dX10_certificate_314 : decode cX10_certificate 314 = .ok (.aload_n 1, 1) := by decide +kernel
theorem dX10_certificate_315 : decode cX10_certificate 315 = .ok (.invokestatic 249, 3) := by decide +kernel
theorem dX10_certificate_318 : decode cX10_certificate 318 = .ok (.ifCond .eq 14, 3) := by decide +kernel
theorem dX10_certificate_321 : decode cX10_certificate 321 = .ok (.aload_n 2, 1) := by decide +kernel
theorem dX10_certificate_322 : decode cX10_certificate 322 = .ok (.invokestatic 249, 3) := by decide +kernel
theorem dX10_certificate_325 : decode cX10_certificate 325 = .ok (.ifCond .eq 7, 3) := by decide +kernel
theorem dX10_certificate_328 : decode cX10_certificate 328 = .ok (.iconst 1, 1) := by decide +kernel
theorem dX10_certificate_329 : decode cX10_certificate 329 = .ok (.goto 4, 3) := by decide +kernel
theorem dX10_certificate_332 : decode cX10_certificate 332 = .ok (.iconst 0, 1) := by decide +kernel
theorem dX10_certificate_333 : decode cX10_certificate 333 = .ok (.ireturn, 1) := by decide +kernel
theorem dX10_recur_0 : decode cX10_recur 0 = .ok (.iload_n 1, 1) := by decide +kernel
theorem dX10_recur_1 : decode cX10_recur 1 = .ok (.invokestatic 551, 3) := by decide +kernel
theorem dX10_recur_4 : decode cX10_recur 4 = .ok (.ifCond .eq 10, 3) := by decide +kernel
theorem dX10_recur_7 : decode cX10_recur 7 = .ok (.iload_n 3, 1) := by decide +kernel
theorem dX10_recur_8 : decode cX10_recur 8 = .ok (.invokestatic 551, 3) := by decide +kernel
theorem dX10_recur_11 : decode cX10_recur 11 = .ok (.ifCond .ne 5, 3) := by decide +kernel
theorem dX10_recur_14 : decode cX10_recur 14 = .ok (.iconst (-1), 1) := by decide +kernel
theorem dX10_recur_15 : decode cX10_recur 15 = .ok (.ireturn, 1) := by decide +kernel
theorem dX10_recur_16 : decode cX10_recur 16 = .ok (.aload_n 0, 1) := by decide +kernel
theorem dX10_recur_17 : decode cX10_recur 17 = .ok (.getfield 450, 3) := by decide +kernel
theorem dX10_recur_20 : decode cX10_recur 20 = .ok (.iload_n 1, 1) := by decide +kernel
theorem dX10_recur_21 : decode cX10_recur 21 = .ok (.aaload, 1) := by decide +kernel
theorem dX10_recur_22 : decode cX10_recur 22 = .ok (.astore 4, 2) := by decide +kernel
theorem dX10_recur_24 : decode cX10_recur 24 = .ok (.aload 4, 2) := by decide +kernel
theorem dX10_recur_26 : decode cX10_recur 26 = .ok (.getfield 202, 3) := by decide +kernel
theorem dX10_recur_29 : decode cX10_recur 29 = .ok (.iconst 1, 1) := by decide +kernel
theorem dX10_recur_30 : decode cX10_recur 30 = .ok (.if_icmp .eq 15, 3) := by decide +kernel
theorem dX10_recur_33 : decode cX10_recur 33 = .ok (.aload 4, 2) := by decide +kernel
theorem dX10_recur_35 : decode cX10_recur 35 = .ok (.getfield 202, 3) := by decide +kernel
theorem dX10_recur_38 : decode cX10_recur 38 = .ok (.iconst 2, 1) := by decide +kernel
theorem dX10_recur_39 : decode cX10_recur 39 = .ok (.if_icmp .eq 6, 3) := by decide +kernel
theorem dX10_recur_42 : decode cX10_recur 42 = .ok (.bipush (-3), 2) := by decide +kernel
theorem dX10_recur_44 : decode cX10_recur 44 = .ok (.ireturn, 1) := by decide +kernel
theorem dX10_recur_45 : decode cX10_recur 45 = .ok (.iload_n 2, 1) := by decide +kernel
theorem dX10_recur_46 : decode cX10_recur 46 = .ok (.ifCond .lt 16, 3) := by decide +kernel
theorem dX10_recur_49 : decode cX10_recur 49 = .ok (.iload_n 2, 1) := by decide +kernel
theorem dX10_recur_50 : decode cX10_recur 50 = .ok (.iconst 3, 1) := by decide +kernel
theorem dX10_recur_51 : decode cX10_recur 51 = .ok (.if_icmp .gt 11, 3) := by decide +kernel
theorem dX10_recur_54 : decode cX10_recur 54 = .ok (.aload 4, 2) := by decide +kernel
theorem dX10_recur_56 : decode cX10_recur 56 = .ok (.invokestatic 288, 3) := by decide +kernel
theorem dX10_recur_59 : decode cX10_recur 59 = .ok (.ifCond .eq 5, 3) := by decide +kernel
theorem dX10_recur_62 : decode cX10_recur 62 = .ok (.iconst (-1), 1) := by decide +kernel
theorem dX10_recur_63 : decode cX10_recur 63 = .ok (.ireturn, 1) := by decide +kernel
theorem dX10_recur_64 : decode cX10_recur 64 = .ok (.aload_n 0, 1) := by decide +kernel
theorem dX10_recur_65 : decode cX10_recur 65 = .ok (.invokevirtual 555, 3) := by decide +kernel
theorem dX10_recur_68 : decode cX10_recur 68 = .ok (.aload_n 0, 1) := by decide +kernel
theorem dX10_recur_69 : decode cX10_recur 69 = .ok (.invokevirtual 140, 3) := by decide +kernel
theorem dX10_recur_72 : decode cX10_recur 72 = .ok (.astore 5, 2) := by decide +kernel
theorem dX10_recur_74 : decode cX10_recur 74 = .ok (.aload_n 0, 1) := by decide +kernel
theorem dX10_recur_75 : decode cX10_recur 75 = .ok (.invokevirtual 140, 3) := by decide +kernel
theorem dX10_recur_78 : decode cX10_recur 78 = .ok (.astore 6, 2) := by decide +kernel
theorem dX10_recur_80 : decode cX10_recur 80 = .ok (.iconst 0, 1) := by decide +kernel
theorem dX10_recur_81 : decode cX10_recur 81 = .ok (.istore 7, 2) := by decide +kernel
theorem dX10_recur_83 : decode cX10_recur 83 = .ok (.iload 7, 2) := by decide +kernel
theorem dX10_recur_85 : decode cX10_recur 85 = .ok (.iload_n 2, 1) := by decide +kernel
theorem dX10_recur_86 : decode cX10_recur 86 = .ok (.if_icmp .gt 52, 3) := by decide +kernel
theorem dX10_recur_89 : decode cX10_recur 89 = .ok (.aload_n 0, 1) := by decide +kernel
theorem dX10_recur_90 : decode cX10_recur 90 = .ok (.aload 5, 2) := by decide +kernel
theorem dX10_recur_92 : decode cX10_recur 92 = .ok (.aload 6, 2) := by decide +kernel
theorem dX10_recur_94 : decode cX10_recur 94 = .ok (.aload 4, 2) := by decide +kernel
theorem dX10_recur_96 : decode cX10_recur 96 = .ok (.iload 7, 2) := by decide +kernel
theorem dX10_recur_98 : decode cX10_recur 98 = .ok (.iconst 0, 1) := by decide +kernel
theorem dX10_recur_99 : decode cX10_recur 99 = .ok (.invokevirtual 633, 3) := by decide +kernel
theorem dX10_recur_102 : decode cX10_recur 102 = .ok (.ifCond .ne 6, 3) := by decide +kernel
theorem dX10_recur_105 : decode cX10_recur 105 = .ok (.bipush (-2), 2) := by decide +kernel
theorem dX10_recur_107 : decode cX10_recur 107 = .ok (.ireturn, 1) := by decide +kernel
theorem dX10_recur_108 : decode cX10_recur 108 = .ok (.aload_n 0, 1) := by decide +kernel
theorem dX10_recur_109 : decode cX10_recur 109 = .ok (.getfield 505, 3) := by decide +kernel
theorem dX10_recur_112 : decode cX10_recur 112 = .ok (.iload 7, 2) := by decide +kernel
theorem dX10_recur_114 : decode cX10_recur 114 = .ok (.aaload, 1) := by decide +kernel
theorem dX10_recur_115 : decode cX10_recur 115 = .ok (.aload 5, 2) := by decide +kernel
theorem dX10_recur_117 : decode cX10_recur 117 = .ok (.invokestatic 253, 3) := by decide +kernel
theorem dX10_recur_120 : decode cX10_recur 120 = .ok (.aload_n 0, 1) := by decide +kernel
theorem dX10_recur_121 : decode cX10_recur 121 = .ok (.getfield 508, 3) := by decide +kernel
theorem dX10_recur_124 : decode cX10_recur 124 = .ok (.iload 7, 2) := by decide +kernel
theorem dX10_recur_126 : decode cX10_recur 126 = .ok (.aaload, 1) := by decide +kernel
theorem dX10_recur_127 : decode cX10_recur 127 = .ok (.aload 6, 2) := by decide +kernel
theorem dX10_recur_129 : decode cX10_recur 129 = .ok (.invokestatic 253, 3) := by decide +kernel
theorem dX10_recur_132 : decode cX10_recur 132 = .ok (.iinc 7 1, 3) := by decide +kernel
theorem dX10_recur_135 : decode cX10_recur 135 = .ok (.goto (-52), 3) := by decide +kernel
theorem dX10_recur_138 : decode cX10_recur 138 = .ok (.aload_n 0, 1) := by decide +kernel
theorem dX10_recur_139 : decode cX10_recur 139 = .ok (.invokevirtual 140, 3) := by decide +kernel
theorem dX10_recur_142 : decode cX10_recur 142 = .ok (.astore 7, 2) := by decide +kernel
theorem dX10_recur_144 : decode cX10_recur 144 = .ok (.aload_n 0, 1) := by decide +kernel
theorem dX10_recur_145 : decode cX10_recur 145 = .ok (.invokevirtual 140, 3) := by decide +kernel
theorem dX10_recur_148 : decode cX10_recur 148 = .ok (.astore 8, 2) := by decide +kernel
theorem dX10_recur_150 : decode cX10_recur 150 = .ok (.aload_n 0, 1) := by decide +kernel
theorem dX10_recur_151 : decode cX10_recur 151 = .ok (.aload 7, 2) := by decide +kernel
theorem dX10_recur_153 : decode cX10_recur 153 = .ok (.aload 8, 2) := by decide +kernel
theorem dX10_recur_155 : decode cX10_recur 155 = .ok (.aload 4, 2) := by decide +kernel
theorem dX10_recur_157 : decode cX10_recur 157 = .ok (.iconst 0, 1) := by decide +kernel
theorem dX10_recur_158 : decode cX10_recur 158 = .ok (.iconst 1, 1) := by decide +kernel
theorem dX10_recur_159 : decode cX10_recur 159 = .ok (.invokevirtual 633, 3) := by decide +kernel
theorem dX10_recur_162 : decode cX10_recur 162 = .ok (.ifCond .ne 6, 3) := by decide +kernel
theorem dX10_recur_165 : decode cX10_recur 165 = .ok (.bipush (-2), 2) := by decide +kernel
theorem dX10_recur_167 : decode cX10_recur 167 = .ok (.ireturn, 1) := by decide +kernel
theorem dX10_recur_168 : decode cX10_recur 168 = .ok (.aload_n 0, 1) := by decide +kernel
theorem dX10_recur_169 : decode cX10_recur 169 = .ok (.invokevirtual 140, 3) := by decide +kernel
theorem dX10_recur_172 : decode cX10_recur 172 = .ok (.astore 9, 2) := by decide +kernel
theorem dX10_recur_174 : decode cX10_recur 174 = .ok (.aload 9, 2) := by decide +kernel
theorem dX10_recur_176 : decode cX10_recur 176 = .ok (.iconst 1, 1) := by decide +kernel
theorem dX10_recur_177 : decode cX10_recur 177 = .ok (.invokevirtual 158, 3) := by decide +kernel
theorem dX10_recur_180 : decode cX10_recur 180 = .ok (.aload_n 0, 1) := by decide +kernel
theorem dX10_recur_181 : decode cX10_recur 181 = .ok (.getfield 90, 3) := by decide +kernel
theorem dX10_recur_184 : decode cX10_recur 184 = .ok (.istore 10, 2) := by decide +kernel
theorem dX10_recur_186 : decode cX10_recur 186 = .ok (.aload_n 0, 1) := by decide +kernel
theorem dX10_recur_187 : decode cX10_recur 187 = .ok (.getfield 21, 3) := by decide +kernel
theorem dX10_recur_190 : decode cX10_recur 190 = .ok (.istore 11, 2) := by decide +kernel
theorem dX10_recur_192 : decode cX10_recur 192 = .ok (.iconst 0, 1) := by decide +kernel
theorem dX10_recur_193 : decode cX10_recur 193 = .ok (.istore 12, 2) := by decide +kernel
theorem dX10_recur_195 : decode cX10_recur 195 = .ok (.iload 12, 2) := by decide +kernel
theorem dX10_recur_197 : decode cX10_recur 197 = .ok (.iload_n 2, 1) := by decide +kernel
theorem dX10_recur_198 : decode cX10_recur 198 = .ok (.if_icmp .gt 59, 3) := by decide +kernel
theorem dX10_recur_201 : decode cX10_recur 201 = .ok (.aload_n 0, 1) := by decide +kernel
theorem dX10_recur_202 : decode cX10_recur 202 = .ok (.iload 10, 2) := by decide +kernel
theorem dX10_recur_204 : decode cX10_recur 204 = .ok (.putfield 90, 3) := by decide +kernel
theorem dX10_recur_207 : decode cX10_recur 207 = .ok (.aload_n 0, 1) := by decide +kernel
theorem dX10_recur_208 : decode cX10_recur 208 = .ok (.iload 11, 2) := by decide +kernel
theorem dX10_recur_210 : decode cX10_recur 210 = .ok (.putfield 21, 3) := by decide +kernel
theorem dX10_recur_213 : decode cX10_recur 213 = .ok (.aload_n 0, 1) := by decide +kernel
theorem dX10_recur_214 : decode cX10_recur 214 = .ok (.iload 12, 2) := by decide +kernel
theorem dX10_recur_216 : decode cX10_recur 216 = .ok (.aload 9, 2) := by decide +kernel
theorem dX10_recur_218 : decode cX10_recur 218 = .ok (.aload 7, 2) := by decide +kernel
theorem dX10_recur_220 : decode cX10_recur 220 = .ok (.aload 8, 2) := by decide +kernel
theorem dX10_recur_222 : decode cX10_recur 222 = .ok (.invokevirtual 747, 3) := by decide +kernel
theorem dX10_recur_225 : decode cX10_recur 225 = .ok (.istore 13, 2) := by decide +kernel
theorem dX10_recur_227 : decode cX10_recur 227 = .ok (.iload 13, 2) := by decide +kernel
theorem dX10_recur_229 : decode cX10_recur 229 = .ok (.iconst (-1), 1) := by decide +kernel
theorem dX10_recur_230 : decode cX10_recur 230 = .ok (.if_icmp .eq 21, 3) := by decide +kernel
theorem dX10_recur_233 : decode cX10_recur 233 = .ok (.iload 13, 2) := by decide +kernel
theorem dX10_recur_235 : decode cX10_recur 235 = .ok (.bipush (-2), 2) := by decide +kernel
theorem dX10_recur_237 : decode cX10_recur 237 = .ok (.if_icmp .ne 8, 3) := by decide +kernel
theorem dX10_recur_240 : decode cX10_recur 240 = .ok (.bipush (-2), 2) := by decide +kernel
theorem dX10_recur_242 : decode cX10_recur 242 = .ok (.goto 8, 3) := by decide +kernel
theorem dX10_recur_245 : decode cX10_recur 245 = .ok (.aload_n 0, 1) := by decide +kernel
theorem dX10_recur_246 : decode cX10_recur 246 = .ok (.iload_n 3, 1) := by decide +kernel
theorem dX10_recur_247 : decode cX10_recur 247 = .ok (.invokevirtual 751, 3) := by decide +kernel
theorem dX10_recur_250 : decode cX10_recur 250 = .ok (.ireturn, 1) := by decide +kernel
theorem dX10_recur_251 : decode cX10_recur 251 = .ok (.iinc 12 1, 3) := by decide +kernel
theorem dX10_recur_254 : decode cX10_recur 254 = .ok (.goto (-59), 3) := by decide +kernel
theorem dX10_recur_257 : decode cX10_recur 257 = .ok (.iconst (-1), 1) := by decide +kernel
theorem dX10_recur_258 : decode cX10_recur 258 = .ok (.ireturn, 1) := by decide +kernel
theorem dX10_recurAt_0 : decode cX10_recurAt 0 = .ok (.aload_n 0, 1) := by decide +kernel
theorem dX10_recurAt_1 : decode cX10_recurAt 1 = .ok (.invokevirtual 140, 3) := by decide +kernel
theorem dX10_recurAt_4 : decode cX10_recurAt 4 = .ok (.astore 5, 2) := by decide +kernel
theorem dX10_recurAt_6 : decode cX10_recurAt 6 = .ok (.aload_n 0, 1) := by decide +kernel
theorem dX10_recurAt_7 : decode cX10_recurAt 7 = .ok (.invokevirtual 140, 3) := by decide +kernel
theorem dX10_recurAt_10 : decode cX10_recurAt 10 = .ok (.astore 6, 2) := by decide +kernel
theorem dX10_recurAt_12 : decode cX10_recurAt 12 = .ok (.aload_n 0, 1) := by decide +kernel
theorem dX10_recurAt_13 : decode cX10_recurAt 13 = .ok (.invokevirtual 140, 3) := by decide +kernel
theorem dX10_recurAt_16 : decode cX10_recurAt 16 = .ok (.astore 7, 2) := by decide +kernel
theorem dX10_recurAt_18 : decode cX10_recurAt 18 = .ok (.aload_n 0, 1) := by decide +kernel
theorem dX10_recurAt_19 : decode cX10_recurAt 19 = .ok (.invokevirtual 74, 3) := by decide +kernel
theorem dX10_recurAt_22 : decode cX10_recurAt 22 = .ok (.astore 8, 2) := by decide +kernel
theorem dX10_recurAt_24 : decode cX10_recurAt 24 = .ok (.aload 5, 2) := by decide +kernel
theorem dX10_recurAt_26 : decode cX10_recurAt 26 = .ok (.aload_n 0, 1) := by decide +kernel
theorem dX10_recurAt_27 : decode cX10_recurAt 27 = .ok (.getfield 508, 3) := by decide +kernel
theorem dX10_recurAt_30 : decode cX10_recurAt 30 = .ok (.iload_n 1, 1) := by decide +kernel
theorem dX10_recurAt_31 : decode cX10_recurAt 31 = .ok (.aaload, 1) := by decide +kernel
theorem dX10_recurAt_32 : decode cX10_recurAt 32 = .ok (.invokestatic 295, 3) := by decide +kernel
theorem dX10_recurAt_35 : decode cX10_recurAt 35 = .ok (.aload_n 0, 1) := by decide +kernel
theorem dX10_recurAt_36 : decode cX10_recurAt 36 = .ok (.aload 5, 2) := by decide +kernel
theorem dX10_recurAt_38 : decode cX10_recurAt 38 = .ok (.aload 5, 2) := by decide +kernel
theorem dX10_recurAt_40 : decode cX10_recurAt 40 = .ok (.aload 8, 2) := by decide +kernel
theorem dX10_recurAt_42 : decode cX10_recurAt 42 = .ok (.invokevirtual 167, 3) := by decide +kernel
theorem dX10_recurAt_45 : decode cX10_recurAt 45 = .ok (.aload 5, 2) := by decide +kernel
theorem dX10_recurAt_47 : decode cX10_recurAt 47 = .ok (.getfield 93, 3) := by decide +kernel
theorem dX10_recurAt_50 : decode cX10_recurAt 50 = .ok (.iconst 1, 1) := by decide +kernel
theorem dX10_recurAt_51 : decode cX10_recurAt 51 = .ok (.if_icmp .le 39, 3) := by decide +kernel
theorem dX10_recurAt_54 : decode cX10_recurAt 54 = .ok (.aload_n 2, 1) := by decide +kernel
theorem dX10_recurAt_55 : decode cX10_recurAt 55 = .ok (.getfield 93, 3) := by decide +kernel
theorem dX10_recurAt_58 : decode cX10_recurAt 58 = .ok (.iconst 1, 1) := by decide +kernel
theorem dX10_recurAt_59 : decode cX10_recurAt 59 = .ok (.if_icmp .le 31, 3) := by decide +kernel
theorem dX10_recurAt_62 : decode cX10_recurAt 62 = .ok (.aload_n 0, 1) := by decide +kernel
theorem dX10_recurAt_63 : decode cX10_recurAt 63 = .ok (.aload 6, 2) := by decide +kernel
theorem dX10_recurAt_65 : decode cX10_recurAt 65 = .ok (.aload_n 2, 1) := by decide +kernel
theorem dX10_recurAt_66 : decode cX10_recurAt 66 = .ok (.aload 5, 2) := by decide +kernel
theorem dX10_recurAt_68 : decode cX10_recurAt 68 = .ok (.invokevirtual 174, 3) := by decide +kernel
theorem dX10_recurAt_71 : decode cX10_recurAt 71 = .ok (.aload_n 0, 1) := by decide +kernel
theorem dX10_recurAt_72 : decode cX10_recurAt 72 = .ok (.aload 7, 2) := by decide +kernel
theorem dX10_recurAt_74 : decode cX10_recurAt 74 = .ok (.aload 5, 2) := by decide +kernel
theorem dX10_recurAt_76 : decode cX10_recurAt 76 = .ok (.aload 6, 2) := by decide +kernel
theorem dX10_recurAt_78 : decode cX10_recurAt 78 = .ok (.invokevirtual 170, 3) := by decide +kernel
theorem dX10_recurAt_81 : decode cX10_recurAt 81 = .ok (.istore 9, 2) := by decide +kernel
theorem dX10_recurAt_83 : decode cX10_recurAt 83 = .ok (.aload 5, 2) := by decide +kernel
theorem dX10_recurAt_85 : decode cX10_recurAt 85 = .ok (.aload 7, 2) := by decide +kernel
theorem dX10_recurAt_87 : decode cX10_recurAt 87 = .ok (.invokestatic 113, 3) := by decide +kernel
theorem dX10_recurAt_90 : decode cX10_recurAt 90 = .ok (.aload_n 0, 1) := by decide +kernel
theorem dX10_recurAt_91 : decode cX10_recurAt 91 = .ok (.aload 7, 2) := by decide +kernel
theorem dX10_recurAt_93 : decode cX10_recurAt 93 = .ok (.aload_n 2, 1) := by decide +kernel
theorem dX10_recurAt_94 : decode cX10_recurAt 94 = .ok (.aload 5, 2) := by decide +kernel
theorem dX10_recurAt_96 : decode cX10_recurAt 96 = .ok (.invokevirtual 197, 3) := by decide +kernel
theorem dX10_recurAt_99 : decode cX10_recurAt 99 = .ok (.aload_n 2, 1) := by decide +kernel
theorem dX10_recurAt_100 : decode cX10_recurAt 100 = .ok (.aload 7, 2) := by decide +kernel
theorem dX10_recurAt_102 : decode cX10_recurAt 102 = .ok (.invokestatic 113, 3) := by decide +kernel
theorem dX10_recurAt_105 : decode cX10_recurAt 105 = .ok (.aload_n 2, 1) := by decide +kernel
theorem dX10_recurAt_106 : decode cX10_recurAt 106 = .ok (.getfield 93, 3) := by decide +kernel
theorem dX10_recurAt_109 : decode cX10_recurAt 109 = .ok (.bipush 9, 2) := by decide +kernel
theorem dX10_recurAt_111 : decode cX10_recurAt 111 = .ok (.if_icmp .gt 12, 3) := by decide +kernel
theorem dX10_recurAt_114 : decode cX10_recurAt 114 = .ok (.aload_n 2, 1) := by decide +kernel
theorem dX10_recurAt_115 : decode cX10_recurAt 115 = .ok (.invokevirtual 119, 3) := by decide +kernel
theorem dX10_recurAt_118 : decode cX10_recurAt 118 = .ok (.bipush 12, 2) := by decide +kernel
theorem dX10_recurAt_120 : decode cX10_recurAt 120 = .ok (.if_icmp .le 6, 3) := by decide +kernel
theorem dX10_recurAt_123 : decode cX10_recurAt 123 = .ok (.bipush (-2), 2) := by decide +kernel
theorem dX10_recurAt_125 : decode cX10_recurAt 125 = .ok (.ireturn, 1) := by decide +kernel
theorem dX10_recurAt_126 : decode cX10_recurAt 126 = .ok (.iconst 0, 1) := by decide +kernel
theorem dX10_recurAt_127 : decode cX10_recurAt 127 = .ok (.istore 9, 2) := by decide +kernel
theorem dX10_recurAt_129 : decode cX10_recurAt 129 = .ok (.iconst 0, 1) := by decide +kernel
theorem dX10_recurAt_130 : decode cX10_recurAt 130 = .ok (.istore 10, 2) := by decide +kernel
theorem dX10_recurAt_132 : decode cX10_recurAt 132 = .ok (.iload 10, 2) := by decide +kernel
theorem dX10_recurAt_134 : decode cX10_recurAt 134 = .ok (.iload_n 1, 1) := by decide +kernel
theorem dX10_recurAt_135 : decode cX10_recurAt 135 = .ok (.if_icmp .gt 75, 3) := by decide +kernel
theorem dX10_recurAt_138 : decode cX10_recurAt 138 = .ok (.aload_n 0, 1) := by decide +kernel
theorem dX10_recurAt_139 : decode cX10_recurAt 139 = .ok (.getfield 499, 3) := by decide +kernel
theorem dX10_recurAt_142 : decode cX10_recurAt 142 = .ok (.iload 10, 2) := by decide +kernel
theorem dX10_recurAt_144 : decode cX10_recurAt 144 = .ok (.aload_n 0, 1) := by decide +kernel
theorem dX10_recurAt_145 : decode cX10_recurAt 145 = .ok (.invokevirtual 140, 3) := by decide +kernel
theorem dX10_recurAt_148 : decode cX10_recurAt 148 = .ok (.aastore, 1) := by decide +kernel
theorem dX10_recurAt_149 : decode cX10_recurAt 149 = .ok (.aload_n 0, 1) := by decide +kernel
theorem dX10_recurAt_150 : decode cX10_recurAt 150 = .ok (.getfield 502, 3) := by decide +kernel
theorem dX10_recurAt_153 : decode cX10_recurAt 153 = .ok (.iload 10, 2) := by decide +kernel
theorem dX10_recurAt_155 : decode cX10_recurAt 155 = .ok (.aload_n 0, 1) := by decide +kernel
theorem dX10_recurAt_156 : decode cX10_recurAt 156 = .ok (.invokevirtual 74, 3) := by decide +kernel
theorem dX10_recurAt_159 : decode cX10_recurAt 159 = .ok (.aastore, 1) := by decide +kernel
theorem dX10_recurAt_160 : decode cX10_recurAt 160 = .ok (.aload_n 0, 1) := by decide +kernel
theorem dX10_recurAt_161 : decode cX10_recurAt 161 = .ok (.aload_n 0, 1) := by decide +kernel
theorem dX10_recurAt_162 : decode cX10_recurAt 162 = .ok (.getfield 499, 3) := by decide +kernel
theorem dX10_recurAt_165 : decode cX10_recurAt 165 = .ok (.iload 10, 2) := by decide +kernel
theorem dX10_recurAt_167 : decode cX10_recurAt 167 = .ok (.aaload, 1) := by decide +kernel
theorem dX10_recurAt_168 : decode cX10_recurAt 168 = .ok (.aload_n 0, 1) := by decide +kernel
theorem dX10_recurAt_169 : decode cX10_recurAt 169 = .ok (.getfield 502, 3) := by decide +kernel
theorem dX10_recurAt_172 : decode cX10_recurAt 172 = .ok (.iload 10, 2) := by decide +kernel
theorem dX10_recurAt_174 : decode cX10_recurAt 174 = .ok (.aaload, 1) := by decide +kernel
theorem dX10_recurAt_175 : decode cX10_recurAt 175 = .ok (.iload 10, 2) := by decide +kernel
theorem dX10_recurAt_177 : decode cX10_recurAt 177 = .ok (.aload_n 2, 1) := by decide +kernel
theorem dX10_recurAt_178 : decode cX10_recurAt 178 = .ok (.invokevirtual 754, 3) := by decide +kernel
theorem dX10_recurAt_181 : decode cX10_recurAt 181 = .ok (.ifCond .ne 6, 3) := by decide +kernel
theorem dX10_recurAt_184 : decode cX10_recurAt 184 = .ok (.bipush (-2), 2) := by decide +kernel
theorem dX10_recurAt_186 : decode cX10_recurAt 186 = .ok (.ireturn, 1) := by decide +kernel
theorem dX10_recurAt_187 : decode cX10_recurAt 187 = .ok (.iload 9, 2) := by decide +kernel
theorem dX10_recurAt_189 : decode cX10_recurAt 189 = .ok (.aload_n 0, 1) := by decide +kernel
theorem dX10_recurAt_190 : decode cX10_recurAt 190 = .ok (.getfield 499, 3) := by decide +kernel
theorem dX10_recurAt_193 : decode cX10_recurAt 193 = .ok (.iload 10, 2) := by decide +kernel
theorem dX10_recurAt_195 : decode cX10_recurAt 195 = .ok (.aaload, 1) := by decide +kernel
theorem dX10_recurAt_196 : decode cX10_recurAt 196 = .ok (.invokevirtual 314, 3) := by decide +kernel
theorem dX10_recurAt_199 : decode cX10_recurAt 199 = .ok (.invokestatic 40, 3) := by decide +kernel
theorem dX10_recurAt_202 : decode cX10_recurAt 202 = .ok (.istore 9, 2) := by decide +kernel
theorem dX10_recurAt_204 : decode cX10_recurAt 204 = .ok (.iinc 10 1, 3) := by decide +kernel
theorem dX10_recurAt_207 : decode cX10_recurAt 207 = .ok (.goto (-75), 3) := by decide +kernel
theorem dX10_recurAt_210 : decode cX10_recurAt 210 = .ok (.aload_n 0, 1) := by decide +kernel
theorem dX10_recurAt_211 : decode cX10_recurAt 211 = .ok (.aload 5, 2) := by decide +kernel
theorem dX10_recurAt_213 : decode cX10_recurAt 213 = .ok (.aload_n 3, 1) := by decide +kernel
theorem dX10_recurAt_214 : decode cX10_recurAt 214 = .ok (.aload_n 2, 1) := by decide +kernel
theorem dX10_recurAt_215 : decode cX10_recurAt 215 = .ok (.invokevirtual 197, 3) := by decide +kernel
theorem dX10_recurAt_218 : decode cX10_recurAt 218 = .ok (.aload 7, 2) := by decide +kernel
theorem dX10_recurAt_220 : decode cX10_recurAt 220 = .ok (.aload_n 2, 1) := by decide +kernel
theorem dX10_recurAt_221 : decode cX10_recurAt 221 = .ok (.iconst 1, 1) := by decide +kernel
theorem dX10_recurAt_222 : decode cX10_recurAt 222 = .ok (.invokestatic 626, 3) := by decide +kernel
theorem dX10_recurAt_225 : decode cX10_recurAt 225 = .ok (.aload_n 0, 1) := by decide +kernel
theorem dX10_recurAt_226 : decode cX10_recurAt 226 = .ok (.aload 6, 2) := by decide +kernel
theorem dX10_recurAt_228 : decode cX10_recurAt 228 = .ok (.aload 4, 2) := by decide +kernel
theorem dX10_recurAt_230 : decode cX10_recurAt 230 = .ok (.aload 7, 2) := by decide +kernel
theorem dX10_recurAt_232 : decode cX10_recurAt 232 = .ok (.invokevirtual 197, 3) := by decide +kernel
theorem dX10_recurAt_235 : decode cX10_recurAt 235 = .ok (.aload_n 0, 1) := by decide +kernel
theorem dX10_recurAt_236 : decode cX10_recurAt 236 = .ok (.aload 5, 2) := by decide +kernel
theorem dX10_recurAt_238 : decode cX10_recurAt 238 = .ok (.aload 6, 2) := by decide +kernel
theorem dX10_recurAt_240 : decode cX10_recurAt 240 = .ok (.invokevirtual 659, 3) := by decide +kernel
theorem dX10_recurAt_243 : decode cX10_recurAt 243 = .ok (.aload_n 0, 1) := by decide +kernel
theorem dX10_recurAt_244 : decode cX10_recurAt 244 = .ok (.aload 5, 2) := by decide +kernel
theorem dX10_recurAt_246 : decode cX10_recurAt 246 = .ok (.aload 6, 2) := by decide +kernel
theorem dX10_recurAt_248 : decode cX10_recurAt 248 = .ok (.invokevirtual 712, 3) := by decide +kernel
theorem dX10_recurAt_251 : decode cX10_recurAt 251 = .ok (.ifCond .ne 6, 3) := by decide +kernel
theorem dX10_recurAt_254 : decode cX10_recurAt 254 = .ok (.bipush (-2), 2) := by decide +kernel
theorem dX10_recurAt_256 : decode cX10_recurAt 256 = .ok (.ireturn, 1) := by decide +kernel
theorem dX10_recurAt_257 : decode cX10_recurAt 257 = .ok (.aload_n 0, 1) := by decide +kernel
theorem dX10_recurAt_258 : decode cX10_recurAt 258 = .ok (.aload_n 0, 1) := by decide +kernel
theorem dX10_recurAt_259 : decode cX10_recurAt 259 = .ok (.getfield 702, 3) := by decide +kernel
theorem dX10_recurAt_262 : decode cX10_recurAt 262 = .ok (.invokevirtual 314, 3) := by decide +kernel
theorem dX10_recurAt_265 : decode cX10_recurAt 265 = .ok (.iload 9, 2) := by decide +kernel
theorem dX10_recurAt_267 : decode cX10_recurAt 267 = .ok (.iadd, 1) := by decide +kernel
theorem dX10_recurAt_268 : decode cX10_recurAt 268 = .ok (.invokevirtual 728, 3) := by decide +kernel
theorem dX10_recurAt_271 : decode cX10_recurAt 271 = .ok (.istore 10, 2) := by decide +kernel
theorem dX10_recurAt_273 : decode cX10_recurAt 273 = .ok (.iload 10, 2) := by decide +kernel
theorem dX10_recurAt_275 : decode cX10_recurAt 275 = .ok (.bipush 8, 2) := by decide +kernel
theorem dX10_recurAt_277 : decode cX10_recurAt 277 = .ok (.if_icmp .le 6, 3) := by decide +kernel
theorem dX10_recurAt_280 : decode cX10_recurAt 280 = .ok (.bipush (-2), 2) := by decide +kernel
theorem dX10_recurAt_282 : decode cX10_recurAt 282 = .ok (.ireturn, 1) := by decide +kernel
theorem dX10_recurAt_283 : decode cX10_recurAt 283 = .ok (.aload_n 0, 1) := by decide +kernel
theorem dX10_recurAt_284 : decode cX10_recurAt 284 = .ok (.iload 10, 2) := by decide +kernel
theorem dX10_recurAt_286 : decode cX10_recurAt 286 = .ok (.aload_n 0, 1) := by decide +kernel
theorem dX10_recurAt_287 : decode cX10_recurAt 287 = .ok (.getfield 499, 3) := by decide +kernel
theorem dX10_recurAt_290 : decode cX10_recurAt 290 = .ok (.iload_n 1, 1) := by decide +kernel
theorem dX10_recurAt_291 : decode cX10_recurAt 291 = .ok (.iconst 1, 1) := by decide +kernel
theorem dX10_recurAt_292 : decode cX10_recurAt 292 = .ok (.iadd, 1) := by decide +kernel
theorem dX10_recurAt_293 : decode cX10_recurAt 293 = .ok (.invokevirtual 731, 3) := by decide +kernel
theorem dX10_recurAt_296 : decode cX10_recurAt 296 = .ok (.istore 11, 2) := by decide +kernel
theorem dX10_recurAt_298 : decode cX10_recurAt 298 = .ok (.aload_n 0, 1) := by decide +kernel
theorem dX10_recurAt_299 : decode cX10_recurAt 299 = .ok (.iload 11, 2) := by decide +kernel
theorem dX10_recurAt_301 : decode cX10_recurAt 301 = .ok (.invokevirtual 735, 3) := by decide +kernel
theorem dX10_recurAt_304 : decode cX10_recurAt 304 = .ok (.astore 12, 2) := by decide +kernel
theorem dX10_recurAt_306 : decode cX10_recurAt 306 = .ok (.iconst 0, 1) := by decide +kernel
theorem dX10_recurAt_307 : decode cX10_recurAt 307 = .ok (.iload 10, 2) := by decide +kernel
theorem dX10_recurAt_309 : decode cX10_recurAt 309 = .ok (.iconst 1, 1) := by decide +kernel
theorem dX10_recurAt_310 : decode cX10_recurAt 310 = .ok (.iadd, 1) := by decide +kernel
theorem dX10_recurAt_311 : decode cX10_recurAt 311 = .ok (.invokestatic 40, 3) := by decide +kernel
theorem dX10_recurAt_314 : decode cX10_recurAt 314 = .ok (.istore 13, 2) := by decide +kernel
theorem dX10_recurAt_316 : decode cX10_recurAt 316 = .ok (.iload 13, 2) := by decide +kernel
theorem dX10_recurAt_318 : decode cX10_recurAt 318 = .ok (.istore 14, 2) := by decide +kernel
theorem dX10_recurAt_320 : decode cX10_recurAt 320 = .ok (.iload 14, 2) := by decide +kernel
theorem dX10_recurAt_322 : decode cX10_recurAt 322 = .ok (.iload 11, 2) := by decide +kernel
theorem dX10_recurAt_324 : decode cX10_recurAt 324 = .ok (.if_icmp .ge 19, 3) := by decide +kernel
theorem dX10_recurAt_327 : decode cX10_recurAt 327 = .ok (.aload_n 0, 1) := by decide +kernel
theorem dX10_recurAt_328 : decode cX10_recurAt 328 = .ok (.getfield 493, 3) := by decide +kernel
theorem dX10_recurAt_331 : decode cX10_recurAt 331 = .ok (.iload 14, 2) := by decide +kernel
theorem dX10_recurAt_333 : decode cX10_recurAt 333 = .ok (.baload, 1) := by decide +kernel
theorem dX10_recurAt_334 : decode cX10_recurAt 334 = .ok (.ifCond .eq 9, 3) := by decide +kernel
theorem dX10_recurAt_337 : decode cX10_recurAt 337 = .ok (.iinc 14 1, 3) := by decide +kernel
theorem dX10_recurAt_340 : decode cX10_recurAt 340 = .ok (.goto (-20), 3) := by decide +kernel
theorem dX10_recurAt_343 : decode cX10_recurAt 343 = .ok (.iload 14, 2) := by decide +kernel
theorem dX10_recurAt_345 : decode cX10_recurAt 345 = .ok (.iload 11, 2) := by decide +kernel
theorem dX10_recurAt_347 : decode cX10_recurAt 347 = .ok (.if_icmp .ne 5, 3) := by decide +kernel
theorem dX10_recurAt_350 : decode cX10_recurAt 350 = .ok (.iconst (-1), 1) := by decide +kernel
theorem dX10_recurAt_351 : decode cX10_recurAt 351 = .ok (.ireturn, 1) := by decide +kernel
theorem dX10_recurAt_352 : decode cX10_recurAt 352 = .ok (.aload_n 0, 1) := by decide +kernel
theorem dX10_recurAt_353 : decode cX10_recurAt 353 = .ok (.iload 14, 2) := by decide +kernel
theorem dX10_recurAt_355 : decode cX10_recurAt 355 = .ok (.iload 11, 2) := by decide +kernel
theorem dX10_recurAt_357 : decode cX10_recurAt 357 = .ok (.aload 12, 2) := by decide +kernel
theorem dX10_recurAt_359 : decode cX10_recurAt 359 = .ok (.invokevirtual 739, 3) := by decide +kernel
theorem dX10_recurAt_362 : decode cX10_recurAt 362 = .ok (.aload_n 0, 1) := by decide +kernel
theorem dX10_recurAt_363 : decode cX10_recurAt 363 = .ok (.iload 13, 2) := by decide +kernel
theorem dX10_recurAt_365 : decode cX10_recurAt 365 = .ok (.iload 14, 2) := by decide +kernel
theorem dX10_recurAt_367 : decode cX10_recurAt 367 = .ok (.iload 13, 2) := by decide +kernel
theorem dX10_recurAt_369 : decode cX10_recurAt 369 = .ok (.isub, 1) := by decide +kernel
theorem dX10_recurAt_370 : decode cX10_recurAt 370 = .ok (.aload_n 2, 1) := by decide +kernel
theorem dX10_recurAt_371 : decode cX10_recurAt 371 = .ok (.invokevirtual 758, 3) := by decide +kernel
theorem dX10_recurAt_374 : decode cX10_recurAt 374 = .ok (.ifCond .eq 7, 3) := by decide +kernel
theorem dX10_recurAt_377 : decode cX10_recurAt 377 = .ok (.iconst 1, 1) := by decide +kernel
theorem dX10_recurAt_378 : decode cX10_recurAt 378 = .ok (.goto 5, 3) := by decide +kernel
theorem dX10_recurAt_381 : decode cX10_recurAt 381 = .ok (.bipush (-2), 2) := by decide +kernel
theorem dX10_recurAt_383 : decode cX10_recurAt 383 = .ok (.ireturn, 1) := by decide +kernel
theorem dX10_part_0 : decode cX10_part 0 = .ok (.aload_n 0, 1) := by decide +kernel
theorem dX10_part_1 : decode cX10_part 1 = .ok (.getfield 90, 3) := by decide +kernel
theorem dX10_part_4 : decode cX10_part 4 = .ok (.istore 5, 2) := by decide +kernel
theorem dX10_part_6 : decode cX10_part 6 = .ok (.aload_n 0, 1) := by decide +kernel
theorem dX10_part_7 : decode cX10_part 7 = .ok (.getfield 21, 3) := by decide +kernel
theorem dX10_part_10 : decode cX10_part 10 = .ok (.istore 6, 2) := by decide +kernel
theorem dX10_part_12 : decode cX10_part 12 = .ok (.aload_n 0, 1) := by decide +kernel
theorem dX10_part_13 : decode cX10_part 13 = .ok (.invokevirtual 140, 3) := by decide +kernel
theorem dX10_part_16 : decode cX10_part 16 = .ok (.astore 7, 2) := by decide +kernel
theorem dX10_part_18 : decode cX10_part 18 = .ok (.aload_n 0, 1) := by decide +kernel
theorem dX10_part_19 : decode cX10_part 19 = .ok (.invokevirtual 140, 3) := by decide +kernel
theorem dX10_part_22 : decode cX10_part 22 = .ok (.astore 8, 2) := by decide +kernel
theorem dX10_part_24 : decode cX10_part 24 = .ok (.aload_n 0, 1) := by decide +kernel
theorem dX10_part_25 : decode cX10_part 25 = .ok (.invokevirtual 140, 3) := by decide +kernel
theorem dX10_part_28 : decode cX10_part 28 = .ok (.astore 9, 2) := by decide +kernel
theorem dX10_part_30 : decode cX10_part 30 = .ok (.aload_n 0, 1) := by decide +kernel
theorem dX10_part_31 : decode cX10_part 31 = .ok (.invokevirtual 74, 3) := by decide +kernel
theorem dX10_part_34 : decode cX10_part 34 = .ok (.astore 10, 2) := by decide +kernel
theorem dX10_part_36 : decode cX10_part 36 = .ok (.aload_n 0, 1) := by decide +kernel
theorem dX10_part_37 : decode cX10_part 37 = .ok (.invokevirtual 74, 3) := by decide +kernel
theorem dX10_part_40 : decode cX10_part 40 = .ok (.astore 11, 2) := by decide +kernel
theorem dX10_part_42 : decode cX10_part 42 = .ok (.aload 7, 2) := by decide +kernel
theorem dX10_part_44 : decode cX10_part 44 = .ok (.aload_n 0, 1) := by decide +kernel
theorem dX10_part_45 : decode cX10_part 45 = .ok (.getfield 505, 3) := by decide +kernel
theorem dX10_part_48 : decode cX10_part 48 = .ok (.iload_n 3, 1) := by decide +kernel
theorem dX10_part_49 : decode cX10_part 49 = .ok (.aaload, 1) := by decide +kernel
theorem dX10_part_50 : decode cX10_part 50 = .ok (.invokestatic 295, 3) := by decide +kernel
theorem dX10_part_53 : decode cX10_part 53 = .ok (.aload 8, 2) := by decide +kernel
theorem dX10_part_55 : decode cX10_part 55 = .ok (.aload_n 0, 1) := by decide +kernel
theorem dX10_part_56 : decode cX10_part 56 = .ok (.getfield 508, 3) := by decide +kernel
theorem dX10_part_59 : decode cX10_part 59 = .ok (.iload_n 3, 1) := by decide +kernel
theorem dX10_part_60 : decode cX10_part 60 = .ok (.aaload, 1) := by decide +kernel
theorem dX10_part_61 : decode cX10_part 61 = .ok (.invokestatic 295, 3) := by decide +kernel
theorem dX10_part_64 : decode cX10_part 64 = .ok (.aload_n 0, 1) := by decide +kernel
theorem dX10_part_65 : decode cX10_part 65 = .ok (.aload 8, 2) := by decide +kernel
theorem dX10_part_67 : decode cX10_part 67 = .ok (.aload 8, 2) := by decide +kernel
theorem dX10_part_69 : decode cX10_part 69 = .ok (.aload 10, 2) := by decide +kernel
theorem dX10_part_71 : decode cX10_part 71 = .ok (.invokevirtual 167, 3) := by decide +kernel
theorem dX10_part_74 : decode cX10_part 74 = .ok (.aload_n 0, 1) := by decide +kernel
theorem dX10_part_75 : decode cX10_part 75 = .ok (.aload 9, 2) := by decide +kernel
theorem dX10_part_77 : decode cX10_part 77 = .ok (.aload 4, 2) := by decide +kernel
theorem dX10_part_79 : decode cX10_part 79 = .ok (.aload 8, 2) := by decide +kernel
theorem dX10_part_81 : decode cX10_part 81 = .ok (.invokevirtual 170, 3) := by decide +kernel
theorem dX10_part_84 : decode cX10_part 84 = .ok (.istore 12, 2) := by decide +kernel
theorem dX10_part_86 : decode cX10_part 86 = .ok (.aload_n 0, 1) := by decide +kernel
theorem dX10_part_87 : decode cX10_part 87 = .ok (.aload_n 1, 1) := by decide +kernel
theorem dX10_part_88 : decode cX10_part 88 = .ok (.aload 7, 2) := by decide +kernel
theorem dX10_part_90 : decode cX10_part 90 = .ok (.aload 9, 2) := by decide +kernel
theorem dX10_part_92 : decode cX10_part 92 = .ok (.invokevirtual 197, 3) := by decide +kernel
theorem dX10_part_95 : decode cX10_part 95 = .ok (.aload_n 2, 1) := by decide +kernel
theorem dX10_part_96 : decode cX10_part 96 = .ok (.aload 10, 2) := by decide +kernel
theorem dX10_part_98 : decode cX10_part 98 = .ok (.aload 4, 2) := by decide +kernel
theorem dX10_part_100 : decode cX10_part 100 = .ok (.invokevirtual 144, 3) := by decide +kernel
theorem dX10_part_103 : decode cX10_part 103 = .ok (.invokestatic 106, 3) := by decide +kernel
theorem dX10_part_106 : decode cX10_part 106 = .ok (.aload_n 0, 1) := by decide +kernel
theorem dX10_part_107 : decode cX10_part 107 = .ok (.aload 11, 2) := by decide +kernel
theorem dX10_part_109 : decode cX10_part 109 = .ok (.aload_n 1, 1) := by decide +kernel
theorem dX10_part_110 : decode cX10_part 110 = .ok (.invokevirtual 128, 3) := by decide +kernel
theorem dX10_part_113 : decode cX10_part 113 = .ok (.aload_n 0, 1) := by decide +kernel
theorem dX10_part_114 : decode cX10_part 114 = .ok (.aload 11, 2) := by decide +kernel
theorem dX10_part_116 : decode cX10_part 116 = .ok (.aload 11, 2) := by decide +kernel
theorem dX10_part_118 : decode cX10_part 118 = .ok (.aload_n 2, 1) := by decide +kernel
theorem dX10_part_119 : decode cX10_part 119 = .ok (.invokevirtual 125, 3) := by decide +kernel
theorem dX10_part_122 : decode cX10_part 122 = .ok (.aload_n 0, 1) := by decide +kernel
theorem dX10_part_123 : decode cX10_part 123 = .ok (.aload_n 1, 1) := by decide +kernel
theorem dX10_part_124 : decode cX10_part 124 = .ok (.aload_n 1, 1) := by decide +kernel
theorem dX10_part_125 : decode cX10_part 125 = .ok (.aload 11, 2) := by decide +kernel
theorem dX10_part_127 : decode cX10_part 127 = .ok (.invokevirtual 132, 3) := by decide +kernel
theorem dX10_part_130 : decode cX10_part 130 = .ok (.aload_n 0, 1) := by decide +kernel
theorem dX10_part_131 : decode cX10_part 131 = .ok (.aload_n 2, 1) := by decide +kernel
theorem dX10_part_132 : decode cX10_part 132 = .ok (.aload_n 2, 1) := by decide +kernel
theorem dX10_part_133 : decode cX10_part 133 = .ok (.aload 11, 2) := by decide +kernel
theorem dX10_part_135 : decode cX10_part 135 = .ok (.invokevirtual 110, 3) := by decide +kernel
theorem dX10_part_138 : decode cX10_part 138 = .ok (.aload_n 0, 1) := by decide +kernel
theorem dX10_part_139 : decode cX10_part 139 = .ok (.iload 5, 2) := by decide +kernel
theorem dX10_part_141 : decode cX10_part 141 = .ok (.putfield 90, 3) := by decide +kernel
theorem dX10_part_144 : decode cX10_part 144 = .ok (.aload_n 0, 1) := by decide +kernel
theorem dX10_part_145 : decode cX10_part 145 = .ok (.iload 6, 2) := by decide +kernel
theorem dX10_part_147 : decode cX10_part 147 = .ok (.putfield 21, 3) := by decide +kernel
theorem dX10_part_150 : decode cX10_part 150 = .ok (.aload_n 1, 1) := by decide +kernel
theorem dX10_part_151 : decode cX10_part 151 = .ok (.getfield 93, 3) := by decide +kernel
theorem dX10_part_154 : decode cX10_part 154 = .ok (.bipush 9, 2) := by decide +kernel
theorem dX10_part_156 : decode cX10_part 156 = .ok (.if_icmp .gt 25, 3) := by decide +kernel
theorem dX10_part_159 : decode cX10_part 159 = .ok (.aload_n 1, 1) := by decide +kernel
theorem dX10_part_160 : decode cX10_part 160 = .ok (.invokevirtual 119, 3) := by decide +kernel
theorem dX10_part_163 : decode cX10_part 163 = .ok (.bipush 12, 2) := by decide +kernel
theorem dX10_part_165 : decode cX10_part 165 = .ok (.if_icmp .gt 16, 3) := by decide +kernel
theorem dX10_part_168 : decode cX10_part 168 = .ok (.aload_n 2, 1) := by decide +kernel
theorem dX10_part_169 : decode cX10_part 169 = .ok (.getfield 25, 3) := by decide +kernel
theorem dX10_part_172 : decode cX10_part 172 = .ok (.bipush 13, 2) := by decide +kernel
theorem dX10_part_174 : decode cX10_part 174 = .ok (.if_icmp .gt 7, 3) := by decide +kernel
theorem dX10_part_177 : decode cX10_part 177 = .ok (.iconst 1, 1) := by decide +kernel
theorem dX10_part_178 : decode cX10_part 178 = .ok (.goto 4, 3) := by decide +kernel
theorem dX10_part_181 : decode cX10_part 181 = .ok (.iconst 0, 1) := by decide +kernel
theorem dX10_part_182 : decode cX10_part 182 = .ok (.ireturn, 1) := by decide +kernel
theorem dX10_store_2_0 : decode cX10_store_2 0 = .ok (.iconst 0, 1) := by decide +kernel
theorem dX10_store_2_1 : decode cX10_store_2 1 = .ok (.istore_n 3, 1) := by decide +kernel
theorem dX10_store_2_2 : decode cX10_store_2 2 = .ok (.iload_n 3, 1) := by decide +kernel
theorem dX10_store_2_3 : decode cX10_store_2 3 = .ok (.bipush 25, 2) := by decide +kernel
theorem dX10_store_2_5 : decode cX10_store_2 5 = .ok (.if_icmp .ge 19, 3) := by decide +kernel
theorem dX10_store_2_8 : decode cX10_store_2 8 = .ok (.aload_n 0, 1) := by decide +kernel
theorem dX10_store_2_9 : decode cX10_store_2 9 = .ok (.iload_n 1, 1) := by decide +kernel
theorem dX10_store_2_10 : decode cX10_store_2 10 = .ok (.iload_n 3, 1) := by decide +kernel
theorem dX10_store_2_11 : decode cX10_store_2 11 = .ok (.iadd, 1) := by decide +kernel
theorem dX10_store_2_12 : decode cX10_store_2 12 = .ok (.aload_n 2, 1) := by decide +kernel
theorem dX10_store_2_13 : decode cX10_store_2 13 = .ok (.iload_n 3, 1) := by decide +kernel
theorem dX10_store_2_14 : decode cX10_store_2 14 = .ok (.invokevirtual 122, 3) := by decide +kernel
theorem dX10_store_2_17 : decode cX10_store_2 17 = .ok (.iastore, 1) := by decide +kernel
theorem dX10_store_2_18 : decode cX10_store_2 18 = .ok (.iinc 3 1, 3) := by decide +kernel
theorem dX10_store_2_21 : decode cX10_store_2 21 = .ok (.goto (-19), 3) := by decide +kernel
theorem dX10_store_2_24 : decode cX10_store_2 24 = .ok (.return_, 1) := by decide +kernel
theorem dX10_keepRecord_0 : decode cX10_keepRecord 0 = .ok (.aload_n 0, 1) := by decide +kernel
theorem dX10_keepRecord_1 : decode cX10_keepRecord 1 = .ok (.getfield 450, 3) := by decide +kernel
theorem dX10_keepRecord_4 : decode cX10_keepRecord 4 = .ok (.iload_n 1, 1) := by decide +kernel
theorem dX10_keepRecord_5 : decode cX10_keepRecord 5 = .ok (.aaload, 1) := by decide +kernel
theorem dX10_keepRecord_6 : decode cX10_keepRecord 6 = .ok (.aload_n 0, 1) := by decide +kernel
theorem dX10_keepRecord_7 : decode cX10_keepRecord 7 = .ok (.getfield 453, 3) := by decide +kernel
theorem dX10_keepRecord_10 : decode cX10_keepRecord 10 = .ok (.invokestatic 547, 3) := by decide +kernel
theorem dX10_keepRecord_13 : decode cX10_keepRecord 13 = .ok (.aload_n 0, 1) := by decide +kernel
theorem dX10_keepRecord_14 : decode cX10_keepRecord 14 = .ok (.getfield 453, 3) := by decide +kernel
theorem dX10_keepRecord_17 : decode cX10_keepRecord 17 = .ok (.getfield 234, 3) := by decide +kernel
theorem dX10_keepRecord_20 : decode cX10_keepRecord 20 = .ok (.ireturn, 1) := by decide +kernel
theorem dX10_part_2_0 : decode cX10_part_2 0 = .ok (.iload_n 1, 1) := by decide +kernel
theorem dX10_part_2_1 : decode cX10_part_2 1 = .ok (.invokestatic 551, 3) := by decide +kernel
theorem dX10_part_2_4 : decode cX10_part_2 4 = .ok (.ifCond .eq 10, 3) := by decide +kernel
theorem dX10_part_2_7 : decode cX10_part_2 7 = .ok (.iload_n 3, 1) := by decide +kernel
theorem dX10_part_2_8 : decode cX10_part_2 8 = .ok (.invokestatic 551, 3) := by decide +kernel
theorem dX10_part_2_11 : decode cX10_part_2 11 = .ok (.ifCond .ne 5, 3) := by decide +kernel
theorem dX10_part_2_14 : decode cX10_part_2 14 = .ok (.iconst (-1), 1) := by decide +kernel
theorem dX10_part_2_15 : decode cX10_part_2 15 = .ok (.ireturn, 1) := by decide +kernel
theorem dX10_part_2_16 : decode cX10_part_2 16 = .ok (.aload_n 0, 1) := by decide +kernel
theorem dX10_part_2_17 : decode cX10_part_2 17 = .ok (.getfield 450, 3) := by decide +kernel
theorem dX10_part_2_20 : decode cX10_part_2 20 = .ok (.iload_n 1, 1) := by decide +kernel
theorem dX10_part_2_21 : decode cX10_part_2 21 = .ok (.aaload, 1) := by decide +kernel
theorem dX10_part_2_22 : decode cX10_part_2 22 = .ok (.astore 4, 2) := by decide +kernel
theorem dX10_part_2_24 : decode cX10_part_2 24 = .ok (.aload 4, 2) := by decide +kernel
theorem dX10_part_2_26 : decode cX10_part_2 26 = .ok (.getfield 202, 3) := by decide +kernel
theorem dX10_part_2_29 : decode cX10_part_2 29 = .ok (.iconst 3, 1) := by decide +kernel
theorem dX10_part_2_30 : decode cX10_part_2 30 = .ok (.if_icmp .eq 15, 3) := by decide +kernel
theorem dX10_part_2_33 : decode cX10_part_2 33 = .ok (.aload 4, 2) := by decide +kernel
theorem dX10_part_2_35 : decode cX10_part_2 35 = .ok (.getfield 202, 3) := by decide +kernel
theorem dX10_part_2_38 : decode cX10_part_2 38 = .ok (.iconst 4, 1) := by decide +kernel
theorem dX10_part_2_39 : decode cX10_part_2 39 = .ok (.if_icmp .eq 6, 3) := by decide +kernel
theorem dX10_part_2_42 : decode cX10_part_2 42 = .ok (.bipush (-3), 2) := by decide +kernel
theorem dX10_part_2_44 : decode cX10_part_2 44 = .ok (.ireturn, 1) := by decide +kernel
theorem dX10_part_2_45 : decode cX10_part_2 45 = .ok (.iload_n 2, 1) := by decide +kernel
theorem dX10_part_2_46 : decode cX10_part_2 46 = .ok (.aload 4, 2) := by decide +kernel
theorem dX10_part_2_48 : decode cX10_part_2 48 = .ok (.getfield 202, 3) := by decide +kernel
theorem dX10_part_2_51 : decode cX10_part_2 51 = .ok (.iconst 3, 1) := by decide +kernel
theorem dX10_part_2_52 : decode cX10_part_2 52 = .ok (.if_icmp .ne 7, 3) := by decide +kernel
theorem dX10_part_2_55 : decode cX10_part_2 55 = .ok (.iconst (-1), 1) := by decide +kernel
theorem dX10_part_2_56 : decode cX10_part_2 56 = .ok (.goto 4, 3) := by decide +kernel
theorem dX10_part_2_59 : decode cX10_part_2 59 = .ok (.iconst 0, 1) := by decide +kernel
theorem dX10_part_2_60 : decode cX10_part_2 60 = .ok (.if_icmp .lt 12, 3) := by decide +kernel
theorem dX10_part_2_63 : decode cX10_part_2 63 = .ok (.iload_n 2, 1) := by decide +kernel
theorem dX10_part_2_64 : decode cX10_part_2 64 = .ok (.aload 4, 2) := by decide +kernel
theorem dX10_part_2_66 : decode cX10_part_2 66 = .ok (.getfield 234, 3) := by decide +kernel
theorem dX10_part_2_69 : decode cX10_part_2 69 = .ok (.if_icmp .le 5, 3) := by decide +kernel
theorem dX10_part_2_72 : decode cX10_part_2 72 = .ok (.iconst (-1), 1) := by decide +kernel
theorem dX10_part_2_73 : decode cX10_part_2 73 = .ok (.ireturn, 1) := by decide +kernel
theorem dX10_part_2_74 : decode cX10_part_2 74 = .ok (.iload_n 2, 1) := by decide +kernel
theorem dX10_part_2_75 : decode cX10_part_2 75 = .ok (.iconst (-1), 1) := by decide +kernel
theorem dX10_part_2_76 : decode cX10_part_2 76 = .ok (.if_icmp .ne 25, 3) := by decide +kernel
theorem dX10_part_2_79 : decode cX10_part_2 79 = .ok (.aload_n 0, 1) := by decide +kernel
theorem dX10_part_2_80 : decode cX10_part_2 80 = .ok (.getfield 453, 3) := by decide +kernel
theorem dX10_part_2_83 : decode cX10_part_2 83 = .ok (.aload 4, 2) := by decide +kernel
theorem dX10_part_2_85 : decode cX10_part_2 85 = .ok (.invokestatic 547, 3) := by decide +kernel
theorem dX10_part_2_88 : decode cX10_part_2 88 = .ok (.aload_n 0, 1) := by decide +kernel
theorem dX10_part_2_89 : decode cX10_part_2 89 = .ok (.getfield 453, 3) := by decide +kernel
theorem dX10_part_2_92 : decode cX10_part_2 92 = .ok (.invokestatic 257, 3) := by decide +kernel
theorem dX10_part_2_95 : decode cX10_part_2 95 = .ok (.aload_n 0, 1) := by decide +kernel
theorem dX10_part_2_96 : decode cX10_part_2 96 = .ok (.iload_n 3, 1) := by decide +kernel
theorem dX10_part_2_97 : decode cX10_part_2 97 = .ok (.invokevirtual 558, 3) := by decide +kernel
theorem dX10_part_2_100 : decode cX10_part_2 100 = .ok (.ireturn, 1) := by decide +kernel
theorem dX10_part_2_101 : decode cX10_part_2 101 = .ok (.aload_n 0, 1) := by decide +kernel
theorem dX10_part_2_102 : decode cX10_part_2 102 = .ok (.invokevirtual 555, 3) := by decide +kernel
theorem dX10_part_2_105 : decode cX10_part_2 105 = .ok (.aload_n 0, 1) := by decide +kernel
theorem dX10_part_2_106 : decode cX10_part_2 106 = .ok (.aload_n 0, 1) := by decide +kernel
theorem dX10_part_2_107 : decode cX10_part_2 107 = .ok (.getfield 453, 3) := by decide +kernel
theorem dX10_part_2_110 : decode cX10_part_2 110 = .ok (.iconst 0, 1) := by decide +kernel
theorem dX10_part_2_111 : decode cX10_part_2 111 = .ok (.invokevirtual 292, 3) := by decide +kernel
theorem dX10_part_2_114 : decode cX10_part_2 114 = .ok (.aload 4, 2) := by decide +kernel
theorem dX10_part_2_116 : decode cX10_part_2 116 = .ok (.getfield 237, 3) := by decide +kernel
theorem dX10_part_2_119 : decode cX10_part_2 119 = .ok (.bipush 25, 2) := by decide +kernel
theorem dX10_part_2_121 : decode cX10_part_2 121 = .ok (.iload_n 2, 1) := by decide +kernel
theorem dX10_part_2_122 : decode cX10_part_2 122 = .ok (.imul, 1) := by decide +kernel
theorem dX10_part_2_123 : decode cX10_part_2 123 = .ok (.aload_n 0, 1) := by decide +kernel
theorem dX10_part_2_124 : decode cX10_part_2 124 = .ok (.getfield 453, 3) := by decide +kernel
theorem dX10_part_2_127 : decode cX10_part_2 127 = .ok (.getfield 207, 3) := by decide +kernel
theorem dX10_part_2_130 : decode cX10_part_2 130 = .ok (.iconst 0, 1) := by decide +kernel
theorem dX10_part_2_131 : decode cX10_part_2 131 = .ok (.bipush 25, 2) := by decide +kernel
theorem dX10_part_2_133 : decode cX10_part_2 133 = .ok (.invokestatic 34, 3) := by decide +kernel
theorem dX10_part_2_136 : decode cX10_part_2 136 = .ok (.aload_n 0, 1) := by decide +kernel
theorem dX10_part_2_137 : decode cX10_part_2 137 = .ok (.iload_n 3, 1) := by decide +kernel
theorem dX10_part_2_138 : decode cX10_part_2 138 = .ok (.invokevirtual 558, 3) := by decide +kernel
theorem dX10_part_2_141 : decode cX10_part_2 141 = .ok (.ireturn, 1) := by decide +kernel
theorem dX10_check_0 : decode cX10_check 0 = .ok (.iload_n 1, 1) := by decide +kernel
theorem dX10_check_1 : decode cX10_check 1 = .ok (.invokestatic 551, 3) := by decide +kernel
theorem dX10_check_4 : decode cX10_check 4 = .ok (.ifCond .eq 10, 3) := by decide +kernel
theorem dX10_check_7 : decode cX10_check 7 = .ok (.iload_n 2, 1) := by decide +kernel
theorem dX10_check_8 : decode cX10_check 8 = .ok (.invokestatic 551, 3) := by decide +kernel
theorem dX10_check_11 : decode cX10_check 11 = .ok (.ifCond .ne 5, 3) := by decide +kernel
theorem dX10_check_14 : decode cX10_check 14 = .ok (.iconst (-1), 1) := by decide +kernel
theorem dX10_check_15 : decode cX10_check 15 = .ok (.ireturn, 1) := by decide +kernel
theorem dX10_check_16 : decode cX10_check 16 = .ok (.aload_n 0, 1) := by decide +kernel
theorem dX10_check_17 : decode cX10_check 17 = .ok (.getfield 450, 3) := by decide +kernel
theorem dX10_check_20 : decode cX10_check 20 = .ok (.iload_n 1, 1) := by decide +kernel
theorem dX10_check_21 : decode cX10_check 21 = .ok (.aaload, 1) := by decide +kernel
theorem dX10_check_22 : decode cX10_check 22 = .ok (.astore_n 3, 1) := by decide +kernel
theorem dX10_check_23 : decode cX10_check 23 = .ok (.aload_n 0, 1) := by decide +kernel
theorem dX10_check_24 : decode cX10_check 24 = .ok (.getfield 450, 3) := by decide +kernel
theorem dX10_check_27 : decode cX10_check 27 = .ok (.iload_n 2, 1) := by decide +kernel
theorem dX10_check_28 : decode cX10_check 28 = .ok (.aaload, 1) := by decide +kernel
theorem dX10_check_29 : decode cX10_check 29 = .ok (.astore 4, 2) := by decide +kernel
theorem dX10_check_31 : decode cX10_check 31 = .ok (.aload_n 3, 1) := by decide +kernel
theorem dX10_check_32 : decode cX10_check 32 = .ok (.getfield 202, 3) := by decide +kernel
theorem dX10_check_35 : decode cX10_check 35 = .ok (.iconst 3, 1) := by decide +kernel
theorem dX10_check_36 : decode cX10_check 36 = .ok (.if_icmp .ne 21, 3) := by decide +kernel
theorem dX10_check_39 : decode cX10_check 39 = .ok (.aload 4, 2) := by decide +kernel
theorem dX10_check_41 : decode cX10_check 41 = .ok (.getfield 202, 3) := by decide +kernel
theorem dX10_check_44 : decode cX10_check 44 = .ok (.iconst 1, 1) := by decide +kernel
theorem dX10_check_45 : decode cX10_check 45 = .ok (.if_icmp .eq 15, 3) := by decide +kernel
theorem dX10_check_48 : decode cX10_check 48 = .ok (.aload 4, 2) := by decide +kernel
theorem dX10_check_50 : decode cX10_check 50 = .ok (.getfield 202, 3) := by decide +kernel
theorem dX10_check_53 : decode cX10_check 53 = .ok (.iconst 2, 1) := by decide +kernel
theorem dX10_check_54 : decode cX10_check 54 = .ok (.if_icmp .eq 6, 3) := by decide +kernel
theorem dX10_check_57 : decode cX10_check 57 = .ok (.bipush (-3), 2) := by decide +kernel
theorem dX10_check_59 : decode cX10_check 59 = .ok (.ireturn, 1) := by decide +kernel
theorem dX10_check_60 : decode cX10_check 60 = .ok (.aload 4, 2) := by decide +kernel
theorem dX10_check_62 : decode cX10_check 62 = .ok (.invokestatic 288, 3) := by decide +kernel
theorem dX10_check_65 : decode cX10_check 65 = .ok (.ifCond .eq 5, 3) := by decide +kernel
theorem dX10_check_68 : decode cX10_check 68 = .ok (.iconst (-1), 1) := by decide +kernel
theorem dX10_check_69 : decode cX10_check 69 = .ok (.ireturn, 1) := by decide +kernel
theorem dX10_check_70 : decode cX10_check 70 = .ok (.aload_n 0, 1) := by decide +kernel
theorem dX10_check_71 : decode cX10_check 71 = .ok (.invokevirtual 555, 3) := by decide +kernel
theorem dX10_check_74 : decode cX10_check 74 = .ok (.bipush 24, 2) := by decide +kernel
theorem dX10_check_76 : decode cX10_check 76 = .ok (.istore 5, 2) := by decide +kernel
theorem dX10_check_78 : decode cX10_check 78 = .ok (.iconst 0, 1) := by decide +kernel
theorem dX10_check_79 : decode cX10_check 79 = .ok (.istore 6, 2) := by decide +kernel
theorem dX10_check_81 : decode cX10_check 81 = .ok (.iconst 0, 1) := by decide +kernel
theorem dX10_check_82 : decode cX10_check 82 = .ok (.istore 7, 2) := by decide +kernel
theorem dX10_check_84 : decode cX10_check 84 = .ok (.iload 7, 2) := by decide +kernel
theorem dX10_check_86 : decode cX10_check 86 = .ok (.aload_n 3, 1) := by decide +kernel
theorem dX10_check_87 : decode cX10_check 87 = .ok (.getfield 234, 3) := by decide +kernel
theorem dX10_check_90 : decode cX10_check 90 = .ok (.if_icmp .gt 116, 3) := by decide +kernel
theorem dX10_check_93 : decode cX10_check 93 = .ok (.aload_n 0, 1) := by decide +kernel
theorem dX10_check_94 : decode cX10_check 94 = .ok (.getfield 511, 3) := by decide +kernel
theorem dX10_check_97 : decode cX10_check 97 = .ok (.iload 7, 2) := by decide +kernel
theorem dX10_check_99 : decode cX10_check 99 = .ok (.aload_n 0, 1) := by decide +kernel
theorem dX10_check_100 : decode cX10_check 100 = .ok (.invokevirtual 140, 3) := by decide +kernel
theorem dX10_check_103 : decode cX10_check 103 = .ok (.aastore, 1) := by decide +kernel
theorem dX10_check_104 : decode cX10_check 104 = .ok (.aload_n 0, 1) := by decide +kernel
theorem dX10_check_105 : decode cX10_check 105 = .ok (.getfield 514, 3) := by decide +kernel
theorem dX10_check_108 : decode cX10_check 108 = .ok (.iload 7, 2) := by decide +kernel
theorem dX10_check_110 : decode cX10_check 110 = .ok (.aload_n 0, 1) := by decide +kernel
theorem dX10_check_111 : decode cX10_check 111 = .ok (.invokevirtual 140, 3) := by decide +kernel
theorem dX10_check_114 : decode cX10_check 114 = .ok (.aastore, 1) := by decide +kernel
theorem dX10_check_115 : decode cX10_check 115 = .ok (.aload_n 0, 1) := by decide +kernel
theorem dX10_check_116 : decode cX10_check 116 = .ok (.aload_n 0, 1) := by decide +kernel
theorem dX10_check_117 : decode cX10_check 117 = .ok (.getfield 511, 3) := by decide +kernel
theorem dX10_check_120 : decode cX10_check 120 = .ok (.iload 7, 2) := by decide +kernel
theorem dX10_check_122 : decode cX10_check 122 = .ok (.aaload, 1) := by decide +kernel
theorem dX10_check_123 : decode cX10_check 123 = .ok (.aload_n 0, 1) := by decide +kernel
theorem dX10_check_124 : decode cX10_check 124 = .ok (.getfield 514, 3) := by decide +kernel
theorem dX10_check_127 : decode cX10_check 127 = .ok (.iload 7, 2) := by decide +kernel
theorem dX10_check_129 : decode cX10_check 129 = .ok (.aaload, 1) := by decide +kernel
theorem dX10_check_130 : decode cX10_check 130 = .ok (.aload 4, 2) := by decide +kernel
theorem dX10_check_132 : decode cX10_check 132 = .ok (.iload 7, 2) := by decide +kernel
theorem dX10_check_134 : decode cX10_check 134 = .ok (.iconst 0, 1) := by decide +kernel
theorem dX10_check_135 : decode cX10_check 135 = .ok (.invokevirtual 633, 3) := by decide +kernel
theorem dX10_check_138 : decode cX10_check 138 = .ok (.ifCond .ne 6, 3) := by decide +kernel
theorem dX10_check_141 : decode cX10_check 141 = .ok (.bipush (-2), 2) := by decide +kernel
theorem dX10_check_143 : decode cX10_check 143 = .ok (.ireturn, 1) := by decide +kernel
theorem dX10_check_144 : decode cX10_check 144 = .ok (.iload 5, 2) := by decide +kernel
theorem dX10_check_146 : decode cX10_check 146 = .ok (.aload_n 0, 1) := by decide +kernel
theorem dX10_check_147 : decode cX10_check 147 = .ok (.getfield 511, 3) := by decide +kernel
theorem dX10_check_150 : decode cX10_check 150 = .ok (.iload 7, 2) := by decide +kernel
theorem dX10_check_152 : decode cX10_check 152 = .ok (.aaload, 1) := by decide +kernel
theorem dX10_check_153 : decode cX10_check 153 = .ok (.invokevirtual 119, 3) := by decide +kernel
theorem dX10_check_156 : decode cX10_check 156 = .ok (.aload_n 0, 1) := by decide +kernel
theorem dX10_check_157 : decode cX10_check 157 = .ok (.getfield 514, 3) := by decide +kernel
theorem dX10_check_160 : decode cX10_check 160 = .ok (.iload 7, 2) := by decide +kernel
theorem dX10_check_162 : decode cX10_check 162 = .ok (.aaload, 1) := by decide +kernel
theorem dX10_check_163 : decode cX10_check 163 = .ok (.invokevirtual 119, 3) := by decide +kernel
theorem dX10_check_166 : decode cX10_check 166 = .ok (.invokestatic 40, 3) := by decide +kernel
theorem dX10_check_169 : decode cX10_check 169 = .ok (.iadd, 1) := by decide +kernel
theorem dX10_check_170 : decode cX10_check 170 = .ok (.istore 5, 2) := by decide +kernel
theorem dX10_check_172 : decode cX10_check 172 = .ok (.iload 6, 2) := by decide +kernel
theorem dX10_check_174 : decode cX10_check 174 = .ok (.aload_n 0, 1) := by decide +kernel
theorem dX10_check_175 : decode cX10_check 175 = .ok (.getfield 511, 3) := by decide +kernel
theorem dX10_check_178 : decode cX10_check 178 = .ok (.iload 7, 2) := by decide +kernel
theorem dX10_check_180 : decode cX10_check 180 = .ok (.aaload, 1) := by decide +kernel
theorem dX10_check_181 : decode cX10_check 181 = .ok (.invokevirtual 314, 3) := by decide +kernel
theorem dX10_check_184 : decode cX10_check 184 = .ok (.aload_n 0, 1) := by decide +kernel
theorem dX10_check_185 : decode cX10_check 185 = .ok (.getfield 514, 3) := by decide +kernel
theorem dX10_check_188 : decode cX10_check 188 = .ok (.iload 7, 2) := by decide +kernel
theorem dX10_check_190 : decode cX10_check 190 = .ok (.aaload, 1) := by decide +kernel
theorem dX10_check_191 : decode cX10_check 191 = .ok (.invokevirtual 314, 3) := by decide +kernel
theorem dX10_check_194 : decode cX10_check 194 = .ok (.invokestatic 40, 3) := by decide +kernel
theorem dX10_check_197 : decode cX10_check 197 = .ok (.iadd, 1) := by decide +kernel
theorem dX10_check_198 : decode cX10_check 198 = .ok (.istore 6, 2) := by decide +kernel
theorem dX10_check_200 : decode cX10_check 200 = .ok (.iinc 7 1, 3) := by decide +kernel
theorem dX10_check_203 : decode cX10_check 203 = .ok (.goto (-119), 3) := by decide +kernel
theorem dX10_check_206 : decode cX10_check 206 = .ok (.aload_n 0, 1) := by decide +kernel
theorem dX10_check_207 : decode cX10_check 207 = .ok (.invokevirtual 140, 3) := by decide +kernel
theorem dX10_check_210 : decode cX10_check 210 = .ok (.astore 7, 2) := by decide +kernel
theorem dX10_check_212 : decode cX10_check 212 = .ok (.aload_n 0, 1) := by decide +kernel
theorem dX10_check_213 : decode cX10_check 213 = .ok (.invokevirtual 140, 3) := by decide +kernel
theorem dX10_check_216 : decode cX10_check 216 = .ok (.astore 8, 2) := by decide +kernel
theorem dX10_check_218 : decode cX10_check 218 = .ok (.aload_n 0, 1) := by decide +kernel
theorem dX10_check_219 : decode cX10_check 219 = .ok (.aload 7, 2) := by decide +kernel
theorem dX10_check_221 : decode cX10_check 221 = .ok (.aload 8, 2) := by decide +kernel
theorem dX10_check_223 : decode cX10_check 223 = .ok (.aload 4, 2) := by decide +kernel
theorem dX10_check_225 : decode cX10_check 225 = .ok (.iconst 0, 1) := by decide +kernel
theorem dX10_check_226 : decode cX10_check 226 = .ok (.iconst 1, 1) := by decide +kernel
theorem dX10_check_227 : decode cX10_check 227 = .ok (.invokevirtual 633, 3) := by decide +kernel
theorem dX10_check_230 : decode cX10_check 230 = .ok (.ifCond .ne 6, 3) := by decide +kernel
theorem dX10_check_233 : decode cX10_check 233 = .ok (.bipush (-2), 2) := by decide +kernel
theorem dX10_check_235 : decode cX10_check 235 = .ok (.ireturn, 1) := by decide +kernel
theorem dX10_check_236 : decode cX10_check 236 = .ok (.aload_n 0, 1) := by decide +kernel
theorem dX10_check_237 : decode cX10_check 237 = .ok (.invokevirtual 140, 3) := by decide +kernel
theorem dX10_check_240 : decode cX10_check 240 = .ok (.astore 9, 2) := by decide +kernel
theorem dX10_check_242 : decode cX10_check 242 = .ok (.aload_n 0, 1) := by decide +kernel
theorem dX10_check_243 : decode cX10_check 243 = .ok (.invokevirtual 140, 3) := by decide +kernel
theorem dX10_check_246 : decode cX10_check 246 = .ok (.astore 10, 2) := by decide +kernel
theorem dX10_check_248 : decode cX10_check 248 = .ok (.aload 9, 2) := by decide +kernel
theorem dX10_check_250 : decode cX10_check 250 = .ok (.aload_n 3, 1) := by decide +kernel
theorem dX10_check_251 : decode cX10_check 251 = .ok (.getfield 207, 3) := by decide +kernel
theorem dX10_check_254 : decode cX10_check 254 = .ok (.invokestatic 295, 3) := by decide +kernel
theorem dX10_check_257 : decode cX10_check 257 = .ok (.aload 10, 2) := by decide +kernel
theorem dX10_check_259 : decode cX10_check 259 = .ok (.aload_n 3, 1) := by decide +kernel
theorem dX10_check_260 : decode cX10_check 260 = .ok (.getfield 210, 3) := by decide +kernel
theorem dX10_check_263 : decode cX10_check 263 = .ok (.invokestatic 295, 3) := by decide +kernel
theorem dX10_check_266 : decode cX10_check 266 = .ok (.iload 5, 2) := by decide +kernel
theorem dX10_check_268 : decode cX10_check 268 = .ok (.aload 7, 2) := by decide +kernel
theorem dX10_check_270 : decode cX10_check 270 = .ok (.invokevirtual 119, 3) := by decide +kernel
theorem dX10_check_273 : decode cX10_check 273 = .ok (.aload 8, 2) := by decide +kernel
theorem dX10_check_275 : decode cX10_check 275 = .ok (.invokevirtual 119, 3) := by decide +kernel
theorem dX10_check_278 : decode cX10_check 278 = .ok (.invokestatic 40, 3) := by decide +kernel
theorem dX10_check_281 : decode cX10_check 281 = .ok (.iconst 2, 1) := by decide +kernel
theorem dX10_check_282 : decode cX10_check 282 = .ok (.aload 9, 2) := by decide +kernel
theorem dX10_check_284 : decode cX10_check 284 = .ok (.invokevirtual 119, 3) := by decide +kernel
theorem dX10_check_287 : decode cX10_check 287 = .ok (.aload 10, 2) := by decide +kernel
theorem dX10_check_289 : decode cX10_check 289 = .ok (.invokevirtual 119, 3) := by decide +kernel
theorem dX10_check_292 : decode cX10_check 292 = .ok (.invokestatic 40, 3) := by decide +kernel
theorem dX10_check_295 : decode cX10_check 295 = .ok (.imul, 1) := by decide +kernel
theorem dX10_check_296 : decode cX10_check 296 = .ok (.iadd, 1) := by decide +kernel
theorem dX10_check_297 : decode cX10_check 297 = .ok (.iadd, 1) := by decide +kernel
theorem dX10_check_298 : decode cX10_check 298 = .ok (.istore 5, 2) := by decide +kernel
theorem dX10_check_300 : decode cX10_check 300 = .ok (.iload 6, 2) := by decide +kernel
theorem dX10_check_302 : decode cX10_check 302 = .ok (.aload 7, 2) := by decide +kernel
theorem dX10_check_304 : decode cX10_check 304 = .ok (.invokevirtual 314, 3) := by decide +kernel
theorem dX10_check_307 : decode cX10_check 307 = .ok (.aload 8, 2) := by decide +kernel
theorem dX10_check_309 : decode cX10_check 309 = .ok (.invokevirtual 314, 3) := by decide +kernel
theorem dX10_check_312 : decode cX10_check 312 = .ok (.invokestatic 40, 3) := by decide +kernel
theorem dX10_check_315 : decode cX10_check 315 = .ok (.iconst 2, 1) := by decide +kernel
theorem dX10_check_316 : decode cX10_check 316 = .ok (.aload 9, 2) := by decide +kernel
theorem dX10_check_318 : decode cX10_check 318 = .ok (.invokevirtual 314, 3) := by decide +kernel
theorem dX10_check_321 : decode cX10_check 321 = .ok (.aload 10, 2) := by decide +kernel
theorem dX10_check_323 : decode cX10_check 323 = .ok (.invokevirtual 314, 3) := by decide +kernel
theorem dX10_check_326 : decode cX10_check 326 = .ok (.invokestatic 40, 3) := by decide +kernel
theorem dX10_check_329 : decode cX10_check 329 = .ok (.imul, 1) := by decide +kernel
theorem dX10_check_330 : decode cX10_check 330 = .ok (.iadd, 1) := by decide +kernel
theorem dX10_check_331 : decode cX10_check 331 = .ok (.iadd, 1) := by decide +kernel
theorem dX10_check_332 : decode cX10_check 332 = .ok (.istore 6, 2) := by decide +kernel
theorem dX10_check_334 : decode cX10_check 334 = .ok (.iconst 0, 1) := by decide +kernel
theorem dX10_check_335 : decode cX10_check 335 = .ok (.istore 11, 2) := by decide +kernel
theorem dX10_check_337 : decode cX10_check 337 = .ok (.iload 11, 2) := by decide +kernel
theorem dX10_check_339 : decode cX10_check 339 = .ok (.iload 5, 2) := by decide +kernel
theorem dX10_check_341 : decode cX10_check 341 = .ok (.if_icmp .gt 47, 3) := by decide +kernel
theorem dX10_check_344 : decode cX10_check 344 = .ok (.iconst 0, 1) := by decide +kernel
theorem dX10_check_345 : decode cX10_check 345 = .ok (.istore 12, 2) := by decide +kernel
theorem dX10_check_347 : decode cX10_check 347 = .ok (.iload 12, 2) := by decide +kernel
theorem dX10_check_349 : decode cX10_check 349 = .ok (.iload 6, 2) := by decide +kernel
theorem dX10_check_351 : decode cX10_check 351 = .ok (.if_icmp .gt 31, 3) := by decide +kernel
theorem dX10_check_354 : decode cX10_check 354 = .ok (.aload_n 0, 1) := by decide +kernel
theorem dX10_check_355 : decode cX10_check 355 = .ok (.aload_n 3, 1) := by decide +kernel
theorem dX10_check_356 : decode cX10_check 356 = .ok (.iload 11, 2) := by decide +kernel
theorem dX10_check_358 : decode cX10_check 358 = .ok (.iload 12, 2) := by decide +kernel
theorem dX10_check_360 : decode cX10_check 360 = .ok (.aload 7, 2) := by decide +kernel
theorem dX10_check_362 : decode cX10_check 362 = .ok (.aload 8, 2) := by decide +kernel
theorem dX10_check_364 : decode cX10_check 364 = .ok (.aload 9, 2) := by decide +kernel
theorem dX10_check_366 : decode cX10_check 366 = .ok (.aload 10, 2) := by decide +kernel
theorem dX10_check_368 : decode cX10_check 368 = .ok (.invokevirtual 765, 3) := by decide +kernel
theorem dX10_check_371 : decode cX10_check 371 = .ok (.ifCond .ne 5, 3) := by decide +kernel
theorem dX10_check_374 : decode cX10_check 374 = .ok (.iconst 0, 1) := by decide +kernel
theorem dX10_check_375 : decode cX10_check 375 = .ok (.ireturn, 1) := by decide +kernel
theorem dX10_check_376 : decode cX10_check 376 = .ok (.iinc 12 1, 3) := by decide +kernel
theorem dX10_check_379 : decode cX10_check 379 = .ok (.goto (-32), 3) := by decide +kernel
theorem dX10_check_382 : decode cX10_check 382 = .ok (.iinc 11 1, 3) := by decide +kernel
theorem dX10_check_385 : decode cX10_check 385 = .ok (.goto (-48), 3) := by decide +kernel
theorem dX10_check_388 : decode cX10_check 388 = .ok (.iconst 1, 1) := by decide +kernel
theorem dX10_check_389 : decode cX10_check 389 = .ok (.ireturn, 1) := by decide +kernel
theorem dX10_isRight_0 : decode cX10_isRight 0 = .ok (.iconst 1, 1) := by decide +kernel
theorem dX10_isRight_1 : decode cX10_isRight 1 = .ok (.istore 8, 2) := by decide +kernel
theorem dX10_isRight_3 : decode cX10_isRight 3 = .ok (.iconst 0, 1) := by decide +kernel
theorem dX10_isRight_4 : decode cX10_isRight 4 = .ok (.istore 9, 2) := by decide +kernel
theorem dX10_isRight_6 : decode cX10_isRight 6 = .ok (.iload 9, 2) := by decide +kernel
theorem dX10_isRight_8 : decode cX10_isRight 8 = .ok (.aload_n 1, 1) := by decide +kernel
theorem dX10_isRight_9 : decode cX10_isRight 9 = .ok (.getfield 234, 3) := by decide +kernel
theorem dX10_isRight_12 : decode cX10_isRight 12 = .ok (.if_icmp .gt 28, 3) := by decide +kernel
theorem dX10_isRight_15 : decode cX10_isRight 15 = .ok (.iload 8, 2) := by decide +kernel
theorem dX10_isRight_17 : decode cX10_isRight 17 = .ok (.aload_n 0, 1) := by decide +kernel
theorem dX10_isRight_18 : decode cX10_isRight 18 = .ok (.getfield 514, 3) := by decide +kernel
theorem dX10_isRight_21 : decode cX10_isRight 21 = .ok (.iload 9, 2) := by decide +kernel
theorem dX10_isRight_23 : decode cX10_isRight 23 = .ok (.aaload, 1) := by decide +kernel
theorem dX10_isRight_24 : decode cX10_isRight 24 = .ok (.iload_n 2, 1) := by decide +kernel
theorem dX10_isRight_25 : decode cX10_isRight 25 = .ok (.iload_n 3, 1) := by decide +kernel
theorem dX10_isRight_26 : decode cX10_isRight 26 = .ok (.invokestatic 769, 3) := by decide +kernel
theorem dX10_isRight_29 : decode cX10_isRight 29 = .ok (.invokestatic 56, 3) := by decide +kernel
theorem dX10_isRight_32 : decode cX10_isRight 32 = .ok (.istore 8, 2) := by decide +kernel
theorem dX10_isRight_34 : decode cX10_isRight 34 = .ok (.iinc 9 1, 3) := by decide +kernel
theorem dX10_isRight_37 : decode cX10_isRight 37 = .ok (.goto (-31), 3) := by decide +kernel
theorem dX10_isRight_40 : decode cX10_isRight 40 = .ok (.iconst 0, 1) := by decide +kernel
theorem dX10_isRight_41 : decode cX10_isRight 41 = .ok (.istore 9, 2) := by decide +kernel
theorem dX10_isRight_43 : decode cX10_isRight 43 = .ok (.iconst 0, 1) := by decide +kernel
theorem dX10_isRight_44 : decode cX10_isRight 44 = .ok (.istore 10, 2) := by decide +kernel
theorem dX10_isRight_46 : decode cX10_isRight 46 = .ok (.iload 10, 2) := by decide +kernel
theorem dX10_isRight_48 : decode cX10_isRight 48 = .ok (.aload_n 1, 1) := by decide +kernel
theorem dX10_isRight_49 : decode cX10_isRight 49 = .ok (.getfield 234, 3) := by decide +kernel
theorem dX10_isRight_52 : decode cX10_isRight 52 = .ok (.if_icmp .gt 102, 3) := by decide +kernel
theorem dX10_isRight_55 : decode cX10_isRight 55 = .ok (.aload_n 1, 1) := by decide +kernel
theorem dX10_isRight_56 : decode cX10_isRight 56 = .ok (.getfield 237, 3) := by decide +kernel
theorem dX10_isRight_59 : decode cX10_isRight 59 = .ok (.bipush 25, 2) := by decide +kernel
theorem dX10_isRight_61 : decode cX10_isRight 61 = .ok (.iload 10, 2) := by decide +kernel
theorem dX10_isRight_63 : decode cX10_isRight 63 = .ok (.imul, 1) := by decide +kernel
theorem dX10_isRight_64 : decode cX10_isRight 64 = .ok (.iload_n 2, 1) := by decide +kernel
theorem dX10_isRight_65 : decode cX10_isRight 65 = .ok (.invokestatic 772, 3) := by decide +kernel
theorem dX10_isRight_68 : decode cX10_isRight 68 = .ok (.aload_n 0, 1) := by decide +kernel
theorem dX10_isRight_69 : decode cX10_isRight 69 = .ok (.getfield 511, 3) := by decide +kernel
theorem dX10_isRight_72 : decode cX10_isRight 72 = .ok (.iload 10, 2) := by decide +kernel
theorem dX10_isRight_74 : decode cX10_isRight 74 = .ok (.aaload, 1) := by decide +kernel
theorem dX10_isRight_75 : decode cX10_isRight 75 = .ok (.iload_n 2, 1) := by decide +kernel
theorem dX10_isRight_76 : decode cX10_isRight 76 = .ok (.iload_n 3, 1) := by decide +kernel
theorem dX10_isRight_77 : decode cX10_isRight 77 = .ok (.invokestatic 769, 3) := by decide +kernel
theorem dX10_isRight_80 : decode cX10_isRight 80 = .ok (.invokestatic 56, 3) := by decide +kernel
theorem dX10_isRight_83 : decode cX10_isRight 83 = .ok (.istore 11, 2) := by decide +kernel
theorem dX10_isRight_85 : decode cX10_isRight 85 = .ok (.iconst 0, 1) := by decide +kernel
theorem dX10_isRight_86 : decode cX10_isRight 86 = .ok (.istore 12, 2) := by decide +kernel
theorem dX10_isRight_88 : decode cX10_isRight 88 = .ok (.iload 12, 2) := by decide +kernel
theorem dX10_isRight_90 : decode cX10_isRight 90 = .ok (.aload_n 1, 1) := by decide +kernel
theorem dX10_isRight_91 : decode cX10_isRight 91 = .ok (.getfield 234, 3) := by decide +kernel
theorem dX10_isRight_94 : decode cX10_isRight 94 = .ok (.if_icmp .gt 45, 3) := by decide +kernel
theorem dX10_isRight_97 : decode cX10_isRight 97 = .ok (.iload 11, 2) := by decide +kernel
theorem dX10_isRight_99 : decode cX10_isRight 99 = .ok (.ifCond .eq 40, 3) := by decide +kernel
theorem dX10_isRight_102 : decode cX10_isRight 102 = .ok (.iload 12, 2) := by decide +kernel
theorem dX10_isRight_104 : decode cX10_isRight 104 = .ok (.iload 10, 2) := by decide +kernel
theorem dX10_isRight_106 : decode cX10_isRight 106 = .ok (.if_icmp .ne 8, 3) := by decide +kernel
theorem dX10_isRight_109 : decode cX10_isRight 109 = .ok (.iload 11, 2) := by decide +kernel
theorem dX10_isRight_111 : decode cX10_isRight 111 = .ok (.goto 20, 3) := by decide +kernel
theorem dX10_isRight_114 : decode cX10_isRight 114 = .ok (.iload 11, 2) := by decide +kernel
theorem dX10_isRight_116 : decode cX10_isRight 116 = .ok (.aload_n 0, 1) := by decide +kernel
theorem dX10_isRight_117 : decode cX10_isRight 117 = .ok (.getfield 514, 3) := by decide +kernel
theorem dX10_isRight_120 : decode cX10_isRight 120 = .ok (.iload 12, 2) := by decide +kernel
theorem dX10_isRight_122 : decode cX10_isRight 122 = .ok (.aaload, 1) := by decide +kernel
theorem dX10_isRight_123 : decode cX10_isRight 123 = .ok (.iload_n 2, 1) := by decide +kernel
theorem dX10_isRight_124 : decode cX10_isRight 124 = .ok (.iload_n 3, 1) := by decide +kernel
theorem dX10_isRight_125 : decode cX10_isRight 125 = .ok (.invokestatic 769, 3) := by decide +kernel
theorem dX10_isRight_128 : decode cX10_isRight 128 = .ok (.invokestatic 56, 3) := by decide +kernel
theorem dX10_isRight_131 : decode cX10_isRight 131 = .ok (.istore 11, 2) := by decide +kernel
theorem dX10_isRight_133 : decode cX10_isRight 133 = .ok (.iinc 12 1, 3) := by decide +kernel
theorem dX10_isRight_136 : decode cX10_isRight 136 = .ok (.goto (-48), 3) := by decide +kernel
theorem dX10_isRight_139 : decode cX10_isRight 139 = .ok (.iload 9, 2) := by decide +kernel
theorem dX10_isRight_141 : decode cX10_isRight 141 = .ok (.iload 11, 2) := by decide +kernel
theorem dX10_isRight_143 : decode cX10_isRight 143 = .ok (.invokestatic 49, 3) := by decide +kernel
theorem dX10_isRight_146 : decode cX10_isRight 146 = .ok (.istore 9, 2) := by decide +kernel
theorem dX10_isRight_148 : decode cX10_isRight 148 = .ok (.iinc 10 1, 3) := by decide +kernel
theorem dX10_isRight_151 : decode cX10_isRight 151 = .ok (.goto (-105), 3) := by decide +kernel
theorem dX10_isRight_154 : decode cX10_isRight 154 = .ok (.aload 7, 2) := by decide +kernel
theorem dX10_isRight_156 : decode cX10_isRight 156 = .ok (.iload_n 2, 1) := by decide +kernel
theorem dX10_isRight_157 : decode cX10_isRight 157 = .ok (.iload_n 3, 1) := by decide +kernel
theorem dX10_isRight_158 : decode cX10_isRight 158 = .ok (.invokestatic 769, 3) := by decide +kernel
theorem dX10_isRight_161 : decode cX10_isRight 161 = .ok (.istore 10, 2) := by decide +kernel
theorem dX10_isRight_163 : decode cX10_isRight 163 = .ok (.aload 7, 2) := by decide +kernel
theorem dX10_isRight_165 : decode cX10_isRight 165 = .ok (.iload_n 2, 1) := by decide +kernel
theorem dX10_isRight_166 : decode cX10_isRight 166 = .ok (.iload_n 3, 1) := by decide +kernel
theorem dX10_isRight_167 : decode cX10_isRight 167 = .ok (.iconst 1, 1) := by decide +kernel
theorem dX10_isRight_168 : decode cX10_isRight 168 = .ok (.iadd, 1) := by decide +kernel
theorem dX10_isRight_169 : decode cX10_isRight 169 = .ok (.invokestatic 769, 3) := by decide +kernel
theorem dX10_isRight_172 : decode cX10_isRight 172 = .ok (.istore 11, 2) := by decide +kernel
theorem dX10_isRight_174 : decode cX10_isRight 174 = .ok (.aload 5, 2) := by decide +kernel
theorem dX10_isRight_176 : decode cX10_isRight 176 = .ok (.iload_n 2, 1) := by decide +kernel
theorem dX10_isRight_177 : decode cX10_isRight 177 = .ok (.iload_n 3, 1) := by decide +kernel
theorem dX10_isRight_178 : decode cX10_isRight 178 = .ok (.invokestatic 769, 3) := by decide +kernel
theorem dX10_isRight_181 : decode cX10_isRight 181 = .ok (.istore 12, 2) := by decide +kernel
theorem dX10_isRight_183 : decode cX10_isRight 183 = .ok (.iload 9, 2) := by decide +kernel
theorem dX10_isRight_185 : decode cX10_isRight 185 = .ok (.iload 12, 2) := by decide +kernel
theorem dX10_isRight_187 : decode cX10_isRight 187 = .ok (.invokestatic 56, 3) := by decide +kernel
theorem dX10_isRight_190 : decode cX10_isRight 190 = .ok (.iload 10, 2) := by decide +kernel
theorem dX10_isRight_192 : decode cX10_isRight 192 = .ok (.iload 11, 2) := by decide +kernel
theorem dX10_isRight_194 : decode cX10_isRight 194 = .ok (.invokestatic 56, 3) := by decide +kernel
theorem dX10_isRight_197 : decode cX10_isRight 197 = .ok (.invokestatic 56, 3) := by decide +kernel
theorem dX10_isRight_200 : decode cX10_isRight 200 = .ok (.istore 9, 2) := by decide +kernel
theorem dX10_isRight_202 : decode cX10_isRight 202 = .ok (.aload 6, 2) := by decide +kernel
theorem dX10_isRight_204 : decode cX10_isRight 204 = .ok (.iload_n 2, 1) := by decide +kernel
theorem dX10_isRight_205 : decode cX10_isRight 205 = .ok (.iload_n 3, 1) := by decide +kernel
theorem dX10_isRight_206 : decode cX10_isRight 206 = .ok (.iconst 1, 1) := by decide +kernel
theorem dX10_isRight_207 : decode cX10_isRight 207 = .ok (.iadd, 1) := by decide +kernel
theorem dX10_isRight_208 : decode cX10_isRight 208 = .ok (.invokestatic 769, 3) := by decide +kernel
theorem dX10_isRight_211 : decode cX10_isRight 211 = .ok (.aload 4, 2) := by decide +kernel
theorem dX10_isRight_213 : decode cX10_isRight 213 = .ok (.iload_n 2, 1) := by decide +kernel
theorem dX10_isRight_214 : decode cX10_isRight 214 = .ok (.iload_n 3, 1) := by decide +kernel
theorem dX10_isRight_215 : decode cX10_isRight 215 = .ok (.invokestatic 769, 3) := by decide +kernel
theorem dX10_isRight_218 : decode cX10_isRight 218 = .ok (.invokestatic 56, 3) := by decide +kernel
theorem dX10_isRight_221 : decode cX10_isRight 221 = .ok (.iload 10, 2) := by decide +kernel
theorem dX10_isRight_223 : decode cX10_isRight 223 = .ok (.invokestatic 56, 3) := by decide +kernel
theorem dX10_isRight_226 : decode cX10_isRight 226 = .ok (.aload 6, 2) := by decide +kernel
theorem dX10_isRight_228 : decode cX10_isRight 228 = .ok (.iload_n 2, 1) := by decide +kernel
theorem dX10_isRight_229 : decode cX10_isRight 229 = .ok (.iload_n 3, 1) := by decide +kernel
theorem dX10_isRight_230 : decode cX10_isRight 230 = .ok (.invokestatic 769, 3) := by decide +kernel
theorem dX10_isRight_233 : decode cX10_isRight 233 = .ok (.iload 12, 2) := by decide +kernel
theorem dX10_isRight_235 : decode cX10_isRight 235 = .ok (.invokestatic 56, 3) := by decide +kernel
theorem dX10_isRight_238 : decode cX10_isRight 238 = .ok (.iload 11, 2) := by decide +kernel
theorem dX10_isRight_240 : decode cX10_isRight 240 = .ok (.invokestatic 56, 3) := by decide +kernel
theorem dX10_isRight_243 : decode cX10_isRight 243 = .ok (.invokestatic 46, 3) := by decide +kernel
theorem dX10_isRight_246 : decode cX10_isRight 246 = .ok (.istore 13, 2) := by decide +kernel
theorem dX10_isRight_248 : decode cX10_isRight 248 = .ok (.iload 9, 2) := by decide +kernel
theorem dX10_isRight_250 : decode cX10_isRight 250 = .ok (.iload 13, 2) := by decide +kernel
theorem dX10_isRight_252 : decode cX10_isRight 252 = .ok (.iload 8, 2) := by decide +kernel
theorem dX10_isRight_254 : decode cX10_isRight 254 = .ok (.invokestatic 56, 3) := by decide +kernel
theorem dX10_isRight_257 : decode cX10_isRight 257 = .ok (.if_icmp .ne 7, 3) := by decide +kernel
theorem dX10_isRight_260 : decode cX10_isRight 260 = .ok (.iconst 1, 1) := by decide +kernel
theorem dX10_isRight_261 : decode cX10_isRight 261 = .ok (.goto 4, 3) := by decide +kernel
theorem dX10_isRight_264 : decode cX10_isRight 264 = .ok (.iconst 0, 1) := by decide +kernel
theorem dX10_isRight_265 : decode cX10_isRight 265 = .ok (.ireturn, 1) := by decide +kernel
theorem dX10_eval_2_0 : decode cX10_eval_2 0 = .ok (.lconst 0, 1) := by decide +kernel
theorem dX10_eval_2_1 : decode cX10_eval_2 1 = .ok (.lstore_n 3, 1) := by decide +kernel
theorem dX10_eval_2_2 : decode cX10_eval_2 2 = .ok (.aload_n 0, 1) := by decide +kernel
theorem dX10_eval_2_3 : decode cX10_eval_2 3 = .ok (.getfield 93, 3) := by decide +kernel
theorem dX10_eval_2_6 : decode cX10_eval_2 6 = .ok (.iconst 1, 1) := by decide +kernel
theorem dX10_eval_2_7 : decode cX10_eval_2 7 = .ok (.isub, 1) := by decide +kernel
theorem dX10_eval_2_8 : decode cX10_eval_2 8 = .ok (.istore 5, 2) := by decide +kernel
theorem dX10_eval_2_10 : decode cX10_eval_2 10 = .ok (.iload 5, 2) := by decide +kernel
theorem dX10_eval_2_12 : decode cX10_eval_2 12 = .ok (.ifCond .lt 31, 3) := by decide +kernel
theorem dX10_eval_2_15 : decode cX10_eval_2 15 = .ok (.lload_n 3, 1) := by decide +kernel
theorem dX10_eval_2_16 : decode cX10_eval_2 16 = .ok (.iload_n 2, 1) := by decide +kernel
theorem dX10_eval_2_17 : decode cX10_eval_2 17 = .ok (.i2l, 1) := by decide +kernel
theorem dX10_eval_2_18 : decode cX10_eval_2 18 = .ok (.lmul, 1) := by decide +kernel
theorem dX10_eval_2_19 : decode cX10_eval_2 19 = .ok (.aload_n 0, 1) := by decide +kernel
theorem dX10_eval_2_20 : decode cX10_eval_2 20 = .ok (.getfield 98, 3) := by decide +kernel
theorem dX10_eval_2_23 : decode cX10_eval_2 23 = .ok (.iload 5, 2) := by decide +kernel
theorem dX10_eval_2_25 : decode cX10_eval_2 25 = .ok (.aaload, 1) := by decide +kernel
theorem dX10_eval_2_26 : decode cX10_eval_2 26 = .ok (.iload_n 1, 1) := by decide +kernel
theorem dX10_eval_2_27 : decode cX10_eval_2 27 = .ok (.invokestatic 136, 3) := by decide +kernel
theorem dX10_eval_2_30 : decode cX10_eval_2 30 = .ok (.i2l, 1) := by decide +kernel
theorem dX10_eval_2_31 : decode cX10_eval_2 31 = .ok (.ladd, 1) := by decide +kernel
theorem dX10_eval_2_32 : decode cX10_eval_2 32 = .ok (.ldc2_w 3, 3) := by decide +kernel
theorem dX10_eval_2_35 : decode cX10_eval_2 35 = .ok (.lrem, 1) := by decide +kernel
theorem dX10_eval_2_36 : decode cX10_eval_2 36 = .ok (.lstore_n 3, 1) := by decide +kernel
theorem dX10_eval_2_37 : decode cX10_eval_2 37 = .ok (.iinc 5 (-1), 3) := by decide +kernel
theorem dX10_eval_2_40 : decode cX10_eval_2 40 = .ok (.goto (-30), 3) := by decide +kernel
theorem dX10_eval_2_43 : decode cX10_eval_2 43 = .ok (.lload_n 3, 1) := by decide +kernel
theorem dX10_eval_2_44 : decode cX10_eval_2 44 = .ok (.l2i, 1) := by decide +kernel
theorem dX10_eval_2_45 : decode cX10_eval_2 45 = .ok (.ireturn, 1) := by decide +kernel
theorem dX10_polynomialAt_0 : decode cX10_polynomialAt 0 = .ok (.lconst 0, 1) := by decide +kernel
theorem dX10_polynomialAt_1 : decode cX10_polynomialAt 1 = .ok (.lstore_n 3, 1) := by decide +kernel
theorem dX10_polynomialAt_2 : decode cX10_polynomialAt 2 = .ok (.bipush 24, 2) := by decide +kernel
theorem dX10_polynomialAt_4 : decode cX10_polynomialAt 4 = .ok (.istore 5, 2) := by decide +kernel
theorem dX10_polynomialAt_6 : decode cX10_polynomialAt 6 = .ok (.iload 5, 2) := by decide +kernel
theorem dX10_polynomialAt_8 : decode cX10_polynomialAt 8 = .ok (.ifCond .lt 26, 3) := by decide +kernel
theorem dX10_polynomialAt_11 : decode cX10_polynomialAt 11 = .ok (.lload_n 3, 1) := by decide +kernel
theorem dX10_polynomialAt_12 : decode cX10_polynomialAt 12 = .ok (.iload_n 2, 1) := by decide +kernel
theorem dX10_polynomialAt_13 : decode cX10_polynomialAt 13 = .ok (.i2l, 1) := by decide +kernel
theorem dX10_polynomialAt_14 : decode cX10_polynomialAt 14 = .ok (.lmul, 1) := by decide +kernel
theorem dX10_polynomialAt_15 : decode cX10_polynomialAt 15 = .ok (.aload_n 0, 1) := by decide +kernel
theorem dX10_polynomialAt_16 : decode cX10_polynomialAt 16 = .ok (.iload_n 1, 1) := by decide +kernel
theorem dX10_polynomialAt_17 : decode cX10_polynomialAt 17 = .ok (.iload 5, 2) := by decide +kernel
theorem dX10_polynomialAt_19 : decode cX10_polynomialAt 19 = .ok (.iadd, 1) := by decide +kernel
theorem dX10_polynomialAt_20 : decode cX10_polynomialAt 20 = .ok (.iaload, 1) := by decide +kernel
theorem dX10_polynomialAt_21 : decode cX10_polynomialAt 21 = .ok (.i2l, 1) := by decide +kernel
theorem dX10_polynomialAt_22 : decode cX10_polynomialAt 22 = .ok (.ladd, 1) := by decide +kernel
theorem dX10_polynomialAt_23 : decode cX10_polynomialAt 23 = .ok (.ldc2_w 3, 3) := by decide +kernel
theorem dX10_polynomialAt_26 : decode cX10_polynomialAt 26 = .ok (.lrem, 1) := by decide +kernel
theorem dX10_polynomialAt_27 : decode cX10_polynomialAt 27 = .ok (.lstore_n 3, 1) := by decide +kernel
theorem dX10_polynomialAt_28 : decode cX10_polynomialAt 28 = .ok (.iinc 5 (-1), 3) := by decide +kernel
theorem dX10_polynomialAt_31 : decode cX10_polynomialAt 31 = .ok (.goto (-25), 3) := by decide +kernel
theorem dX10_polynomialAt_34 : decode cX10_polynomialAt 34 = .ok (.lload_n 3, 1) := by decide +kernel
theorem dX10_polynomialAt_35 : decode cX10_polynomialAt 35 = .ok (.l2i, 1) := by decide +kernel
theorem dX10_polynomialAt_36 : decode cX10_polynomialAt 36 = .ok (.ireturn, 1) := by decide +kernel
theorem dX10_poke_0 : decode cX10_poke 0 = .ok (.iload_n 1, 1) := by decide +kernel
theorem dX10_poke_1 : decode cX10_poke 1 = .ok (.invokestatic 551, 3) := by decide +kernel
theorem dX10_poke_4 : decode cX10_poke 4 = .ok (.ifCond .ne 5, 3) := by decide +kernel
theorem dX10_poke_7 : decode cX10_poke 7 = .ok (.iconst (-1), 1) := by decide +kernel
theorem dX10_poke_8 : decode cX10_poke 8 = .ok (.ireturn, 1) := by decide +kernel
theorem dX10_poke_9 : decode cX10_poke 9 = .ok (.aload_n 0, 1) := by decide +kernel
theorem dX10_poke_10 : decode cX10_poke 10 = .ok (.getfield 450, 3) := by decide +kernel
theorem dX10_poke_13 : decode cX10_poke 13 = .ok (.iload_n 1, 1) := by decide +kernel
theorem dX10_poke_14 : decode cX10_poke 14 = .ok (.aaload, 1) := by decide +kernel
theorem dX10_poke_15 : decode cX10_poke 15 = .ok (.astore 6, 2) := by decide +kernel
theorem dX10_poke_17 : decode cX10_poke 17 = .ok (.aload 6, 2) := by decide +kernel
theorem dX10_poke_19 : decode cX10_poke 19 = .ok (.getfield 202, 3) := by decide +kernel
theorem dX10_poke_22 : decode cX10_poke 22 = .ok (.iconst 3, 1) := by decide +kernel
theorem dX10_poke_23 : decode cX10_poke 23 = .ok (.if_icmp .eq 6, 3) := by decide +kernel
theorem dX10_poke_26 : decode cX10_poke 26 = .ok (.bipush (-3), 2) := by decide +kernel
theorem dX10_poke_28 : decode cX10_poke 28 = .ok (.ireturn, 1) := by decide +kernel
theorem dX10_poke_29 : decode cX10_poke 29 = .ok (.iload_n 2, 1) := by decide +kernel
theorem dX10_poke_30 : decode cX10_poke 30 = .ok (.iconst (-1), 1) := by decide +kernel
theorem dX10_poke_31 : decode cX10_poke 31 = .ok (.if_icmp .lt 42, 3) := by decide +kernel
theorem dX10_poke_34 : decode cX10_poke 34 = .ok (.iload_n 2, 1) := by decide +kernel
theorem dX10_poke_35 : decode cX10_poke 35 = .ok (.aload 6, 2) := by decide +kernel
theorem dX10_poke_37 : decode cX10_poke 37 = .ok (.getfield 234, 3) := by decide +kernel
theorem dX10_poke_40 : decode cX10_poke 40 = .ok (.if_icmp .gt 33, 3) := by decide +kernel
theorem dX10_poke_43 : decode cX10_poke 43 = .ok (.iload_n 3, 1) := by decide +kernel
theorem dX10_poke_44 : decode cX10_poke 44 = .ok (.ifCond .lt 29, 3) := by decide +kernel
theorem dX10_poke_47 : decode cX10_poke 47 = .ok (.iload_n 3, 1) := by decide +kernel
theorem dX10_poke_48 : decode cX10_poke 48 = .ok (.bipush 24, 2) := by decide +kernel
theorem dX10_poke_50 : decode cX10_poke 50 = .ok (.if_icmp .gt 23, 3) := by decide +kernel
theorem dX10_poke_53 : decode cX10_poke 53 = .ok (.iload 4, 2) := by decide +kernel
theorem dX10_poke_55 : decode cX10_poke 55 = .ok (.ifCond .lt 18, 3) := by decide +kernel
theorem dX10_poke_58 : decode cX10_poke 58 = .ok (.iload 4, 2) := by decide +kernel
theorem dX10_poke_60 : decode cX10_poke 60 = .ok (.iload_n 2, 1) := by decide +kernel
theorem dX10_poke_61 : decode cX10_poke 61 = .ok (.ifCond .ge 8, 3) := by decide +kernel
theorem dX10_poke_64 : decode cX10_poke 64 = .ok (.bipush 12, 2) := by decide +kernel
theorem dX10_poke_66 : decode cX10_poke 66 = .ok (.goto 4, 3) := by decide +kernel
theorem dX10_poke_69 : decode cX10_poke 69 = .ok (.iconst 0, 1) := by decide +kernel
theorem dX10_poke_70 : decode cX10_poke 70 = .ok (.if_icmp .le 5, 3) := by decide +kernel
theorem dX10_poke_73 : decode cX10_poke 73 = .ok (.iconst (-1), 1) := by decide +kernel
theorem dX10_poke_74 : decode cX10_poke 74 = .ok (.ireturn, 1) := by decide +kernel
theorem dX10_poke_75 : decode cX10_poke 75 = .ok (.iload_n 2, 1) := by decide +kernel
theorem dX10_poke_76 : decode cX10_poke 76 = .ok (.ifCond .ge 11, 3) := by decide +kernel
theorem dX10_poke_79 : decode cX10_poke 79 = .ok (.aload 6, 2) := by decide +kernel
theorem dX10_poke_81 : decode cX10_poke 81 = .ok (.getfield 207, 3) := by decide +kernel
theorem dX10_poke_84 : decode cX10_poke 84 = .ok (.goto 8, 3) := by decide +kernel
theorem dX10_poke_87 : decode cX10_poke 87 = .ok (.aload 6, 2) := by decide +kernel
theorem dX10_poke_89 : decode cX10_poke 89 = .ok (.getfield 237, 3) := by decide +kernel
theorem dX10_poke_92 : decode cX10_poke 92 = .ok (.astore 7, 2) := by decide +kernel
theorem dX10_poke_94 : decode cX10_poke 94 = .ok (.iload_n 2, 1) := by decide +kernel
theorem dX10_poke_95 : decode cX10_poke 95 = .ok (.ifCond .ge 13, 3) := by decide +kernel
theorem dX10_poke_98 : decode cX10_poke 98 = .ok (.bipush 25, 2) := by decide +kernel
theorem dX10_poke_100 : decode cX10_poke 100 = .ok (.iload 4, 2) := by decide +kernel
theorem dX10_poke_102 : decode cX10_poke 102 = .ok (.imul, 1) := by decide +kernel
theorem dX10_poke_103 : decode cX10_poke 103 = .ok (.iload_n 3, 1) := by decide +kernel
theorem dX10_poke_104 : decode cX10_poke 104 = .ok (.iadd, 1) := by decide +kernel
theorem dX10_poke_105 : decode cX10_poke 105 = .ok (.goto 9, 3) := by decide +kernel
theorem dX10_poke_108 : decode cX10_poke 108 = .ok (.bipush 25, 2) := by decide +kernel
theorem dX10_poke_110 : decode cX10_poke 110 = .ok (.iload_n 2, 1) := by decide +kernel
theorem dX10_poke_111 : decode cX10_poke 111 = .ok (.imul, 1) := by decide +kernel
theorem dX10_poke_112 : decode cX10_poke 112 = .ok (.iload_n 3, 1) := by decide +kernel
theorem dX10_poke_113 : decode cX10_poke 113 = .ok (.iadd, 1) := by decide +kernel
theorem dX10_poke_114 : decode cX10_poke 114 = .ok (.istore 8, 2) := by decide +kernel
theorem dX10_poke_116 : decode cX10_poke 116 = .ok (.aload 7, 2) := by decide +kernel
theorem dX10_poke_118 : decode cX10_poke 118 = .ok (.iload 8, 2) := by decide +kernel
theorem dX10_poke_120 : decode cX10_poke 120 = .ok (.iaload, 1) := by decide +kernel
theorem dX10_poke_121 : decode cX10_poke 121 = .ok (.istore 9, 2) := by decide +kernel
theorem dX10_poke_123 : decode cX10_poke 123 = .ok (.aload 7, 2) := by decide +kernel
theorem dX10_poke_125 : decode cX10_poke 125 = .ok (.iload 8, 2) := by decide +kernel
theorem dX10_poke_127 : decode cX10_poke 127 = .ok (.iload 5, 2) := by decide +kernel
theorem dX10_poke_129 : decode cX10_poke 129 = .ok (.invokestatic 600, 3) := by decide +kernel
theorem dX10_poke_132 : decode cX10_poke 132 = .ok (.iastore, 1) := by decide +kernel
theorem dX10_poke_133 : decode cX10_poke 133 = .ok (.iload_n 2, 1) := by decide +kernel
theorem dX10_poke_134 : decode cX10_poke 134 = .ok (.ifCond .ge 58, 3) := by decide +kernel
theorem dX10_poke_137 : decode cX10_poke 137 = .ok (.aload_n 0, 1) := by decide +kernel
theorem dX10_poke_138 : decode cX10_poke 138 = .ok (.invokevirtual 555, 3) := by decide +kernel
theorem dX10_poke_141 : decode cX10_poke 141 = .ok (.aload_n 0, 1) := by decide +kernel
theorem dX10_poke_142 : decode cX10_poke 142 = .ok (.invokevirtual 140, 3) := by decide +kernel
theorem dX10_poke_145 : decode cX10_poke 145 = .ok (.astore 10, 2) := by decide +kernel
theorem dX10_poke_147 : decode cX10_poke 147 = .ok (.aload_n 0, 1) := by decide +kernel
theorem dX10_poke_148 : decode cX10_poke 148 = .ok (.invokevirtual 140, 3) := by decide +kernel
theorem dX10_poke_151 : decode cX10_poke 151 = .ok (.astore 11, 2) := by decide +kernel
theorem dX10_poke_153 : decode cX10_poke 153 = .ok (.aload 10, 2) := by decide +kernel
theorem dX10_poke_155 : decode cX10_poke 155 = .ok (.aload 6, 2) := by decide +kernel
theorem dX10_poke_157 : decode cX10_poke 157 = .ok (.getfield 207, 3) := by decide +kernel
theorem dX10_poke_160 : decode cX10_poke 160 = .ok (.invokestatic 295, 3) := by decide +kernel
theorem dX10_poke_163 : decode cX10_poke 163 = .ok (.aload 11, 2) := by decide +kernel
theorem dX10_poke_165 : decode cX10_poke 165 = .ok (.aload 6, 2) := by decide +kernel
theorem dX10_poke_167 : decode cX10_poke 167 = .ok (.getfield 210, 3) := by decide +kernel
theorem dX10_poke_170 : decode cX10_poke 170 = .ok (.invokestatic 295, 3) := by decide +kernel
theorem dX10_poke_173 : decode cX10_poke 173 = .ok (.aload_n 0, 1) := by decide +kernel
theorem dX10_poke_174 : decode cX10_poke 174 = .ok (.aload 10, 2) := by decide +kernel
theorem dX10_poke_176 : decode cX10_poke 176 = .ok (.aload 11, 2) := by decide +kernel
theorem dX10_poke_178 : decode cX10_poke 178 = .ok (.invokevirtual 659, 3) := by decide +kernel
theorem dX10_poke_181 : decode cX10_poke 181 = .ok (.aload 6, 2) := by decide +kernel
theorem dX10_poke_183 : decode cX10_poke 183 = .ok (.aload 10, 2) := by decide +kernel
theorem dX10_poke_185 : decode cX10_poke 185 = .ok (.aload 11, 2) := by decide +kernel
theorem dX10_poke_187 : decode cX10_poke 187 = .ok (.invokestatic 261, 3) := by decide +kernel
theorem dX10_poke_190 : decode cX10_poke 190 = .ok (.istore 12, 2) := by decide +kernel
theorem dX10_poke_192 : decode cX10_poke 192 = .ok (.iload 9, 2) := by decide +kernel
theorem dX10_poke_194 : decode cX10_poke 194 = .ok (.ireturn, 1) := by decide +kernel
theorem dX10_holds_0 : decode cX10_holds 0 = .ok (.iload_n 1, 1) := by decide +kernel
theorem dX10_holds_1 : decode cX10_holds 1 = .ok (.invokestatic 551, 3) := by decide +kernel
theorem dX10_holds_4 : decode cX10_holds 4 = .ok (.ifCond .eq 10, 3) := by decide +kernel
theorem dX10_holds_7 : decode cX10_holds 7 = .ok (.iload_n 2, 1) := by decide +kernel
theorem dX10_holds_8 : decode cX10_holds 8 = .ok (.invokestatic 551, 3) := by decide +kernel
theorem dX10_holds_11 : decode cX10_holds 11 = .ok (.ifCond .ne 5, 3) := by decide +kernel
theorem dX10_holds_14 : decode cX10_holds 14 = .ok (.iconst (-1), 1) := by decide +kernel
theorem dX10_holds_15 : decode cX10_holds 15 = .ok (.ireturn, 1) := by decide +kernel
theorem dX10_holds_16 : decode cX10_holds 16 = .ok (.aload_n 0, 1) := by decide +kernel
theorem dX10_holds_17 : decode cX10_holds 17 = .ok (.getfield 450, 3) := by decide +kernel
theorem dX10_holds_20 : decode cX10_holds 20 = .ok (.iload_n 1, 1) := by decide +kernel
theorem dX10_holds_21 : decode cX10_holds 21 = .ok (.aaload, 1) := by decide +kernel
theorem dX10_holds_22 : decode cX10_holds 22 = .ok (.astore 6, 2) := by decide +kernel
theorem dX10_holds_24 : decode cX10_holds 24 = .ok (.aload_n 0, 1) := by decide +kernel
theorem dX10_holds_25 : decode cX10_holds 25 = .ok (.getfield 450, 3) := by decide +kernel
theorem dX10_holds_28 : decode cX10_holds 28 = .ok (.iload_n 2, 1) := by decide +kernel
theorem dX10_holds_29 : decode cX10_holds 29 = .ok (.aaload, 1) := by decide +kernel
theorem dX10_holds_30 : decode cX10_holds 30 = .ok (.astore 7, 2) := by decide +kernel
theorem dX10_holds_32 : decode cX10_holds 32 = .ok (.aload 6, 2) := by decide +kernel
theorem dX10_holds_34 : decode cX10_holds 34 = .ok (.getfield 202, 3) := by decide +kernel
theorem dX10_holds_37 : decode cX10_holds 37 = .ok (.iconst 3, 1) := by decide +kernel
theorem dX10_holds_38 : decode cX10_holds 38 = .ok (.if_icmp .ne 21, 3) := by decide +kernel
theorem dX10_holds_41 : decode cX10_holds 41 = .ok (.aload 7, 2) := by decide +kernel
theorem dX10_holds_43 : decode cX10_holds 43 = .ok (.getfield 202, 3) := by decide +kernel
theorem dX10_holds_46 : decode cX10_holds 46 = .ok (.iconst 1, 1) := by decide +kernel
theorem dX10_holds_47 : decode cX10_holds 47 = .ok (.if_icmp .eq 15, 3) := by decide +kernel
theorem dX10_holds_50 : decode cX10_holds 50 = .ok (.aload 7, 2) := by decide +kernel
theorem dX10_holds_52 : decode cX10_holds 52 = .ok (.getfield 202, 3) := by decide +kernel
theorem dX10_holds_55 : decode cX10_holds 55 = .ok (.iconst 2, 1) := by decide +kernel
theorem dX10_holds_56 : decode cX10_holds 56 = .ok (.if_icmp .eq 6, 3) := by decide +kernel
theorem dX10_holds_59 : decode cX10_holds 59 = .ok (.bipush (-3), 2) := by decide +kernel
theorem dX10_holds_61 : decode cX10_holds 61 = .ok (.ireturn, 1) := by decide +kernel
theorem dX10_holds_62 : decode cX10_holds 62 = .ok (.iload_n 3, 1) := by decide +kernel
theorem dX10_holds_63 : decode cX10_holds 63 = .ok (.invokestatic 682, 3) := by decide +kernel
theorem dX10_holds_66 : decode cX10_holds 66 = .ok (.ifCond .eq 42, 3) := by decide +kernel
theorem dX10_holds_69 : decode cX10_holds 69 = .ok (.iload 4, 2) := by decide +kernel
theorem dX10_holds_71 : decode cX10_holds 71 = .ok (.invokestatic 682, 3) := by decide +kernel
theorem dX10_holds_74 : decode cX10_holds 74 = .ok (.ifCond .eq 34, 3) := by decide +kernel
theorem dX10_holds_77 : decode cX10_holds 77 = .ok (.iload 5, 2) := by decide +kernel
theorem dX10_holds_79 : decode cX10_holds 79 = .ok (.invokestatic 682, 3) := by decide +kernel
theorem dX10_holds_82 : decode cX10_holds 82 = .ok (.ifCond .eq 26, 3) := by decide +kernel
theorem dX10_holds_85 : decode cX10_holds 85 = .ok (.iload_n 3, 1) := by decide +kernel
theorem dX10_holds_86 : decode cX10_holds 86 = .ok (.aload 6, 2) := by decide +kernel
theorem dX10_holds_88 : decode cX10_holds 88 = .ok (.getfield 234, 3) := by decide +kernel
theorem dX10_holds_91 : decode cX10_holds 91 = .ok (.iadd, 1) := by decide +kernel
theorem dX10_holds_92 : decode cX10_holds 92 = .ok (.sipush 500, 3) := by decide +kernel
theorem dX10_holds_95 : decode cX10_holds 95 = .ok (.if_icmp .gt 13, 3) := by decide +kernel
theorem dX10_holds_98 : decode cX10_holds 98 = .ok (.iload 5, 2) := by decide +kernel
theorem dX10_holds_100 : decode cX10_holds 100 = .ok (.iconst 1, 1) := by decide +kernel
theorem dX10_holds_101 : decode cX10_holds 101 = .ok (.iadd, 1) := by decide +kernel
theorem dX10_holds_102 : decode cX10_holds 102 = .ok (.sipush 500, 3) := by decide +kernel
theorem dX10_holds_105 : decode cX10_holds 105 = .ok (.if_icmp .le 5, 3) := by decide +kernel
theorem dX10_holds_108 : decode cX10_holds 108 = .ok (.iconst (-1), 1) := by decide +kernel
theorem dX10_holds_109 : decode cX10_holds 109 = .ok (.ireturn, 1) := by decide +kernel
theorem dX10_holds_110 : decode cX10_holds 110 = .ok (.iconst 0, 1) := by decide +kernel
theorem dX10_holds_111 : decode cX10_holds 111 = .ok (.istore 8, 2) := by decide +kernel
theorem dX10_holds_113 : decode cX10_holds 113 = .ok (.iconst 0, 1) := by decide +kernel
theorem dX10_holds_114 : decode cX10_holds 114 = .ok (.istore 9, 2) := by decide +kernel
theorem dX10_holds_116 : decode cX10_holds 116 = .ok (.iload 9, 2) := by decide +kernel
theorem dX10_holds_118 : decode cX10_holds 118 = .ok (.aload 6, 2) := by decide +kernel
theorem dX10_holds_120 : decode cX10_holds 120 = .ok (.getfield 234, 3) := by decide +kernel
theorem dX10_holds_123 : decode cX10_holds 123 = .ok (.if_icmp .gt 59, 3) := by decide +kernel
theorem dX10_holds_126 : decode cX10_holds 126 = .ok (.aload_n 0, 1) := by decide +kernel
theorem dX10_holds_127 : decode cX10_holds 127 = .ok (.aload 7, 2) := by decide +kernel
theorem dX10_holds_129 : decode cX10_holds 129 = .ok (.iload_n 3, 1) := by decide +kernel
theorem dX10_holds_130 : decode cX10_holds 130 = .ok (.iload 9, 2) := by decide +kernel
theorem dX10_holds_132 : decode cX10_holds 132 = .ok (.iadd, 1) := by decide +kernel
theorem dX10_holds_133 : decode cX10_holds 133 = .ok (.iload 4, 2) := by decide +kernel
theorem dX10_holds_135 : decode cX10_holds 135 = .ok (.iload 5, 2) := by decide +kernel
theorem dX10_holds_137 : decode cX10_holds 137 = .ok (.invokevirtual 691, 3) := by decide +kernel
theorem dX10_holds_140 : decode cX10_holds 140 = .ok (.istore 10, 2) := by decide +kernel
theorem dX10_holds_142 : decode cX10_holds 142 = .ok (.iload 10, 2) := by decide +kernel
theorem dX10_holds_144 : decode cX10_holds 144 = .ok (.iconst (-1), 1) := by decide +kernel
theorem dX10_holds_145 : decode cX10_holds 145 = .ok (.if_icmp .ne 5, 3) := by decide +kernel
theorem dX10_holds_148 : decode cX10_holds 148 = .ok (.iconst (-1), 1) := by decide +kernel
theorem dX10_holds_149 : decode cX10_holds 149 = .ok (.ireturn, 1) := by decide +kernel
theorem dX10_holds_150 : decode cX10_holds 150 = .ok (.iload 8, 2) := by decide +kernel
theorem dX10_holds_152 : decode cX10_holds 152 = .ok (.aload 6, 2) := by decide +kernel
theorem dX10_holds_154 : decode cX10_holds 154 = .ok (.getfield 237, 3) := by decide +kernel
theorem dX10_holds_157 : decode cX10_holds 157 = .ok (.bipush 25, 2) := by decide +kernel
theorem dX10_holds_159 : decode cX10_holds 159 = .ok (.iload 9, 2) := by decide +kernel
theorem dX10_holds_161 : decode cX10_holds 161 = .ok (.imul, 1) := by decide +kernel
theorem dX10_holds_162 : decode cX10_holds 162 = .ok (.iload_n 3, 1) := by decide +kernel
theorem dX10_holds_163 : decode cX10_holds 163 = .ok (.invokestatic 772, 3) := by decide +kernel
theorem dX10_holds_166 : decode cX10_holds 166 = .ok (.iload 10, 2) := by decide +kernel
theorem dX10_holds_168 : decode cX10_holds 168 = .ok (.invokestatic 56, 3) := by decide +kernel
theorem dX10_holds_171 : decode cX10_holds 171 = .ok (.invokestatic 49, 3) := by decide +kernel
theorem dX10_holds_174 : decode cX10_holds 174 = .ok (.istore 8, 2) := by decide +kernel
theorem dX10_holds_176 : decode cX10_holds 176 = .ok (.iinc 9 1, 3) := by decide +kernel
theorem dX10_holds_179 : decode cX10_holds 179 = .ok (.goto (-63), 3) := by decide +kernel
theorem dX10_holds_182 : decode cX10_holds 182 = .ok (.aload_n 0, 1) := by decide +kernel
theorem dX10_holds_183 : decode cX10_holds 183 = .ok (.aload 7, 2) := by decide +kernel
theorem dX10_holds_185 : decode cX10_holds 185 = .ok (.iload_n 3, 1) := by decide +kernel
theorem dX10_holds_186 : decode cX10_holds 186 = .ok (.iload 5, 2) := by decide +kernel
theorem dX10_holds_188 : decode cX10_holds 188 = .ok (.iconst 1, 1) := by decide +kernel
theorem dX10_holds_189 : decode cX10_holds 189 = .ok (.iadd, 1) := by decide +kernel
theorem dX10_holds_190 : decode cX10_holds 190 = .ok (.invokevirtual 688, 3) := by decide +kernel
theorem dX10_holds_193 : decode cX10_holds 193 = .ok (.istore 9, 2) := by decide +kernel
theorem dX10_holds_195 : decode cX10_holds 195 = .ok (.aload_n 0, 1) := by decide +kernel
theorem dX10_holds_196 : decode cX10_holds 196 = .ok (.aload 7, 2) := by decide +kernel
theorem dX10_holds_198 : decode cX10_holds 198 = .ok (.iload_n 3, 1) := by decide +kernel
theorem dX10_holds_199 : decode cX10_holds 199 = .ok (.iload 4, 2) := by decide +kernel
theorem dX10_holds_201 : decode cX10_holds 201 = .ok (.invokevirtual 688, 3) := by decide +kernel
theorem dX10_holds_204 : decode cX10_holds 204 = .ok (.istore 10, 2) := by decide +kernel
theorem dX10_holds_206 : decode cX10_holds 206 = .ok (.aload_n 0, 1) := by decide +kernel
theorem dX10_holds_207 : decode cX10_holds 207 = .ok (.aload 6, 2) := by decide +kernel
theorem dX10_holds_209 : decode cX10_holds 209 = .ok (.iload_n 3, 1) := by decide +kernel
theorem dX10_holds_210 : decode cX10_holds 210 = .ok (.iload 5, 2) := by decide +kernel
theorem dX10_holds_212 : decode cX10_holds 212 = .ok (.iconst 1, 1) := by decide +kernel
theorem dX10_holds_213 : decode cX10_holds 213 = .ok (.iadd, 1) := by decide +kernel
theorem dX10_holds_214 : decode cX10_holds 214 = .ok (.invokevirtual 678, 3) := by decide +kernel
theorem dX10_holds_217 : decode cX10_holds 217 = .ok (.istore 11, 2) := by decide +kernel
theorem dX10_holds_219 : decode cX10_holds 219 = .ok (.aload_n 0, 1) := by decide +kernel
theorem dX10_holds_220 : decode cX10_holds 220 = .ok (.aload 6, 2) := by decide +kernel
theorem dX10_holds_222 : decode cX10_holds 222 = .ok (.iload_n 3, 1) := by decide +kernel
theorem dX10_holds_223 : decode cX10_holds 223 = .ok (.iload 4, 2) := by decide +kernel
theorem dX10_holds_225 : decode cX10_holds 225 = .ok (.invokevirtual 678, 3) := by decide +kernel
theorem dX10_holds_228 : decode cX10_holds 228 = .ok (.istore 12, 2) := by decide +kernel
theorem dX10_holds_230 : decode cX10_holds 230 = .ok (.iload 9, 2) := by decide +kernel
theorem dX10_holds_232 : decode cX10_holds 232 = .ok (.iconst (-1), 1) := by decide +kernel
theorem dX10_holds_233 : decode cX10_holds 233 = .ok (.if_icmp .eq 21, 3) := by decide +kernel
theorem dX10_holds_236 : decode cX10_holds 236 = .ok (.iload 10, 2) := by decide +kernel
theorem dX10_holds_238 : decode cX10_holds 238 = .ok (.iconst (-1), 1) := by decide +kernel
theorem dX10_holds_239 : decode cX10_holds 239 = .ok (.if_icmp .eq 15, 3) := by decide +kernel
theorem dX10_holds_242 : decode cX10_holds 242 = .ok (.iload 11, 2) := by decide +kernel
theorem dX10_holds_244 : decode cX10_holds 244 = .ok (.iconst (-1), 1) := by decide +kernel
theorem dX10_holds_245 : decode cX10_holds 245 = .ok (.if_icmp .eq 9, 3) := by decide +kernel
theorem dX10_holds_248 : decode cX10_holds 248 = .ok (.iload 12, 2) := by decide +kernel
theorem dX10_holds_250 : decode cX10_holds 250 = .ok (.iconst (-1), 1) := by decide +kernel
theorem dX10_holds_251 : decode cX10_holds 251 = .ok (.if_icmp .ne 5, 3) := by decide +kernel
theorem dX10_holds_254 : decode cX10_holds 254 = .ok (.iconst (-1), 1) := by decide +kernel
theorem dX10_holds_255 : decode cX10_holds 255 = .ok (.ireturn, 1) := by decide +kernel
theorem dX10_holds_256 : decode cX10_holds 256 = .ok (.iload 8, 2) := by decide +kernel
theorem dX10_holds_258 : decode cX10_holds 258 = .ok (.iload 11, 2) := by decide +kernel
theorem dX10_holds_260 : decode cX10_holds 260 = .ok (.iload 9, 2) := by decide +kernel
theorem dX10_holds_262 : decode cX10_holds 262 = .ok (.invokestatic 56, 3) := by decide +kernel
theorem dX10_holds_265 : decode cX10_holds 265 = .ok (.iload 12, 2) := by decide +kernel
theorem dX10_holds_267 : decode cX10_holds 267 = .ok (.iload 10, 2) := by decide +kernel
theorem dX10_holds_269 : decode cX10_holds 269 = .ok (.invokestatic 56, 3) := by decide +kernel
theorem dX10_holds_272 : decode cX10_holds 272 = .ok (.invokestatic 46, 3) := by decide +kernel
theorem dX10_holds_275 : decode cX10_holds 275 = .ok (.if_icmp .ne 7, 3) := by decide +kernel
theorem dX10_holds_278 : decode cX10_holds 278 = .ok (.iconst 1, 1) := by decide +kernel
theorem dX10_holds_279 : decode cX10_holds 279 = .ok (.goto 4, 3) := by decide +kernel
theorem dX10_holds_282 : decode cX10_holds 282 = .ok (.iconst 0, 1) := by decide +kernel
theorem dX10_holds_283 : decode cX10_holds 283 = .ok (.ireturn, 1) := by decide +kernel
theorem dX10_row_0 : decode cX10_row 0 = .ok (.iload_n 1, 1) := by decide +kernel
theorem dX10_row_1 : decode cX10_row 1 = .ok (.invokestatic 551, 3) := by decide +kernel
theorem dX10_row_4 : decode cX10_row 4 = .ok (.ifCond .eq 10, 3) := by decide +kernel
theorem dX10_row_7 : decode cX10_row 7 = .ok (.iload_n 2, 1) := by decide +kernel
theorem dX10_row_8 : decode cX10_row 8 = .ok (.invokestatic 551, 3) := by decide +kernel
theorem dX10_row_11 : decode cX10_row 11 = .ok (.ifCond .ne 5, 3) := by decide +kernel
theorem dX10_row_14 : decode cX10_row 14 = .ok (.iconst (-1), 1) := by decide +kernel
theorem dX10_row_15 : decode cX10_row 15 = .ok (.ireturn, 1) := by decide +kernel
theorem dX10_row_16 : decode cX10_row 16 = .ok (.aload_n 0, 1) := by decide +kernel
theorem dX10_row_17 : decode cX10_row 17 = .ok (.getfield 450, 3) := by decide +kernel
theorem dX10_row_20 : decode cX10_row 20 = .ok (.iload_n 1, 1) := by decide +kernel
theorem dX10_row_21 : decode cX10_row 21 = .ok (.aaload, 1) := by decide +kernel
theorem dX10_row_22 : decode cX10_row 22 = .ok (.astore_n 3, 1) := by decide +kernel
theorem dX10_row_23 : decode cX10_row 23 = .ok (.aload_n 3, 1) := by decide +kernel
theorem dX10_row_24 : decode cX10_row 24 = .ok (.getfield 202, 3) := by decide +kernel
theorem dX10_row_27 : decode cX10_row 27 = .ok (.iconst 3, 1) := by decide +kernel
theorem dX10_row_28 : decode cX10_row 28 = .ok (.if_icmp .eq 6, 3) := by decide +kernel
theorem dX10_row_31 : decode cX10_row 31 = .ok (.bipush (-3), 2) := by decide +kernel
theorem dX10_row_33 : decode cX10_row 33 = .ok (.ireturn, 1) := by decide +kernel
theorem dX10_row_34 : decode cX10_row 34 = .ok (.aload_n 0, 1) := by decide +kernel
theorem dX10_row_35 : decode cX10_row 35 = .ok (.invokevirtual 555, 3) := by decide +kernel
theorem dX10_row_38 : decode cX10_row 38 = .ok (.iconst 0, 1) := by decide +kernel
theorem dX10_row_39 : decode cX10_row 39 = .ok (.istore 4, 2) := by decide +kernel
theorem dX10_row_41 : decode cX10_row 41 = .ok (.iload 4, 2) := by decide +kernel
theorem dX10_row_43 : decode cX10_row 43 = .ok (.aload_n 3, 1) := by decide +kernel
theorem dX10_row_44 : decode cX10_row 44 = .ok (.getfield 234, 3) := by decide +kernel
theorem dX10_row_47 : decode cX10_row 47 = .ok (.if_icmp .gt 39, 3) := by decide +kernel
theorem dX10_row_50 : decode cX10_row 50 = .ok (.aload_n 0, 1) := by decide +kernel
theorem dX10_row_51 : decode cX10_row 51 = .ok (.getfield 517, 3) := by decide +kernel
theorem dX10_row_54 : decode cX10_row 54 = .ok (.iload 4, 2) := by decide +kernel
theorem dX10_row_56 : decode cX10_row 56 = .ok (.aload_n 0, 1) := by decide +kernel
theorem dX10_row_57 : decode cX10_row 57 = .ok (.invokevirtual 74, 3) := by decide +kernel
theorem dX10_row_60 : decode cX10_row 60 = .ok (.aastore, 1) := by decide +kernel
theorem dX10_row_61 : decode cX10_row 61 = .ok (.aload_n 0, 1) := by decide +kernel
theorem dX10_row_62 : decode cX10_row 62 = .ok (.getfield 517, 3) := by decide +kernel
theorem dX10_row_65 : decode cX10_row 65 = .ok (.iload 4, 2) := by decide +kernel
theorem dX10_row_67 : decode cX10_row 67 = .ok (.aaload, 1) := by decide +kernel
theorem dX10_row_68 : decode cX10_row 68 = .ok (.aload_n 3, 1) := by decide +kernel
theorem dX10_row_69 : decode cX10_row 69 = .ok (.getfield 237, 3) := by decide +kernel
theorem dX10_row_72 : decode cX10_row 72 = .ok (.bipush 25, 2) := by decide +kernel
theorem dX10_row_74 : decode cX10_row 74 = .ok (.iload 4, 2) := by decide +kernel
theorem dX10_row_76 : decode cX10_row 76 = .ok (.imul, 1) := by decide +kernel
theorem dX10_row_77 : decode cX10_row 77 = .ok (.invokestatic 775, 3) := by decide +kernel
theorem dX10_row_80 : decode cX10_row 80 = .ok (.iinc 4 1, 3) := by decide +kernel
theorem dX10_row_83 : decode cX10_row 83 = .ok (.goto (-42), 3) := by decide +kernel
theorem dX10_row_86 : decode cX10_row 86 = .ok (.aload_n 3, 1) := by decide +kernel
theorem dX10_row_87 : decode cX10_row 87 = .ok (.getfield 234, 3) := by decide +kernel
theorem dX10_row_90 : decode cX10_row 90 = .ok (.iconst 1, 1) := by decide +kernel
theorem dX10_row_91 : decode cX10_row 91 = .ok (.if_icmp .lt 18, 3) := by decide +kernel
theorem dX10_row_94 : decode cX10_row 94 = .ok (.aload_n 0, 1) := by decide +kernel
theorem dX10_row_95 : decode cX10_row 95 = .ok (.getfield 517, 3) := by decide +kernel
theorem dX10_row_98 : decode cX10_row 98 = .ok (.aload_n 3, 1) := by decide +kernel
theorem dX10_row_99 : decode cX10_row 99 = .ok (.getfield 234, 3) := by decide +kernel
theorem dX10_row_102 : decode cX10_row 102 = .ok (.aaload, 1) := by decide +kernel
theorem dX10_row_103 : decode cX10_row 103 = .ok (.getfield 25, 3) := by decide +kernel
theorem dX10_row_106 : decode cX10_row 106 = .ok (.ifCond .ne 5, 3) := by decide +kernel
theorem dX10_row_109 : decode cX10_row 109 = .ok (.iconst (-1), 1) := by decide +kernel
theorem dX10_row_110 : decode cX10_row 110 = .ok (.ireturn, 1) := by decide +kernel
theorem dX10_row_111 : decode cX10_row 111 = .ok (.aload_n 0, 1) := by decide +kernel
theorem dX10_row_112 : decode cX10_row 112 = .ok (.aload_n 0, 1) := by decide +kernel
theorem dX10_row_113 : decode cX10_row 113 = .ok (.getfield 517, 3) := by decide +kernel
theorem dX10_row_116 : decode cX10_row 116 = .ok (.aload_n 3, 1) := by decide +kernel
theorem dX10_row_117 : decode cX10_row 117 = .ok (.getfield 234, 3) := by decide +kernel
theorem dX10_row_120 : decode cX10_row 120 = .ok (.invokevirtual 777, 3) := by decide +kernel
theorem dX10_row_123 : decode cX10_row 123 = .ok (.istore 4, 2) := by decide +kernel
theorem dX10_row_125 : decode cX10_row 125 = .ok (.aload_n 0, 1) := by decide +kernel
theorem dX10_row_126 : decode cX10_row 126 = .ok (.getfield 453, 3) := by decide +kernel
theorem dX10_row_129 : decode cX10_row 129 = .ok (.aload_n 0, 1) := by decide +kernel
theorem dX10_row_130 : decode cX10_row 130 = .ok (.getfield 453, 3) := by decide +kernel
theorem dX10_row_133 : decode cX10_row 133 = .ok (.getfield 237, 3) := by decide +kernel
theorem dX10_row_136 : decode cX10_row 136 = .ok (.aload_n 0, 1) := by decide +kernel
theorem dX10_row_137 : decode cX10_row 137 = .ok (.getfield 453, 3) := by decide +kernel
theorem dX10_row_140 : decode cX10_row 140 = .ok (.getfield 234, 3) := by decide +kernel
theorem dX10_row_143 : decode cX10_row 143 = .ok (.iconst 0, 1) := by decide +kernel
theorem dX10_row_144 : decode cX10_row 144 = .ok (.invokestatic 781, 3) := by decide +kernel
theorem dX10_row_147 : decode cX10_row 147 = .ok (.putfield 240, 3) := by decide +kernel
theorem dX10_row_150 : decode cX10_row 150 = .ok (.aload_n 0, 1) := by decide +kernel
theorem dX10_row_151 : decode cX10_row 151 = .ok (.getfield 453, 3) := by decide +kernel
theorem dX10_row_154 : decode cX10_row 154 = .ok (.getfield 240, 3) := by decide +kernel
theorem dX10_row_157 : decode cX10_row 157 = .ok (.bipush 60, 2) := by decide +kernel
theorem dX10_row_159 : decode cX10_row 159 = .ok (.if_icmp .le 6, 3) := by decide +kernel
theorem dX10_row_162 : decode cX10_row 162 = .ok (.bipush (-2), 2) := by decide +kernel
theorem dX10_row_164 : decode cX10_row 164 = .ok (.ireturn, 1) := by decide +kernel
theorem dX10_row_165 : decode cX10_row 165 = .ok (.aload_n 0, 1) := by decide +kernel
theorem dX10_row_166 : decode cX10_row 166 = .ok (.getfield 450, 3) := by decide +kernel
theorem dX10_row_169 : decode cX10_row 169 = .ok (.iload_n 2, 1) := by decide +kernel
theorem dX10_row_170 : decode cX10_row 170 = .ok (.aaload, 1) := by decide +kernel
theorem dX10_row_171 : decode cX10_row 171 = .ok (.aload_n 0, 1) := by decide +kernel
theorem dX10_row_172 : decode cX10_row 172 = .ok (.getfield 453, 3) := by decide +kernel
theorem dX10_row_175 : decode cX10_row 175 = .ok (.invokestatic 547, 3) := by decide +kernel
theorem dX10_row_178 : decode cX10_row 178 = .ok (.aload_n 0, 1) := by decide +kernel
theorem dX10_row_179 : decode cX10_row 179 = .ok (.getfield 453, 3) := by decide +kernel
theorem dX10_row_182 : decode cX10_row 182 = .ok (.getfield 240, 3) := by decide +kernel
theorem dX10_row_185 : decode cX10_row 185 = .ok (.ireturn, 1) := by decide +kernel
theorem dX10_load_2_0 : decode cX10_load_2 0 = .ok (.aload_n 1, 1) := by decide +kernel
theorem dX10_load_2_1 : decode cX10_load_2 1 = .ok (.iload_n 2, 1) := by decide +kernel
theorem dX10_load_2_2 : decode cX10_load_2 2 = .ok (.aload_n 0, 1) := by decide +kernel
theorem dX10_load_2_3 : decode cX10_load_2 3 = .ok (.getfield 30, 3) := by decide +kernel
theorem dX10_load_2_6 : decode cX10_load_2 6 = .ok (.iconst 0, 1) := by decide +kernel
theorem dX10_load_2_7 : decode cX10_load_2 7 = .ok (.bipush 25, 2) := by decide +kernel
theorem dX10_load_2_9 : decode cX10_load_2 9 = .ok (.invokestatic 34, 3) := by decide +kernel
theorem dX10_load_2_12 : decode cX10_load_2 12 = .ok (.aload_n 0, 1) := by decide +kernel
theorem dX10_load_2_13 : decode cX10_load_2 13 = .ok (.bipush 25, 2) := by decide +kernel
theorem dX10_load_2_15 : decode cX10_load_2 15 = .ok (.putfield 25, 3) := by decide +kernel
theorem dX10_load_2_18 : decode cX10_load_2 18 = .ok (.aload_n 0, 1) := by decide +kernel
theorem dX10_load_2_19 : decode cX10_load_2 19 = .ok (.invokevirtual 52, 3) := by decide +kernel
theorem dX10_load_2_22 : decode cX10_load_2 22 = .ok (.return_, 1) := by decide +kernel
theorem dX10_makeRow_0 : decode cX10_makeRow 0 = .ok (.aload_n 0, 1) := by decide +kernel
theorem dX10_makeRow_1 : decode cX10_makeRow 1 = .ok (.invokevirtual 74, 3) := by decide +kernel
theorem dX10_makeRow_4 : decode cX10_makeRow 4 = .ok (.astore_n 3, 1) := by decide +kernel
theorem dX10_makeRow_5 : decode cX10_makeRow 5 = .ok (.aload_n 3, 1) := by decide +kernel
theorem dX10_makeRow_6 : decode cX10_makeRow 6 = .ok (.iconst 0, 1) := by decide +kernel
theorem dX10_makeRow_7 : decode cX10_makeRow 7 = .ok (.putfield 25, 3) := by decide +kernel
theorem dX10_makeRow_10 : decode cX10_makeRow 10 = .ok (.iconst 0, 1) := by decide +kernel
theorem dX10_makeRow_11 : decode cX10_makeRow 11 = .ok (.istore 4, 2) := by decide +kernel
theorem dX10_makeRow_13 : decode cX10_makeRow 13 = .ok (.iload 4, 2) := by decide +kernel
theorem dX10_makeRow_15 : decode cX10_makeRow 15 = .ok (.iload_n 2, 1) := by decide +kernel
theorem dX10_makeRow_16 : decode cX10_makeRow 16 = .ok (.if_icmp .gt 19, 3) := by decide +kernel
theorem dX10_makeRow_19 : decode cX10_makeRow 19 = .ok (.aload_n 0, 1) := by decide +kernel
theorem dX10_makeRow_20 : decode cX10_makeRow 20 = .ok (.aload_n 3, 1) := by decide +kernel
theorem dX10_makeRow_21 : decode cX10_makeRow 21 = .ok (.aload_n 3, 1) := by decide +kernel
theorem dX10_makeRow_22 : decode cX10_makeRow 22 = .ok (.aload_n 1, 1) := by decide +kernel
theorem dX10_makeRow_23 : decode cX10_makeRow 23 = .ok (.iload 4, 2) := by decide +kernel
theorem dX10_makeRow_25 : decode cX10_makeRow 25 = .ok (.aaload, 1) := by decide +kernel
theorem dX10_makeRow_26 : decode cX10_makeRow 26 = .ok (.invokevirtual 125, 3) := by decide +kernel
theorem dX10_makeRow_29 : decode cX10_makeRow 29 = .ok (.iinc 4 1, 3) := by decide +kernel
theorem dX10_makeRow_32 : decode cX10_makeRow 32 = .ok (.goto (-19), 3) := by decide +kernel
theorem dX10_makeRow_35 : decode cX10_makeRow 35 = .ok (.aload_n 0, 1) := by decide +kernel
theorem dX10_makeRow_36 : decode cX10_makeRow 36 = .ok (.getfield 453, 3) := by decide +kernel
theorem dX10_makeRow_39 : decode cX10_makeRow 39 = .ok (.invokestatic 257, 3) := by decide +kernel
theorem dX10_makeRow_42 : decode cX10_makeRow 42 = .ok (.aload_n 0, 1) := by decide +kernel
theorem dX10_makeRow_43 : decode cX10_makeRow 43 = .ok (.getfield 453, 3) := by decide +kernel
theorem dX10_makeRow_46 : decode cX10_makeRow 46 = .ok (.iconst 4, 1) := by decide +kernel
theorem dX10_makeRow_47 : decode cX10_makeRow 47 = .ok (.putfield 202, 3) := by decide +kernel
theorem dX10_makeRow_50 : decode cX10_makeRow 50 = .ok (.aload_n 0, 1) := by decide +kernel
theorem dX10_makeRow_51 : decode cX10_makeRow 51 = .ok (.getfield 453, 3) := by decide +kernel
theorem dX10_makeRow_54 : decode cX10_makeRow 54 = .ok (.iload_n 2, 1) := by decide +kernel
theorem dX10_makeRow_55 : decode cX10_makeRow 55 = .ok (.putfield 234, 3) := by decide +kernel
theorem dX10_makeRow_58 : decode cX10_makeRow 58 = .ok (.aload_n 0, 1) := by decide +kernel
theorem dX10_makeRow_59 : decode cX10_makeRow 59 = .ok (.getfield 453, 3) := by decide +kernel
theorem dX10_makeRow_62 : decode cX10_makeRow 62 = .ok (.iconst 0, 1) := by decide +kernel
theorem dX10_makeRow_63 : decode cX10_makeRow 63 = .ok (.putfield 243, 3) := by decide +kernel
theorem dX10_makeRow_66 : decode cX10_makeRow 66 = .ok (.iconst 0, 1) := by decide +kernel
theorem dX10_makeRow_67 : decode cX10_makeRow 67 = .ok (.istore 4, 2) := by decide +kernel
theorem dX10_makeRow_69 : decode cX10_makeRow 69 = .ok (.iload 4, 2) := by decide +kernel
theorem dX10_makeRow_71 : decode cX10_makeRow 71 = .ok (.sipush 175, 3) := by decide +kernel
theorem dX10_makeRow_74 : decode cX10_makeRow 74 = .ok (.if_icmp .ge 20, 3) := by decide +kernel
theorem dX10_makeRow_77 : decode cX10_makeRow 77 = .ok (.aload_n 0, 1) := by decide +kernel
theorem dX10_makeRow_78 : decode cX10_makeRow 78 = .ok (.getfield 453, 3) := by decide +kernel
theorem dX10_makeRow_81 : decode cX10_makeRow 81 = .ok (.getfield 237, 3) := by decide +kernel
theorem dX10_makeRow_84 : decode cX10_makeRow 84 = .ok (.iload 4, 2) := by decide +kernel
theorem dX10_makeRow_86 : decode cX10_makeRow 86 = .ok (.iconst 0, 1) := by decide +kernel
theorem dX10_makeRow_87 : decode cX10_makeRow 87 = .ok (.iastore, 1) := by decide +kernel
theorem dX10_makeRow_88 : decode cX10_makeRow 88 = .ok (.iinc 4 1, 3) := by decide +kernel
theorem dX10_makeRow_91 : decode cX10_makeRow 91 = .ok (.goto (-22), 3) := by decide +kernel
theorem dX10_makeRow_94 : decode cX10_makeRow 94 = .ok (.iconst 1, 1) := by decide +kernel
theorem dX10_makeRow_95 : decode cX10_makeRow 95 = .ok (.istore 4, 2) := by decide +kernel
theorem dX10_makeRow_97 : decode cX10_makeRow 97 = .ok (.iconst 1, 1) := by decide +kernel
theorem dX10_makeRow_98 : decode cX10_makeRow 98 = .ok (.istore 5, 2) := by decide +kernel
theorem dX10_makeRow_100 : decode cX10_makeRow 100 = .ok (.iload_n 2, 1) := by decide +kernel
theorem dX10_makeRow_101 : decode cX10_makeRow 101 = .ok (.istore 6, 2) := by decide +kernel
theorem dX10_makeRow_103 : decode cX10_makeRow 103 = .ok (.iload 6, 2) := by decide +kernel
theorem dX10_makeRow_105 : decode cX10_makeRow 105 = .ok (.ifCond .lt 104, 3) := by decide +kernel
theorem dX10_makeRow_108 : decode cX10_makeRow 108 = .ok (.aload_n 0, 1) := by decide +kernel
theorem dX10_makeRow_109 : decode cX10_makeRow 109 = .ok (.aload_n 1, 1) := by decide +kernel
theorem dX10_makeRow_110 : decode cX10_makeRow 110 = .ok (.iload 6, 2) := by decide +kernel
theorem dX10_makeRow_112 : decode cX10_makeRow 112 = .ok (.aaload, 1) := by decide +kernel
theorem dX10_makeRow_113 : decode cX10_makeRow 113 = .ok (.aload_n 1, 1) := by decide +kernel
theorem dX10_makeRow_114 : decode cX10_makeRow 114 = .ok (.iload 6, 2) := by decide +kernel
theorem dX10_makeRow_116 : decode cX10_makeRow 116 = .ok (.aaload, 1) := by decide +kernel
theorem dX10_makeRow_117 : decode cX10_makeRow 117 = .ok (.aload_n 3, 1) := by decide +kernel
theorem dX10_makeRow_118 : decode cX10_makeRow 118 = .ok (.invokevirtual 110, 3) := by decide +kernel
theorem dX10_makeRow_121 : decode cX10_makeRow 121 = .ok (.iload 6, 2) := by decide +kernel
theorem dX10_makeRow_123 : decode cX10_makeRow 123 = .ok (.iload_n 2, 1) := by decide +kernel
theorem dX10_makeRow_124 : decode cX10_makeRow 124 = .ok (.if_icmp .ne 16, 3) := by decide +kernel
theorem dX10_makeRow_127 : decode cX10_makeRow 127 = .ok (.aload_n 1, 1) := by decide +kernel
theorem dX10_makeRow_128 : decode cX10_makeRow 128 = .ok (.iload 6, 2) := by decide +kernel
theorem dX10_makeRow_130 : decode cX10_makeRow 130 = .ok (.aaload, 1) := by decide +kernel
theorem dX10_makeRow_131 : decode cX10_makeRow 131 = .ok (.invokevirtual 66, 3) := by decide +kernel
theorem dX10_makeRow_134 : decode cX10_makeRow 134 = .ok (.invokestatic 13, 3) := by decide +kernel
theorem dX10_makeRow_137 : decode cX10_makeRow 137 = .ok (.goto 5, 3) := by decide +kernel
theorem dX10_makeRow_140 : decode cX10_makeRow 140 = .ok (.iload 5, 2) := by decide +kernel
theorem dX10_makeRow_142 : decode cX10_makeRow 142 = .ok (.istore 5, 2) := by decide +kernel
theorem dX10_makeRow_144 : decode cX10_makeRow 144 = .ok (.aload_n 1, 1) := by decide +kernel
theorem dX10_makeRow_145 : decode cX10_makeRow 145 = .ok (.iload 6, 2) := by decide +kernel
theorem dX10_makeRow_147 : decode cX10_makeRow 147 = .ok (.aaload, 1) := by decide +kernel
theorem dX10_makeRow_148 : decode cX10_makeRow 148 = .ok (.aload_n 1, 1) := by decide +kernel
theorem dX10_makeRow_149 : decode cX10_makeRow 149 = .ok (.iload 6, 2) := by decide +kernel
theorem dX10_makeRow_151 : decode cX10_makeRow 151 = .ok (.aaload, 1) := by decide +kernel
theorem dX10_makeRow_152 : decode cX10_makeRow 152 = .ok (.iload 5, 2) := by decide +kernel
theorem dX10_makeRow_154 : decode cX10_makeRow 154 = .ok (.invokestatic 70, 3) := by decide +kernel
theorem dX10_makeRow_157 : decode cX10_makeRow 157 = .ok (.iload 4, 2) := by decide +kernel
theorem dX10_makeRow_159 : decode cX10_makeRow 159 = .ok (.aload_n 1, 1) := by decide +kernel
theorem dX10_makeRow_160 : decode cX10_makeRow 160 = .ok (.iload 6, 2) := by decide +kernel
theorem dX10_makeRow_162 : decode cX10_makeRow 162 = .ok (.aaload, 1) := by decide +kernel
theorem dX10_makeRow_163 : decode cX10_makeRow 163 = .ok (.getfield 25, 3) := by decide +kernel
theorem dX10_makeRow_166 : decode cX10_makeRow 166 = .ok (.bipush 25, 2) := by decide +kernel
theorem dX10_makeRow_168 : decode cX10_makeRow 168 = .ok (.if_icmp .gt 7, 3) := by decide +kernel
theorem dX10_makeRow_171 : decode cX10_makeRow 171 = .ok (.iconst 1, 1) := by decide +kernel
theorem dX10_makeRow_172 : decode cX10_makeRow 172 = .ok (.goto 4, 3) := by decide +kernel
theorem dX10_makeRow_175 : decode cX10_makeRow 175 = .ok (.iconst 0, 1) := by decide +kernel
theorem dX10_makeRow_176 : decode cX10_makeRow 176 = .ok (.iand, 1) := by decide +kernel
theorem dX10_makeRow_177 : decode cX10_makeRow 177 = .ok (.istore 4, 2) := by decide +kernel
theorem dX10_makeRow_179 : decode cX10_makeRow 179 = .ok (.iload 4, 2) := by decide +kernel
theorem dX10_makeRow_181 : decode cX10_makeRow 181 = .ok (.ifCond .eq 22, 3) := by decide +kernel
theorem dX10_makeRow_184 : decode cX10_makeRow 184 = .ok (.aload_n 0, 1) := by decide +kernel
theorem dX10_makeRow_185 : decode cX10_makeRow 185 = .ok (.getfield 453, 3) := by decide +kernel
theorem dX10_makeRow_188 : decode cX10_makeRow 188 = .ok (.getfield 237, 3) := by decide +kernel
theorem dX10_makeRow_191 : decode cX10_makeRow 191 = .ok (.bipush 25, 2) := by decide +kernel
theorem dX10_makeRow_193 : decode cX10_makeRow 193 = .ok (.iload 6, 2) := by decide +kernel
theorem dX10_makeRow_195 : decode cX10_makeRow 195 = .ok (.imul, 1) := by decide +kernel
theorem dX10_makeRow_196 : decode cX10_makeRow 196 = .ok (.aload_n 1, 1) := by decide +kernel
theorem dX10_makeRow_197 : decode cX10_makeRow 197 = .ok (.iload 6, 2) := by decide +kernel
theorem dX10_makeRow_199 : decode cX10_makeRow 199 = .ok (.aaload, 1) := by decide +kernel
theorem dX10_makeRow_200 : decode cX10_makeRow 200 = .ok (.invokestatic 762, 3) := by decide +kernel
theorem dX10_makeRow_203 : decode cX10_makeRow 203 = .ok (.iinc 6 (-1), 3) := by decide +kernel
theorem dX10_makeRow_206 : decode cX10_makeRow 206 = .ok (.goto (-103), 3) := by decide +kernel
theorem dX10_makeRow_209 : decode cX10_makeRow 209 = .ok (.iload 4, 2) := by decide +kernel
theorem dX10_makeRow_211 : decode cX10_makeRow 211 = .ok (.ireturn, 1) := by decide +kernel
theorem dX10_needsOf_0 : decode cX10_needsOf 0 = .ok (.iload_n 1, 1) := by decide +kernel
theorem dX10_needsOf_1 : decode cX10_needsOf 1 = .ok (.iload_n 2, 1) := by decide +kernel
theorem dX10_needsOf_2 : decode cX10_needsOf 2 = .ok (.invokestatic 40, 3) := by decide +kernel
theorem dX10_needsOf_5 : decode cX10_needsOf 5 = .ok (.istore_n 3, 1) := by decide +kernel
theorem dX10_needsOf_6 : decode cX10_needsOf 6 = .ok (.iconst 0, 1) := by decide +kernel
theorem dX10_needsOf_7 : decode cX10_needsOf 7 = .ok (.istore 4, 2) := by decide +kernel
theorem dX10_needsOf_9 : decode cX10_needsOf 9 = .ok (.iload 4, 2) := by decide +kernel
theorem dX10_needsOf_11 : decode cX10_needsOf 11 = .ok (.sipush 300, 3) := by decide +kernel
theorem dX10_needsOf_14 : decode cX10_needsOf 14 = .ok (.if_icmp .gt 37, 3) := by decide +kernel
theorem dX10_needsOf_17 : decode cX10_needsOf 17 = .ok (.aload_n 0, 1) := by decide +kernel
theorem dX10_needsOf_18 : decode cX10_needsOf 18 = .ok (.bipush 25, 2) := by decide +kernel
theorem dX10_needsOf_20 : decode cX10_needsOf 20 = .ok (.iload_n 1, 1) := by decide +kernel
theorem dX10_needsOf_21 : decode cX10_needsOf 21 = .ok (.imul, 1) := by decide +kernel
theorem dX10_needsOf_22 : decode cX10_needsOf 22 = .ok (.iload 4, 2) := by decide +kernel
theorem dX10_needsOf_24 : decode cX10_needsOf 24 = .ok (.invokestatic 772, 3) := by decide +kernel
theorem dX10_needsOf_27 : decode cX10_needsOf 27 = .ok (.ifCond .ne 16, 3) := by decide +kernel
theorem dX10_needsOf_30 : decode cX10_needsOf 30 = .ok (.iload_n 3, 1) := by decide +kernel
theorem dX10_needsOf_31 : decode cX10_needsOf 31 = .ok (.iload_n 1, 1) := by decide +kernel
theorem dX10_needsOf_32 : decode cX10_needsOf 32 = .ok (.iconst 1, 1) := by decide +kernel
theorem dX10_needsOf_33 : decode cX10_needsOf 33 = .ok (.iadd, 1) := by decide +kernel
theorem dX10_needsOf_34 : decode cX10_needsOf 34 = .ok (.iload 4, 2) := by decide +kernel
theorem dX10_needsOf_36 : decode cX10_needsOf 36 = .ok (.iadd, 1) := by decide +kernel
theorem dX10_needsOf_37 : decode cX10_needsOf 37 = .ok (.invokestatic 40, 3) := by decide +kernel
theorem dX10_needsOf_40 : decode cX10_needsOf 40 = .ok (.goto 4, 3) := by decide +kernel
theorem dX10_needsOf_43 : decode cX10_needsOf 43 = .ok (.iload_n 3, 1) := by decide +kernel
theorem dX10_needsOf_44 : decode cX10_needsOf 44 = .ok (.istore_n 3, 1) := by decide +kernel
theorem dX10_needsOf_45 : decode cX10_needsOf 45 = .ok (.iinc 4 1, 3) := by decide +kernel
theorem dX10_needsOf_48 : decode cX10_needsOf 48 = .ok (.goto (-39), 3) := by decide +kernel
theorem dX10_needsOf_51 : decode cX10_needsOf 51 = .ok (.iload_n 3, 1) := by decide +kernel
theorem dX10_needsOf_52 : decode cX10_needsOf 52 = .ok (.ireturn, 1) := by decide +kernel
theorem dX10_first_0 : decode cX10_first 0 = .ok (.iload_n 1, 1) := by decide +kernel
theorem dX10_first_1 : decode cX10_first 1 = .ok (.invokestatic 551, 3) := by decide +kernel
theorem dX10_first_4 : decode cX10_first 4 = .ok (.ifCond .ne 5, 3) := by decide +kernel
theorem dX10_first_7 : decode cX10_first 7 = .ok (.iconst (-1), 1) := by decide +kernel
theorem dX10_first_8 : decode cX10_first 8 = .ok (.ireturn, 1) := by decide +kernel
theorem dX10_first_9 : decode cX10_first 9 = .ok (.aload_n 0, 1) := by decide +kernel
theorem dX10_first_10 : decode cX10_first 10 = .ok (.getfield 450, 3) := by decide +kernel
theorem dX10_first_13 : decode cX10_first 13 = .ok (.iload_n 1, 1) := by decide +kernel
theorem dX10_first_14 : decode cX10_first 14 = .ok (.aaload, 1) := by decide +kernel
theorem dX10_first_15 : decode cX10_first 15 = .ok (.astore_n 3, 1) := by decide +kernel
theorem dX10_first_16 : decode cX10_first 16 = .ok (.aload_n 3, 1) := by decide +kernel
theorem dX10_first_17 : decode cX10_first 17 = .ok (.getfield 202, 3) := by decide +kernel
theorem dX10_first_20 : decode cX10_first 20 = .ok (.iconst 4, 1) := by decide +kernel
theorem dX10_first_21 : decode cX10_first 21 = .ok (.if_icmp .eq 6, 3) := by decide +kernel
theorem dX10_first_24 : decode cX10_first 24 = .ok (.bipush (-3), 2) := by decide +kernel
theorem dX10_first_26 : decode cX10_first 26 = .ok (.ireturn, 1) := by decide +kernel
theorem dX10_first_27 : decode cX10_first 27 = .ok (.aload_n 3, 1) := by decide +kernel
theorem dX10_first_28 : decode cX10_first 28 = .ok (.getfield 243, 3) := by decide +kernel
theorem dX10_first_31 : decode cX10_first 31 = .ok (.aload_n 3, 1) := by decide +kernel
theorem dX10_first_32 : decode cX10_first 32 = .ok (.getfield 240, 3) := by decide +kernel
theorem dX10_first_35 : decode cX10_first 35 = .ok (.if_icmp .ne 5, 3) := by decide +kernel
theorem dX10_first_38 : decode cX10_first 38 = .ok (.iconst (-1), 1) := by decide +kernel
theorem dX10_first_39 : decode cX10_first 39 = .ok (.ireturn, 1) := by decide +kernel
theorem dX10_first_40 : decode cX10_first 40 = .ok (.aload_n 3, 1) := by decide +kernel
theorem dX10_first_41 : decode cX10_first 41 = .ok (.getfield 246, 3) := by decide +kernel
theorem dX10_first_44 : decode cX10_first 44 = .ok (.aload_n 3, 1) := by decide +kernel
theorem dX10_first_45 : decode cX10_first 45 = .ok (.dup, 1) := by decide +kernel
theorem dX10_first_46 : decode cX10_first 46 = .ok (.getfield 243, 3) := by decide +kernel
theorem dX10_first_49 : decode cX10_first 49 = .ok (.dup_x1, 1) := by decide +kernel
theorem dX10_first_50 : decode cX10_first 50 = .ok (.iconst 1, 1) := by decide +kernel
theorem dX10_first_51 : decode cX10_first 51 = .ok (.iadd, 1) := by decide +kernel
theorem dX10_first_52 : decode cX10_first 52 = .ok (.putfield 243, 3) := by decide +kernel
theorem dX10_first_55 : decode cX10_first 55 = .ok (.iload_n 2, 1) := by decide +kernel
theorem dX10_first_56 : decode cX10_first 56 = .ok (.invokestatic 600, 3) := by decide +kernel
theorem dX10_first_59 : decode cX10_first 59 = .ok (.iastore, 1) := by decide +kernel
theorem dX10_first_60 : decode cX10_first 60 = .ok (.aload_n 3, 1) := by decide +kernel
theorem dX10_first_61 : decode cX10_first 61 = .ok (.invokestatic 784, 3) := by decide +kernel
theorem dX10_first_64 : decode cX10_first 64 = .ok (.aload_n 3, 1) := by decide +kernel
theorem dX10_first_65 : decode cX10_first 65 = .ok (.getfield 243, 3) := by decide +kernel
theorem dX10_first_68 : decode cX10_first 68 = .ok (.ireturn, 1) := by decide +kernel
theorem dX10_fill_0 : decode cX10_fill 0 = .ok (.aload_n 0, 1) := by decide +kernel
theorem dX10_fill_1 : decode cX10_fill 1 = .ok (.getfield 243, 3) := by decide +kernel
theorem dX10_fill_4 : decode cX10_fill 4 = .ok (.aload_n 0, 1) := by decide +kernel
theorem dX10_fill_5 : decode cX10_fill 5 = .ok (.getfield 240, 3) := by decide +kernel
theorem dX10_fill_8 : decode cX10_fill 8 = .ok (.if_icmp .ge 4, 3) := by decide +kernel
theorem dX10_fill_11 : decode cX10_fill 11 = .ok (.return_, 1) := by decide +kernel
theorem dX10_fill_12 : decode cX10_fill 12 = .ok (.aload_n 0, 1) := by decide +kernel
theorem dX10_fill_13 : decode cX10_fill 13 = .ok (.getfield 240, 3) := by decide +kernel
theorem dX10_fill_16 : decode cX10_fill 16 = .ok (.istore_n 1, 1) := by decide +kernel
theorem dX10_fill_17 : decode cX10_fill 17 = .ok (.iload_n 1, 1) := by decide +kernel
theorem dX10_fill_18 : decode cX10_fill 18 = .ok (.sipush 300, 3) := by decide +kernel
theorem dX10_fill_21 : decode cX10_fill 21 = .ok (.if_icmp .gt 98, 3) := by decide +kernel
theorem dX10_fill_24 : decode cX10_fill 24 = .ok (.iload_n 1, 1) := by decide +kernel
theorem dX10_fill_25 : decode cX10_fill 25 = .ok (.aload_n 0, 1) := by decide +kernel
theorem dX10_fill_26 : decode cX10_fill 26 = .ok (.getfield 234, 3) := by decide +kernel
theorem dX10_fill_29 : decode cX10_fill 29 = .ok (.isub, 1) := by decide +kernel
theorem dX10_fill_30 : decode cX10_fill 30 = .ok (.istore_n 2, 1) := by decide +kernel
theorem dX10_fill_31 : decode cX10_fill 31 = .ok (.iconst 0, 1) := by decide +kernel
theorem dX10_fill_32 : decode cX10_fill 32 = .ok (.istore_n 3, 1) := by decide +kernel
theorem dX10_fill_33 : decode cX10_fill 33 = .ok (.iconst 0, 1) := by decide +kernel
theorem dX10_fill_34 : decode cX10_fill 34 = .ok (.istore 4, 2) := by decide +kernel
theorem dX10_fill_36 : decode cX10_fill 36 = .ok (.iload 4, 2) := by decide +kernel
theorem dX10_fill_38 : decode cX10_fill 38 = .ok (.aload_n 0, 1) := by decide +kernel
theorem dX10_fill_39 : decode cX10_fill 39 = .ok (.getfield 234, 3) := by decide +kernel
theorem dX10_fill_42 : decode cX10_fill 42 = .ok (.if_icmp .ge 39, 3) := by decide +kernel
theorem dX10_fill_45 : decode cX10_fill 45 = .ok (.iload_n 3, 1) := by decide +kernel
theorem dX10_fill_46 : decode cX10_fill 46 = .ok (.aload_n 0, 1) := by decide +kernel
theorem dX10_fill_47 : decode cX10_fill 47 = .ok (.getfield 237, 3) := by decide +kernel
theorem dX10_fill_50 : decode cX10_fill 50 = .ok (.bipush 25, 2) := by decide +kernel
theorem dX10_fill_52 : decode cX10_fill 52 = .ok (.iload 4, 2) := by decide +kernel
theorem dX10_fill_54 : decode cX10_fill 54 = .ok (.imul, 1) := by decide +kernel
theorem dX10_fill_55 : decode cX10_fill 55 = .ok (.iload_n 2, 1) := by decide +kernel
theorem dX10_fill_56 : decode cX10_fill 56 = .ok (.invokestatic 772, 3) := by decide +kernel
theorem dX10_fill_59 : decode cX10_fill 59 = .ok (.aload_n 0, 1) := by decide +kernel
theorem dX10_fill_60 : decode cX10_fill 60 = .ok (.getfield 246, 3) := by decide +kernel
theorem dX10_fill_63 : decode cX10_fill 63 = .ok (.iload_n 2, 1) := by decide +kernel
theorem dX10_fill_64 : decode cX10_fill 64 = .ok (.iload 4, 2) := by decide +kernel
theorem dX10_fill_66 : decode cX10_fill 66 = .ok (.iadd, 1) := by decide +kernel
theorem dX10_fill_67 : decode cX10_fill 67 = .ok (.iaload, 1) := by decide +kernel
theorem dX10_fill_68 : decode cX10_fill 68 = .ok (.invokestatic 56, 3) := by decide +kernel
theorem dX10_fill_71 : decode cX10_fill 71 = .ok (.invokestatic 49, 3) := by decide +kernel
theorem dX10_fill_74 : decode cX10_fill 74 = .ok (.istore_n 3, 1) := by decide +kernel
theorem dX10_fill_75 : decode cX10_fill 75 = .ok (.iinc 4 1, 3) := by decide +kernel
theorem dX10_fill_78 : decode cX10_fill 78 = .ok (.goto (-42), 3) := by decide +kernel
theorem dX10_fill_81 : decode cX10_fill 81 = .ok (.aload_n 0, 1) := by decide +kernel
theorem dX10_fill_82 : decode cX10_fill 82 = .ok (.getfield 246, 3) := by decide +kernel
theorem dX10_fill_85 : decode cX10_fill 85 = .ok (.iload_n 1, 1) := by decide +kernel
theorem dX10_fill_86 : decode cX10_fill 86 = .ok (.iconst 0, 1) := by decide +kernel
theorem dX10_fill_87 : decode cX10_fill 87 = .ok (.iload_n 3, 1) := by decide +kernel
theorem dX10_fill_88 : decode cX10_fill 88 = .ok (.invokestatic 46, 3) := by decide +kernel
theorem dX10_fill_91 : decode cX10_fill 91 = .ok (.aload_n 0, 1) := by decide +kernel
theorem dX10_fill_92 : decode cX10_fill 92 = .ok (.getfield 237, 3) := by decide +kernel
theorem dX10_fill_95 : decode cX10_fill 95 = .ok (.bipush 25, 2) := by decide +kernel
theorem dX10_fill_97 : decode cX10_fill 97 = .ok (.aload_n 0, 1) := by decide +kernel
theorem dX10_fill_98 : decode cX10_fill 98 = .ok (.getfield 234, 3) := by decide +kernel
theorem dX10_fill_101 : decode cX10_fill 101 = .ok (.imul, 1) := by decide +kernel
theorem dX10_fill_102 : decode cX10_fill 102 = .ok (.iload_n 2, 1) := by decide +kernel
theorem dX10_fill_103 : decode cX10_fill 103 = .ok (.invokestatic 772, 3) := by decide +kernel
theorem dX10_fill_106 : decode cX10_fill 106 = .ok (.invokestatic 13, 3) := by decide +kernel
theorem dX10_fill_109 : decode cX10_fill 109 = .ok (.invokestatic 56, 3) := by decide +kernel
theorem dX10_fill_112 : decode cX10_fill 112 = .ok (.iastore, 1) := by decide +kernel
theorem dX10_fill_113 : decode cX10_fill 113 = .ok (.iinc 1 1, 3) := by decide +kernel
theorem dX10_fill_116 : decode cX10_fill 116 = .ok (.goto (-99), 3) := by decide +kernel
theorem dX10_fill_119 : decode cX10_fill 119 = .ok (.return_, 1) := by decide +kernel
theorem dX10_at_0 : decode cX10_at 0 = .ok (.iload_n 1, 1) := by decide +kernel
theorem dX10_at_1 : decode cX10_at 1 = .ok (.invokestatic 551, 3) := by decide +kernel
theorem dX10_at_4 : decode cX10_at 4 = .ok (.ifCond .ne 5, 3) := by decide +kernel
theorem dX10_at_7 : decode cX10_at 7 = .ok (.iconst (-1), 1) := by decide +kernel
theorem dX10_at_8 : decode cX10_at 8 = .ok (.ireturn, 1) := by decide +kernel
theorem dX10_at_9 : decode cX10_at 9 = .ok (.aload_n 0, 1) := by decide +kernel
theorem dX10_at_10 : decode cX10_at 10 = .ok (.getfield 450, 3) := by decide +kernel
theorem dX10_at_13 : decode cX10_at 13 = .ok (.iload_n 1, 1) := by decide +kernel
theorem dX10_at_14 : decode cX10_at 14 = .ok (.aaload, 1) := by decide +kernel
theorem dX10_at_15 : decode cX10_at 15 = .ok (.astore_n 3, 1) := by decide +kernel
theorem dX10_at_16 : decode cX10_at 16 = .ok (.aload_n 3, 1) := by decide +kernel
theorem dX10_at_17 : decode cX10_at 17 = .ok (.getfield 202, 3) := by decide +kernel
theorem dX10_at_20 : decode cX10_at 20 = .ok (.iconst 4, 1) := by decide +kernel
theorem dX10_at_21 : decode cX10_at 21 = .ok (.if_icmp .eq 6, 3) := by decide +kernel
theorem dX10_at_24 : decode cX10_at 24 = .ok (.bipush (-3), 2) := by decide +kernel
theorem dX10_at_26 : decode cX10_at 26 = .ok (.ireturn, 1) := by decide +kernel
theorem dX10_at_27 : decode cX10_at 27 = .ok (.iload_n 2, 1) := by decide +kernel
theorem dX10_at_28 : decode cX10_at 28 = .ok (.ifCond .lt 21, 3) := by decide +kernel
theorem dX10_at_31 : decode cX10_at 31 = .ok (.iload_n 2, 1) := by decide +kernel
theorem dX10_at_32 : decode cX10_at 32 = .ok (.sipush 300, 3) := by decide +kernel
theorem dX10_at_35 : decode cX10_at 35 = .ok (.if_icmp .gt 14, 3) := by decide +kernel
theorem dX10_at_38 : decode cX10_at 38 = .ok (.aload_n 3, 1) := by decide +kernel
theorem dX10_at_39 : decode cX10_at 39 = .ok (.getfield 243, 3) := by decide +kernel
theorem dX10_at_42 : decode cX10_at 42 = .ok (.aload_n 3, 1) := by decide +kernel
theorem dX10_at_43 : decode cX10_at 43 = .ok (.getfield 240, 3) := by decide +kernel
theorem dX10_at_46 : decode cX10_at 46 = .ok (.if_icmp .ge 7, 3) := by decide +kernel
theorem dX10_at_49 : decode cX10_at 49 = .ok (.iconst (-1), 1) := by decide +kernel
theorem dX10_at_50 : decode cX10_at 50 = .ok (.goto 9, 3) := by decide +kernel
theorem dX10_at_53 : decode cX10_at 53 = .ok (.aload_n 3, 1) := by decide +kernel
theorem dX10_at_54 : decode cX10_at 54 = .ok (.getfield 246, 3) := by decide +kernel
theorem dX10_at_57 : decode cX10_at 57 = .ok (.iload_n 2, 1) := by decide +kernel
theorem dX10_at_58 : decode cX10_at 58 = .ok (.iaload, 1) := by decide +kernel
theorem dX10_at_59 : decode cX10_at 59 = .ok (.ireturn, 1) := by decide +kernel
theorem dX10_join_0 : decode cX10_join 0 = .ok (.iload_n 1, 1) := by decide +kernel
theorem dX10_join_1 : decode cX10_join 1 = .ok (.ifCond .lt 8, 3) := by decide +kernel
theorem dX10_join_4 : decode cX10_join 4 = .ok (.iload_n 1, 1) := by decide +kernel
theorem dX10_join_5 : decode cX10_join 5 = .ok (.iconst 2, 1) := by decide +kernel
theorem dX10_join_6 : decode cX10_join 6 = .ok (.if_icmp .le 8, 3) := by decide +kernel
theorem dX10_join_9 : decode cX10_join 9 = .ok (.iload_n 1, 1) := by decide +kernel
theorem dX10_join_10 : decode cX10_join 10 = .ok (.iconst 5, 1) := by decide +kernel
theorem dX10_join_11 : decode cX10_join 11 = .ok (.if_icmp .ne 7, 3) := by decide +kernel
theorem dX10_join_14 : decode cX10_join 14 = .ok (.iconst 1, 1) := by decide +kernel
theorem dX10_join_15 : decode cX10_join 15 = .ok (.goto 4, 3) := by decide +kernel
theorem dX10_join_18 : decode cX10_join 18 = .ok (.iconst 0, 1) := by decide +kernel
theorem dX10_join_19 : decode cX10_join 19 = .ok (.istore 5, 2) := by decide +kernel
theorem dX10_join_21 : decode cX10_join 21 = .ok (.iload_n 2, 1) := by decide +kernel
theorem dX10_join_22 : decode cX10_join 22 = .ok (.invokestatic 551, 3) := by decide +kernel
theorem dX10_join_25 : decode cX10_join 25 = .ok (.ifCond .eq 23, 3) := by decide +kernel
theorem dX10_join_28 : decode cX10_join 28 = .ok (.iload 5, 2) := by decide +kernel
theorem dX10_join_30 : decode cX10_join 30 = .ok (.ifCond .eq 10, 3) := by decide +kernel
theorem dX10_join_33 : decode cX10_join 33 = .ok (.iload_n 3, 1) := by decide +kernel
theorem dX10_join_34 : decode cX10_join 34 = .ok (.invokestatic 551, 3) := by decide +kernel
theorem dX10_join_37 : decode cX10_join 37 = .ok (.ifCond .eq 11, 3) := by decide +kernel
theorem dX10_join_40 : decode cX10_join 40 = .ok (.iload 4, 2) := by decide +kernel
theorem dX10_join_42 : decode cX10_join 42 = .ok (.invokestatic 551, 3) := by decide +kernel
theorem dX10_join_45 : decode cX10_join 45 = .ok (.ifCond .ne 5, 3) := by decide +kernel
theorem dX10_join_48 : decode cX10_join 48 = .ok (.iconst (-1), 1) := by decide +kernel
theorem dX10_join_49 : decode cX10_join 49 = .ok (.ireturn, 1) := by decide +kernel
theorem dX10_join_50 : decode cX10_join 50 = .ok (.aload_n 0, 1) := by decide +kernel
theorem dX10_join_51 : decode cX10_join 51 = .ok (.getfield 450, 3) := by decide +kernel
theorem dX10_join_54 : decode cX10_join 54 = .ok (.iload_n 2, 1) := by decide +kernel
theorem dX10_join_55 : decode cX10_join 55 = .ok (.aaload, 1) := by decide +kernel
theorem dX10_join_56 : decode cX10_join 56 = .ok (.astore 6, 2) := by decide +kernel
theorem dX10_join_58 : decode cX10_join 58 = .ok (.aload 6, 2) := by decide +kernel
theorem dX10_join_60 : decode cX10_join 60 = .ok (.getfield 202, 3) := by decide +kernel
theorem dX10_join_63 : decode cX10_join 63 = .ok (.iconst 4, 1) := by decide +kernel
theorem dX10_join_64 : decode cX10_join 64 = .ok (.if_icmp .eq 6, 3) := by decide +kernel
theorem dX10_join_67 : decode cX10_join 67 = .ok (.bipush (-3), 2) := by decide +kernel
theorem dX10_join_69 : decode cX10_join 69 = .ok (.ireturn, 1) := by decide +kernel
theorem dX10_join_70 : decode cX10_join 70 = .ok (.iload 5, 2) := by decide +kernel
theorem dX10_join_72 : decode cX10_join 72 = .ok (.ifCond .eq 12, 3) := by decide +kernel
theorem dX10_join_75 : decode cX10_join 75 = .ok (.aload_n 0, 1) := by decide +kernel
theorem dX10_join_76 : decode cX10_join 76 = .ok (.getfield 450, 3) := by decide +kernel
theorem dX10_join_79 : decode cX10_join 79 = .ok (.iload_n 3, 1) := by decide +kernel
theorem dX10_join_80 : decode cX10_join 80 = .ok (.aaload, 1) := by decide +kernel
theorem dX10_join_81 : decode cX10_join 81 = .ok (.goto 5, 3) := by decide +kernel
theorem dX10_join_84 : decode cX10_join 84 = .ok (.aload 6, 2) := by decide +kernel
theorem dX10_join_86 : decode cX10_join 86 = .ok (.astore 7, 2) := by decide +kernel
theorem dX10_join_88 : decode cX10_join 88 = .ok (.iload_n 1, 1) := by decide +kernel
theorem dX10_join_89 : decode cX10_join 89 = .ok (.ifCond .lt 20, 3) := by decide +kernel
theorem dX10_join_92 : decode cX10_join 92 = .ok (.iload_n 1, 1) := by decide +kernel
theorem dX10_join_93 : decode cX10_join 93 = .ok (.iconst 2, 1) := by decide +kernel
theorem dX10_join_94 : decode cX10_join 94 = .ok (.if_icmp .gt 15, 3) := by decide +kernel
theorem dX10_join_97 : decode cX10_join 97 = .ok (.aload 7, 2) := by decide +kernel
theorem dX10_join_99 : decode cX10_join 99 = .ok (.getfield 202, 3) := by decide +kernel
theorem dX10_join_102 : decode cX10_join 102 = .ok (.iconst 4, 1) := by decide +kernel
theorem dX10_join_103 : decode cX10_join 103 = .ok (.if_icmp .eq 6, 3) := by decide +kernel
theorem dX10_join_106 : decode cX10_join 106 = .ok (.bipush (-3), 2) := by decide +kernel
theorem dX10_join_108 : decode cX10_join 108 = .ok (.ireturn, 1) := by decide +kernel
theorem dX10_join_109 : decode cX10_join 109 = .ok (.iload_n 1, 1) := by decide +kernel
theorem dX10_join_110 : decode cX10_join 110 = .ok (.iconst 5, 1) := by decide +kernel
theorem dX10_join_111 : decode cX10_join 111 = .ok (.if_icmp .ne 34, 3) := by decide +kernel
theorem dX10_join_114 : decode cX10_join 114 = .ok (.aload 7, 2) := by decide +kernel
theorem dX10_join_116 : decode cX10_join 116 = .ok (.invokestatic 637, 3) := by decide +kernel
theorem dX10_join_119 : decode cX10_join 119 = .ok (.ifCond .eq 23, 3) := by decide +kernel
theorem dX10_join_122 : decode cX10_join 122 = .ok (.aload 7, 2) := by decide +kernel
theorem dX10_join_124 : decode cX10_join 124 = .ok (.invokestatic 288, 3) := by decide +kernel
theorem dX10_join_127 : decode cX10_join 127 = .ok (.ifCond .ne 15, 3) := by decide +kernel
theorem dX10_join_130 : decode cX10_join 130 = .ok (.aload 7, 2) := by decide +kernel
theorem dX10_join_132 : decode cX10_join 132 = .ok (.getfield 207, 3) := by decide +kernel
theorem dX10_join_135 : decode cX10_join 135 = .ok (.iconst 1, 1) := by decide +kernel
theorem dX10_join_136 : decode cX10_join 136 = .ok (.invokestatic 603, 3) := by decide +kernel
theorem dX10_join_139 : decode cX10_join 139 = .ok (.ifCond .le 6, 3) := by decide +kernel
theorem dX10_join_142 : decode cX10_join 142 = .ok (.bipush (-3), 2) := by decide +kernel
theorem dX10_join_144 : decode cX10_join 144 = .ok (.ireturn, 1) := by decide +kernel
theorem dX10_join_145 : decode cX10_join 145 = .ok (.iload_n 1, 1) := by decide +kernel
theorem dX10_join_146 : decode cX10_join 146 = .ok (.ifCond .lt 39, 3) := by decide +kernel
theorem dX10_join_149 : decode cX10_join 149 = .ok (.iload_n 1, 1) := by decide +kernel
theorem dX10_join_150 : decode cX10_join 150 = .ok (.iconst 5, 1) := by decide +kernel
theorem dX10_join_151 : decode cX10_join 151 = .ok (.if_icmp .gt 34, 3) := by decide +kernel
theorem dX10_join_154 : decode cX10_join 154 = .ok (.aload 6, 2) := by decide +kernel
theorem dX10_join_156 : decode cX10_join 156 = .ok (.getfield 243, 3) := by decide +kernel
theorem dX10_join_159 : decode cX10_join 159 = .ok (.aload 6, 2) := by decide +kernel
theorem dX10_join_161 : decode cX10_join 161 = .ok (.getfield 240, 3) := by decide +kernel
theorem dX10_join_164 : decode cX10_join 164 = .ok (.if_icmp .lt 21, 3) := by decide +kernel
theorem dX10_join_167 : decode cX10_join 167 = .ok (.iload_n 1, 1) := by decide +kernel
theorem dX10_join_168 : decode cX10_join 168 = .ok (.iconst 2, 1) := by decide +kernel
theorem dX10_join_169 : decode cX10_join 169 = .ok (.if_icmp .gt 18, 3) := by decide +kernel
theorem dX10_join_172 : decode cX10_join 172 = .ok (.aload 7, 2) := by decide +kernel
theorem dX10_join_174 : decode cX10_join 174 = .ok (.getfield 243, 3) := by decide +kernel
theorem dX10_join_177 : decode cX10_join 177 = .ok (.aload 7, 2) := by decide +kernel
theorem dX10_join_179 : decode cX10_join 179 = .ok (.getfield 240, 3) := by decide +kernel
theorem dX10_join_182 : decode cX10_join 182 = .ok (.if_icmp .ge 5, 3) := by decide +kernel
theorem dX10_join_185 : decode cX10_join 185 = .ok (.iconst (-1), 1) := by decide +kernel
theorem dX10_join_186 : decode cX10_join 186 = .ok (.ireturn, 1) := by decide +kernel
theorem dX10_join_187 : decode cX10_join 187 = .ok (.aload_n 0, 1) := by decide +kernel
theorem dX10_join_188 : decode cX10_join 188 = .ok (.invokevirtual 555, 3) := by decide +kernel
theorem dX10_join_191 : decode cX10_join 191 = .ok (.iload_n 1, 1) := by decide +kernel
theorem dX10_join_192 : decode cX10_join 192 = .ok (.iconst 5, 1) := by decide +kernel
theorem dX10_join_193 : decode cX10_join 193 = .ok (.if_icmp .ne 7, 3) := by decide +kernel
theorem dX10_join_196 : decode cX10_join 196 = .ok (.iconst 1, 1) := by decide +kernel
theorem dX10_join_197 : decode cX10_join 197 = .ok (.goto 8, 3) := by decide +kernel
theorem dX10_join_200 : decode cX10_join 200 = .ok (.aload 7, 2) := by decide +kernel
theorem dX10_join_202 : decode cX10_join 202 = .ok (.getfield 234, 3) := by decide +kernel
theorem dX10_join_205 : decode cX10_join 205 = .ok (.istore 8, 2) := by decide +kernel
theorem dX10_join_207 : decode cX10_join 207 = .ok (.iload_n 1, 1) := by decide +kernel
theorem dX10_join_208 : decode cX10_join 208 = .ok (.iconst 2, 1) := by decide +kernel
theorem dX10_join_209 : decode cX10_join 209 = .ok (.if_icmp .ne 14, 3) := by decide +kernel
theorem dX10_join_212 : decode cX10_join 212 = .ok (.aload 6, 2) := by decide +kernel
theorem dX10_join_214 : decode cX10_join 214 = .ok (.getfield 234, 3) := by decide +kernel
theorem dX10_join_217 : decode cX10_join 217 = .ok (.iload 8, 2) := by decide +kernel
theorem dX10_join_219 : decode cX10_join 219 = .ok (.imul, 1) := by decide +kernel
theorem dX10_join_220 : decode cX10_join 220 = .ok (.goto 24, 3) := by decide +kernel
theorem dX10_join_223 : decode cX10_join 223 = .ok (.iload_n 1, 1) := by decide +kernel
theorem dX10_join_224 : decode cX10_join 224 = .ok (.iconst 2, 1) := by decide +kernel
theorem dX10_join_225 : decode cX10_join 225 = .ok (.if_icmp .ge 14, 3) := by decide +kernel
theorem dX10_join_228 : decode cX10_join 228 = .ok (.aload 6, 2) := by decide +kernel
theorem dX10_join_230 : decode cX10_join 230 = .ok (.getfield 234, 3) := by decide +kernel
theorem dX10_join_233 : decode cX10_join 233 = .ok (.iload 8, 2) := by decide +kernel
theorem dX10_join_235 : decode cX10_join 235 = .ok (.iadd, 1) := by decide +kernel
theorem dX10_join_236 : decode cX10_join 236 = .ok (.goto 8, 3) := by decide +kernel
theorem dX10_join_239 : decode cX10_join 239 = .ok (.aload 6, 2) := by decide +kernel
theorem dX10_join_241 : decode cX10_join 241 = .ok (.getfield 234, 3) := by decide +kernel
theorem dX10_join_244 : decode cX10_join 244 = .ok (.istore 9, 2) := by decide +kernel
theorem dX10_join_246 : decode cX10_join 246 = .ok (.iload_n 1, 1) := by decide +kernel
theorem dX10_join_247 : decode cX10_join 247 = .ok (.iconst 3, 1) := by decide +kernel
theorem dX10_join_248 : decode cX10_join 248 = .ok (.if_icmp .eq 8, 3) := by decide +kernel
theorem dX10_join_251 : decode cX10_join 251 = .ok (.iload_n 1, 1) := by decide +kernel
theorem dX10_join_252 : decode cX10_join 252 = .ok (.iconst 4, 1) := by decide +kernel
theorem dX10_join_253 : decode cX10_join 253 = .ok (.if_icmp .ne 54, 3) := by decide +kernel
theorem dX10_join_256 : decode cX10_join 256 = .ok (.iload_n 1, 1) := by decide +kernel
theorem dX10_join_257 : decode cX10_join 257 = .ok (.iconst 3, 1) := by decide +kernel
theorem dX10_join_258 : decode cX10_join 258 = .ok (.if_icmp .ne 13, 3) := by decide +kernel
theorem dX10_join_261 : decode cX10_join 261 = .ok (.aload 6, 2) := by decide +kernel
theorem dX10_join_263 : decode cX10_join 263 = .ok (.getfield 234, 3) := by decide +kernel
theorem dX10_join_266 : decode cX10_join 266 = .ok (.iconst 1, 1) := by decide +kernel
theorem dX10_join_267 : decode cX10_join 267 = .ok (.iadd, 1) := by decide +kernel
theorem dX10_join_268 : decode cX10_join 268 = .ok (.goto 8, 3) := by decide +kernel
theorem dX10_join_271 : decode cX10_join 271 = .ok (.aload 6, 2) := by decide +kernel
theorem dX10_join_273 : decode cX10_join 273 = .ok (.getfield 234, 3) := by decide +kernel
theorem dX10_join_276 : decode cX10_join 276 = .ok (.istore 10, 2) := by decide +kernel
theorem dX10_join_278 : decode cX10_join 278 = .ok (.iload 10, 2) := by decide +kernel
theorem dX10_join_280 : decode cX10_join 280 = .ok (.bipush 6, 2) := by decide +kernel
theorem dX10_join_282 : decode cX10_join 282 = .ok (.if_icmp .le 6, 3) := by decide +kernel
theorem dX10_join_285 : decode cX10_join 285 = .ok (.bipush (-2), 2) := by decide +kernel
theorem dX10_join_287 : decode cX10_join 287 = .ok (.ireturn, 1) := by decide +kernel
theorem dX10_join_288 : decode cX10_join 288 = .ok (.aload_n 0, 1) := by decide +kernel
theorem dX10_join_289 : decode cX10_join 289 = .ok (.aload 6, 2) := by decide +kernel
theorem dX10_join_291 : decode cX10_join 291 = .ok (.iload_n 1, 1) := by decide +kernel
theorem dX10_join_292 : decode cX10_join 292 = .ok (.iconst 3, 1) := by decide +kernel
theorem dX10_join_293 : decode cX10_join 293 = .ok (.if_icmp .ne 7, 3) := by decide +kernel
theorem dX10_join_296 : decode cX10_join 296 = .ok (.iconst 1, 1) := by decide +kernel
theorem dX10_join_297 : decode cX10_join 297 = .ok (.goto 4, 3) := by decide +kernel
theorem dX10_join_300 : decode cX10_join 300 = .ok (.iconst 0, 1) := by decide +kernel
theorem dX10_join_301 : decode cX10_join 301 = .ok (.invokevirtual 791, 3) := by decide +kernel
theorem dX10_join_304 : decode cX10_join 304 = .ok (.goto 67, 3) := by decide +kernel
theorem dX10_join_307 : decode cX10_join 307 = .ok (.iload_n 1, 1) := by decide +kernel
theorem dX10_join_308 : decode cX10_join 308 = .ok (.iconst 5, 1) := by decide +kernel
theorem dX10_join_309 : decode cX10_join 309 = .ok (.if_icmp .ne 15, 3) := by decide +kernel
theorem dX10_join_312 : decode cX10_join 312 = .ok (.aload 7, 2) := by decide +kernel
theorem dX10_join_314 : decode cX10_join 314 = .ok (.getfield 207, 3) := by decide +kernel
theorem dX10_join_317 : decode cX10_join 317 = .ok (.iconst 0, 1) := by decide +kernel
theorem dX10_join_318 : decode cX10_join 318 = .ok (.invokestatic 603, 3) := by decide +kernel
theorem dX10_join_321 : decode cX10_join 321 = .ok (.goto 8, 3) := by decide +kernel
theorem dX10_join_324 : decode cX10_join 324 = .ok (.aload 7, 2) := by decide +kernel
theorem dX10_join_326 : decode cX10_join 326 = .ok (.invokestatic 795, 3) := by decide +kernel
theorem dX10_join_329 : decode cX10_join 329 = .ok (.istore 11, 2) := by decide +kernel
theorem dX10_join_331 : decode cX10_join 331 = .ok (.iload 9, 2) := by decide +kernel
theorem dX10_join_333 : decode cX10_join 333 = .ok (.bipush 6, 2) := by decide +kernel
theorem dX10_join_335 : decode cX10_join 335 = .ok (.if_icmp .gt 20, 3) := by decide +kernel
theorem dX10_join_338 : decode cX10_join 338 = .ok (.aload 6, 2) := by decide +kernel
theorem dX10_join_340 : decode cX10_join 340 = .ok (.invokestatic 795, 3) := by decide +kernel
theorem dX10_join_343 : decode cX10_join 343 = .ok (.bipush 6, 2) := by decide +kernel
theorem dX10_join_345 : decode cX10_join 345 = .ok (.if_icmp .gt 10, 3) := by decide +kernel
theorem dX10_join_348 : decode cX10_join 348 = .ok (.iload 11, 2) := by decide +kernel
theorem dX10_join_350 : decode cX10_join 350 = .ok (.bipush 6, 2) := by decide +kernel
theorem dX10_join_352 : decode cX10_join 352 = .ok (.if_icmp .le 6, 3) := by decide +kernel
theorem dX10_join_355 : decode cX10_join 355 = .ok (.bipush (-2), 2) := by decide +kernel
theorem dX10_join_357 : decode cX10_join 357 = .ok (.ireturn, 1) := by decide +kernel
theorem dX10_join_358 : decode cX10_join 358 = .ok (.aload_n 0, 1) := by decide +kernel
theorem dX10_join_359 : decode cX10_join 359 = .ok (.iload_n 1, 1) := by decide +kernel
theorem dX10_join_360 : decode cX10_join 360 = .ok (.aload 6, 2) := by decide +kernel
theorem dX10_join_362 : decode cX10_join 362 = .ok (.aload 7, 2) := by decide +kernel
theorem dX10_join_364 : decode cX10_join 364 = .ok (.iload 9, 2) := by decide +kernel
theorem dX10_join_366 : decode cX10_join 366 = .ok (.invokevirtual 798, 3) := by decide +kernel
theorem dX10_join_369 : decode cX10_join 369 = .ok (.istore 10, 2) := by decide +kernel
theorem dX10_join_371 : decode cX10_join 371 = .ok (.aload_n 0, 1) := by decide +kernel
theorem dX10_join_372 : decode cX10_join 372 = .ok (.aload_n 0, 1) := by decide +kernel
theorem dX10_join_373 : decode cX10_join 373 = .ok (.getfield 517, 3) := by decide +kernel
theorem dX10_join_376 : decode cX10_join 376 = .ok (.iload 10, 2) := by decide +kernel
theorem dX10_join_378 : decode cX10_join 378 = .ok (.invokevirtual 777, 3) := by decide +kernel
theorem dX10_join_381 : decode cX10_join 381 = .ok (.ifCond .ne 6, 3) := by decide +kernel
theorem dX10_join_384 : decode cX10_join 384 = .ok (.bipush (-2), 2) := by decide +kernel
theorem dX10_join_386 : decode cX10_join 386 = .ok (.ireturn, 1) := by decide +kernel
theorem dX10_join_387 : decode cX10_join 387 = .ok (.aload 6, 2) := by decide +kernel
theorem dX10_join_389 : decode cX10_join 389 = .ok (.getfield 240, 3) := by decide +kernel
theorem dX10_join_392 : decode cX10_join 392 = .ok (.iload_n 1, 1) := by decide +kernel
theorem dX10_join_393 : decode cX10_join 393 = .ok (.iconst 2, 1) := by decide +kernel
theorem dX10_join_394 : decode cX10_join 394 = .ok (.if_icmp .gt 11, 3) := by decide +kernel
theorem dX10_join_397 : decode cX10_join 397 = .ok (.aload 7, 2) := by decide +kernel
theorem dX10_join_399 : decode cX10_join 399 = .ok (.getfield 240, 3) := by decide +kernel
theorem dX10_join_402 : decode cX10_join 402 = .ok (.goto 4, 3) := by decide +kernel
theorem dX10_join_405 : decode cX10_join 405 = .ok (.iconst 0, 1) := by decide +kernel
theorem dX10_join_406 : decode cX10_join 406 = .ok (.invokestatic 40, 3) := by decide +kernel
theorem dX10_join_409 : decode cX10_join 409 = .ok (.iload 10, 2) := by decide +kernel
theorem dX10_join_411 : decode cX10_join 411 = .ok (.iadd, 1) := by decide +kernel
theorem dX10_join_412 : decode cX10_join 412 = .ok (.istore 11, 2) := by decide +kernel
theorem dX10_join_414 : decode cX10_join 414 = .ok (.aload_n 0, 1) := by decide +kernel
theorem dX10_join_415 : decode cX10_join 415 = .ok (.getfield 453, 3) := by decide +kernel
theorem dX10_join_418 : decode cX10_join 418 = .ok (.aload_n 0, 1) := by decide +kernel
theorem dX10_join_419 : decode cX10_join 419 = .ok (.getfield 453, 3) := by decide +kernel
theorem dX10_join_422 : decode cX10_join 422 = .ok (.getfield 237, 3) := by decide +kernel
theorem dX10_join_425 : decode cX10_join 425 = .ok (.iload 10, 2) := by decide +kernel
theorem dX10_join_427 : decode cX10_join 427 = .ok (.iload 11, 2) := by decide +kernel
theorem dX10_join_429 : decode cX10_join 429 = .ok (.invokestatic 781, 3) := by decide +kernel
theorem dX10_join_432 : decode cX10_join 432 = .ok (.putfield 240, 3) := by decide +kernel
theorem dX10_join_435 : decode cX10_join 435 = .ok (.aload_n 0, 1) := by decide +kernel
theorem dX10_join_436 : decode cX10_join 436 = .ok (.getfield 453, 3) := by decide +kernel
theorem dX10_join_439 : decode cX10_join 439 = .ok (.getfield 240, 3) := by decide +kernel
theorem dX10_join_442 : decode cX10_join 442 = .ok (.bipush 60, 2) := by decide +kernel
theorem dX10_join_444 : decode cX10_join 444 = .ok (.if_icmp .le 6, 3) := by decide +kernel
theorem dX10_join_447 : decode cX10_join 447 = .ok (.bipush (-2), 2) := by decide +kernel
theorem dX10_join_449 : decode cX10_join 449 = .ok (.ireturn, 1) := by decide +kernel
theorem dX10_join_450 : decode cX10_join 450 = .ok (.iconst 0, 1) := by decide +kernel
theorem dX10_join_451 : decode cX10_join 451 = .ok (.istore 12, 2) := by decide +kernel
theorem dX10_join_453 : decode cX10_join 453 = .ok (.iconst 0, 1) := by decide +kernel
theorem dX10_join_454 : decode cX10_join 454 = .ok (.istore 13, 2) := by decide +kernel
theorem dX10_join_456 : decode cX10_join 456 = .ok (.iload 13, 2) := by decide +kernel
theorem dX10_join_458 : decode cX10_join 458 = .ok (.aload_n 0, 1) := by decide +kernel
theorem dX10_join_459 : decode cX10_join 459 = .ok (.getfield 453, 3) := by decide +kernel
theorem dX10_join_462 : decode cX10_join 462 = .ok (.getfield 240, 3) := by decide +kernel
theorem dX10_join_465 : decode cX10_join 465 = .ok (.if_icmp .ge 165, 3) := by decide +kernel
theorem dX10_join_468 : decode cX10_join 468 = .ok (.iload 12, 2) := by decide +kernel
theorem dX10_join_470 : decode cX10_join 470 = .ok (.aload 6, 2) := by decide +kernel
theorem dX10_join_472 : decode cX10_join 472 = .ok (.getfield 246, 3) := by decide +kernel
theorem dX10_join_475 : decode cX10_join 475 = .ok (.iload 13, 2) := by decide +kernel
theorem dX10_join_477 : decode cX10_join 477 = .ok (.iaload, 1) := by decide +kernel
theorem dX10_join_478 : decode cX10_join 478 = .ok (.invokestatic 49, 3) := by decide +kernel
theorem dX10_join_481 : decode cX10_join 481 = .ok (.istore 12, 2) := by decide +kernel
theorem dX10_join_483 : decode cX10_join 483 = .ok (.aload_n 0, 1) := by decide +kernel
theorem dX10_join_484 : decode cX10_join 484 = .ok (.getfield 453, 3) := by decide +kernel
theorem dX10_join_487 : decode cX10_join 487 = .ok (.getfield 246, 3) := by decide +kernel
theorem dX10_join_490 : decode cX10_join 490 = .ok (.iload 13, 2) := by decide +kernel
theorem dX10_join_492 : decode cX10_join 492 = .ok (.iload_n 1, 1) := by decide +kernel
theorem dX10_join_493 : decode cX10_join 493 = .ok (.ifCond .ne 25, 3) := by decide +kernel
theorem dX10_join_496 : decode cX10_join 496 = .ok (.aload 6, 2) := by decide +kernel
theorem dX10_join_498 : decode cX10_join 498 = .ok (.getfield 246, 3) := by decide +kernel
theorem dX10_join_501 : decode cX10_join 501 = .ok (.iload 13, 2) := by decide +kernel
theorem dX10_join_503 : decode cX10_join 503 = .ok (.iaload, 1) := by decide +kernel
theorem dX10_join_504 : decode cX10_join 504 = .ok (.aload 7, 2) := by decide +kernel
theorem dX10_join_506 : decode cX10_join 506 = .ok (.getfield 246, 3) := by decide +kernel
theorem dX10_join_509 : decode cX10_join 509 = .ok (.iload 13, 2) := by decide +kernel
theorem dX10_join_511 : decode cX10_join 511 = .ok (.iaload, 1) := by decide +kernel
theorem dX10_join_512 : decode cX10_join 512 = .ok (.invokestatic 49, 3) := by decide +kernel
theorem dX10_join_515 : decode cX10_join 515 = .ok (.goto 108, 3) := by decide +kernel
theorem dX10_join_518 : decode cX10_join 518 = .ok (.iload_n 1, 1) := by decide +kernel
theorem dX10_join_519 : decode cX10_join 519 = .ok (.iconst 1, 1) := by decide +kernel
theorem dX10_join_520 : decode cX10_join 520 = .ok (.if_icmp .ne 25, 3) := by decide +kernel
theorem dX10_join_523 : decode cX10_join 523 = .ok (.aload 6, 2) := by decide +kernel
theorem dX10_join_525 : decode cX10_join 525 = .ok (.getfield 246, 3) := by decide +kernel
theorem dX10_join_528 : decode cX10_join 528 = .ok (.iload 13, 2) := by decide +kernel
theorem dX10_join_530 : decode cX10_join 530 = .ok (.iaload, 1) := by decide +kernel
theorem dX10_join_531 : decode cX10_join 531 = .ok (.aload 7, 2) := by decide +kernel
theorem dX10_join_533 : decode cX10_join 533 = .ok (.getfield 246, 3) := by decide +kernel
theorem dX10_join_536 : decode cX10_join 536 = .ok (.iload 13, 2) := by decide +kernel
theorem dX10_join_538 : decode cX10_join 538 = .ok (.iaload, 1) := by decide +kernel
theorem dX10_join_539 : decode cX10_join 539 = .ok (.invokestatic 46, 3) := by decide +kernel
theorem dX10_join_542 : decode cX10_join 542 = .ok (.goto 81, 3) := by decide +kernel
theorem dX10_join_545 : decode cX10_join 545 = .ok (.iload_n 1, 1) := by decide +kernel
theorem dX10_join_546 : decode cX10_join 546 = .ok (.iconst 2, 1) := by decide +kernel
theorem dX10_join_547 : decode cX10_join 547 = .ok (.if_icmp .ne 25, 3) := by decide +kernel
theorem dX10_join_550 : decode cX10_join 550 = .ok (.aload 6, 2) := by decide +kernel
theorem dX10_join_552 : decode cX10_join 552 = .ok (.getfield 246, 3) := by decide +kernel
theorem dX10_join_555 : decode cX10_join 555 = .ok (.iload 13, 2) := by decide +kernel
theorem dX10_join_557 : decode cX10_join 557 = .ok (.iaload, 1) := by decide +kernel
theorem dX10_join_558 : decode cX10_join 558 = .ok (.aload 7, 2) := by decide +kernel
theorem dX10_join_560 : decode cX10_join 560 = .ok (.getfield 246, 3) := by decide +kernel
theorem dX10_join_563 : decode cX10_join 563 = .ok (.iload 13, 2) := by decide +kernel
theorem dX10_join_565 : decode cX10_join 565 = .ok (.iaload, 1) := by decide +kernel
theorem dX10_join_566 : decode cX10_join 566 = .ok (.invokestatic 56, 3) := by decide +kernel
theorem dX10_join_569 : decode cX10_join 569 = .ok (.goto 54, 3) := by decide +kernel
theorem dX10_join_572 : decode cX10_join 572 = .ok (.iload_n 1, 1) := by decide +kernel
theorem dX10_join_573 : decode cX10_join 573 = .ok (.iconst 3, 1) := by decide +kernel
theorem dX10_join_574 : decode cX10_join 574 = .ok (.if_icmp .ne 8, 3) := by decide +kernel
theorem dX10_join_577 : decode cX10_join 577 = .ok (.iload 12, 2) := by decide +kernel
theorem dX10_join_579 : decode cX10_join 579 = .ok (.goto 44, 3) := by decide +kernel
theorem dX10_join_582 : decode cX10_join 582 = .ok (.iload_n 1, 1) := by decide +kernel
theorem dX10_join_583 : decode cX10_join 583 = .ok (.iconst 4, 1) := by decide +kernel
theorem dX10_join_584 : decode cX10_join 584 = .ok (.if_icmp .ne 16, 3) := by decide +kernel
theorem dX10_join_587 : decode cX10_join 587 = .ok (.aload 6, 2) := by decide +kernel
theorem dX10_join_589 : decode cX10_join 589 = .ok (.getfield 246, 3) := by decide +kernel
theorem dX10_join_592 : decode cX10_join 592 = .ok (.iload 13, 2) := by decide +kernel
theorem dX10_join_594 : decode cX10_join 594 = .ok (.iconst 1, 1) := by decide +kernel
theorem dX10_join_595 : decode cX10_join 595 = .ok (.iadd, 1) := by decide +kernel
theorem dX10_join_596 : decode cX10_join 596 = .ok (.iaload, 1) := by decide +kernel
theorem dX10_join_597 : decode cX10_join 597 = .ok (.goto 26, 3) := by decide +kernel
theorem dX10_join_600 : decode cX10_join 600 = .ok (.aload_n 0, 1) := by decide +kernel
theorem dX10_join_601 : decode cX10_join 601 = .ok (.aload 7, 2) := by decide +kernel
theorem dX10_join_603 : decode cX10_join 603 = .ok (.getfield 207, 3) := by decide +kernel
theorem dX10_join_606 : decode cX10_join 606 = .ok (.iload 13, 2) := by decide +kernel
theorem dX10_join_608 : decode cX10_join 608 = .ok (.iconst 0, 1) := by decide +kernel
theorem dX10_join_609 : decode cX10_join 609 = .ok (.invokevirtual 674, 3) := by decide +kernel
theorem dX10_join_612 : decode cX10_join 612 = .ok (.aload 6, 2) := by decide +kernel
theorem dX10_join_614 : decode cX10_join 614 = .ok (.getfield 246, 3) := by decide +kernel
theorem dX10_join_617 : decode cX10_join 617 = .ok (.iload 13, 2) := by decide +kernel
theorem dX10_join_619 : decode cX10_join 619 = .ok (.iaload, 1) := by decide +kernel
theorem dX10_join_620 : decode cX10_join 620 = .ok (.invokestatic 56, 3) := by decide +kernel
theorem dX10_join_623 : decode cX10_join 623 = .ok (.iastore, 1) := by decide +kernel
theorem dX10_join_624 : decode cX10_join 624 = .ok (.iinc 13 1, 3) := by decide +kernel
theorem dX10_join_627 : decode cX10_join 627 = .ok (.goto (-171), 3) := by decide +kernel
theorem dX10_join_630 : decode cX10_join 630 = .ok (.aload_n 0, 1) := by decide +kernel
theorem dX10_join_631 : decode cX10_join 631 = .ok (.getfield 453, 3) := by decide +kernel
theorem dX10_join_634 : decode cX10_join 634 = .ok (.aload_n 0, 1) := by decide +kernel
theorem dX10_join_635 : decode cX10_join 635 = .ok (.getfield 453, 3) := by decide +kernel
theorem dX10_join_638 : decode cX10_join 638 = .ok (.getfield 240, 3) := by decide +kernel
theorem dX10_join_641 : decode cX10_join 641 = .ok (.putfield 243, 3) := by decide +kernel
theorem dX10_join_644 : decode cX10_join 644 = .ok (.aload_n 0, 1) := by decide +kernel
theorem dX10_join_645 : decode cX10_join 645 = .ok (.getfield 453, 3) := by decide +kernel
theorem dX10_join_648 : decode cX10_join 648 = .ok (.invokestatic 784, 3) := by decide +kernel
theorem dX10_join_651 : decode cX10_join 651 = .ok (.aload_n 0, 1) := by decide +kernel
theorem dX10_join_652 : decode cX10_join 652 = .ok (.getfield 450, 3) := by decide +kernel
theorem dX10_join_655 : decode cX10_join 655 = .ok (.iload 4, 2) := by decide +kernel
theorem dX10_join_657 : decode cX10_join 657 = .ok (.aaload, 1) := by decide +kernel
theorem dX10_join_658 : decode cX10_join 658 = .ok (.aload_n 0, 1) := by decide +kernel
theorem dX10_join_659 : decode cX10_join 659 = .ok (.getfield 453, 3) := by decide +kernel
theorem dX10_join_662 : decode cX10_join 662 = .ok (.invokestatic 547, 3) := by decide +kernel
theorem dX10_join_665 : decode cX10_join 665 = .ok (.iload 10, 2) := by decide +kernel
theorem dX10_join_667 : decode cX10_join 667 = .ok (.ireturn, 1) := by decide +kernel
theorem dX10_simple_0 : decode cX10_simple 0 = .ok (.aload_n 1, 1) := by decide +kernel
theorem dX10_simple_1 : decode cX10_simple 1 = .ok (.getfield 234, 3) := by decide +kernel
theorem dX10_simple_4 : decode cX10_simple 4 = .ok (.istore_n 3, 1) := by decide +kernel
theorem dX10_simple_5 : decode cX10_simple 5 = .ok (.aload_n 0, 1) := by decide +kernel
theorem dX10_simple_6 : decode cX10_simple 6 = .ok (.invokevirtual 74, 3) := by decide +kernel
theorem dX10_simple_9 : decode cX10_simple 9 = .ok (.astore 4, 2) := by decide +kernel
theorem dX10_simple_11 : decode cX10_simple 11 = .ok (.iconst 0, 1) := by decide +kernel
theorem dX10_simple_12 : decode cX10_simple 12 = .ok (.istore 5, 2) := by decide +kernel
theorem dX10_simple_14 : decode cX10_simple 14 = .ok (.iload 5, 2) := by decide +kernel
theorem dX10_simple_16 : decode cX10_simple 16 = .ok (.iload_n 3, 1) := by decide +kernel
theorem dX10_simple_17 : decode cX10_simple 17 = .ok (.iconst 1, 1) := by decide +kernel
theorem dX10_simple_18 : decode cX10_simple 18 = .ok (.iadd, 1) := by decide +kernel
theorem dX10_simple_19 : decode cX10_simple 19 = .ok (.if_icmp .gt 20, 3) := by decide +kernel
theorem dX10_simple_22 : decode cX10_simple 22 = .ok (.aload_n 0, 1) := by decide +kernel
theorem dX10_simple_23 : decode cX10_simple 23 = .ok (.getfield 517, 3) := by decide +kernel
theorem dX10_simple_26 : decode cX10_simple 26 = .ok (.iload 5, 2) := by decide +kernel
theorem dX10_simple_28 : decode cX10_simple 28 = .ok (.aload_n 0, 1) := by decide +kernel
theorem dX10_simple_29 : decode cX10_simple 29 = .ok (.invokevirtual 74, 3) := by decide +kernel
theorem dX10_simple_32 : decode cX10_simple 32 = .ok (.aastore, 1) := by decide +kernel
theorem dX10_simple_33 : decode cX10_simple 33 = .ok (.iinc 5 1, 3) := by decide +kernel
theorem dX10_simple_36 : decode cX10_simple 36 = .ok (.goto (-22), 3) := by decide +kernel
theorem dX10_simple_39 : decode cX10_simple 39 = .ok (.iconst 0, 1) := by decide +kernel
theorem dX10_simple_40 : decode cX10_simple 40 = .ok (.istore 5, 2) := by decide +kernel
theorem dX10_simple_42 : decode cX10_simple 42 = .ok (.iload 5, 2) := by decide +kernel
theorem dX10_simple_44 : decode cX10_simple 44 = .ok (.iload_n 3, 1) := by decide +kernel
theorem dX10_simple_45 : decode cX10_simple 45 = .ok (.if_icmp .gt 94, 3) := by decide +kernel
theorem dX10_simple_48 : decode cX10_simple 48 = .ok (.aload 4, 2) := by decide +kernel
theorem dX10_simple_50 : decode cX10_simple 50 = .ok (.aload_n 1, 1) := by decide +kernel
theorem dX10_simple_51 : decode cX10_simple 51 = .ok (.getfield 237, 3) := by decide +kernel
theorem dX10_simple_54 : decode cX10_simple 54 = .ok (.bipush 25, 2) := by decide +kernel
theorem dX10_simple_56 : decode cX10_simple 56 = .ok (.iload 5, 2) := by decide +kernel
theorem dX10_simple_58 : decode cX10_simple 58 = .ok (.imul, 1) := by decide +kernel
theorem dX10_simple_59 : decode cX10_simple 59 = .ok (.invokestatic 775, 3) := by decide +kernel
theorem dX10_simple_62 : decode cX10_simple 62 = .ok (.aload 4, 2) := by decide +kernel
theorem dX10_simple_64 : decode cX10_simple 64 = .ok (.aload 4, 2) := by decide +kernel
theorem dX10_simple_66 : decode cX10_simple 66 = .ok (.iconst 1, 1) := by decide +kernel
theorem dX10_simple_67 : decode cX10_simple 67 = .ok (.invokestatic 116, 3) := by decide +kernel
theorem dX10_simple_70 : decode cX10_simple 70 = .ok (.iload_n 2, 1) := by decide +kernel
theorem dX10_simple_71 : decode cX10_simple 71 = .ok (.ifCond .eq 50, 3) := by decide +kernel
theorem dX10_simple_74 : decode cX10_simple 74 = .ok (.aload_n 0, 1) := by decide +kernel
theorem dX10_simple_75 : decode cX10_simple 75 = .ok (.getfield 517, 3) := by decide +kernel
theorem dX10_simple_78 : decode cX10_simple 78 = .ok (.iload 5, 2) := by decide +kernel
theorem dX10_simple_80 : decode cX10_simple 80 = .ok (.iconst 1, 1) := by decide +kernel
theorem dX10_simple_81 : decode cX10_simple 81 = .ok (.iadd, 1) := by decide +kernel
theorem dX10_simple_82 : decode cX10_simple 82 = .ok (.aaload, 1) := by decide +kernel
theorem dX10_simple_83 : decode cX10_simple 83 = .ok (.aload_n 0, 1) := by decide +kernel
theorem dX10_simple_84 : decode cX10_simple 84 = .ok (.getfield 517, 3) := by decide +kernel
theorem dX10_simple_87 : decode cX10_simple 87 = .ok (.iload 5, 2) := by decide +kernel
theorem dX10_simple_89 : decode cX10_simple 89 = .ok (.iconst 1, 1) := by decide +kernel
theorem dX10_simple_90 : decode cX10_simple 90 = .ok (.iadd, 1) := by decide +kernel
theorem dX10_simple_91 : decode cX10_simple 91 = .ok (.aaload, 1) := by decide +kernel
theorem dX10_simple_92 : decode cX10_simple 92 = .ok (.aload 4, 2) := by decide +kernel
theorem dX10_simple_94 : decode cX10_simple 94 = .ok (.iconst 0, 1) := by decide +kernel
theorem dX10_simple_95 : decode cX10_simple 95 = .ok (.invokestatic 101, 3) := by decide +kernel
theorem dX10_simple_98 : decode cX10_simple 98 = .ok (.aload_n 0, 1) := by decide +kernel
theorem dX10_simple_99 : decode cX10_simple 99 = .ok (.getfield 517, 3) := by decide +kernel
theorem dX10_simple_102 : decode cX10_simple 102 = .ok (.iload 5, 2) := by decide +kernel
theorem dX10_simple_104 : decode cX10_simple 104 = .ok (.aaload, 1) := by decide +kernel
theorem dX10_simple_105 : decode cX10_simple 105 = .ok (.aload_n 0, 1) := by decide +kernel
theorem dX10_simple_106 : decode cX10_simple 106 = .ok (.getfield 517, 3) := by decide +kernel
theorem dX10_simple_109 : decode cX10_simple 109 = .ok (.iload 5, 2) := by decide +kernel
theorem dX10_simple_111 : decode cX10_simple 111 = .ok (.aaload, 1) := by decide +kernel
theorem dX10_simple_112 : decode cX10_simple 112 = .ok (.aload 4, 2) := by decide +kernel
theorem dX10_simple_114 : decode cX10_simple 114 = .ok (.iconst 1, 1) := by decide +kernel
theorem dX10_simple_115 : decode cX10_simple 115 = .ok (.invokestatic 101, 3) := by decide +kernel
theorem dX10_simple_118 : decode cX10_simple 118 = .ok (.goto 15, 3) := by decide +kernel
theorem dX10_simple_121 : decode cX10_simple 121 = .ok (.aload_n 0, 1) := by decide +kernel
theorem dX10_simple_122 : decode cX10_simple 122 = .ok (.getfield 517, 3) := by decide +kernel
theorem dX10_simple_125 : decode cX10_simple 125 = .ok (.iload 5, 2) := by decide +kernel
theorem dX10_simple_127 : decode cX10_simple 127 = .ok (.aaload, 1) := by decide +kernel
theorem dX10_simple_128 : decode cX10_simple 128 = .ok (.aload 4, 2) := by decide +kernel
theorem dX10_simple_130 : decode cX10_simple 130 = .ok (.invokestatic 62, 3) := by decide +kernel
theorem dX10_simple_133 : decode cX10_simple 133 = .ok (.iinc 5 1, 3) := by decide +kernel
theorem dX10_simple_136 : decode cX10_simple 136 = .ok (.goto (-94), 3) := by decide +kernel
theorem dX10_simple_139 : decode cX10_simple 139 = .ok (.return_, 1) := by decide +kernel
theorem dX10_degreeOf_0 : decode cX10_degreeOf 0 = .ok (.iconst 0, 1) := by decide +kernel
theorem dX10_degreeOf_1 : decode cX10_degreeOf 1 = .ok (.istore_n 1, 1) := by decide +kernel
theorem dX10_degreeOf_2 : decode cX10_degreeOf 2 = .ok (.iconst 0, 1) := by decide +kernel
theorem dX10_degreeOf_3 : decode cX10_degreeOf 3 = .ok (.istore_n 2, 1) := by decide +kernel
theorem dX10_degreeOf_4 : decode cX10_degreeOf 4 = .ok (.iload_n 2, 1) := by decide +kernel
theorem dX10_degreeOf_5 : decode cX10_degreeOf 5 = .ok (.aload_n 0, 1) := by decide +kernel
theorem dX10_degreeOf_6 : decode cX10_degreeOf 6 = .ok (.getfield 234, 3) := by decide +kernel
theorem dX10_degreeOf_9 : decode cX10_degreeOf 9 = .ok (.if_icmp .gt 47, 3) := by decide +kernel
theorem dX10_degreeOf_12 : decode cX10_degreeOf 12 = .ok (.iconst 0, 1) := by decide +kernel
theorem dX10_degreeOf_13 : decode cX10_degreeOf 13 = .ok (.istore_n 3, 1) := by decide +kernel
theorem dX10_degreeOf_14 : decode cX10_degreeOf 14 = .ok (.iload_n 3, 1) := by decide +kernel
theorem dX10_degreeOf_15 : decode cX10_degreeOf 15 = .ok (.bipush 25, 2) := by decide +kernel
theorem dX10_degreeOf_17 : decode cX10_degreeOf 17 = .ok (.if_icmp .ge 33, 3) := by decide +kernel
theorem dX10_degreeOf_20 : decode cX10_degreeOf 20 = .ok (.aload_n 0, 1) := by decide +kernel
theorem dX10_degreeOf_21 : decode cX10_degreeOf 21 = .ok (.getfield 237, 3) := by decide +kernel
theorem dX10_degreeOf_24 : decode cX10_degreeOf 24 = .ok (.bipush 25, 2) := by decide +kernel
theorem dX10_degreeOf_26 : decode cX10_degreeOf 26 = .ok (.iload_n 2, 1) := by decide +kernel
theorem dX10_degreeOf_27 : decode cX10_degreeOf 27 = .ok (.imul, 1) := by decide +kernel
theorem dX10_degreeOf_28 : decode cX10_degreeOf 28 = .ok (.iload_n 3, 1) := by decide +kernel
theorem dX10_degreeOf_29 : decode cX10_degreeOf 29 = .ok (.iadd, 1) := by decide +kernel
theorem dX10_degreeOf_30 : decode cX10_degreeOf 30 = .ok (.iaload, 1) := by decide +kernel
theorem dX10_degreeOf_31 : decode cX10_degreeOf 31 = .ok (.ifCond .eq 11, 3) := by decide +kernel
theorem dX10_degreeOf_34 : decode cX10_degreeOf 34 = .ok (.iload_n 1, 1) := by decide +kernel
theorem dX10_degreeOf_35 : decode cX10_degreeOf 35 = .ok (.iload_n 3, 1) := by decide +kernel
theorem dX10_degreeOf_36 : decode cX10_degreeOf 36 = .ok (.invokestatic 40, 3) := by decide +kernel
theorem dX10_degreeOf_39 : decode cX10_degreeOf 39 = .ok (.goto 4, 3) := by decide +kernel
theorem dX10_degreeOf_42 : decode cX10_degreeOf 42 = .ok (.iload_n 1, 1) := by decide +kernel
theorem dX10_degreeOf_43 : decode cX10_degreeOf 43 = .ok (.istore_n 1, 1) := by decide +kernel
theorem dX10_degreeOf_44 : decode cX10_degreeOf 44 = .ok (.iinc 3 1, 3) := by decide +kernel
theorem dX10_degreeOf_47 : decode cX10_degreeOf 47 = .ok (.goto (-33), 3) := by decide +kernel
theorem dX10_degreeOf_50 : decode cX10_degreeOf 50 = .ok (.iinc 2 1, 3) := by decide +kernel
theorem dX10_degreeOf_53 : decode cX10_degreeOf 53 = .ok (.goto (-49), 3) := by decide +kernel
theorem dX10_degreeOf_56 : decode cX10_degreeOf 56 = .ok (.iload_n 1, 1) := by decide +kernel
theorem dX10_degreeOf_57 : decode cX10_degreeOf 57 = .ok (.ireturn, 1) := by decide +kernel
abbrev W_X10_column (g : GX) (d : Nat) (av : List Value) (Q : QT) (n : Nat) (pc : Nat) (ls : LV) (stk : List Value) (h : Hp) : Prop := RJ g m_X10_column (d + 1) 0 0 av Q pc ls stk n h 0 0
theorem s_X10_column_0 {g : GX} {d : Nat} {av : List Value} {Q : QT} {n : Nat} {h : Hp} {x1 : Int32} {a2 : Nat} {x3 : Int32} (hp : g.2.2.2.2 = true) (t2 : lay a2 = (0, 14, 2)) (H : W_X10_column g d av Q n 3 [some (.ref 2759), some (.int x1), some (.ref a2), some (.int x3), some (.int (0 : Int32)), none] [] h) : W_X10_column g d av Q n 0 [some (.ref 2759), some (.int x1), some (.ref a2), some (.int x3), none, none] [] h := by
  refine r_iconst (v := (0 : Int32)) dX10_column_0 rfl ?_
  refine r_istore (ls2 := [some (.ref 2759), some (.int x1), some (.ref a2), some (.int x3), some (.int (0 : Int32)), none]) dX10_column_1 (by decide) rfl ?_
  exact H
theorem s_X10_column_3 {g : GX} {d : Nat} {av : List Value} {Q : QT} {n : Nat} {h : Hp} {x1 : Int32} {a2 : Nat} {x3 : Int32} {x4 : Int32} (hp : g.2.2.2.2 = true) (t2 : lay a2 = (0, 14, 2)) (H : (((ri h 2759 48) ≤ x4) → (Q none n h)) ∧ ((¬ (ri h 2759 48) ≤ x4) → (vp_in x4 26 ∧ ∃ r1 Lr1, rr h 2908 (x4).toNatClampNeg = some r1 ∧ (lay r1 = (2, Lr1, 10) ∧ r1 < N0) ∧ (vp_in x1 Lr1 ∧ ∃ r2, rr h r1 (x1).toNatClampNeg = some r2 ∧ lay r2 = (0, 13, 2) ∧ (∀ h3, h3 = wi h r2 1 (0 : Int32) → ((((ri h3 a2 1) ≤ x4) → (W_X10_column g d av Q n 72 [some (.ref 2759), some (.int x1), some (.ref a2), some (.int x3), some (.int x4), none] [] h3)) ∧ ((¬ (ri h3 a2 1) ≤ x4) → (((x3 = (0 : Int32)) → (vp_in x4 64 ∧ ∀ r4, r4 = (a2 + 2) + 2 * (x4).toNatClampNeg → (CallV g m_X10_set_2 d [.ref r2, .ref r4] n h3 (fun h5 => (W_X10_column g d av Q n 72 [some (.ref 2759), some (.int x1), some (.ref a2), some (.int x3), some (.int x4), none] [] h5))))) ∧ ((¬ x3 = (0 : Int32)) → (vp_in x4 64 ∧ ∀ r6, r6 = (a2 + 2) + 2 * (x4).toNatClampNeg → (CallV g m_X10_scale_2 d [.ref r2, .ref r6, .int (2147483646 : Int32)] n h3 (fun h7 => (W_X10_column g d av Q n 72 [some (.ref 2759), some (.int x1), some (.ref a2), some (.int x3), some (.int x4), none] [] h7))))))))))))) : W_X10_column g d av Q n 3 [some (.ref 2759), some (.int x1), some (.ref a2), some (.int x3), some (.int x4), none] [] h := by
  refine r_iload dX10_column_3 rfl ?_
  refine r_aload_n dX10_column_5 rfl rfl ?_
  refine m_getI hp fw_X10_721 dX10_column_6 rfl ly_10 ?_
  refine r_icmp_ge (tgt := 78) dX10_column_9 rfl (fun cH => ?_) (fun cH => ?_)
  · replace H := H.1 cH
    exact r_vret dX10_column_78 rfl (Nat.le_refl _) (Nat.le_refl _) H
  · replace H := H.2 cH
    refine r_aload_n dX10_column_12 rfl rfl ?_
    refine m_getF (x := 2908) hp fw_X10_487 dX10_column_13 rfl ly_10 (ff_10_44 ly_10) ?_
    refine r_iload dX10_column_16 rfl ?_
    have hir1 := H.1
    obtain ⟨r1, Lr1, er1, tr1, H⟩ := H.2
    refine m_aalM (x := r1) hp dX10_column_18 (lf_10_44 ly_10) rfl rfl (lu_10_44 ly_10) hir1 er1 ?_
    refine r_iload_n dX10_column_19 rfl rfl ?_
    have hir2 := H.1
    obtain ⟨r2, er2, tr2, H⟩ := H.2
    refine m_aalM (x := r2) hp dX10_column_20 tr1.1 rfl rfl tr1.2 hir2 er2 ?_
    refine r_astore (ls2 := [some (.ref 2759), some (.int x1), some (.ref a2), some (.int x3), some (.int x4), some (.ref r2)]) dX10_column_21 (by decide) rfl ?_
    refine r_aload dX10_column_23 rfl ?_
    refine r_iconst (v := (0 : Int32)) dX10_column_25 rfl ?_
    refine m_putI hp fw_X10_25 dX10_column_26 rfl rfl tr2 (fun h3 eh3 => ?_)
    replace H := H h3 eh3
    refine r_iload dX10_column_29 rfl ?_
    refine r_aload_n dX10_column_31 rfl rfl ?_
    refine m_getI hp fw_X10_93 dX10_column_32 rfl t2 ?_
    refine r_icmp_ge (tgt := 72) dX10_column_35 rfl (fun cH => ?_) (fun cH => ?_)
    · replace H := H.1 cH
      refine r_prune [true, true, true, true, true, false] (ls2 := [some (.ref 2759), some (.int x1), some (.ref a2), some (.int x3), some (.int x4), none]) rfl ?_
      exact H
    · replace H := H.2 cH
      refine r_iload_n dX10_column_38 rfl rfl ?_
      refine r_if_eq (tgt := 60) dX10_column_39 rfl (fun cH => ?_) (fun cH => ?_)
      · replace H := H.1 cH
        refine r_aload dX10_column_60 rfl ?_
        refine r_aload_n dX10_column_62 rfl rfl ?_
        refine m_getF (x := (a2 + 1)) hp fw_X10_98 dX10_column_63 rfl t2 (ff_14_0 t2) ?_
        refine r_iload dX10_column_66 rfl ?_
        obtain ⟨r4, er4⟩ : ∃ y, y = (a2 + 2) + 2 * (x4).toNatClampNeg := ⟨_, rfl⟩
        have hir4 := H.1
        replace H := H.2 r4 er4
        have tLr4 := le_14 t2 hir4 er4
        refine m_aalF (x := r4) hp dX10_column_68 (lf_14_0 t2) rfl rfl (lu_14_0 t2) hir4 (fe_14 t2 hir4 er4) ?_
        refine k_SV (As := [.ref r2, .ref r4]) (stk := []) cs_X10_62 dX10_column_69 rfl (Nat.le_of_ble_eq_true rfl) (H.mono (fun h5 H => ?_)) ⟨Nat.le_refl _, Nat.le_refl _⟩
        refine r_prune [true, true, true, true, true, false] (ls2 := [some (.ref 2759), some (.int x1), some (.ref a2), some (.int x3), some (.int x4), none]) rfl ?_
        exact H
      · replace H := H.2 cH
        refine r_aload dX10_column_42 rfl ?_
        refine r_aload_n dX10_column_44 rfl rfl ?_
        refine m_getF (x := (a2 + 1)) hp fw_X10_98 dX10_column_45 rfl t2 (ff_14_0 t2) ?_
        refine r_iload dX10_column_48 rfl ?_
        obtain ⟨r6, er6⟩ : ∃ y, y = (a2 + 2) + 2 * (x4).toNatClampNeg := ⟨_, rfl⟩
        have hir6 := H.1
        replace H := H.2 r6 er6
        have tLr6 := le_14 t2 hir6 er6
        refine m_aalF (x := r6) hp dX10_column_50 (lf_14_0 t2) rfl rfl (lu_14_0 t2) hir6 (fe_14 t2 hir6 er6) ?_
        refine r_ldcw (own := "") (v := (2147483646 : Int32)) dX10_column_51 q2644 ?_
        refine k_SV (As := [.ref r2, .ref r6, .int (2147483646 : Int32)]) (stk := []) cs_X10_70 dX10_column_54 rfl (Nat.le_of_ble_eq_true rfl) (H.mono (fun h7 H => ?_)) ⟨Nat.le_refl _, Nat.le_refl _⟩
        refine r_goto (tgt := 72) dX10_column_57 rfl ?_
        refine r_prune [true, true, true, true, true, false] (ls2 := [some (.ref 2759), some (.int x1), some (.ref a2), some (.int x3), some (.int x4), none]) rfl ?_
        exact H
theorem s_X10_column_72 {g : GX} {d : Nat} {av : List Value} {Q : QT} {n : Nat} {h : Hp} {x1 : Int32} {a2 : Nat} {x3 : Int32} {x4 : Int32} (hp : g.2.2.2.2 = true) (t2 : lay a2 = (0, 14, 2)) (H : W_X10_column g d av Q n 3 [some (.ref 2759), some (.int x1), some (.ref a2), some (.int x3), some (.int (x4 + (1 : Int32))), none] [] h) : W_X10_column g d av Q n 72 [some (.ref 2759), some (.int x1), some (.ref a2), some (.int x3), some (.int x4), none] [] h := by
  refine r_iinc (v := (x4 + (1 : Int32))) (ls2 := [some (.ref 2759), some (.int x1), some (.ref a2), some (.int x3), some (.int (x4 + (1 : Int32))), none]) dX10_column_72 rfl rfl (by decide) rfl ?_
  refine r_goto (tgt := 3) dX10_column_75 rfl ?_
  exact H
abbrev W_X10_solveBy (g : GX) (d : Nat) (av : List Value) (Q : QT) (n : Nat) (pc : Nat) (ls : LV) (stk : List Value) (h : Hp) : Prop := RJ g m_X10_solveBy (d + 1) 0 0 av Q pc ls stk n h 0 0
theorem s_X10_solveBy_0 {g : GX} {d : Nat} {av : List Value} {Q : QT} {n : Nat} {h : Hp} {x1 : Int32} {x2 : Int32} {a3 : Nat} (hp : g.2.2.2.2 = true) (t3 : lay a3 = (0, 13, 2)) (H : W_X10_solveBy g d av Q n 3 [some (.ref 2759), some (.int x1), some (.int x2), some (.ref a3), some (.int (0 : Int32))] [] h) : W_X10_solveBy g d av Q n 0 [some (.ref 2759), some (.int x1), some (.int x2), some (.ref a3), none] [] h := by
  refine r_iconst (v := (0 : Int32)) dX10_solveBy_0 rfl ?_
  refine r_istore (ls2 := [some (.ref 2759), some (.int x1), some (.int x2), some (.ref a3), some (.int (0 : Int32))]) dX10_solveBy_1 (by decide) rfl ?_
  exact H
theorem s_X10_solveBy_3 {g : GX} {d : Nat} {av : List Value} {Q : QT} {n : Nat} {h : Hp} {x1 : Int32} {x2 : Int32} {a3 : Nat} {x4 : Int32} (hp : g.2.2.2.2 = true) (t3 : lay a3 = (0, 13, 2)) (H : ((x2 ≤ x4) → (Q none n h)) ∧ ((¬ x2 ≤ x4) → (CallR g m_X10_newU d [.ref 2759] n h (fun v1 h1 => (lay v1 = (0, 13, 2) ∧ (vp_in x4 14 ∧ fin 2935 (x4).toNatClampNeg = none ∧ ∀ h2, h2 = wr h1 2935 (x4).toNatClampNeg (some v1) → (((¬ x4 = x1) → (vp_in x4 14 ∧ ((((ri h2 2936 (x4).toNatClampNeg) = (0 : Int32)) → (W_X10_solveBy g d av Q n 83 [some (.ref 2759), some (.int x1), some (.int x2), some (.ref a3), some (.int x4)] [] h2)) ∧ ((¬ (ri h2 2936 (x4).toNatClampNeg) = (0 : Int32)) → (((x1 ≤ x4) → (W_X10_solveBy g d av Q n 83 [some (.ref 2759), some (.int x1), some (.int x2), some (.ref a3), some (.int x4)] [] h2)) ∧ ((¬ x1 ≤ x4) → (vp_in x4 14 ∧ ∃ r3, rr h2 2935 (x4).toNatClampNeg = some r3 ∧ lay r3 = (0, 13, 2) ∧ (vp_in x4 14 ∧ (vp_in (ri h2 2937 (x4).toNatClampNeg) 26 ∧ ∃ r4 Lr4, rr h2 2908 ((ri h2 2937 (x4).toNatClampNeg)).toNatClampNeg = some r4 ∧ (lay r4 = (2, Lr4, 10) ∧ r4 < N0) ∧ (vp_in x1 Lr4 ∧ ∃ r5, rr h2 r4 (x1).toNatClampNeg = some r5 ∧ lay r5 = (0, 13, 2) ∧ (CallV g m_X10_scale_2 d [.ref r3, .ref r5, .int (2147483646 : Int32)] n h2 (fun h6 => (W_X10_solveBy g d av Q n 83 [some (.ref 2759), some (.int x1), some (.int x2), some (.ref a3), some (.int x4)] [] h6))))))))))))) ∧ ((x4 = x1) → (vp_in x4 14 ∧ ∃ r7, rr h2 2935 (x4).toNatClampNeg = some r7 ∧ lay r7 = (0, 13, 2) ∧ (CallV g m_X10_set_2 d [.ref r7, .ref a3] n h2 (fun h8 => (W_X10_solveBy g d av Q n 83 [some (.ref 2759), some (.int x1), some (.int x2), some (.ref a3), some (.int x4)] [] h8)))))))))))) : W_X10_solveBy g d av Q n 3 [some (.ref 2759), some (.int x1), some (.int x2), some (.ref a3), some (.int x4)] [] h := by
  refine r_iload dX10_solveBy_3 rfl ?_
  refine r_iload_n dX10_solveBy_5 rfl rfl ?_
  refine r_icmp_ge (tgt := 89) dX10_solveBy_6 rfl (fun cH => ?_) (fun cH => ?_)
  · replace H := H.1 cH
    exact r_vret dX10_solveBy_89 rfl (Nat.le_refl _) (Nat.le_refl _) H
  · replace H := H.2 cH
    refine r_aload_n dX10_solveBy_9 rfl rfl ?_
    refine m_getF (x := 2935) hp fw_X10_490 dX10_solveBy_10 rfl ly_10 (ff_10_45 ly_10) ?_
    refine r_iload dX10_solveBy_13 rfl ?_
    refine r_aload_n dX10_solveBy_15 rfl rfl ?_
    refine k_VR (As := []) (stk := [.int x4, .ref 2935]) hp cv_X10_74 dX10_solveBy_16 rfl (Nat.le_of_ble_eq_true rfl) ly_10 (H.mono (fun v1 h1 H => ?_)) ⟨Nat.le_refl _, Nat.le_refl _⟩
    obtain ⟨tv1, H⟩ := H
    refine m_aast (nf := 0) hp dX10_solveBy_19 (lf_10_45 ly_10) rfl (cw13).1 tv1 (lu_10_45 ly_10) H.1 H.2.1 (fun h2 eh2 => ?_)
    replace H := H.2.2 h2 eh2
    refine r_iload dX10_solveBy_20 rfl ?_
    refine r_iload_n dX10_solveBy_22 rfl rfl ?_
    refine r_icmp_ne (tgt := 40) dX10_solveBy_23 rfl (fun cH => ?_) (fun cH => ?_)
    · replace H := H.1 cH
      refine r_aload_n dX10_solveBy_40 rfl rfl ?_
      refine m_getF (x := 2936) hp fw_X10_493 dX10_solveBy_41 rfl ly_10 (ff_10_46 ly_10) ?_
      refine r_iload dX10_solveBy_44 rfl ?_
      refine m_zald hp dX10_solveBy_46 (lf_10_46 ly_10) H.1 ?_
      replace H := H.2
      refine r_if_eq (tgt := 83) dX10_solveBy_47 rfl (fun cH => ?_) (fun cH => ?_)
      · replace H := H.1 cH
        exact H
      · replace H := H.2 cH
        refine r_iload dX10_solveBy_50 rfl ?_
        refine r_iload_n dX10_solveBy_52 rfl rfl ?_
        refine r_icmp_ge (tgt := 83) dX10_solveBy_53 rfl (fun cH => ?_) (fun cH => ?_)
        · replace H := H.1 cH
          exact H
        · replace H := H.2 cH
          refine r_aload_n dX10_solveBy_56 rfl rfl ?_
          refine m_getF (x := 2935) hp fw_X10_490 dX10_solveBy_57 rfl ly_10 (ff_10_45 ly_10) ?_
          refine r_iload dX10_solveBy_60 rfl ?_
          have hir3 := H.1
          obtain ⟨r3, er3, tr3, H⟩ := H.2
          refine m_aalM (x := r3) hp dX10_solveBy_62 (lf_10_45 ly_10) rfl rfl (lu_10_45 ly_10) hir3 er3 ?_
          refine r_aload_n dX10_solveBy_63 rfl rfl ?_
          refine m_getF (x := 2908) hp fw_X10_487 dX10_solveBy_64 rfl ly_10 (ff_10_44 ly_10) ?_
          refine r_aload_n dX10_solveBy_67 rfl rfl ?_
          refine m_getF (x := 2937) hp fw_X10_496 dX10_solveBy_68 rfl ly_10 (ff_10_47 ly_10) ?_
          refine r_iload dX10_solveBy_71 rfl ?_
          refine m_iald hp dX10_solveBy_73 (lf_10_47 ly_10) H.1 ?_
          replace H := H.2
          have hir4 := H.1
          obtain ⟨r4, Lr4, er4, tr4, H⟩ := H.2
          refine m_aalM (x := r4) hp dX10_solveBy_74 (lf_10_44 ly_10) rfl rfl (lu_10_44 ly_10) hir4 er4 ?_
          refine r_iload_n dX10_solveBy_75 rfl rfl ?_
          have hir5 := H.1
          obtain ⟨r5, er5, tr5, H⟩ := H.2
          refine m_aalM (x := r5) hp dX10_solveBy_76 tr4.1 rfl rfl tr4.2 hir5 er5 ?_
          refine r_ldcw (own := "") (v := (2147483646 : Int32)) dX10_solveBy_77 q2644 ?_
          refine k_SV (As := [.ref r3, .ref r5, .int (2147483646 : Int32)]) (stk := []) cs_X10_70 dX10_solveBy_80 rfl (Nat.le_of_ble_eq_true rfl) (H.mono (fun h6 H => ?_)) ⟨Nat.le_refl _, Nat.le_refl _⟩
          exact H
    · replace H := H.2 cH
      refine r_aload_n dX10_solveBy_26 rfl rfl ?_
      refine m_getF (x := 2935) hp fw_X10_490 dX10_solveBy_27 rfl ly_10 (ff_10_45 ly_10) ?_
      refine r_iload dX10_solveBy_30 rfl ?_
      have hir7 := H.1
      obtain ⟨r7, er7, tr7, H⟩ := H.2
      refine m_aalM (x := r7) hp dX10_solveBy_32 (lf_10_45 ly_10) rfl rfl (lu_10_45 ly_10) hir7 er7 ?_
      refine r_aload_n dX10_solveBy_33 rfl rfl ?_
      refine k_SV (As := [.ref r7, .ref a3]) (stk := []) cs_X10_62 dX10_solveBy_34 rfl (Nat.le_of_ble_eq_true rfl) (H.mono (fun h8 H => ?_)) ⟨Nat.le_refl _, Nat.le_refl _⟩
      refine r_goto (tgt := 83) dX10_solveBy_37 rfl ?_
      exact H
theorem s_X10_solveBy_83 {g : GX} {d : Nat} {av : List Value} {Q : QT} {n : Nat} {h : Hp} {x1 : Int32} {x2 : Int32} {a3 : Nat} {x4 : Int32} (hp : g.2.2.2.2 = true) (t3 : lay a3 = (0, 13, 2)) (H : W_X10_solveBy g d av Q n 3 [some (.ref 2759), some (.int x1), some (.int x2), some (.ref a3), some (.int (x4 + (1 : Int32)))] [] h) : W_X10_solveBy g d av Q n 83 [some (.ref 2759), some (.int x1), some (.int x2), some (.ref a3), some (.int x4)] [] h := by
  refine r_iinc (v := (x4 + (1 : Int32))) (ls2 := [some (.ref 2759), some (.int x1), some (.int x2), some (.ref a3), some (.int (x4 + (1 : Int32)))]) dX10_solveBy_83 rfl rfl (by decide) rfl ?_
  refine r_goto (tgt := 3) dX10_solveBy_86 rfl ?_
  exact H
abbrev W_X10_certificate (g : GX) (d : Nat) (av : List Value) (Q : QT) (n : Nat) (pc : Nat) (ls : LV) (stk : List Value) (h : Hp) : Prop := RJ g m_X10_certificate (d + 1) 0 0 av Q pc ls stk n h 0 0
theorem s_X10_certificate_0 {g : GX} {d : Nat} {av : List Value} {Q : QT} {n : Nat} {h : Hp} {a1 : Nat} {a2 : Nat} {x3 : Int32} {a4 : Nat} {a5 : Nat} {a6 : Nat} (hp : g.2.2.2.2 = true) (t1 : lay a1 = (0, 14, 2)) (t2 : lay a2 = (0, 14, 2)) (t4 : lay a4 = (0, 13, 2)) (t5 : lay a5 = (0, 13, 2)) (t6 : lay a6 = (0, 14, 2)) (H : CallR g m_X10_newU d [.ref 2759] n h (fun v1 h1 => (lay v1 = (0, 13, 2) ∧ (CallR g m_X10_newU d [.ref 2759] n h1 (fun v2 h2 => (lay v2 = (0, 13, 2) ∧ (∀ h3, h3 = wi h2 v1 1 (0 : Int32) → (W_X10_certificate g d av Q n 21 [some (.ref 2759), some (.ref a1), some (.ref a2), some (.int x3), some (.ref a4), some (.ref a5), some (.ref a6), some (.ref v1), some (.ref v2), some (.int (0 : Int32)), none, none, none, none, none] [] h3)))))))) : W_X10_certificate g d av Q n 0 [some (.ref 2759), some (.ref a1), some (.ref a2), some (.int x3), some (.ref a4), some (.ref a5), some (.ref a6), none, none, none, none, none, none, none, none] [] h := by
  refine r_aload_n dX10_certificate_0 rfl rfl ?_
  refine k_VR (As := []) (stk := []) hp cv_X10_74 dX10_certificate_1 rfl (Nat.le_of_ble_eq_true rfl) ly_10 (H.mono (fun v1 h1 H => ?_)) ⟨Nat.le_refl _, Nat.le_refl _⟩
  obtain ⟨tv1, H⟩ := H
  refine r_astore (ls2 := [some (.ref 2759), some (.ref a1), some (.ref a2), some (.int x3), some (.ref a4), some (.ref a5), some (.ref a6), some (.ref v1), none, none, none, none, none, none, none]) dX10_certificate_4 (by decide) rfl ?_
  refine r_aload_n dX10_certificate_6 rfl rfl ?_
  refine k_VR (As := []) (stk := []) hp cv_X10_74 dX10_certificate_7 rfl (Nat.le_of_ble_eq_true rfl) ly_10 (H.mono (fun v2 h2 H => ?_)) ⟨Nat.le_refl _, Nat.le_refl _⟩
  obtain ⟨tv2, H⟩ := H
  refine r_astore (ls2 := [some (.ref 2759), some (.ref a1), some (.ref a2), some (.int x3), some (.ref a4), some (.ref a5), some (.ref a6), some (.ref v1), some (.ref v2), none, none, none, none, none, none]) dX10_certificate_10 (by decide) rfl ?_
  refine r_aload dX10_certificate_12 rfl ?_
  refine r_iconst (v := (0 : Int32)) dX10_certificate_14 rfl ?_
  refine m_putI hp fw_X10_25 dX10_certificate_15 rfl rfl tv1 (fun h3 eh3 => ?_)
  replace H := H h3 eh3
  refine r_iconst (v := (0 : Int32)) dX10_certificate_18 rfl ?_
  refine r_istore (ls2 := [some (.ref 2759), some (.ref a1), some (.ref a2), some (.int x3), some (.ref a4), some (.ref a5), some (.ref a6), some (.ref v1), some (.ref v2), some (.int (0 : Int32)), none, none, none, none, none]) dX10_certificate_19 (by decide) rfl ?_
  exact H
theorem s_X10_certificate_21 {g : GX} {d : Nat} {av : List Value} {Q : QT} {n : Nat} {h : Hp} {a1 : Nat} {a2 : Nat} {x3 : Int32} {a4 : Nat} {a5 : Nat} {a6 : Nat} {a7 : Nat} {a8 : Nat} {x9 : Int32} (hp : g.2.2.2.2 = true) (t1 : lay a1 = (0, 14, 2)) (t2 : lay a2 = (0, 14, 2)) (t4 : lay a4 = (0, 13, 2)) (t5 : lay a5 = (0, 13, 2)) (t6 : lay a6 = (0, 14, 2)) (t7 : lay a7 = (0, 13, 2)) (t8 : lay a8 = (0, 13, 2)) (H : ((x3 < x9) → (((¬ (ri h a7 1) = (0 : Int32)) → (CallV g m_X10_times_2 d [.ref a8, .ref a4, .ref a7] n h (fun h1 => (CallR g m_X10_newU d [.ref 2759] n h1 (fun v2 h2 => (lay v2 = (0, 13, 2) ∧ (CallV g m_X10_gcd_2 d [.ref 2759, .ref v2, .ref a8, .ref a5] n h2 (fun h3 => (CallV g m_X10_exact d [.ref 2759, .ref a8, .ref a8, .ref v2] n h3 (fun h4 => (CallR g m_X10_newU d [.ref 2759] n h4 (fun v5 h5 => (lay v5 = (0, 13, 2) ∧ (CallV g m_X10_exact d [.ref 2759, .ref v5, .ref a5, .ref v2] n h5 (fun h6 => (CallR g m_X10_newB d [.ref 2759] n h6 (fun v7 h7 => (lay v7 = (0, 14, 2) ∧ (W_X10_certificate g d av Q n 131 [some (.ref 2759), some (.ref a1), some (.ref a2), some (.int x3), none, none, some (.ref a6), some (.ref a7), some (.ref a8), none, some (.ref v5), some (.ref v7), some (.int (0 : Int32)), some (.int (0 : Int32)), none] [] h7))))))))))))))))))) ∧ (((ri h a7 1) = (0 : Int32)) → (CallV g m_X14_number d [.ref a1, .int (0 : Int32)] n h (fun h8 => (CallV g m_X14_number d [.ref a2, .int (1 : Int32)] n h8 (fun h9 => (Q (some (.int (1 : Int32))) n h9)))))))) ∧ ((¬ x3 < x9) → (vp_in x9 14 ∧ ∃ r10, rr h 2935 (x9).toNatClampNeg = some r10 ∧ lay r10 = (0, 13, 2) ∧ (CallV g m_X10_gcd_2 d [.ref 2759, .ref a7, .ref a7, .ref r10] n h (fun h11 => (W_X10_certificate g d av Q n 21 [some (.ref 2759), some (.ref a1), some (.ref a2), some (.int x3), some (.ref a4), some (.ref a5), some (.ref a6), some (.ref a7), some (.ref a8), some (.int (x9 + (1 : Int32))), none, none, none, none, none] [] h11)))))) : W_X10_certificate g d av Q n 21 [some (.ref 2759), some (.ref a1), some (.ref a2), some (.int x3), some (.ref a4), some (.ref a5), some (.ref a6), some (.ref a7), some (.ref a8), some (.int x9), none, none, none, none, none] [] h := by
  refine r_iload dX10_certificate_21 rfl ?_
  refine r_iload_n dX10_certificate_23 rfl rfl ?_
  refine r_icmp_gt (tgt := 48) dX10_certificate_24 rfl (fun cH => ?_) (fun cH => ?_)
  · replace H := H.1 cH
    refine r_aload dX10_certificate_48 rfl ?_
    refine m_getI hp fw_X10_25 dX10_certificate_50 rfl t7 ?_
    refine r_if_ne (tgt := 68) dX10_certificate_53 rfl (fun cH => ?_) (fun cH => ?_)
    · replace H := H.1 cH
      refine r_aload dX10_certificate_68 rfl ?_
      refine r_aload dX10_certificate_70 rfl ?_
      refine r_aload dX10_certificate_72 rfl ?_
      refine k_SV (As := [.ref a8, .ref a4, .ref a7]) (stk := []) cs_X10_106 dX10_certificate_74 rfl (Nat.le_of_ble_eq_true rfl) (H.mono (fun h1 H => ?_)) ⟨Nat.le_refl _, Nat.le_refl _⟩
      refine r_aload_n dX10_certificate_77 rfl rfl ?_
      refine k_VR (As := []) (stk := []) hp cv_X10_74 dX10_certificate_78 rfl (Nat.le_of_ble_eq_true rfl) ly_10 (H.mono (fun v2 h2 H => ?_)) ⟨Nat.le_refl _, Nat.le_refl _⟩
      obtain ⟨tv2, H⟩ := H
      refine r_astore (ls2 := [some (.ref 2759), some (.ref a1), some (.ref a2), some (.int x3), some (.ref a4), some (.ref a5), some (.ref a6), some (.ref a7), some (.ref a8), some (.ref v2), none, none, none, none, none]) dX10_certificate_81 (by decide) rfl ?_
      refine r_aload_n dX10_certificate_83 rfl rfl ?_
      refine r_aload dX10_certificate_84 rfl ?_
      refine r_aload dX10_certificate_86 rfl ?_
      refine r_aload dX10_certificate_88 rfl ?_
      refine k_VV (As := [.ref v2, .ref a8, .ref a5]) (stk := []) hp cv_X10_125 dX10_certificate_90 rfl (Nat.le_of_ble_eq_true rfl) ly_10 (H.mono (fun h3 H => ?_)) ⟨Nat.le_refl _, Nat.le_refl _⟩
      refine r_aload_n dX10_certificate_93 rfl rfl ?_
      refine r_aload dX10_certificate_94 rfl ?_
      refine r_aload dX10_certificate_96 rfl ?_
      refine r_aload dX10_certificate_98 rfl ?_
      refine k_VV (As := [.ref a8, .ref a8, .ref v2]) (stk := []) hp cv_X10_110 dX10_certificate_100 rfl (Nat.le_of_ble_eq_true rfl) ly_10 (H.mono (fun h4 H => ?_)) ⟨Nat.le_refl _, Nat.le_refl _⟩
      refine r_aload_n dX10_certificate_103 rfl rfl ?_
      refine k_VR (As := []) (stk := []) hp cv_X10_74 dX10_certificate_104 rfl (Nat.le_of_ble_eq_true rfl) ly_10 (H.mono (fun v5 h5 H => ?_)) ⟨Nat.le_refl _, Nat.le_refl _⟩
      obtain ⟨tv5, H⟩ := H
      refine r_astore (ls2 := [some (.ref 2759), some (.ref a1), some (.ref a2), some (.int x3), some (.ref a4), some (.ref a5), some (.ref a6), some (.ref a7), some (.ref a8), some (.ref v2), some (.ref v5), none, none, none, none]) dX10_certificate_107 (by decide) rfl ?_
      refine r_aload_n dX10_certificate_109 rfl rfl ?_
      refine r_aload dX10_certificate_110 rfl ?_
      refine r_aload dX10_certificate_112 rfl ?_
      refine r_aload dX10_certificate_114 rfl ?_
      refine k_VV (As := [.ref v5, .ref a5, .ref v2]) (stk := []) hp cv_X10_110 dX10_certificate_116 rfl (Nat.le_of_ble_eq_true rfl) ly_10 (H.mono (fun h6 H => ?_)) ⟨Nat.le_refl _, Nat.le_refl _⟩
      refine r_aload_n dX10_certificate_119 rfl rfl ?_
      refine k_VR (As := []) (stk := []) hp cv_X10_140 dX10_certificate_120 rfl (Nat.le_of_ble_eq_true rfl) ly_10 (H.mono (fun v7 h7 H => ?_)) ⟨Nat.le_refl _, Nat.le_refl _⟩
      obtain ⟨tv7, H⟩ := H
      refine r_astore (ls2 := [some (.ref 2759), some (.ref a1), some (.ref a2), some (.int x3), some (.ref a4), some (.ref a5), some (.ref a6), some (.ref a7), some (.ref a8), some (.ref v2), some (.ref v5), some (.ref v7), none, none, none]) dX10_certificate_123 (by decide) rfl ?_
      refine r_iconst (v := (0 : Int32)) dX10_certificate_125 rfl ?_
      refine r_istore (ls2 := [some (.ref 2759), some (.ref a1), some (.ref a2), some (.int x3), some (.ref a4), some (.ref a5), some (.ref a6), some (.ref a7), some (.ref a8), some (.ref v2), some (.ref v5), some (.ref v7), some (.int (0 : Int32)), none, none]) dX10_certificate_126 (by decide) rfl ?_
      refine r_iconst (v := (0 : Int32)) dX10_certificate_128 rfl ?_
      refine r_istore (ls2 := [some (.ref 2759), some (.ref a1), some (.ref a2), some (.int x3), some (.ref a4), some (.ref a5), some (.ref a6), some (.ref a7), some (.ref a8), some (.ref v2), some (.ref v5), some (.ref v7), some (.int (0 : Int32)), some (.int (0 : Int32)), none]) dX10_certificate_129 (by decide) rfl ?_
      refine r_prune [true, true, true, true, false, false, true, true, true, false, true, true, true, true, false] (ls2 := [some (.ref 2759), some (.ref a1), some (.ref a2), some (.int x3), none, none, some (.ref a6), some (.ref a7), some (.ref a8), none, some (.ref v5), some (.ref v7), some (.int (0 : Int32)), some (.int (0 : Int32)), none]) rfl ?_
      exact H
    · replace H := H.2 cH
      refine r_aload_n dX10_certificate_56 rfl rfl ?_
      refine r_iconst (v := (0 : Int32)) dX10_certificate_57 rfl ?_
      refine k_VV (As := [.int (0 : Int32)]) (stk := []) hp cv_X10_158 dX10_certificate_58 rfl (Nat.le_of_ble_eq_true rfl) t1 (H.mono (fun h8 H => ?_)) ⟨Nat.le_refl _, Nat.le_refl _⟩
      refine r_aload_n dX10_certificate_61 rfl rfl ?_
      refine r_iconst (v := (1 : Int32)) dX10_certificate_62 rfl ?_
      refine k_VV (As := [.int (1 : Int32)]) (stk := []) hp cv_X10_158 dX10_certificate_63 rfl (Nat.le_of_ble_eq_true rfl) t2 (H.mono (fun h9 H => ?_)) ⟨Nat.le_refl _, Nat.le_refl _⟩
      refine r_iconst (v := (1 : Int32)) dX10_certificate_66 rfl ?_
      exact r_zret dX10_certificate_67 rfl rfl (Nat.le_refl _) (Nat.le_refl _) H
  · replace H := H.2 cH
    refine r_aload_n dX10_certificate_27 rfl rfl ?_
    refine r_aload dX10_certificate_28 rfl ?_
    refine r_aload dX10_certificate_30 rfl ?_
    refine r_aload_n dX10_certificate_32 rfl rfl ?_
    refine m_getF (x := 2935) hp fw_X10_490 dX10_certificate_33 rfl ly_10 (ff_10_45 ly_10) ?_
    refine r_iload dX10_certificate_36 rfl ?_
    have hir10 := H.1
    obtain ⟨r10, er10, tr10, H⟩ := H.2
    refine m_aalM (x := r10) hp dX10_certificate_38 (lf_10_45 ly_10) rfl rfl (lu_10_45 ly_10) hir10 er10 ?_
    refine k_VV (As := [.ref a7, .ref a7, .ref r10]) (stk := []) hp cv_X10_125 dX10_certificate_39 rfl (Nat.le_of_ble_eq_true rfl) ly_10 (H.mono (fun h11 H => ?_)) ⟨Nat.le_refl _, Nat.le_refl _⟩
    refine r_iinc (v := (x9 + (1 : Int32))) (ls2 := [some (.ref 2759), some (.ref a1), some (.ref a2), some (.int x3), some (.ref a4), some (.ref a5), some (.ref a6), some (.ref a7), some (.ref a8), some (.int (x9 + (1 : Int32))), none, none, none, none, none]) dX10_certificate_42 rfl rfl (by decide) rfl ?_
    refine r_goto (tgt := 21) dX10_certificate_45 rfl ?_
    exact H
theorem s_X10_certificate_131 {g : GX} {d : Nat} {av : List Value} {Q : QT} {n : Nat} {h : Hp} {a1 : Nat} {a2 : Nat} {x3 : Int32} {a6 : Nat} {a7 : Nat} {a8 : Nat} {a10 : Nat} {a11 : Nat} {x12 : Int32} {x13 : Int32} (hp : g.2.2.2.2 = true) (t1 : lay a1 = (0, 14, 2)) (t2 : lay a2 = (0, 14, 2)) (t6 : lay a6 = (0, 14, 2)) (t7 : lay a7 = (0, 13, 2)) (t8 : lay a8 = (0, 13, 2)) (t10 : lay a10 = (0, 13, 2)) (t11 : lay a11 = (0, 14, 2)) (H : ((x3 < x13) → ((((100 : Int32) < x12) → (Q (some (.int (0 : Int32))) n h)) ∧ ((¬ (100 : Int32) < x12) → ((((70 : Int32) < (x12 + (ri h a8 1))) → (Q (some (.int (0 : Int32))) n h)) ∧ ((¬ (70 : Int32) < (x12 + (ri h a8 1))) → ((((ri h a10 1) ≤ (25 : Int32)) → (∀ h1, h1 = wi h a11 1 (x3 + (1 : Int32)) → (CallV g m_X14_trim d [.ref a11] n h1 (fun h2 => (CallR g m_X10_newB d [.ref 2759] n h2 (fun v3 h3 => (lay v3 = (0, 14, 2) ∧ (CallR g m_X10_newB d [.ref 2759] n h3 (fun v4 h4 => (lay v4 = (0, 14, 2) ∧ (∃ r5, rr h4 2759 40 = some r5 ∧ lay r5 = (0, 14, 2) ∧ (CallV g m_X10_shiftK d [.ref v3, .ref r5, .int (2147483646 : Int32)] n h4 (fun h6 => (CallV g m_X10_times d [.ref 2759, .ref v4, .ref a11, .ref v3] n h6 (fun h7 => (CallV g m_X10_timesU d [.ref 2759, .ref a1, .ref v4, .ref a8] n h7 (fun h8 => (∃ r9, rr h8 2759 41 = some r9 ∧ lay r9 = (0, 14, 2) ∧ (CallV g m_X10_times d [.ref 2759, .ref v4, .ref r9, .ref a6] n h8 (fun h10 => (CallV g m_X10_timesU d [.ref 2759, .ref a2, .ref v4, .ref a10] n h10 (fun h11 => (CallV g m_X10_reduce d [.ref 2759, .ref a1, .ref a2] n h11 (fun h12 => (CallI g m_X10_fits d [.ref a1] n h12 (fun v13 h13 => (((v13 = (0 : Int32)) → (Q (some (.int (0 : Int32))) n h13)) ∧ ((¬ v13 = (0 : Int32)) → (CallI g m_X10_fits d [.ref a2] n h13 (fun v14 h14 => (((v14 = (0 : Int32)) → (Q (some (.int (0 : Int32))) n h14)) ∧ ((¬ v14 = (0 : Int32)) → (Q (some (.int (1 : Int32))) n h14))))))))))))))))))))))))))))))))) ∧ ((¬ (ri h a10 1) ≤ (25 : Int32)) → (Q (some (.int (0 : Int32))) n h)))))))) ∧ ((¬ x3 < x13) → (CallR g m_X10_newU d [.ref 2759] n h (fun v15 h15 => (lay v15 = (0, 13, 2) ∧ (vp_in x13 14 ∧ ∃ r16, rr h15 2935 (x13).toNatClampNeg = some r16 ∧ lay r16 = (0, 13, 2) ∧ (CallV g m_X10_exact d [.ref 2759, .ref v15, .ref r16, .ref a7] n h15 (fun h17 => (CallI g m_J3_max d [.int x12, .int (ri h17 v15 1)] n h17 (fun v18 h18 => ((((100 : Int32) < (ri h18 v15 1)) → (W_X10_certificate g d av Q n 193 [some (.ref 2759), some (.ref a1), some (.ref a2), some (.int x3), none, none, some (.ref a6), some (.ref a7), some (.ref a8), none, some (.ref a10), some (.ref a11), some (.int v18), some (.int x13), none] [] h18)) ∧ ((¬ (100 : Int32) < (ri h18 v15 1)) → (vp_in x13 64 ∧ ∀ r19, r19 = (a11 + 2) + 2 * (x13).toNatClampNeg → (CallV g m_X10_set_2 d [.ref r19, .ref v15] n h18 (fun h20 => (W_X10_certificate g d av Q n 193 [some (.ref 2759), some (.ref a1), some (.ref a2), some (.int x3), none, none, some (.ref a6), some (.ref a7), some (.ref a8), none, some (.ref a10), some (.ref a11), some (.int v18), some (.int x13), none] [] h20)))))))))))))))) : W_X10_certificate g d av Q n 131 [some (.ref 2759), some (.ref a1), some (.ref a2), some (.int x3), none, none, some (.ref a6), some (.ref a7), some (.ref a8), none, some (.ref a10), some (.ref a11), some (.int x12), some (.int x13), none] [] h := by
  refine r_iload dX10_certificate_131 rfl ?_
  refine r_iload_n dX10_certificate_133 rfl rfl ?_
  refine r_icmp_gt (tgt := 199) dX10_certificate_134 rfl (fun cH => ?_) (fun cH => ?_)
  · replace H := H.1 cH
    refine r_iload dX10_certificate_199 rfl ?_
    refine r_bipush (v := (100 : Int32)) dX10_certificate_201 rfl ?_
    refine r_icmp_gt (tgt := 229) dX10_certificate_203 rfl (fun cH => ?_) (fun cH => ?_)
    · replace H := H.1 cH
      refine r_iconst (v := (0 : Int32)) dX10_certificate_229 rfl ?_
      exact r_zret dX10_certificate_230 rfl rfl (Nat.le_refl _) (Nat.le_refl _) H
    · replace H := H.2 cH
      refine r_iload dX10_certificate_206 rfl ?_
      refine r_aload dX10_certificate_208 rfl ?_
      refine m_getI hp fw_X10_25 dX10_certificate_210 rfl t8 ?_
      refine r_iadd dX10_certificate_213 ?_
      refine r_bipush (v := (70 : Int32)) dX10_certificate_214 rfl ?_
      refine r_icmp_gt (tgt := 229) dX10_certificate_216 rfl (fun cH => ?_) (fun cH => ?_)
      · replace H := H.1 cH
        refine r_iconst (v := (0 : Int32)) dX10_certificate_229 rfl ?_
        exact r_zret dX10_certificate_230 rfl rfl (Nat.le_refl _) (Nat.le_refl _) H
      · replace H := H.2 cH
        refine r_aload dX10_certificate_219 rfl ?_
        refine m_getI hp fw_X10_25 dX10_certificate_221 rfl t10 ?_
        refine r_bipush (v := (25 : Int32)) dX10_certificate_224 rfl ?_
        refine r_icmp_le (tgt := 231) dX10_certificate_226 rfl (fun cH => ?_) (fun cH => ?_)
        · replace H := H.1 cH
          refine r_aload dX10_certificate_231 rfl ?_
          refine r_iload_n dX10_certificate_233 rfl rfl ?_
          refine r_iconst (v := (1 : Int32)) dX10_certificate_234 rfl ?_
          refine r_iadd dX10_certificate_235 ?_
          refine m_putI hp fw_X10_93 dX10_certificate_236 rfl rfl t11 (fun h1 eh1 => ?_)
          replace H := H h1 eh1
          refine r_aload dX10_certificate_239 rfl ?_
          refine k_VV (As := []) (stk := []) hp cv_X10_105 dX10_certificate_241 rfl (Nat.le_of_ble_eq_true rfl) t11 (H.mono (fun h2 H => ?_)) ⟨Nat.le_refl _, Nat.le_refl _⟩
          refine r_aload_n dX10_certificate_244 rfl rfl ?_
          refine k_VR (As := []) (stk := []) hp cv_X10_140 dX10_certificate_245 rfl (Nat.le_of_ble_eq_true rfl) ly_10 (H.mono (fun v3 h3 H => ?_)) ⟨Nat.le_refl _, Nat.le_refl _⟩
          obtain ⟨tv3, H⟩ := H
          refine r_astore (ls2 := [some (.ref 2759), some (.ref a1), some (.ref a2), some (.int x3), none, none, some (.ref a6), some (.ref a7), some (.ref a8), none, some (.ref a10), some (.ref a11), some (.int x12), some (.ref v3), none]) dX10_certificate_248 (by decide) rfl ?_
          refine r_aload_n dX10_certificate_250 rfl rfl ?_
          refine k_VR (As := []) (stk := []) hp cv_X10_140 dX10_certificate_251 rfl (Nat.le_of_ble_eq_true rfl) ly_10 (H.mono (fun v4 h4 H => ?_)) ⟨Nat.le_refl _, Nat.le_refl _⟩
          obtain ⟨tv4, H⟩ := H
          refine r_astore (ls2 := [some (.ref 2759), some (.ref a1), some (.ref a2), some (.int x3), none, none, some (.ref a6), some (.ref a7), some (.ref a8), none, some (.ref a10), some (.ref a11), some (.int x12), some (.ref v3), some (.ref v4)]) dX10_certificate_254 (by decide) rfl ?_
          refine r_aload dX10_certificate_256 rfl ?_
          refine r_aload_n dX10_certificate_258 rfl rfl ?_
          obtain ⟨r5, er5, tr5, H⟩ := H
          refine m_getM (x := r5) hp fw_X10_699 dX10_certificate_259 rfl ly_10 er5 ?_
          refine r_ldcw (own := "") (v := (2147483646 : Int32)) dX10_certificate_262 q2644 ?_
          refine k_SV (As := [.ref v3, .ref r5, .int (2147483646 : Int32)]) (stk := []) cs_X10_626 dX10_certificate_265 rfl (Nat.le_of_ble_eq_true rfl) (H.mono (fun h6 H => ?_)) ⟨Nat.le_refl _, Nat.le_refl _⟩
          refine r_aload_n dX10_certificate_268 rfl rfl ?_
          refine r_aload dX10_certificate_269 rfl ?_
          refine r_aload dX10_certificate_271 rfl ?_
          refine r_aload dX10_certificate_273 rfl ?_
          refine k_VV (As := [.ref v4, .ref a11, .ref v3]) (stk := []) hp cv_X10_197 dX10_certificate_275 rfl (Nat.le_of_ble_eq_true rfl) ly_10 (H.mono (fun h7 H => ?_)) ⟨Nat.le_refl _, Nat.le_refl _⟩
          refine r_aload_n dX10_certificate_278 rfl rfl ?_
          refine r_aload_n dX10_certificate_279 rfl rfl ?_
          refine r_aload dX10_certificate_280 rfl ?_
          refine r_aload dX10_certificate_282 rfl ?_
          refine k_VV (As := [.ref a1, .ref v4, .ref a8]) (stk := []) hp cv_X10_178 dX10_certificate_284 rfl (Nat.le_of_ble_eq_true rfl) ly_10 (H.mono (fun h8 H => ?_)) ⟨Nat.le_refl _, Nat.le_refl _⟩
          refine r_aload_n dX10_certificate_287 rfl rfl ?_
          refine r_aload dX10_certificate_288 rfl ?_
          refine r_aload_n dX10_certificate_290 rfl rfl ?_
          obtain ⟨r9, er9, tr9, H⟩ := H
          refine m_getM (x := r9) hp fw_X10_702 dX10_certificate_291 rfl ly_10 er9 ?_
          refine r_aload dX10_certificate_294 rfl ?_
          refine k_VV (As := [.ref v4, .ref r9, .ref a6]) (stk := []) hp cv_X10_197 dX10_certificate_296 rfl (Nat.le_of_ble_eq_true rfl) ly_10 (H.mono (fun h10 H => ?_)) ⟨Nat.le_refl _, Nat.le_refl _⟩
          refine r_aload_n dX10_certificate_299 rfl rfl ?_
          refine r_aload_n dX10_certificate_300 rfl rfl ?_
          refine r_aload dX10_certificate_301 rfl ?_
          refine r_aload dX10_certificate_303 rfl ?_
          refine k_VV (As := [.ref a2, .ref v4, .ref a10]) (stk := []) hp cv_X10_178 dX10_certificate_305 rfl (Nat.le_of_ble_eq_true rfl) ly_10 (H.mono (fun h11 H => ?_)) ⟨Nat.le_refl _, Nat.le_refl _⟩
          refine r_aload_n dX10_certificate_308 rfl rfl ?_
          refine r_aload_n dX10_certificate_309 rfl rfl ?_
          refine r_aload_n dX10_certificate_310 rfl rfl ?_
          refine k_VV (As := [.ref a1, .ref a2]) (stk := []) hp cv_X10_659 dX10_certificate_311 rfl (Nat.le_of_ble_eq_true rfl) ly_10 (H.mono (fun h12 H => ?_)) ⟨Nat.le_refl _, Nat.le_refl _⟩
          refine r_aload_n dX10_certificate_314 rfl rfl ?_
          refine k_SI (As := [.ref a1]) (stk := []) cs_X10_249 dX10_certificate_315 rfl (Nat.le_of_ble_eq_true rfl) (H.mono (fun v13 h13 H => ?_)) ⟨Nat.le_refl _, Nat.le_refl _⟩
          refine r_if_eq (tgt := 332) dX10_certificate_318 rfl (fun cH => ?_) (fun cH => ?_)
          · replace H := H.1 cH
            refine r_iconst (v := (0 : Int32)) dX10_certificate_332 rfl ?_
            exact r_zret dX10_certificate_333 rfl rfl (Nat.le_refl _) (Nat.le_refl _) H
          · replace H := H.2 cH
            refine r_aload_n dX10_certificate_321 rfl rfl ?_
            refine k_SI (As := [.ref a2]) (stk := []) cs_X10_249 dX10_certificate_322 rfl (Nat.le_of_ble_eq_true rfl) (H.mono (fun v14 h14 H => ?_)) ⟨Nat.le_refl _, Nat.le_refl _⟩
            refine r_if_eq (tgt := 332) dX10_certificate_325 rfl (fun cH => ?_) (fun cH => ?_)
            · replace H := H.1 cH
              refine r_iconst (v := (0 : Int32)) dX10_certificate_332 rfl ?_
              exact r_zret dX10_certificate_333 rfl rfl (Nat.le_refl _) (Nat.le_refl _) H
            · replace H := H.2 cH
              refine r_iconst (v := (1 : Int32)) dX10_certificate_328 rfl ?_
              refine r_goto (tgt := 333) dX10_certificate_329 rfl ?_
              exact r_zret dX10_certificate_333 rfl rfl (Nat.le_refl _) (Nat.le_refl _) H
        · replace H := H.2 cH
          refine r_iconst (v := (0 : Int32)) dX10_certificate_229 rfl ?_
          exact r_zret dX10_certificate_230 rfl rfl (Nat.le_refl _) (Nat.le_refl _) H
  · replace H := H.2 cH
    refine r_aload_n dX10_certificate_137 rfl rfl ?_
    refine k_VR (As := []) (stk := []) hp cv_X10_74 dX10_certificate_138 rfl (Nat.le_of_ble_eq_true rfl) ly_10 (H.mono (fun v15 h15 H => ?_)) ⟨Nat.le_refl _, Nat.le_refl _⟩
    obtain ⟨tv15, H⟩ := H
    refine r_astore (ls2 := [some (.ref 2759), some (.ref a1), some (.ref a2), some (.int x3), none, none, some (.ref a6), some (.ref a7), some (.ref a8), none, some (.ref a10), some (.ref a11), some (.int x12), some (.int x13), some (.ref v15)]) dX10_certificate_141 (by decide) rfl ?_
    refine r_aload_n dX10_certificate_143 rfl rfl ?_
    refine r_aload dX10_certificate_144 rfl ?_
    refine r_aload_n dX10_certificate_146 rfl rfl ?_
    refine m_getF (x := 2935) hp fw_X10_490 dX10_certificate_147 rfl ly_10 (ff_10_45 ly_10) ?_
    refine r_iload dX10_certificate_150 rfl ?_
    have hir16 := H.1
    obtain ⟨r16, er16, tr16, H⟩ := H.2
    refine m_aalM (x := r16) hp dX10_certificate_152 (lf_10_45 ly_10) rfl rfl (lu_10_45 ly_10) hir16 er16 ?_
    refine r_aload dX10_certificate_153 rfl ?_
    refine k_VV (As := [.ref v15, .ref r16, .ref a7]) (stk := []) hp cv_X10_110 dX10_certificate_155 rfl (Nat.le_of_ble_eq_true rfl) ly_10 (H.mono (fun h17 H => ?_)) ⟨Nat.le_refl _, Nat.le_refl _⟩
    refine r_iload dX10_certificate_158 rfl ?_
    refine r_aload dX10_certificate_160 rfl ?_
    refine m_getI hp fw_X10_25 dX10_certificate_162 rfl tv15 ?_
    refine k_SI (As := [.int x12, .int (ri h17 v15 1)]) (stk := []) cs_X10_40 dX10_certificate_165 rfl (Nat.le_of_ble_eq_true rfl) (H.mono (fun v18 h18 H => ?_)) ⟨Nat.le_refl _, Nat.le_refl _⟩
    refine r_istore (ls2 := [some (.ref 2759), some (.ref a1), some (.ref a2), some (.int x3), none, none, some (.ref a6), some (.ref a7), some (.ref a8), none, some (.ref a10), some (.ref a11), some (.int v18), some (.int x13), some (.ref v15)]) dX10_certificate_168 (by decide) rfl ?_
    refine r_aload dX10_certificate_170 rfl ?_
    refine m_getI hp fw_X10_25 dX10_certificate_172 rfl tv15 ?_
    refine r_bipush (v := (100 : Int32)) dX10_certificate_175 rfl ?_
    refine r_icmp_gt (tgt := 193) dX10_certificate_177 rfl (fun cH => ?_) (fun cH => ?_)
    · replace H := H.1 cH
      refine r_prune [true, true, true, true, false, false, true, true, true, false, true, true, true, true, false] (ls2 := [some (.ref 2759), some (.ref a1), some (.ref a2), some (.int x3), none, none, some (.ref a6), some (.ref a7), some (.ref a8), none, some (.ref a10), some (.ref a11), some (.int v18), some (.int x13), none]) rfl ?_
      exact H
    · replace H := H.2 cH
      refine r_aload dX10_certificate_180 rfl ?_
      refine m_getF (x := (a11 + 1)) hp fw_X10_98 dX10_certificate_182 rfl t11 (ff_14_0 t11) ?_
      refine r_iload dX10_certificate_185 rfl ?_
      obtain ⟨r19, er19⟩ : ∃ y, y = (a11 + 2) + 2 * (x13).toNatClampNeg := ⟨_, rfl⟩
      have hir19 := H.1
      replace H := H.2 r19 er19
      have tLr19 := le_14 t11 hir19 er19
      refine m_aalF (x := r19) hp dX10_certificate_187 (lf_14_0 t11) rfl rfl (lu_14_0 t11) hir19 (fe_14 t11 hir19 er19) ?_
      refine r_aload dX10_certificate_188 rfl ?_
      refine k_SV (As := [.ref r19, .ref v15]) (stk := []) cs_X10_62 dX10_certificate_190 rfl (Nat.le_of_ble_eq_true rfl) (H.mono (fun h20 H => ?_)) ⟨Nat.le_refl _, Nat.le_refl _⟩
      refine r_prune [true, true, true, true, false, false, true, true, true, false, true, true, true, true, false] (ls2 := [some (.ref 2759), some (.ref a1), some (.ref a2), some (.int x3), none, none, some (.ref a6), some (.ref a7), some (.ref a8), none, some (.ref a10), some (.ref a11), some (.int v18), some (.int x13), none]) rfl ?_
      exact H
theorem s_X10_certificate_193 {g : GX} {d : Nat} {av : List Value} {Q : QT} {n : Nat} {h : Hp} {a1 : Nat} {a2 : Nat} {x3 : Int32} {a6 : Nat} {a7 : Nat} {a8 : Nat} {a10 : Nat} {a11 : Nat} {x12 : Int32} {x13 : Int32} (hp : g.2.2.2.2 = true) (t1 : lay a1 = (0, 14, 2)) (t2 : lay a2 = (0, 14, 2)) (t6 : lay a6 = (0, 14, 2)) (t7 : lay a7 = (0, 13, 2)) (t8 : lay a8 = (0, 13, 2)) (t10 : lay a10 = (0, 13, 2)) (t11 : lay a11 = (0, 14, 2)) (H : W_X10_certificate g d av Q n 131 [some (.ref 2759), some (.ref a1), some (.ref a2), some (.int x3), none, none, some (.ref a6), some (.ref a7), some (.ref a8), none, some (.ref a10), some (.ref a11), some (.int x12), some (.int (x13 + (1 : Int32))), none] [] h) : W_X10_certificate g d av Q n 193 [some (.ref 2759), some (.ref a1), some (.ref a2), some (.int x3), none, none, some (.ref a6), some (.ref a7), some (.ref a8), none, some (.ref a10), some (.ref a11), some (.int x12), some (.int x13), none] [] h := by
  refine r_iinc (v := (x13 + (1 : Int32))) (ls2 := [some (.ref 2759), some (.ref a1), some (.ref a2), some (.int x3), none, none, some (.ref a6), some (.ref a7), some (.ref a8), none, some (.ref a10), some (.ref a11), some (.int x12), some (.int (x13 + (1 : Int32))), none]) dX10_certificate_193 rfl rfl (by decide) rfl ?_
  refine r_goto (tgt := 131) dX10_certificate_196 rfl ?_
  exact H
abbrev W_X10_recur (g : GX) (d : Nat) (av : List Value) (Q : QT) (n : Nat) (pc : Nat) (ls : LV) (stk : List Value) (h : Hp) : Prop := RJ g m_X10_recur (d + 1) 0 0 av Q pc ls stk n h 0 0
theorem s_X10_recur_0 {g : GX} {d : Nat} {av : List Value} {Q : QT} {n : Nat} {h : Hp} {x1 : Int32} {x2 : Int32} {x3 : Int32} (hp : g.2.2.2.2 = true)  (H : CallI g m_X10_isSlot d [.int x1] n h (fun v1 h1 => (((v1 = (0 : Int32)) → (Q (some (.int (-1 : Int32))) n h1)) ∧ ((¬ v1 = (0 : Int32)) → (CallI g m_X10_isSlot d [.int x3] n h1 (fun v2 h2 => (((¬ v2 = (0 : Int32)) → (vp_in x1 12 ∧ ∀ r3, r3 = 10245 + 9 * (x1).toNatClampNeg → ((((ri h2 r3 0) = (1 : Int32)) → (W_X10_recur g d av Q n 45 [some (.ref 2759), none, some (.int x2), some (.int x3), some (.ref r3), none, none, none, none, none, none, none, none, none] [] h2)) ∧ ((¬ (ri h2 r3 0) = (1 : Int32)) → ((((ri h2 r3 0) = (2 : Int32)) → (W_X10_recur g d av Q n 45 [some (.ref 2759), none, some (.int x2), some (.int x3), some (.ref r3), none, none, none, none, none, none, none, none, none] [] h2)) ∧ ((¬ (ri h2 r3 0) = (2 : Int32)) → (Q (some (.int (-3 : Int32))) n h2))))))) ∧ ((v2 = (0 : Int32)) → (Q (some (.int (-1 : Int32))) n h2))))))))) : W_X10_recur g d av Q n 0 [some (.ref 2759), some (.int x1), some (.int x2), some (.int x3), none, none, none, none, none, none, none, none, none, none] [] h := by
  refine r_iload_n dX10_recur_0 rfl rfl ?_
  refine k_SI (As := [.int x1]) (stk := []) cs_X10_551 dX10_recur_1 rfl (Nat.le_of_ble_eq_true rfl) (H.mono (fun v1 h1 H => ?_)) ⟨Nat.le_refl _, Nat.le_refl _⟩
  refine r_if_eq (tgt := 14) dX10_recur_4 rfl (fun cH => ?_) (fun cH => ?_)
  · replace H := H.1 cH
    refine r_iconst (v := (-1 : Int32)) dX10_recur_14 rfl ?_
    exact r_zret dX10_recur_15 rfl rfl (Nat.le_refl _) (Nat.le_refl _) H
  · replace H := H.2 cH
    refine r_iload_n dX10_recur_7 rfl rfl ?_
    refine k_SI (As := [.int x3]) (stk := []) cs_X10_551 dX10_recur_8 rfl (Nat.le_of_ble_eq_true rfl) (H.mono (fun v2 h2 H => ?_)) ⟨Nat.le_refl _, Nat.le_refl _⟩
    refine r_if_ne (tgt := 16) dX10_recur_11 rfl (fun cH => ?_) (fun cH => ?_)
    · replace H := H.1 cH
      refine r_aload_n dX10_recur_16 rfl rfl ?_
      refine m_getF (x := 2841) hp fw_X10_450 dX10_recur_17 rfl ly_10 (ff_10_20 ly_10) ?_
      refine r_iload_n dX10_recur_20 rfl rfl ?_
      obtain ⟨r3, er3⟩ : ∃ y, y = 10245 + 9 * (x1).toNatClampNeg := ⟨_, rfl⟩
      have hir3 := H.1
      replace H := H.2 r3 er3
      have tLr3 := la_2841 hir3 er3
      refine m_aalF (x := r3) hp dX10_recur_21 (lf_10_20 ly_10) rfl rfl (lu_10_20 ly_10) hir3 (fa_2841 hir3 er3) ?_
      refine r_astore (ls2 := [some (.ref 2759), some (.int x1), some (.int x2), some (.int x3), some (.ref r3), none, none, none, none, none, none, none, none, none]) dX10_recur_22 (by decide) rfl ?_
      refine r_aload dX10_recur_24 rfl ?_
      refine m_getI hp fw_X10_202 dX10_recur_26 rfl tLr3 ?_
      refine r_iconst (v := (1 : Int32)) dX10_recur_29 rfl ?_
      refine r_icmp_eq (tgt := 45) dX10_recur_30 rfl (fun cH => ?_) (fun cH => ?_)
      · replace H := H.1 cH
        refine r_prune [true, false, true, true, true, false, false, false, false, false, false, false, false, false] (ls2 := [some (.ref 2759), none, some (.int x2), some (.int x3), some (.ref r3), none, none, none, none, none, none, none, none, none]) rfl ?_
        exact H
      · replace H := H.2 cH
        refine r_aload dX10_recur_33 rfl ?_
        refine m_getI hp fw_X10_202 dX10_recur_35 rfl tLr3 ?_
        refine r_iconst (v := (2 : Int32)) dX10_recur_38 rfl ?_
        refine r_icmp_eq (tgt := 45) dX10_recur_39 rfl (fun cH => ?_) (fun cH => ?_)
        · replace H := H.1 cH
          refine r_prune [true, false, true, true, true, false, false, false, false, false, false, false, false, false] (ls2 := [some (.ref 2759), none, some (.int x2), some (.int x3), some (.ref r3), none, none, none, none, none, none, none, none, none]) rfl ?_
          exact H
        · replace H := H.2 cH
          refine r_bipush (v := (-3 : Int32)) dX10_recur_42 rfl ?_
          exact r_zret dX10_recur_44 rfl rfl (Nat.le_refl _) (Nat.le_refl _) H
    · replace H := H.2 cH
      refine r_iconst (v := (-1 : Int32)) dX10_recur_14 rfl ?_
      exact r_zret dX10_recur_15 rfl rfl (Nat.le_refl _) (Nat.le_refl _) H
theorem s_X10_recur_45 {g : GX} {d : Nat} {av : List Value} {Q : QT} {n : Nat} {h : Hp} {x2 : Int32} {x3 : Int32} {a4 : Nat} (hp : g.2.2.2.2 = true) (t4 : lay a4 = (0, 11, 15)) (H : ((x2 < (0 : Int32)) → (Q (some (.int (-1 : Int32))) n h)) ∧ ((¬ x2 < (0 : Int32)) → ((((3 : Int32) < x2) → (Q (some (.int (-1 : Int32))) n h)) ∧ ((¬ (3 : Int32) < x2) → (CallI g m_X10_isZero d [.ref a4] n h (fun v1 h1 => (((v1 = (0 : Int32)) → (CallV g m_X10_begin d [.ref 2759] n h1 (fun h2 => (CallR g m_X10_newB d [.ref 2759] n h2 (fun v3 h3 => (lay v3 = (0, 14, 2) ∧ (CallR g m_X10_newB d [.ref 2759] n h3 (fun v4 h4 => (lay v4 = (0, 14, 2) ∧ (W_X10_recur g d av Q n 83 [some (.ref 2759), none, some (.int x2), some (.int x3), some (.ref a4), some (.ref v3), some (.ref v4), some (.int (0 : Int32)), none, none, none, none, none, none] [] h4)))))))))) ∧ ((¬ v1 = (0 : Int32)) → (Q (some (.int (-1 : Int32))) n h1))))))))) : W_X10_recur g d av Q n 45 [some (.ref 2759), none, some (.int x2), some (.int x3), some (.ref a4), none, none, none, none, none, none, none, none, none] [] h := by
  refine r_iload_n dX10_recur_45 rfl rfl ?_
  refine r_if_lt (tgt := 62) dX10_recur_46 rfl (fun cH => ?_) (fun cH => ?_)
  · replace H := H.1 cH
    refine r_iconst (v := (-1 : Int32)) dX10_recur_62 rfl ?_
    exact r_zret dX10_recur_63 rfl rfl (Nat.le_refl _) (Nat.le_refl _) H
  · replace H := H.2 cH
    refine r_iload_n dX10_recur_49 rfl rfl ?_
    refine r_iconst (v := (3 : Int32)) dX10_recur_50 rfl ?_
    refine r_icmp_gt (tgt := 62) dX10_recur_51 rfl (fun cH => ?_) (fun cH => ?_)
    · replace H := H.1 cH
      refine r_iconst (v := (-1 : Int32)) dX10_recur_62 rfl ?_
      exact r_zret dX10_recur_63 rfl rfl (Nat.le_refl _) (Nat.le_refl _) H
    · replace H := H.2 cH
      refine r_aload dX10_recur_54 rfl ?_
      refine k_SI (As := [.ref a4]) (stk := []) cs_X10_288 dX10_recur_56 rfl (Nat.le_of_ble_eq_true rfl) (H.mono (fun v1 h1 H => ?_)) ⟨Nat.le_refl _, Nat.le_refl _⟩
      refine r_if_eq (tgt := 64) dX10_recur_59 rfl (fun cH => ?_) (fun cH => ?_)
      · replace H := H.1 cH
        refine r_aload_n dX10_recur_64 rfl rfl ?_
        refine k_VV (As := []) (stk := []) hp cv_X10_555 dX10_recur_65 rfl (Nat.le_of_ble_eq_true rfl) ly_10 (H.mono (fun h2 H => ?_)) ⟨Nat.le_refl _, Nat.le_refl _⟩
        refine r_aload_n dX10_recur_68 rfl rfl ?_
        refine k_VR (As := []) (stk := []) hp cv_X10_140 dX10_recur_69 rfl (Nat.le_of_ble_eq_true rfl) ly_10 (H.mono (fun v3 h3 H => ?_)) ⟨Nat.le_refl _, Nat.le_refl _⟩
        obtain ⟨tv3, H⟩ := H
        refine r_astore (ls2 := [some (.ref 2759), none, some (.int x2), some (.int x3), some (.ref a4), some (.ref v3), none, none, none, none, none, none, none, none]) dX10_recur_72 (by decide) rfl ?_
        refine r_aload_n dX10_recur_74 rfl rfl ?_
        refine k_VR (As := []) (stk := []) hp cv_X10_140 dX10_recur_75 rfl (Nat.le_of_ble_eq_true rfl) ly_10 (H.mono (fun v4 h4 H => ?_)) ⟨Nat.le_refl _, Nat.le_refl _⟩
        obtain ⟨tv4, H⟩ := H
        refine r_astore (ls2 := [some (.ref 2759), none, some (.int x2), some (.int x3), some (.ref a4), some (.ref v3), some (.ref v4), none, none, none, none, none, none, none]) dX10_recur_78 (by decide) rfl ?_
        refine r_iconst (v := (0 : Int32)) dX10_recur_80 rfl ?_
        refine r_istore (ls2 := [some (.ref 2759), none, some (.int x2), some (.int x3), some (.ref a4), some (.ref v3), some (.ref v4), some (.int (0 : Int32)), none, none, none, none, none, none]) dX10_recur_81 (by decide) rfl ?_
        exact H
      · replace H := H.2 cH
        refine r_iconst (v := (-1 : Int32)) dX10_recur_62 rfl ?_
        exact r_zret dX10_recur_63 rfl rfl (Nat.le_refl _) (Nat.le_refl _) H
theorem s_X10_recur_83 {g : GX} {d : Nat} {av : List Value} {Q : QT} {n : Nat} {h : Hp} {x2 : Int32} {x3 : Int32} {a4 : Nat} {a5 : Nat} {a6 : Nat} {x7 : Int32} (hp : g.2.2.2.2 = true) (t4 : lay a4 = (0, 11, 15)) (t5 : lay a5 = (0, 14, 2)) (t6 : lay a6 = (0, 14, 2)) (H : ((x2 < x7) → (CallR g m_X10_newB d [.ref 2759] n h (fun v1 h1 => (lay v1 = (0, 14, 2) ∧ (CallR g m_X10_newB d [.ref 2759] n h1 (fun v2 h2 => (lay v2 = (0, 14, 2) ∧ (CallI g m_X10_quotient_2 d [.ref 2759, .ref v1, .ref v2, .ref a4, .int (0 : Int32), .int (1 : Int32)] n h2 (fun v3 h3 => (((¬ v3 = (0 : Int32)) → (CallR g m_X10_newB d [.ref 2759] n h3 (fun v4 h4 => (lay v4 = (0, 14, 2) ∧ (CallV g m_X14_number d [.ref v4, .int (1 : Int32)] n h4 (fun h5 => (W_X10_recur g d av Q n 195 [some (.ref 2759), none, some (.int x2), some (.int x3), none, none, none, some (.ref v1), some (.ref v2), some (.ref v4), some (.int (ri h5 2759 3)), some (.int (ri h5 2759 1)), some (.int (0 : Int32)), none] [] h5))))))) ∧ ((v3 = (0 : Int32)) → (Q (some (.int (-2 : Int32))) n h3)))))))))))) ∧ ((¬ x2 < x7) → (CallI g m_X10_quotient_2 d [.ref 2759, .ref a5, .ref a6, .ref a4, .int x7, .int (0 : Int32)] n h (fun v6 h6 => (((¬ v6 = (0 : Int32)) → (vp_in x7 4 ∧ ∀ r7, r7 = 2941 + 1 * (x7).toNatClampNeg → (CallV g m_X10_store d [.ref r7, .ref a5] n h6 (fun h8 => (vp_in x7 4 ∧ ∀ r9, r9 = 2946 + 1 * (x7).toNatClampNeg → (CallV g m_X10_store d [.ref r9, .ref a6] n h8 (fun h10 => (W_X10_recur g d av Q n 83 [some (.ref 2759), none, some (.int x2), some (.int x3), some (.ref a4), some (.ref a5), some (.ref a6), some (.int (x7 + (1 : Int32))), none, none, none, none, none, none] [] h10)))))))) ∧ ((v6 = (0 : Int32)) → (Q (some (.int (-2 : Int32))) n h6))))))) : W_X10_recur g d av Q n 83 [some (.ref 2759), none, some (.int x2), some (.int x3), some (.ref a4), some (.ref a5), some (.ref a6), some (.int x7), none, none, none, none, none, none] [] h := by
  refine r_iload dX10_recur_83 rfl ?_
  refine r_iload_n dX10_recur_85 rfl rfl ?_
  refine r_icmp_gt (tgt := 138) dX10_recur_86 rfl (fun cH => ?_) (fun cH => ?_)
  · replace H := H.1 cH
    refine r_aload_n dX10_recur_138 rfl rfl ?_
    refine k_VR (As := []) (stk := []) hp cv_X10_140 dX10_recur_139 rfl (Nat.le_of_ble_eq_true rfl) ly_10 (H.mono (fun v1 h1 H => ?_)) ⟨Nat.le_refl _, Nat.le_refl _⟩
    obtain ⟨tv1, H⟩ := H
    refine r_astore (ls2 := [some (.ref 2759), none, some (.int x2), some (.int x3), some (.ref a4), some (.ref a5), some (.ref a6), some (.ref v1), none, none, none, none, none, none]) dX10_recur_142 (by decide) rfl ?_
    refine r_aload_n dX10_recur_144 rfl rfl ?_
    refine k_VR (As := []) (stk := []) hp cv_X10_140 dX10_recur_145 rfl (Nat.le_of_ble_eq_true rfl) ly_10 (H.mono (fun v2 h2 H => ?_)) ⟨Nat.le_refl _, Nat.le_refl _⟩
    obtain ⟨tv2, H⟩ := H
    refine r_astore (ls2 := [some (.ref 2759), none, some (.int x2), some (.int x3), some (.ref a4), some (.ref a5), some (.ref a6), some (.ref v1), some (.ref v2), none, none, none, none, none]) dX10_recur_148 (by decide) rfl ?_
    refine r_aload_n dX10_recur_150 rfl rfl ?_
    refine r_aload dX10_recur_151 rfl ?_
    refine r_aload dX10_recur_153 rfl ?_
    refine r_aload dX10_recur_155 rfl ?_
    refine r_iconst (v := (0 : Int32)) dX10_recur_157 rfl ?_
    refine r_iconst (v := (1 : Int32)) dX10_recur_158 rfl ?_
    refine k_VI (As := [.ref v1, .ref v2, .ref a4, .int (0 : Int32), .int (1 : Int32)]) (stk := []) hp cv_X10_633 dX10_recur_159 rfl (Nat.le_of_ble_eq_true rfl) ly_10 (H.mono (fun v3 h3 H => ?_)) ⟨Nat.le_refl _, Nat.le_refl _⟩
    refine r_if_ne (tgt := 168) dX10_recur_162 rfl (fun cH => ?_) (fun cH => ?_)
    · replace H := H.1 cH
      refine r_aload_n dX10_recur_168 rfl rfl ?_
      refine k_VR (As := []) (stk := []) hp cv_X10_140 dX10_recur_169 rfl (Nat.le_of_ble_eq_true rfl) ly_10 (H.mono (fun v4 h4 H => ?_)) ⟨Nat.le_refl _, Nat.le_refl _⟩
      obtain ⟨tv4, H⟩ := H
      refine r_astore (ls2 := [some (.ref 2759), none, some (.int x2), some (.int x3), some (.ref a4), some (.ref a5), some (.ref a6), some (.ref v1), some (.ref v2), some (.ref v4), none, none, none, none]) dX10_recur_172 (by decide) rfl ?_
      refine r_aload dX10_recur_174 rfl ?_
      refine r_iconst (v := (1 : Int32)) dX10_recur_176 rfl ?_
      refine k_VV (As := [.int (1 : Int32)]) (stk := []) hp cv_X10_158 dX10_recur_177 rfl (Nat.le_of_ble_eq_true rfl) tv4 (H.mono (fun h5 H => ?_)) ⟨Nat.le_refl _, Nat.le_refl _⟩
      refine r_aload_n dX10_recur_180 rfl rfl ?_
      refine m_getI hp fw_X10_90 dX10_recur_181 rfl ly_10 ?_
      refine r_istore (ls2 := [some (.ref 2759), none, some (.int x2), some (.int x3), some (.ref a4), some (.ref a5), some (.ref a6), some (.ref v1), some (.ref v2), some (.ref v4), some (.int (ri h5 2759 3)), none, none, none]) dX10_recur_184 (by decide) rfl ?_
      refine r_aload_n dX10_recur_186 rfl rfl ?_
      refine m_getI hp fw_X10_21 dX10_recur_187 rfl ly_10 ?_
      refine r_istore (ls2 := [some (.ref 2759), none, some (.int x2), some (.int x3), some (.ref a4), some (.ref a5), some (.ref a6), some (.ref v1), some (.ref v2), some (.ref v4), some (.int (ri h5 2759 3)), some (.int (ri h5 2759 1)), none, none]) dX10_recur_190 (by decide) rfl ?_
      refine r_iconst (v := (0 : Int32)) dX10_recur_192 rfl ?_
      refine r_istore (ls2 := [some (.ref 2759), none, some (.int x2), some (.int x3), some (.ref a4), some (.ref a5), some (.ref a6), some (.ref v1), some (.ref v2), some (.ref v4), some (.int (ri h5 2759 3)), some (.int (ri h5 2759 1)), some (.int (0 : Int32)), none]) dX10_recur_193 (by decide) rfl ?_
      refine r_prune [true, false, true, true, false, false, false, true, true, true, true, true, true, false] (ls2 := [some (.ref 2759), none, some (.int x2), some (.int x3), none, none, none, some (.ref v1), some (.ref v2), some (.ref v4), some (.int (ri h5 2759 3)), some (.int (ri h5 2759 1)), some (.int (0 : Int32)), none]) rfl ?_
      exact H
    · replace H := H.2 cH
      refine r_bipush (v := (-2 : Int32)) dX10_recur_165 rfl ?_
      exact r_zret dX10_recur_167 rfl rfl (Nat.le_refl _) (Nat.le_refl _) H
  · replace H := H.2 cH
    refine r_aload_n dX10_recur_89 rfl rfl ?_
    refine r_aload dX10_recur_90 rfl ?_
    refine r_aload dX10_recur_92 rfl ?_
    refine r_aload dX10_recur_94 rfl ?_
    refine r_iload dX10_recur_96 rfl ?_
    refine r_iconst (v := (0 : Int32)) dX10_recur_98 rfl ?_
    refine k_VI (As := [.ref a5, .ref a6, .ref a4, .int x7, .int (0 : Int32)]) (stk := []) hp cv_X10_633 dX10_recur_99 rfl (Nat.le_of_ble_eq_true rfl) ly_10 (H.mono (fun v6 h6 H => ?_)) ⟨Nat.le_refl _, Nat.le_refl _⟩
    refine r_if_ne (tgt := 108) dX10_recur_102 rfl (fun cH => ?_) (fun cH => ?_)
    · replace H := H.1 cH
      refine r_aload_n dX10_recur_108 rfl rfl ?_
      refine m_getF (x := 2940) hp fw_X10_505 dX10_recur_109 rfl ly_10 (ff_10_51 ly_10) ?_
      refine r_iload dX10_recur_112 rfl ?_
      obtain ⟨r7, er7⟩ : ∃ y, y = 2941 + 1 * (x7).toNatClampNeg := ⟨_, rfl⟩
      have hir7 := H.1
      replace H := H.2 r7 er7
      have tLr7 := la_2940 hir7 er7
      refine m_aalF (x := r7) hp dX10_recur_114 (lf_10_51 ly_10) rfl rfl (lu_10_51 ly_10) hir7 (fa_2940 hir7 er7) ?_
      refine r_aload dX10_recur_115 rfl ?_
      refine k_SV (As := [.ref r7, .ref a5]) (stk := []) cs_X10_253 dX10_recur_117 rfl (Nat.le_of_ble_eq_true rfl) (H.mono (fun h8 H => ?_)) ⟨Nat.le_refl _, Nat.le_refl _⟩
      refine r_aload_n dX10_recur_120 rfl rfl ?_
      refine m_getF (x := 2945) hp fw_X10_508 dX10_recur_121 rfl ly_10 (ff_10_52 ly_10) ?_
      refine r_iload dX10_recur_124 rfl ?_
      obtain ⟨r9, er9⟩ : ∃ y, y = 2946 + 1 * (x7).toNatClampNeg := ⟨_, rfl⟩
      have hir9 := H.1
      replace H := H.2 r9 er9
      have tLr9 := la_2945 hir9 er9
      refine m_aalF (x := r9) hp dX10_recur_126 (lf_10_52 ly_10) rfl rfl (lu_10_52 ly_10) hir9 (fa_2945 hir9 er9) ?_
      refine r_aload dX10_recur_127 rfl ?_
      refine k_SV (As := [.ref r9, .ref a6]) (stk := []) cs_X10_253 dX10_recur_129 rfl (Nat.le_of_ble_eq_true rfl) (H.mono (fun h10 H => ?_)) ⟨Nat.le_refl _, Nat.le_refl _⟩
      refine r_iinc (v := (x7 + (1 : Int32))) (ls2 := [some (.ref 2759), none, some (.int x2), some (.int x3), some (.ref a4), some (.ref a5), some (.ref a6), some (.int (x7 + (1 : Int32))), none, none, none, none, none, none]) dX10_recur_132 rfl rfl (by decide) rfl ?_
      refine r_goto (tgt := 83) dX10_recur_135 rfl ?_
      exact H
    · replace H := H.2 cH
      refine r_bipush (v := (-2 : Int32)) dX10_recur_105 rfl ?_
      exact r_zret dX10_recur_107 rfl rfl (Nat.le_refl _) (Nat.le_refl _) H
theorem s_X10_recur_195 {g : GX} {d : Nat} {av : List Value} {Q : QT} {n : Nat} {h : Hp} {x2 : Int32} {x3 : Int32} {a7 : Nat} {a8 : Nat} {a9 : Nat} {x10 : Int32} {x11 : Int32} {x12 : Int32} (hp : g.2.2.2.2 = true) (t7 : lay a7 = (0, 14, 2)) (t8 : lay a8 = (0, 14, 2)) (t9 : lay a9 = (0, 14, 2)) (H : ((x2 < x12) → (Q (some (.int (-1 : Int32))) n h)) ∧ ((¬ x2 < x12) → (∀ h1, h1 = wi h 2759 3 x10 → (∀ h2, h2 = wi h1 2759 1 x11 → (CallI g m_X10_recurAt d [.ref 2759, .int x12, .ref a9, .ref a7, .ref a8] n h2 (fun v3 h3 => (((v3 = (-1 : Int32)) → (W_X10_recur g d av Q n 195 [some (.ref 2759), none, some (.int x2), some (.int x3), none, none, none, some (.ref a7), some (.ref a8), some (.ref a9), some (.int x10), some (.int x11), some (.int (x12 + (1 : Int32))), none] [] h3)) ∧ ((¬ v3 = (-1 : Int32)) → (((¬ v3 = (-2 : Int32)) → (CallI g m_X10_keepRecord d [.ref 2759, .int x3] n h3 (fun v4 h4 => (Q (some (.int v4)) n h4)))) ∧ ((v3 = (-2 : Int32)) → (Q (some (.int (-2 : Int32))) n h3))))))))))) : W_X10_recur g d av Q n 195 [some (.ref 2759), none, some (.int x2), some (.int x3), none, none, none, some (.ref a7), some (.ref a8), some (.ref a9), some (.int x10), some (.int x11), some (.int x12), none] [] h := by
  refine r_iload dX10_recur_195 rfl ?_
  refine r_iload_n dX10_recur_197 rfl rfl ?_
  refine r_icmp_gt (tgt := 257) dX10_recur_198 rfl (fun cH => ?_) (fun cH => ?_)
  · replace H := H.1 cH
    refine r_iconst (v := (-1 : Int32)) dX10_recur_257 rfl ?_
    exact r_zret dX10_recur_258 rfl rfl (Nat.le_refl _) (Nat.le_refl _) H
  · replace H := H.2 cH
    refine r_aload_n dX10_recur_201 rfl rfl ?_
    refine r_iload dX10_recur_202 rfl ?_
    refine m_putI hp fw_X10_90 dX10_recur_204 rfl rfl ly_10 (fun h1 eh1 => ?_)
    replace H := H h1 eh1
    refine r_aload_n dX10_recur_207 rfl rfl ?_
    refine r_iload dX10_recur_208 rfl ?_
    refine m_putI hp fw_X10_21 dX10_recur_210 rfl rfl ly_10 (fun h2 eh2 => ?_)
    replace H := H h2 eh2
    refine r_aload_n dX10_recur_213 rfl rfl ?_
    refine r_iload dX10_recur_214 rfl ?_
    refine r_aload dX10_recur_216 rfl ?_
    refine r_aload dX10_recur_218 rfl ?_
    refine r_aload dX10_recur_220 rfl ?_
    refine k_VI (As := [.int x12, .ref a9, .ref a7, .ref a8]) (stk := []) hp cv_X10_747 dX10_recur_222 rfl (Nat.le_of_ble_eq_true rfl) ly_10 (H.mono (fun v3 h3 H => ?_)) ⟨Nat.le_refl _, Nat.le_refl _⟩
    refine r_istore (ls2 := [some (.ref 2759), none, some (.int x2), some (.int x3), none, none, none, some (.ref a7), some (.ref a8), some (.ref a9), some (.int x10), some (.int x11), some (.int x12), some (.int v3)]) dX10_recur_225 (by decide) rfl ?_
    refine r_iload dX10_recur_227 rfl ?_
    refine r_iconst (v := (-1 : Int32)) dX10_recur_229 rfl ?_
    refine r_icmp_eq (tgt := 251) dX10_recur_230 rfl (fun cH => ?_) (fun cH => ?_)
    · replace H := H.1 cH
      refine r_iinc (v := (x12 + (1 : Int32))) (ls2 := [some (.ref 2759), none, some (.int x2), some (.int x3), none, none, none, some (.ref a7), some (.ref a8), some (.ref a9), some (.int x10), some (.int x11), some (.int (x12 + (1 : Int32))), some (.int v3)]) dX10_recur_251 rfl rfl (by decide) rfl ?_
      refine r_goto (tgt := 195) dX10_recur_254 rfl ?_
      refine r_prune [true, false, true, true, false, false, false, true, true, true, true, true, true, false] (ls2 := [some (.ref 2759), none, some (.int x2), some (.int x3), none, none, none, some (.ref a7), some (.ref a8), some (.ref a9), some (.int x10), some (.int x11), some (.int (x12 + (1 : Int32))), none]) rfl ?_
      exact H
    · replace H := H.2 cH
      refine r_iload dX10_recur_233 rfl ?_
      refine r_bipush (v := (-2 : Int32)) dX10_recur_235 rfl ?_
      refine r_icmp_ne (tgt := 245) dX10_recur_237 rfl (fun cH => ?_) (fun cH => ?_)
      · replace H := H.1 cH
        refine r_aload_n dX10_recur_245 rfl rfl ?_
        refine r_iload_n dX10_recur_246 rfl rfl ?_
        refine k_VI (As := [.int x3]) (stk := []) hp cv_X10_751 dX10_recur_247 rfl (Nat.le_of_ble_eq_true rfl) ly_10 (H.mono (fun v4 h4 H => ?_)) ⟨Nat.le_refl _, Nat.le_refl _⟩
        exact r_zret dX10_recur_250 rfl rfl (Nat.le_refl _) (Nat.le_refl _) H
      · replace H := H.2 cH
        refine r_bipush (v := (-2 : Int32)) dX10_recur_240 rfl ?_
        refine r_goto (tgt := 250) dX10_recur_242 rfl ?_
        exact r_zret dX10_recur_250 rfl rfl (Nat.le_refl _) (Nat.le_refl _) H
abbrev W_X10_recurAt (g : GX) (d : Nat) (av : List Value) (Q : QT) (n : Nat) (pc : Nat) (ls : LV) (stk : List Value) (h : Hp) : Prop := RJ g m_X10_recurAt (d + 1) 0 0 av Q pc ls stk n h 0 0
theorem s_X10_recurAt_0 {g : GX} {d : Nat} {av : List Value} {Q : QT} {n : Nat} {h : Hp} {x1 : Int32} {a2 : Nat} {a3 : Nat} {a4 : Nat} (hp : g.2.2.2.2 = true) (t2 : lay a2 = (0, 14, 2)) (t3 : lay a3 = (0, 14, 2)) (t4 : lay a4 = (0, 14, 2)) (H : CallR g m_X10_newB d [.ref 2759] n h (fun v1 h1 => (lay v1 = (0, 14, 2) ∧ (CallR g m_X10_newB d [.ref 2759] n h1 (fun v2 h2 => (lay v2 = (0, 14, 2) ∧ (CallR g m_X10_newB d [.ref 2759] n h2 (fun v3 h3 => (lay v3 = (0, 14, 2) ∧ (CallR g m_X10_newU d [.ref 2759] n h3 (fun v4 h4 => (lay v4 = (0, 13, 2) ∧ (vp_in x1 4 ∧ ∀ r5, r5 = 2946 + 1 * (x1).toNatClampNeg → (CallV g m_X10_load d [.ref v1, .ref r5] n h4 (fun h6 => (CallV g m_X10_primitive d [.ref 2759, .ref v1, .ref v1, .ref v4] n h6 (fun h7 => ((((ri h7 v1 1) ≤ (1 : Int32)) → (W_X10_recurAt g d av Q n 90 [some (.ref 2759), some (.int x1), some (.ref a2), some (.ref a3), some (.ref a4), some (.ref v1), some (.ref v2), some (.ref v3), none, none, none, none, none, none, none] [] h7)) ∧ ((¬ (ri h7 v1 1) ≤ (1 : Int32)) → ((((ri h7 a2 1) ≤ (1 : Int32)) → (W_X10_recurAt g d av Q n 90 [some (.ref 2759), some (.int x1), some (.ref a2), some (.ref a3), some (.ref a4), some (.ref v1), some (.ref v2), some (.ref v3), none, none, none, none, none, none, none] [] h7)) ∧ ((¬ (ri h7 a2 1) ≤ (1 : Int32)) → (CallV g m_X10_gcdK d [.ref 2759, .ref v2, .ref a2, .ref v1] n h7 (fun h8 => (CallI g m_X10_divides d [.ref 2759, .ref v3, .ref v1, .ref v2] n h8 (fun v9 h9 => (CallV g m_X10_set d [.ref v1, .ref v3] n h9 (fun h10 => (W_X10_recurAt g d av Q n 90 [some (.ref 2759), some (.int x1), some (.ref a2), some (.ref a3), some (.ref a4), some (.ref v1), some (.ref v2), some (.ref v3), none, none, none, none, none, none, none] [] h10)))))))))))))))))))))))))))) : W_X10_recurAt g d av Q n 0 [some (.ref 2759), some (.int x1), some (.ref a2), some (.ref a3), some (.ref a4), none, none, none, none, none, none, none, none, none, none] [] h := by
  refine r_aload_n dX10_recurAt_0 rfl rfl ?_
  refine k_VR (As := []) (stk := []) hp cv_X10_140 dX10_recurAt_1 rfl (Nat.le_of_ble_eq_true rfl) ly_10 (H.mono (fun v1 h1 H => ?_)) ⟨Nat.le_refl _, Nat.le_refl _⟩
  obtain ⟨tv1, H⟩ := H
  refine r_astore (ls2 := [some (.ref 2759), some (.int x1), some (.ref a2), some (.ref a3), some (.ref a4), some (.ref v1), none, none, none, none, none, none, none, none, none]) dX10_recurAt_4 (by decide) rfl ?_
  refine r_aload_n dX10_recurAt_6 rfl rfl ?_
  refine k_VR (As := []) (stk := []) hp cv_X10_140 dX10_recurAt_7 rfl (Nat.le_of_ble_eq_true rfl) ly_10 (H.mono (fun v2 h2 H => ?_)) ⟨Nat.le_refl _, Nat.le_refl _⟩
  obtain ⟨tv2, H⟩ := H
  refine r_astore (ls2 := [some (.ref 2759), some (.int x1), some (.ref a2), some (.ref a3), some (.ref a4), some (.ref v1), some (.ref v2), none, none, none, none, none, none, none, none]) dX10_recurAt_10 (by decide) rfl ?_
  refine r_aload_n dX10_recurAt_12 rfl rfl ?_
  refine k_VR (As := []) (stk := []) hp cv_X10_140 dX10_recurAt_13 rfl (Nat.le_of_ble_eq_true rfl) ly_10 (H.mono (fun v3 h3 H => ?_)) ⟨Nat.le_refl _, Nat.le_refl _⟩
  obtain ⟨tv3, H⟩ := H
  refine r_astore (ls2 := [some (.ref 2759), some (.int x1), some (.ref a2), some (.ref a3), some (.ref a4), some (.ref v1), some (.ref v2), some (.ref v3), none, none, none, none, none, none, none]) dX10_recurAt_16 (by decide) rfl ?_
  refine r_aload_n dX10_recurAt_18 rfl rfl ?_
  refine k_VR (As := []) (stk := []) hp cv_X10_74 dX10_recurAt_19 rfl (Nat.le_of_ble_eq_true rfl) ly_10 (H.mono (fun v4 h4 H => ?_)) ⟨Nat.le_refl _, Nat.le_refl _⟩
  obtain ⟨tv4, H⟩ := H
  refine r_astore (ls2 := [some (.ref 2759), some (.int x1), some (.ref a2), some (.ref a3), some (.ref a4), some (.ref v1), some (.ref v2), some (.ref v3), some (.ref v4), none, none, none, none, none, none]) dX10_recurAt_22 (by decide) rfl ?_
  refine r_aload dX10_recurAt_24 rfl ?_
  refine r_aload_n dX10_recurAt_26 rfl rfl ?_
  refine m_getF (x := 2945) hp fw_X10_508 dX10_recurAt_27 rfl ly_10 (ff_10_52 ly_10) ?_
  refine r_iload_n dX10_recurAt_30 rfl rfl ?_
  obtain ⟨r5, er5⟩ : ∃ y, y = 2946 + 1 * (x1).toNatClampNeg := ⟨_, rfl⟩
  have hir5 := H.1
  replace H := H.2 r5 er5
  have tLr5 := la_2945 hir5 er5
  refine m_aalF (x := r5) hp dX10_recurAt_31 (lf_10_52 ly_10) rfl rfl (lu_10_52 ly_10) hir5 (fa_2945 hir5 er5) ?_
  refine k_SV (As := [.ref v1, .ref r5]) (stk := []) cs_X10_295 dX10_recurAt_32 rfl (Nat.le_of_ble_eq_true rfl) (H.mono (fun h6 H => ?_)) ⟨Nat.le_refl _, Nat.le_refl _⟩
  refine r_aload_n dX10_recurAt_35 rfl rfl ?_
  refine r_aload dX10_recurAt_36 rfl ?_
  refine r_aload dX10_recurAt_38 rfl ?_
  refine r_aload dX10_recurAt_40 rfl ?_
  refine k_VV (As := [.ref v1, .ref v1, .ref v4]) (stk := []) hp cv_X10_167 dX10_recurAt_42 rfl (Nat.le_of_ble_eq_true rfl) ly_10 (H.mono (fun h7 H => ?_)) ⟨Nat.le_refl _, Nat.le_refl _⟩
  refine r_aload dX10_recurAt_45 rfl ?_
  refine m_getI hp fw_X10_93 dX10_recurAt_47 rfl tv1 ?_
  refine r_iconst (v := (1 : Int32)) dX10_recurAt_50 rfl ?_
  refine r_icmp_le (tgt := 90) dX10_recurAt_51 rfl (fun cH => ?_) (fun cH => ?_)
  · replace H := H.1 cH
    refine r_prune [true, true, true, true, true, true, true, true, false, false, false, false, false, false, false] (ls2 := [some (.ref 2759), some (.int x1), some (.ref a2), some (.ref a3), some (.ref a4), some (.ref v1), some (.ref v2), some (.ref v3), none, none, none, none, none, none, none]) rfl ?_
    exact H
  · replace H := H.2 cH
    refine r_aload_n dX10_recurAt_54 rfl rfl ?_
    refine m_getI hp fw_X10_93 dX10_recurAt_55 rfl t2 ?_
    refine r_iconst (v := (1 : Int32)) dX10_recurAt_58 rfl ?_
    refine r_icmp_le (tgt := 90) dX10_recurAt_59 rfl (fun cH => ?_) (fun cH => ?_)
    · replace H := H.1 cH
      refine r_prune [true, true, true, true, true, true, true, true, false, false, false, false, false, false, false] (ls2 := [some (.ref 2759), some (.int x1), some (.ref a2), some (.ref a3), some (.ref a4), some (.ref v1), some (.ref v2), some (.ref v3), none, none, none, none, none, none, none]) rfl ?_
      exact H
    · replace H := H.2 cH
      refine r_aload_n dX10_recurAt_62 rfl rfl ?_
      refine r_aload dX10_recurAt_63 rfl ?_
      refine r_aload_n dX10_recurAt_65 rfl rfl ?_
      refine r_aload dX10_recurAt_66 rfl ?_
      refine k_VV (As := [.ref v2, .ref a2, .ref v1]) (stk := []) hp cv_X10_174 dX10_recurAt_68 rfl (Nat.le_of_ble_eq_true rfl) ly_10 (H.mono (fun h8 H => ?_)) ⟨Nat.le_refl _, Nat.le_refl _⟩
      refine r_aload_n dX10_recurAt_71 rfl rfl ?_
      refine r_aload dX10_recurAt_72 rfl ?_
      refine r_aload dX10_recurAt_74 rfl ?_
      refine r_aload dX10_recurAt_76 rfl ?_
      refine k_VI (As := [.ref v3, .ref v1, .ref v2]) (stk := []) hp cv_X10_170 dX10_recurAt_78 rfl (Nat.le_of_ble_eq_true rfl) ly_10 (H.mono (fun v9 h9 H => ?_)) ⟨Nat.le_refl _, Nat.le_refl _⟩
      refine r_istore (ls2 := [some (.ref 2759), some (.int x1), some (.ref a2), some (.ref a3), some (.ref a4), some (.ref v1), some (.ref v2), some (.ref v3), some (.ref v4), some (.int v9), none, none, none, none, none]) dX10_recurAt_81 (by decide) rfl ?_
      refine r_aload dX10_recurAt_83 rfl ?_
      refine r_aload dX10_recurAt_85 rfl ?_
      refine k_SV (As := [.ref v1, .ref v3]) (stk := []) cs_X10_113 dX10_recurAt_87 rfl (Nat.le_of_ble_eq_true rfl) (H.mono (fun h10 H => ?_)) ⟨Nat.le_refl _, Nat.le_refl _⟩
      refine r_prune [true, true, true, true, true, true, true, true, false, false, false, false, false, false, false] (ls2 := [some (.ref 2759), some (.int x1), some (.ref a2), some (.ref a3), some (.ref a4), some (.ref v1), some (.ref v2), some (.ref v3), none, none, none, none, none, none, none]) rfl ?_
      exact H
theorem s_X10_recurAt_90 {g : GX} {d : Nat} {av : List Value} {Q : QT} {n : Nat} {h : Hp} {x1 : Int32} {a2 : Nat} {a3 : Nat} {a4 : Nat} {a5 : Nat} {a6 : Nat} {a7 : Nat} (hp : g.2.2.2.2 = true) (t2 : lay a2 = (0, 14, 2)) (t3 : lay a3 = (0, 14, 2)) (t4 : lay a4 = (0, 14, 2)) (t5 : lay a5 = (0, 14, 2)) (t6 : lay a6 = (0, 14, 2)) (t7 : lay a7 = (0, 14, 2)) (H : CallV g m_X10_times d [.ref 2759, .ref a7, .ref a2, .ref a5] n h (fun h1 => (CallV g m_X10_set d [.ref a2, .ref a7] n h1 (fun h2 => ((((9 : Int32) < (ri h2 a2 1)) → (Q (some (.int (-2 : Int32))) n h2)) ∧ ((¬ (9 : Int32) < (ri h2 a2 1)) → (CallI g m_X14_degreeN d [.ref a2] n h2 (fun v3 h3 => (((v3 ≤ (12 : Int32)) → (W_X10_recurAt g d av Q n 132 [some (.ref 2759), some (.int x1), some (.ref a2), some (.ref a3), some (.ref a4), some (.ref a5), some (.ref a6), some (.ref a7), none, some (.int (0 : Int32)), some (.int (0 : Int32)), none, none, none, none] [] h3)) ∧ ((¬ v3 ≤ (12 : Int32)) → (Q (some (.int (-2 : Int32))) n h3))))))))))) : W_X10_recurAt g d av Q n 90 [some (.ref 2759), some (.int x1), some (.ref a2), some (.ref a3), some (.ref a4), some (.ref a5), some (.ref a6), some (.ref a7), none, none, none, none, none, none, none] [] h := by
  refine r_aload_n dX10_recurAt_90 rfl rfl ?_
  refine r_aload dX10_recurAt_91 rfl ?_
  refine r_aload_n dX10_recurAt_93 rfl rfl ?_
  refine r_aload dX10_recurAt_94 rfl ?_
  refine k_VV (As := [.ref a7, .ref a2, .ref a5]) (stk := []) hp cv_X10_197 dX10_recurAt_96 rfl (Nat.le_of_ble_eq_true rfl) ly_10 (H.mono (fun h1 H => ?_)) ⟨Nat.le_refl _, Nat.le_refl _⟩
  refine r_aload_n dX10_recurAt_99 rfl rfl ?_
  refine r_aload dX10_recurAt_100 rfl ?_
  refine k_SV (As := [.ref a2, .ref a7]) (stk := []) cs_X10_113 dX10_recurAt_102 rfl (Nat.le_of_ble_eq_true rfl) (H.mono (fun h2 H => ?_)) ⟨Nat.le_refl _, Nat.le_refl _⟩
  refine r_aload_n dX10_recurAt_105 rfl rfl ?_
  refine m_getI hp fw_X10_93 dX10_recurAt_106 rfl t2 ?_
  refine r_bipush (v := (9 : Int32)) dX10_recurAt_109 rfl ?_
  refine r_icmp_gt (tgt := 123) dX10_recurAt_111 rfl (fun cH => ?_) (fun cH => ?_)
  · replace H := H.1 cH
    refine r_bipush (v := (-2 : Int32)) dX10_recurAt_123 rfl ?_
    exact r_zret dX10_recurAt_125 rfl rfl (Nat.le_refl _) (Nat.le_refl _) H
  · replace H := H.2 cH
    refine r_aload_n dX10_recurAt_114 rfl rfl ?_
    refine k_VI (As := []) (stk := []) hp cv_X10_119 dX10_recurAt_115 rfl (Nat.le_of_ble_eq_true rfl) t2 (H.mono (fun v3 h3 H => ?_)) ⟨Nat.le_refl _, Nat.le_refl _⟩
    refine r_bipush (v := (12 : Int32)) dX10_recurAt_118 rfl ?_
    refine r_icmp_le (tgt := 126) dX10_recurAt_120 rfl (fun cH => ?_) (fun cH => ?_)
    · replace H := H.1 cH
      refine r_iconst (v := (0 : Int32)) dX10_recurAt_126 rfl ?_
      refine r_istore (ls2 := [some (.ref 2759), some (.int x1), some (.ref a2), some (.ref a3), some (.ref a4), some (.ref a5), some (.ref a6), some (.ref a7), none, some (.int (0 : Int32)), none, none, none, none, none]) dX10_recurAt_127 (by decide) rfl ?_
      refine r_iconst (v := (0 : Int32)) dX10_recurAt_129 rfl ?_
      refine r_istore (ls2 := [some (.ref 2759), some (.int x1), some (.ref a2), some (.ref a3), some (.ref a4), some (.ref a5), some (.ref a6), some (.ref a7), none, some (.int (0 : Int32)), some (.int (0 : Int32)), none, none, none, none]) dX10_recurAt_130 (by decide) rfl ?_
      exact H
    · replace H := H.2 cH
      refine r_bipush (v := (-2 : Int32)) dX10_recurAt_123 rfl ?_
      exact r_zret dX10_recurAt_125 rfl rfl (Nat.le_refl _) (Nat.le_refl _) H
theorem s_X10_recurAt_132 {g : GX} {d : Nat} {av : List Value} {Q : QT} {n : Nat} {h : Hp} {x1 : Int32} {a2 : Nat} {a3 : Nat} {a4 : Nat} {a5 : Nat} {a6 : Nat} {a7 : Nat} {x9 : Int32} {x10 : Int32} (hp : g.2.2.2.2 = true) (t2 : lay a2 = (0, 14, 2)) (t3 : lay a3 = (0, 14, 2)) (t4 : lay a4 = (0, 14, 2)) (t5 : lay a5 = (0, 14, 2)) (t6 : lay a6 = (0, 14, 2)) (t7 : lay a7 = (0, 14, 2)) (H : ((x1 < x10) → (CallV g m_X10_times d [.ref 2759, .ref a5, .ref a3, .ref a2] n h (fun h1 => (CallV g m_X10_shiftK d [.ref a7, .ref a2, .int (1 : Int32)] n h1 (fun h2 => (CallV g m_X10_times d [.ref 2759, .ref a6, .ref a4, .ref a7] n h2 (fun h3 => (CallV g m_X10_reduce d [.ref 2759, .ref a5, .ref a6] n h3 (fun h4 => (CallI g m_X10_form_2 d [.ref 2759, .ref a5, .ref a6] n h4 (fun v5 h5 => (((¬ v5 = (0 : Int32)) → (∃ r6, rr h5 2759 41 = some r6 ∧ lay r6 = (0, 14, 2) ∧ (CallI g m_X14_degreeK d [.ref r6] n h5 (fun v7 h7 => (CallI g m_X10_depth d [.ref 2759, .int (v7 + x9)] n h7 (fun v8 h8 => (((v8 ≤ (8 : Int32)) → (CallI g m_X10_lay d [.ref 2759, .int v8, .ref 2938, .int (x1 + (1 : Int32))] n h8 (fun v9 h9 => (CallR g m_X10_clear d [.ref 2759, .int v9] n h9 (fun v10 h10 => (lay v10 = (0, 13, 2) ∧ (CallI g m_J3_max d [.int (0 : Int32), .int (v8 + (1 : Int32))] n h10 (fun v11 h11 => (W_X10_recurAt g d av Q n 320 [some (.ref 2759), none, some (.ref a2), none, none, none, none, none, none, none, none, some (.int v9), some (.ref v10), some (.int v11), some (.int v11)] [] h11))))))))) ∧ ((¬ v8 ≤ (8 : Int32)) → (Q (some (.int (-2 : Int32))) n h8))))))))) ∧ ((v5 = (0 : Int32)) → (Q (some (.int (-2 : Int32))) n h5)))))))))))))) ∧ ((¬ x1 < x10) → (CallR g m_X10_newB d [.ref 2759] n h (fun v12 h12 => (lay v12 = (0, 14, 2) ∧ (vp_in x10 4 ∧ fin 2938 (x10).toNatClampNeg = none ∧ ∀ h13, h13 = wr h12 2938 (x10).toNatClampNeg (some v12) → (CallR g m_X10_newU d [.ref 2759] n h13 (fun v14 h14 => (lay v14 = (0, 13, 2) ∧ (vp_in x10 4 ∧ fin 2939 (x10).toNatClampNeg = none ∧ ∀ h15, h15 = wr h14 2939 (x10).toNatClampNeg (some v14) → (vp_in x10 4 ∧ ∃ r16, rr h15 2938 (x10).toNatClampNeg = some r16 ∧ lay r16 = (0, 14, 2) ∧ (vp_in x10 4 ∧ ∃ r17, rr h15 2939 (x10).toNatClampNeg = some r17 ∧ lay r17 = (0, 13, 2) ∧ (CallI g m_X10_part d [.ref 2759, .ref r16, .ref r17, .int x10, .ref a2] n h15 (fun v18 h18 => (((¬ v18 = (0 : Int32)) → (vp_in x10 4 ∧ ∃ r19, rr h18 2938 (x10).toNatClampNeg = some r19 ∧ lay r19 = (0, 14, 2) ∧ (CallI g m_X14_degreeK d [.ref r19] n h18 (fun v20 h20 => (CallI g m_J3_max d [.int x9, .int v20] n h20 (fun v21 h21 => (W_X10_recurAt g d av Q n 132 [some (.ref 2759), some (.int x1), some (.ref a2), some (.ref a3), some (.ref a4), some (.ref a5), some (.ref a6), some (.ref a7), none, some (.int v21), some (.int (x10 + (1 : Int32))), none, none, none, none] [] h21))))))) ∧ ((v18 = (0 : Int32)) → (Q (some (.int (-2 : Int32))) n h18))))))))))))))))) : W_X10_recurAt g d av Q n 132 [some (.ref 2759), some (.int x1), some (.ref a2), some (.ref a3), some (.ref a4), some (.ref a5), some (.ref a6), some (.ref a7), none, some (.int x9), some (.int x10), none, none, none, none] [] h := by
  refine r_iload dX10_recurAt_132 rfl ?_
  refine r_iload_n dX10_recurAt_134 rfl rfl ?_
  refine r_icmp_gt (tgt := 210) dX10_recurAt_135 rfl (fun cH => ?_) (fun cH => ?_)
  · replace H := H.1 cH
    refine r_aload_n dX10_recurAt_210 rfl rfl ?_
    refine r_aload dX10_recurAt_211 rfl ?_
    refine r_aload_n dX10_recurAt_213 rfl rfl ?_
    refine r_aload_n dX10_recurAt_214 rfl rfl ?_
    refine k_VV (As := [.ref a5, .ref a3, .ref a2]) (stk := []) hp cv_X10_197 dX10_recurAt_215 rfl (Nat.le_of_ble_eq_true rfl) ly_10 (H.mono (fun h1 H => ?_)) ⟨Nat.le_refl _, Nat.le_refl _⟩
    refine r_aload dX10_recurAt_218 rfl ?_
    refine r_aload_n dX10_recurAt_220 rfl rfl ?_
    refine r_iconst (v := (1 : Int32)) dX10_recurAt_221 rfl ?_
    refine k_SV (As := [.ref a7, .ref a2, .int (1 : Int32)]) (stk := []) cs_X10_626 dX10_recurAt_222 rfl (Nat.le_of_ble_eq_true rfl) (H.mono (fun h2 H => ?_)) ⟨Nat.le_refl _, Nat.le_refl _⟩
    refine r_aload_n dX10_recurAt_225 rfl rfl ?_
    refine r_aload dX10_recurAt_226 rfl ?_
    refine r_aload dX10_recurAt_228 rfl ?_
    refine r_aload dX10_recurAt_230 rfl ?_
    refine k_VV (As := [.ref a6, .ref a4, .ref a7]) (stk := []) hp cv_X10_197 dX10_recurAt_232 rfl (Nat.le_of_ble_eq_true rfl) ly_10 (H.mono (fun h3 H => ?_)) ⟨Nat.le_refl _, Nat.le_refl _⟩
    refine r_aload_n dX10_recurAt_235 rfl rfl ?_
    refine r_aload dX10_recurAt_236 rfl ?_
    refine r_aload dX10_recurAt_238 rfl ?_
    refine k_VV (As := [.ref a5, .ref a6]) (stk := []) hp cv_X10_659 dX10_recurAt_240 rfl (Nat.le_of_ble_eq_true rfl) ly_10 (H.mono (fun h4 H => ?_)) ⟨Nat.le_refl _, Nat.le_refl _⟩
    refine r_aload_n dX10_recurAt_243 rfl rfl ?_
    refine r_aload dX10_recurAt_244 rfl ?_
    refine r_aload dX10_recurAt_246 rfl ?_
    refine k_VI (As := [.ref a5, .ref a6]) (stk := []) hp cv_X10_712 dX10_recurAt_248 rfl (Nat.le_of_ble_eq_true rfl) ly_10 (H.mono (fun v5 h5 H => ?_)) ⟨Nat.le_refl _, Nat.le_refl _⟩
    refine r_if_ne (tgt := 257) dX10_recurAt_251 rfl (fun cH => ?_) (fun cH => ?_)
    · replace H := H.1 cH
      refine r_aload_n dX10_recurAt_257 rfl rfl ?_
      refine r_aload_n dX10_recurAt_258 rfl rfl ?_
      obtain ⟨r6, er6, tr6, H⟩ := H
      refine m_getM (x := r6) hp fw_X10_702 dX10_recurAt_259 rfl ly_10 er6 ?_
      refine k_VI (As := []) (stk := [.ref 2759]) hp cv_X10_314 dX10_recurAt_262 rfl (Nat.le_of_ble_eq_true rfl) tr6 (H.mono (fun v7 h7 H => ?_)) ⟨Nat.le_refl _, Nat.le_refl _⟩
      refine r_iload dX10_recurAt_265 rfl ?_
      refine r_iadd dX10_recurAt_267 ?_
      refine k_VI (As := [.int (v7 + x9)]) (stk := []) hp cv_X10_728 dX10_recurAt_268 rfl (Nat.le_of_ble_eq_true rfl) ly_10 (H.mono (fun v8 h8 H => ?_)) ⟨Nat.le_refl _, Nat.le_refl _⟩
      refine r_istore (ls2 := [some (.ref 2759), some (.int x1), some (.ref a2), some (.ref a3), some (.ref a4), some (.ref a5), some (.ref a6), some (.ref a7), none, some (.int x9), some (.int v8), none, none, none, none]) dX10_recurAt_271 (by decide) rfl ?_
      refine r_iload dX10_recurAt_273 rfl ?_
      refine r_bipush (v := (8 : Int32)) dX10_recurAt_275 rfl ?_
      refine r_icmp_le (tgt := 283) dX10_recurAt_277 rfl (fun cH => ?_) (fun cH => ?_)
      · replace H := H.1 cH
        refine r_aload_n dX10_recurAt_283 rfl rfl ?_
        refine r_iload dX10_recurAt_284 rfl ?_
        refine r_aload_n dX10_recurAt_286 rfl rfl ?_
        refine m_getF (x := 2938) hp fw_X10_499 dX10_recurAt_287 rfl ly_10 (ff_10_49 ly_10) ?_
        refine r_iload_n dX10_recurAt_290 rfl rfl ?_
        refine r_iconst (v := (1 : Int32)) dX10_recurAt_291 rfl ?_
        refine r_iadd dX10_recurAt_292 ?_
        refine k_VI (As := [.int v8, .ref 2938, .int (x1 + (1 : Int32))]) (stk := []) hp cv_X10_731 dX10_recurAt_293 rfl (Nat.le_of_ble_eq_true rfl) ly_10 (H.mono (fun v9 h9 H => ?_)) ⟨Nat.le_refl _, Nat.le_refl _⟩
        refine r_istore (ls2 := [some (.ref 2759), some (.int x1), some (.ref a2), some (.ref a3), some (.ref a4), some (.ref a5), some (.ref a6), some (.ref a7), none, some (.int x9), some (.int v8), some (.int v9), none, none, none]) dX10_recurAt_296 (by decide) rfl ?_
        refine r_aload_n dX10_recurAt_298 rfl rfl ?_
        refine r_iload dX10_recurAt_299 rfl ?_
        refine k_VR (As := [.int v9]) (stk := []) hp cv_X10_735 dX10_recurAt_301 rfl (Nat.le_of_ble_eq_true rfl) ly_10 (H.mono (fun v10 h10 H => ?_)) ⟨Nat.le_refl _, Nat.le_refl _⟩
        obtain ⟨tv10, H⟩ := H
        refine r_astore (ls2 := [some (.ref 2759), some (.int x1), some (.ref a2), some (.ref a3), some (.ref a4), some (.ref a5), some (.ref a6), some (.ref a7), none, some (.int x9), some (.int v8), some (.int v9), some (.ref v10), none, none]) dX10_recurAt_304 (by decide) rfl ?_
        refine r_iconst (v := (0 : Int32)) dX10_recurAt_306 rfl ?_
        refine r_iload dX10_recurAt_307 rfl ?_
        refine r_iconst (v := (1 : Int32)) dX10_recurAt_309 rfl ?_
        refine r_iadd dX10_recurAt_310 ?_
        refine k_SI (As := [.int (0 : Int32), .int (v8 + (1 : Int32))]) (stk := []) cs_X10_40 dX10_recurAt_311 rfl (Nat.le_of_ble_eq_true rfl) (H.mono (fun v11 h11 H => ?_)) ⟨Nat.le_refl _, Nat.le_refl _⟩
        refine r_istore (ls2 := [some (.ref 2759), some (.int x1), some (.ref a2), some (.ref a3), some (.ref a4), some (.ref a5), some (.ref a6), some (.ref a7), none, some (.int x9), some (.int v8), some (.int v9), some (.ref v10), some (.int v11), none]) dX10_recurAt_314 (by decide) rfl ?_
        refine r_iload dX10_recurAt_316 rfl ?_
        refine r_istore (ls2 := [some (.ref 2759), some (.int x1), some (.ref a2), some (.ref a3), some (.ref a4), some (.ref a5), some (.ref a6), some (.ref a7), none, some (.int x9), some (.int v8), some (.int v9), some (.ref v10), some (.int v11), some (.int v11)]) dX10_recurAt_318 (by decide) rfl ?_
        refine r_prune [true, false, true, false, false, false, false, false, false, false, false, true, true, true, true] (ls2 := [some (.ref 2759), none, some (.ref a2), none, none, none, none, none, none, none, none, some (.int v9), some (.ref v10), some (.int v11), some (.int v11)]) rfl ?_
        exact H
      · replace H := H.2 cH
        refine r_bipush (v := (-2 : Int32)) dX10_recurAt_280 rfl ?_
        exact r_zret dX10_recurAt_282 rfl rfl (Nat.le_refl _) (Nat.le_refl _) H
    · replace H := H.2 cH
      refine r_bipush (v := (-2 : Int32)) dX10_recurAt_254 rfl ?_
      exact r_zret dX10_recurAt_256 rfl rfl (Nat.le_refl _) (Nat.le_refl _) H
  · replace H := H.2 cH
    refine r_aload_n dX10_recurAt_138 rfl rfl ?_
    refine m_getF (x := 2938) hp fw_X10_499 dX10_recurAt_139 rfl ly_10 (ff_10_49 ly_10) ?_
    refine r_iload dX10_recurAt_142 rfl ?_
    refine r_aload_n dX10_recurAt_144 rfl rfl ?_
    refine k_VR (As := []) (stk := [.int x10, .ref 2938]) hp cv_X10_140 dX10_recurAt_145 rfl (Nat.le_of_ble_eq_true rfl) ly_10 (H.mono (fun v12 h12 H => ?_)) ⟨Nat.le_refl _, Nat.le_refl _⟩
    obtain ⟨tv12, H⟩ := H
    refine m_aast (nf := 0) hp dX10_recurAt_148 (lf_10_49 ly_10) rfl (cw14).1 tv12 (lu_10_49 ly_10) H.1 H.2.1 (fun h13 eh13 => ?_)
    replace H := H.2.2 h13 eh13
    refine r_aload_n dX10_recurAt_149 rfl rfl ?_
    refine m_getF (x := 2939) hp fw_X10_502 dX10_recurAt_150 rfl ly_10 (ff_10_50 ly_10) ?_
    refine r_iload dX10_recurAt_153 rfl ?_
    refine r_aload_n dX10_recurAt_155 rfl rfl ?_
    refine k_VR (As := []) (stk := [.int x10, .ref 2939]) hp cv_X10_74 dX10_recurAt_156 rfl (Nat.le_of_ble_eq_true rfl) ly_10 (H.mono (fun v14 h14 H => ?_)) ⟨Nat.le_refl _, Nat.le_refl _⟩
    obtain ⟨tv14, H⟩ := H
    refine m_aast (nf := 0) hp dX10_recurAt_159 (lf_10_50 ly_10) rfl (cw13).1 tv14 (lu_10_50 ly_10) H.1 H.2.1 (fun h15 eh15 => ?_)
    replace H := H.2.2 h15 eh15
    refine r_aload_n dX10_recurAt_160 rfl rfl ?_
    refine r_aload_n dX10_recurAt_161 rfl rfl ?_
    refine m_getF (x := 2938) hp fw_X10_499 dX10_recurAt_162 rfl ly_10 (ff_10_49 ly_10) ?_
    refine r_iload dX10_recurAt_165 rfl ?_
    have hir16 := H.1
    obtain ⟨r16, er16, tr16, H⟩ := H.2
    refine m_aalM (x := r16) hp dX10_recurAt_167 (lf_10_49 ly_10) rfl rfl (lu_10_49 ly_10) hir16 er16 ?_
    refine r_aload_n dX10_recurAt_168 rfl rfl ?_
    refine m_getF (x := 2939) hp fw_X10_502 dX10_recurAt_169 rfl ly_10 (ff_10_50 ly_10) ?_
    refine r_iload dX10_recurAt_172 rfl ?_
    have hir17 := H.1
    obtain ⟨r17, er17, tr17, H⟩ := H.2
    refine m_aalM (x := r17) hp dX10_recurAt_174 (lf_10_50 ly_10) rfl rfl (lu_10_50 ly_10) hir17 er17 ?_
    refine r_iload dX10_recurAt_175 rfl ?_
    refine r_aload_n dX10_recurAt_177 rfl rfl ?_
    refine k_VI (As := [.ref r16, .ref r17, .int x10, .ref a2]) (stk := []) hp cv_X10_754 dX10_recurAt_178 rfl (Nat.le_of_ble_eq_true rfl) ly_10 (H.mono (fun v18 h18 H => ?_)) ⟨Nat.le_refl _, Nat.le_refl _⟩
    refine r_if_ne (tgt := 187) dX10_recurAt_181 rfl (fun cH => ?_) (fun cH => ?_)
    · replace H := H.1 cH
      refine r_iload dX10_recurAt_187 rfl ?_
      refine r_aload_n dX10_recurAt_189 rfl rfl ?_
      refine m_getF (x := 2938) hp fw_X10_499 dX10_recurAt_190 rfl ly_10 (ff_10_49 ly_10) ?_
      refine r_iload dX10_recurAt_193 rfl ?_
      have hir19 := H.1
      obtain ⟨r19, er19, tr19, H⟩ := H.2
      refine m_aalM (x := r19) hp dX10_recurAt_195 (lf_10_49 ly_10) rfl rfl (lu_10_49 ly_10) hir19 er19 ?_
      refine k_VI (As := []) (stk := [.int x9]) hp cv_X10_314 dX10_recurAt_196 rfl (Nat.le_of_ble_eq_true rfl) tr19 (H.mono (fun v20 h20 H => ?_)) ⟨Nat.le_refl _, Nat.le_refl _⟩
      refine k_SI (As := [.int x9, .int v20]) (stk := []) cs_X10_40 dX10_recurAt_199 rfl (Nat.le_of_ble_eq_true rfl) (H.mono (fun v21 h21 H => ?_)) ⟨Nat.le_refl _, Nat.le_refl _⟩
      refine r_istore (ls2 := [some (.ref 2759), some (.int x1), some (.ref a2), some (.ref a3), some (.ref a4), some (.ref a5), some (.ref a6), some (.ref a7), none, some (.int v21), some (.int x10), none, none, none, none]) dX10_recurAt_202 (by decide) rfl ?_
      refine r_iinc (v := (x10 + (1 : Int32))) (ls2 := [some (.ref 2759), some (.int x1), some (.ref a2), some (.ref a3), some (.ref a4), some (.ref a5), some (.ref a6), some (.ref a7), none, some (.int v21), some (.int (x10 + (1 : Int32))), none, none, none, none]) dX10_recurAt_204 rfl rfl (by decide) rfl ?_
      refine r_goto (tgt := 132) dX10_recurAt_207 rfl ?_
      exact H
    · replace H := H.2 cH
      refine r_bipush (v := (-2 : Int32)) dX10_recurAt_184 rfl ?_
      exact r_zret dX10_recurAt_186 rfl rfl (Nat.le_refl _) (Nat.le_refl _) H
theorem s_X10_recurAt_320 {g : GX} {d : Nat} {av : List Value} {Q : QT} {n : Nat} {h : Hp} {a2 : Nat} {x11 : Int32} {a12 : Nat} {x13 : Int32} {x14 : Int32} (hp : g.2.2.2.2 = true) (t2 : lay a2 = (0, 14, 2)) (t12 : lay a12 = (0, 13, 2)) (H : ((x11 ≤ x14) → (W_X10_recurAt g d av Q n 343 [some (.ref 2759), none, some (.ref a2), none, none, none, none, none, none, none, none, some (.int x11), some (.ref a12), some (.int x13), some (.int x14)] [] h)) ∧ ((¬ x11 ≤ x14) → (vp_in x14 14 ∧ ((((ri h 2936 (x14).toNatClampNeg) = (0 : Int32)) → (W_X10_recurAt g d av Q n 343 [some (.ref 2759), none, some (.ref a2), none, none, none, none, none, none, none, none, some (.int x11), some (.ref a12), some (.int x13), some (.int x14)] [] h)) ∧ ((¬ (ri h 2936 (x14).toNatClampNeg) = (0 : Int32)) → (W_X10_recurAt g d av Q n 320 [some (.ref 2759), none, some (.ref a2), none, none, none, none, none, none, none, none, some (.int x11), some (.ref a12), some (.int x13), some (.int (x14 + (1 : Int32)))] [] h)))))) : W_X10_recurAt g d av Q n 320 [some (.ref 2759), none, some (.ref a2), none, none, none, none, none, none, none, none, some (.int x11), some (.ref a12), some (.int x13), some (.int x14)] [] h := by
  refine r_iload dX10_recurAt_320 rfl ?_
  refine r_iload dX10_recurAt_322 rfl ?_
  refine r_icmp_ge (tgt := 343) dX10_recurAt_324 rfl (fun cH => ?_) (fun cH => ?_)
  · replace H := H.1 cH
    exact H
  · replace H := H.2 cH
    refine r_aload_n dX10_recurAt_327 rfl rfl ?_
    refine m_getF (x := 2936) hp fw_X10_493 dX10_recurAt_328 rfl ly_10 (ff_10_46 ly_10) ?_
    refine r_iload dX10_recurAt_331 rfl ?_
    refine m_zald hp dX10_recurAt_333 (lf_10_46 ly_10) H.1 ?_
    replace H := H.2
    refine r_if_eq (tgt := 343) dX10_recurAt_334 rfl (fun cH => ?_) (fun cH => ?_)
    · replace H := H.1 cH
      exact H
    · replace H := H.2 cH
      refine r_iinc (v := (x14 + (1 : Int32))) (ls2 := [some (.ref 2759), none, some (.ref a2), none, none, none, none, none, none, none, none, some (.int x11), some (.ref a12), some (.int x13), some (.int (x14 + (1 : Int32)))]) dX10_recurAt_337 rfl rfl (by decide) rfl ?_
      refine r_goto (tgt := 320) dX10_recurAt_340 rfl ?_
      exact H
theorem s_X10_recurAt_343 {g : GX} {d : Nat} {av : List Value} {Q : QT} {n : Nat} {h : Hp} {a2 : Nat} {x11 : Int32} {a12 : Nat} {x13 : Int32} {x14 : Int32} (hp : g.2.2.2.2 = true) (t2 : lay a2 = (0, 14, 2)) (t12 : lay a12 = (0, 13, 2)) (H : ((¬ x14 = x11) → (CallV g m_X10_solveBy d [.ref 2759, .int x14, .int x11, .ref a12] n h (fun h1 => (CallI g m_X10_makeRecord d [.ref 2759, .int x13, .int (x14 - x13), .ref a2] n h1 (fun v2 h2 => (((v2 = (0 : Int32)) → (Q (some (.int (-2 : Int32))) n h2)) ∧ ((¬ v2 = (0 : Int32)) → (Q (some (.int (1 : Int32))) n h2)))))))) ∧ ((x14 = x11) → (Q (some (.int (-1 : Int32))) n h))) : W_X10_recurAt g d av Q n 343 [some (.ref 2759), none, some (.ref a2), none, none, none, none, none, none, none, none, some (.int x11), some (.ref a12), some (.int x13), some (.int x14)] [] h := by
  refine r_iload dX10_recurAt_343 rfl ?_
  refine r_iload dX10_recurAt_345 rfl ?_
  refine r_icmp_ne (tgt := 352) dX10_recurAt_347 rfl (fun cH => ?_) (fun cH => ?_)
  · replace H := H.1 cH
    refine r_aload_n dX10_recurAt_352 rfl rfl ?_
    refine r_iload dX10_recurAt_353 rfl ?_
    refine r_iload dX10_recurAt_355 rfl ?_
    refine r_aload dX10_recurAt_357 rfl ?_
    refine k_VV (As := [.int x14, .int x11, .ref a12]) (stk := []) hp cv_X10_739 dX10_recurAt_359 rfl (Nat.le_of_ble_eq_true rfl) ly_10 (H.mono (fun h1 H => ?_)) ⟨Nat.le_refl _, Nat.le_refl _⟩
    refine r_aload_n dX10_recurAt_362 rfl rfl ?_
    refine r_iload dX10_recurAt_363 rfl ?_
    refine r_iload dX10_recurAt_365 rfl ?_
    refine r_iload dX10_recurAt_367 rfl ?_
    refine r_isub dX10_recurAt_369 ?_
    refine r_aload_n dX10_recurAt_370 rfl rfl ?_
    refine k_VI (As := [.int x13, .int (x14 - x13), .ref a2]) (stk := []) hp cv_X10_758 dX10_recurAt_371 rfl (Nat.le_of_ble_eq_true rfl) ly_10 (H.mono (fun v2 h2 H => ?_)) ⟨Nat.le_refl _, Nat.le_refl _⟩
    refine r_if_eq (tgt := 381) dX10_recurAt_374 rfl (fun cH => ?_) (fun cH => ?_)
    · replace H := H.1 cH
      refine r_bipush (v := (-2 : Int32)) dX10_recurAt_381 rfl ?_
      exact r_zret dX10_recurAt_383 rfl rfl (Nat.le_refl _) (Nat.le_refl _) H
    · replace H := H.2 cH
      refine r_iconst (v := (1 : Int32)) dX10_recurAt_377 rfl ?_
      refine r_goto (tgt := 383) dX10_recurAt_378 rfl ?_
      exact r_zret dX10_recurAt_383 rfl rfl (Nat.le_refl _) (Nat.le_refl _) H
  · replace H := H.2 cH
    refine r_iconst (v := (-1 : Int32)) dX10_recurAt_350 rfl ?_
    exact r_zret dX10_recurAt_351 rfl rfl (Nat.le_refl _) (Nat.le_refl _) H
abbrev W_X10_part (g : GX) (d : Nat) (av : List Value) (Q : QT) (n : Nat) (pc : Nat) (ls : LV) (stk : List Value) (h : Hp) : Prop := RJ g m_X10_part (d + 1) 0 0 av Q pc ls stk n h 0 0
theorem s_X10_part_0 {g : GX} {d : Nat} {av : List Value} {Q : QT} {n : Nat} {h : Hp} {a1 : Nat} {a2 : Nat} {x3 : Int32} {a4 : Nat} (hp : g.2.2.2.2 = true) (t1 : lay a1 = (0, 14, 2)) (t2 : lay a2 = (0, 13, 2)) (t4 : lay a4 = (0, 14, 2)) (H : CallR g m_X10_newB d [.ref 2759] n h (fun v1 h1 => (lay v1 = (0, 14, 2) ∧ (CallR g m_X10_newB d [.ref 2759] n h1 (fun v2 h2 => (lay v2 = (0, 14, 2) ∧ (CallR g m_X10_newB d [.ref 2759] n h2 (fun v3 h3 => (lay v3 = (0, 14, 2) ∧ (CallR g m_X10_newU d [.ref 2759] n h3 (fun v4 h4 => (lay v4 = (0, 13, 2) ∧ (CallR g m_X10_newU d [.ref 2759] n h4 (fun v5 h5 => (lay v5 = (0, 13, 2) ∧ (vp_in x3 4 ∧ ∀ r6, r6 = 2941 + 1 * (x3).toNatClampNeg → (CallV g m_X10_load d [.ref v1, .ref r6] n h5 (fun h7 => (vp_in x3 4 ∧ ∀ r8, r8 = 2946 + 1 * (x3).toNatClampNeg → (CallV g m_X10_load d [.ref v2, .ref r8] n h7 (fun h9 => (CallV g m_X10_primitive d [.ref 2759, .ref v2, .ref v2, .ref v4] n h9 (fun h10 => (CallI g m_X10_divides d [.ref 2759, .ref v3, .ref a4, .ref v2] n h10 (fun v11 h11 => (CallV g m_X10_times d [.ref 2759, .ref a1, .ref v1, .ref v3] n h11 (fun h12 => (CallR g m_X14_lead d [.ref a4] n h12 (fun v13 h13 => (lay v13 = (0, 13, 2) ∧ (CallV g m_X10_times_2 d [.ref a2, .ref v4, .ref v13] n h13 (fun h14 => (CallV g m_X10_content d [.ref 2759, .ref v5, .ref a1] n h14 (fun h15 => (CallV g m_X10_gcd_2 d [.ref 2759, .ref v5, .ref v5, .ref a2] n h15 (fun h16 => (CallV g m_X10_byU d [.ref 2759, .ref a1, .ref a1, .ref v5] n h16 (fun h17 => (CallV g m_X10_exact d [.ref 2759, .ref a2, .ref a2, .ref v5] n h17 (fun h18 => (∀ h19, h19 = wi h18 2759 3 (ri h 2759 3) → (∀ h20, h20 = wi h19 2759 1 (ri h 2759 1) → ((((9 : Int32) < (ri h20 a1 1)) → (Q (some (.int (0 : Int32))) n h20)) ∧ ((¬ (9 : Int32) < (ri h20 a1 1)) → (CallI g m_X14_degreeN d [.ref a1] n h20 (fun v21 h21 => ((((12 : Int32) < v21) → (Q (some (.int (0 : Int32))) n h21)) ∧ ((¬ (12 : Int32) < v21) → ((((13 : Int32) < (ri h21 a2 1)) → (Q (some (.int (0 : Int32))) n h21)) ∧ ((¬ (13 : Int32) < (ri h21 a2 1)) → (Q (some (.int (1 : Int32))) n h21))))))))))))))))))))))))))))))))))))))))))))))))))) : W_X10_part g d av Q n 0 [some (.ref 2759), some (.ref a1), some (.ref a2), some (.int x3), some (.ref a4), none, none, none, none, none, none, none, none] [] h := by
  refine r_aload_n dX10_part_0 rfl rfl ?_
  refine m_getI hp fw_X10_90 dX10_part_1 rfl ly_10 ?_
  refine r_istore (ls2 := [some (.ref 2759), some (.ref a1), some (.ref a2), some (.int x3), some (.ref a4), some (.int (ri h 2759 3)), none, none, none, none, none, none, none]) dX10_part_4 (by decide) rfl ?_
  refine r_aload_n dX10_part_6 rfl rfl ?_
  refine m_getI hp fw_X10_21 dX10_part_7 rfl ly_10 ?_
  refine r_istore (ls2 := [some (.ref 2759), some (.ref a1), some (.ref a2), some (.int x3), some (.ref a4), some (.int (ri h 2759 3)), some (.int (ri h 2759 1)), none, none, none, none, none, none]) dX10_part_10 (by decide) rfl ?_
  refine r_aload_n dX10_part_12 rfl rfl ?_
  refine k_VR (As := []) (stk := []) hp cv_X10_140 dX10_part_13 rfl (Nat.le_of_ble_eq_true rfl) ly_10 (H.mono (fun v1 h1 H => ?_)) ⟨Nat.le_refl _, Nat.le_refl _⟩
  obtain ⟨tv1, H⟩ := H
  refine r_astore (ls2 := [some (.ref 2759), some (.ref a1), some (.ref a2), some (.int x3), some (.ref a4), some (.int (ri h 2759 3)), some (.int (ri h 2759 1)), some (.ref v1), none, none, none, none, none]) dX10_part_16 (by decide) rfl ?_
  refine r_aload_n dX10_part_18 rfl rfl ?_
  refine k_VR (As := []) (stk := []) hp cv_X10_140 dX10_part_19 rfl (Nat.le_of_ble_eq_true rfl) ly_10 (H.mono (fun v2 h2 H => ?_)) ⟨Nat.le_refl _, Nat.le_refl _⟩
  obtain ⟨tv2, H⟩ := H
  refine r_astore (ls2 := [some (.ref 2759), some (.ref a1), some (.ref a2), some (.int x3), some (.ref a4), some (.int (ri h 2759 3)), some (.int (ri h 2759 1)), some (.ref v1), some (.ref v2), none, none, none, none]) dX10_part_22 (by decide) rfl ?_
  refine r_aload_n dX10_part_24 rfl rfl ?_
  refine k_VR (As := []) (stk := []) hp cv_X10_140 dX10_part_25 rfl (Nat.le_of_ble_eq_true rfl) ly_10 (H.mono (fun v3 h3 H => ?_)) ⟨Nat.le_refl _, Nat.le_refl _⟩
  obtain ⟨tv3, H⟩ := H
  refine r_astore (ls2 := [some (.ref 2759), some (.ref a1), some (.ref a2), some (.int x3), some (.ref a4), some (.int (ri h 2759 3)), some (.int (ri h 2759 1)), some (.ref v1), some (.ref v2), some (.ref v3), none, none, none]) dX10_part_28 (by decide) rfl ?_
  refine r_aload_n dX10_part_30 rfl rfl ?_
  refine k_VR (As := []) (stk := []) hp cv_X10_74 dX10_part_31 rfl (Nat.le_of_ble_eq_true rfl) ly_10 (H.mono (fun v4 h4 H => ?_)) ⟨Nat.le_refl _, Nat.le_refl _⟩
  obtain ⟨tv4, H⟩ := H
  refine r_astore (ls2 := [some (.ref 2759), some (.ref a1), some (.ref a2), some (.int x3), some (.ref a4), some (.int (ri h 2759 3)), some (.int (ri h 2759 1)), some (.ref v1), some (.ref v2), some (.ref v3), some (.ref v4), none, none]) dX10_part_34 (by decide) rfl ?_
  refine r_aload_n dX10_part_36 rfl rfl ?_
  refine k_VR (As := []) (stk := []) hp cv_X10_74 dX10_part_37 rfl (Nat.le_of_ble_eq_true rfl) ly_10 (H.mono (fun v5 h5 H => ?_)) ⟨Nat.le_refl _, Nat.le_refl _⟩
  obtain ⟨tv5, H⟩ := H
  refine r_astore (ls2 := [some (.ref 2759), some (.ref a1), some (.ref a2), some (.int x3), some (.ref a4), some (.int (ri h 2759 3)), some (.int (ri h 2759 1)), some (.ref v1), some (.ref v2), some (.ref v3), some (.ref v4), some (.ref v5), none]) dX10_part_40 (by decide) rfl ?_
  refine r_aload dX10_part_42 rfl ?_
  refine r_aload_n dX10_part_44 rfl rfl ?_
  refine m_getF (x := 2940) hp fw_X10_505 dX10_part_45 rfl ly_10 (ff_10_51 ly_10) ?_
  refine r_iload_n dX10_part_48 rfl rfl ?_
  obtain ⟨r6, er6⟩ : ∃ y, y = 2941 + 1 * (x3).toNatClampNeg := ⟨_, rfl⟩
  have hir6 := H.1
  replace H := H.2 r6 er6
  have tLr6 := la_2940 hir6 er6
  refine m_aalF (x := r6) hp dX10_part_49 (lf_10_51 ly_10) rfl rfl (lu_10_51 ly_10) hir6 (fa_2940 hir6 er6) ?_
  refine k_SV (As := [.ref v1, .ref r6]) (stk := []) cs_X10_295 dX10_part_50 rfl (Nat.le_of_ble_eq_true rfl) (H.mono (fun h7 H => ?_)) ⟨Nat.le_refl _, Nat.le_refl _⟩
  refine r_aload dX10_part_53 rfl ?_
  refine r_aload_n dX10_part_55 rfl rfl ?_
  refine m_getF (x := 2945) hp fw_X10_508 dX10_part_56 rfl ly_10 (ff_10_52 ly_10) ?_
  refine r_iload_n dX10_part_59 rfl rfl ?_
  obtain ⟨r8, er8⟩ : ∃ y, y = 2946 + 1 * (x3).toNatClampNeg := ⟨_, rfl⟩
  have hir8 := H.1
  replace H := H.2 r8 er8
  have tLr8 := la_2945 hir8 er8
  refine m_aalF (x := r8) hp dX10_part_60 (lf_10_52 ly_10) rfl rfl (lu_10_52 ly_10) hir8 (fa_2945 hir8 er8) ?_
  refine k_SV (As := [.ref v2, .ref r8]) (stk := []) cs_X10_295 dX10_part_61 rfl (Nat.le_of_ble_eq_true rfl) (H.mono (fun h9 H => ?_)) ⟨Nat.le_refl _, Nat.le_refl _⟩
  refine r_aload_n dX10_part_64 rfl rfl ?_
  refine r_aload dX10_part_65 rfl ?_
  refine r_aload dX10_part_67 rfl ?_
  refine r_aload dX10_part_69 rfl ?_
  refine k_VV (As := [.ref v2, .ref v2, .ref v4]) (stk := []) hp cv_X10_167 dX10_part_71 rfl (Nat.le_of_ble_eq_true rfl) ly_10 (H.mono (fun h10 H => ?_)) ⟨Nat.le_refl _, Nat.le_refl _⟩
  refine r_aload_n dX10_part_74 rfl rfl ?_
  refine r_aload dX10_part_75 rfl ?_
  refine r_aload dX10_part_77 rfl ?_
  refine r_aload dX10_part_79 rfl ?_
  refine k_VI (As := [.ref v3, .ref a4, .ref v2]) (stk := []) hp cv_X10_170 dX10_part_81 rfl (Nat.le_of_ble_eq_true rfl) ly_10 (H.mono (fun v11 h11 H => ?_)) ⟨Nat.le_refl _, Nat.le_refl _⟩
  refine r_istore (ls2 := [some (.ref 2759), some (.ref a1), some (.ref a2), some (.int x3), some (.ref a4), some (.int (ri h 2759 3)), some (.int (ri h 2759 1)), some (.ref v1), some (.ref v2), some (.ref v3), some (.ref v4), some (.ref v5), some (.int v11)]) dX10_part_84 (by decide) rfl ?_
  refine r_aload_n dX10_part_86 rfl rfl ?_
  refine r_aload_n dX10_part_87 rfl rfl ?_
  refine r_aload dX10_part_88 rfl ?_
  refine r_aload dX10_part_90 rfl ?_
  refine k_VV (As := [.ref a1, .ref v1, .ref v3]) (stk := []) hp cv_X10_197 dX10_part_92 rfl (Nat.le_of_ble_eq_true rfl) ly_10 (H.mono (fun h12 H => ?_)) ⟨Nat.le_refl _, Nat.le_refl _⟩
  refine r_aload_n dX10_part_95 rfl rfl ?_
  refine r_aload dX10_part_96 rfl ?_
  refine r_aload dX10_part_98 rfl ?_
  refine k_VR (As := []) (stk := [.ref v4, .ref a2]) hp cv_X10_144 dX10_part_100 rfl (Nat.le_of_ble_eq_true rfl) t4 (H.mono (fun v13 h13 H => ?_)) ⟨Nat.le_refl _, Nat.le_refl _⟩
  obtain ⟨tv13, H⟩ := H
  refine k_SV (As := [.ref a2, .ref v4, .ref v13]) (stk := []) cs_X10_106 dX10_part_103 rfl (Nat.le_of_ble_eq_true rfl) (H.mono (fun h14 H => ?_)) ⟨Nat.le_refl _, Nat.le_refl _⟩
  refine r_aload_n dX10_part_106 rfl rfl ?_
  refine r_aload dX10_part_107 rfl ?_
  refine r_aload_n dX10_part_109 rfl rfl ?_
  refine k_VV (As := [.ref v5, .ref a1]) (stk := []) hp cv_X10_128 dX10_part_110 rfl (Nat.le_of_ble_eq_true rfl) ly_10 (H.mono (fun h15 H => ?_)) ⟨Nat.le_refl _, Nat.le_refl _⟩
  refine r_aload_n dX10_part_113 rfl rfl ?_
  refine r_aload dX10_part_114 rfl ?_
  refine r_aload dX10_part_116 rfl ?_
  refine r_aload_n dX10_part_118 rfl rfl ?_
  refine k_VV (As := [.ref v5, .ref v5, .ref a2]) (stk := []) hp cv_X10_125 dX10_part_119 rfl (Nat.le_of_ble_eq_true rfl) ly_10 (H.mono (fun h16 H => ?_)) ⟨Nat.le_refl _, Nat.le_refl _⟩
  refine r_aload_n dX10_part_122 rfl rfl ?_
  refine r_aload_n dX10_part_123 rfl rfl ?_
  refine r_aload_n dX10_part_124 rfl rfl ?_
  refine r_aload dX10_part_125 rfl ?_
  refine k_VV (As := [.ref a1, .ref a1, .ref v5]) (stk := []) hp cv_X10_132 dX10_part_127 rfl (Nat.le_of_ble_eq_true rfl) ly_10 (H.mono (fun h17 H => ?_)) ⟨Nat.le_refl _, Nat.le_refl _⟩
  refine r_aload_n dX10_part_130 rfl rfl ?_
  refine r_aload_n dX10_part_131 rfl rfl ?_
  refine r_aload_n dX10_part_132 rfl rfl ?_
  refine r_aload dX10_part_133 rfl ?_
  refine k_VV (As := [.ref a2, .ref a2, .ref v5]) (stk := []) hp cv_X10_110 dX10_part_135 rfl (Nat.le_of_ble_eq_true rfl) ly_10 (H.mono (fun h18 H => ?_)) ⟨Nat.le_refl _, Nat.le_refl _⟩
  refine r_aload_n dX10_part_138 rfl rfl ?_
  refine r_iload dX10_part_139 rfl ?_
  refine m_putI hp fw_X10_90 dX10_part_141 rfl rfl ly_10 (fun h19 eh19 => ?_)
  replace H := H h19 eh19
  refine r_aload_n dX10_part_144 rfl rfl ?_
  refine r_iload dX10_part_145 rfl ?_
  refine m_putI hp fw_X10_21 dX10_part_147 rfl rfl ly_10 (fun h20 eh20 => ?_)
  replace H := H h20 eh20
  refine r_aload_n dX10_part_150 rfl rfl ?_
  refine m_getI hp fw_X10_93 dX10_part_151 rfl t1 ?_
  refine r_bipush (v := (9 : Int32)) dX10_part_154 rfl ?_
  refine r_icmp_gt (tgt := 181) dX10_part_156 rfl (fun cH => ?_) (fun cH => ?_)
  · replace H := H.1 cH
    refine r_iconst (v := (0 : Int32)) dX10_part_181 rfl ?_
    exact r_zret dX10_part_182 rfl rfl (Nat.le_refl _) (Nat.le_refl _) H
  · replace H := H.2 cH
    refine r_aload_n dX10_part_159 rfl rfl ?_
    refine k_VI (As := []) (stk := []) hp cv_X10_119 dX10_part_160 rfl (Nat.le_of_ble_eq_true rfl) t1 (H.mono (fun v21 h21 H => ?_)) ⟨Nat.le_refl _, Nat.le_refl _⟩
    refine r_bipush (v := (12 : Int32)) dX10_part_163 rfl ?_
    refine r_icmp_gt (tgt := 181) dX10_part_165 rfl (fun cH => ?_) (fun cH => ?_)
    · replace H := H.1 cH
      refine r_iconst (v := (0 : Int32)) dX10_part_181 rfl ?_
      exact r_zret dX10_part_182 rfl rfl (Nat.le_refl _) (Nat.le_refl _) H
    · replace H := H.2 cH
      refine r_aload_n dX10_part_168 rfl rfl ?_
      refine m_getI hp fw_X10_25 dX10_part_169 rfl t2 ?_
      refine r_bipush (v := (13 : Int32)) dX10_part_172 rfl ?_
      refine r_icmp_gt (tgt := 181) dX10_part_174 rfl (fun cH => ?_) (fun cH => ?_)
      · replace H := H.1 cH
        refine r_iconst (v := (0 : Int32)) dX10_part_181 rfl ?_
        exact r_zret dX10_part_182 rfl rfl (Nat.le_refl _) (Nat.le_refl _) H
      · replace H := H.2 cH
        refine r_iconst (v := (1 : Int32)) dX10_part_177 rfl ?_
        refine r_goto (tgt := 182) dX10_part_178 rfl ?_
        exact r_zret dX10_part_182 rfl rfl (Nat.le_refl _) (Nat.le_refl _) H
abbrev W_X10_store_2 (g : GX) (d : Nat) (av : List Value) (Q : QT) (n : Nat) (pc : Nat) (ls : LV) (stk : List Value) (h : Hp) : Prop := RJ g m_X10_store_2 (d + 1) 0 0 av Q pc ls stk n h 0 0
theorem s_X10_store_2_0 {g : GX} {d : Nat} {av : List Value} {Q : QT} {n : Nat} {h : Hp} {a0 : Nat} {L0 : Nat} {x1 : Int32} {a2 : Nat} (hp : g.2.2.2.2 = true) (t0 : lay a0 = (1, L0, 0)) (t2 : lay a2 = (0, 13, 2)) (H : W_X10_store_2 g d av Q n 2 [some (.ref a0), some (.int x1), some (.ref a2), some (.int (0 : Int32))] [] h) : W_X10_store_2 g d av Q n 0 [some (.ref a0), some (.int x1), some (.ref a2), none] [] h := by
  refine r_iconst (v := (0 : Int32)) dX10_store_2_0 rfl ?_
  refine r_istore_n (ls2 := [some (.ref a0), some (.int x1), some (.ref a2), some (.int (0 : Int32))]) dX10_store_2_1 rfl (by decide) rfl ?_
  exact H
theorem s_X10_store_2_2 {g : GX} {d : Nat} {av : List Value} {Q : QT} {n : Nat} {h : Hp} {a0 : Nat} {L0 : Nat} {x1 : Int32} {a2 : Nat} {x3 : Int32} (hp : g.2.2.2.2 = true) (t0 : lay a0 = (1, L0, 0)) (t2 : lay a2 = (0, 13, 2)) (H : (((25 : Int32) ≤ x3) → (Q none n h)) ∧ ((¬ (25 : Int32) ≤ x3) → (CallI g m_X13_at d [.ref a2, .int x3] n h (fun v1 h1 => (vp_in (x1 + x3) L0 ∧ ∀ h2, h2 = wi h1 a0 ((x1 + x3)).toNatClampNeg v1 → (W_X10_store_2 g d av Q n 2 [some (.ref a0), some (.int x1), some (.ref a2), some (.int (x3 + (1 : Int32)))] [] h2)))))) : W_X10_store_2 g d av Q n 2 [some (.ref a0), some (.int x1), some (.ref a2), some (.int x3)] [] h := by
  refine r_iload_n dX10_store_2_2 rfl rfl ?_
  refine r_bipush (v := (25 : Int32)) dX10_store_2_3 rfl ?_
  refine r_icmp_ge (tgt := 24) dX10_store_2_5 rfl (fun cH => ?_) (fun cH => ?_)
  · replace H := H.1 cH
    exact r_vret dX10_store_2_24 rfl (Nat.le_refl _) (Nat.le_refl _) H
  · replace H := H.2 cH
    refine r_aload_n dX10_store_2_8 rfl rfl ?_
    refine r_iload_n dX10_store_2_9 rfl rfl ?_
    refine r_iload_n dX10_store_2_10 rfl rfl ?_
    refine r_iadd dX10_store_2_11 ?_
    refine r_aload_n dX10_store_2_12 rfl rfl ?_
    refine r_iload_n dX10_store_2_13 rfl rfl ?_
    refine k_VI (As := [.int x3]) (stk := [.int (x1 + x3), .ref a0]) hp cv_X10_122 dX10_store_2_14 rfl (Nat.le_of_ble_eq_true rfl) t2 (H.mono (fun v1 h1 H => ?_)) ⟨Nat.le_refl _, Nat.le_refl _⟩
    refine m_iast hp dX10_store_2_17 t0 H.1 (fun h2 eh2 => ?_)
    replace H := H.2 h2 eh2
    refine r_iinc (v := (x3 + (1 : Int32))) (ls2 := [some (.ref a0), some (.int x1), some (.ref a2), some (.int (x3 + (1 : Int32)))]) dX10_store_2_18 rfl rfl (by decide) rfl ?_
    refine r_goto (tgt := 2) dX10_store_2_21 rfl ?_
    exact H
abbrev W_X10_keepRecord (g : GX) (d : Nat) (av : List Value) (Q : QT) (n : Nat) (pc : Nat) (ls : LV) (stk : List Value) (h : Hp) : Prop := RJ g m_X10_keepRecord (d + 1) 0 0 av Q pc ls stk n h 0 0
theorem s_X10_keepRecord_0 {g : GX} {d : Nat} {av : List Value} {Q : QT} {n : Nat} {h : Hp} {x1 : Int32} (hp : g.2.2.2.2 = true)  (H : vp_in x1 12 ∧ ∀ r1, r1 = 10245 + 9 * (x1).toNatClampNeg → (CallV g m_X10_copy d [.ref r1, .ref 2842] n h (fun h2 => (Q (some (.int (ri h2 2842 10))) n h2)))) : W_X10_keepRecord g d av Q n 0 [some (.ref 2759), some (.int x1)] [] h := by
  refine r_aload_n dX10_keepRecord_0 rfl rfl ?_
  refine m_getF (x := 2841) hp fw_X10_450 dX10_keepRecord_1 rfl ly_10 (ff_10_20 ly_10) ?_
  refine r_iload_n dX10_keepRecord_4 rfl rfl ?_
  obtain ⟨r1, er1⟩ : ∃ y, y = 10245 + 9 * (x1).toNatClampNeg := ⟨_, rfl⟩
  have hir1 := H.1
  replace H := H.2 r1 er1
  have tLr1 := la_2841 hir1 er1
  refine m_aalF (x := r1) hp dX10_keepRecord_5 (lf_10_20 ly_10) rfl rfl (lu_10_20 ly_10) hir1 (fa_2841 hir1 er1) ?_
  refine r_aload_n dX10_keepRecord_6 rfl rfl ?_
  refine m_getF (x := 2842) hp fw_X10_453 dX10_keepRecord_7 rfl ly_10 (ff_10_21 ly_10) ?_
  refine k_SV (As := [.ref r1, .ref 2842]) (stk := []) cs_X10_547 dX10_keepRecord_10 rfl (Nat.le_of_ble_eq_true rfl) (H.mono (fun h2 H => ?_)) ⟨Nat.le_refl _, Nat.le_refl _⟩
  refine r_aload_n dX10_keepRecord_13 rfl rfl ?_
  refine m_getF (x := 2842) hp fw_X10_453 dX10_keepRecord_14 rfl ly_10 (ff_10_21 ly_10) ?_
  refine m_getI hp fw_X10_234 dX10_keepRecord_17 rfl (lf_10_21 ly_10) ?_
  exact r_zret dX10_keepRecord_20 rfl rfl (Nat.le_refl _) (Nat.le_refl _) H
abbrev W_X10_part_2 (g : GX) (d : Nat) (av : List Value) (Q : QT) (n : Nat) (pc : Nat) (ls : LV) (stk : List Value) (h : Hp) : Prop := RJ g m_X10_part_2 (d + 1) 0 0 av Q pc ls stk n h 0 0
theorem s_X10_part_2_0 {g : GX} {d : Nat} {av : List Value} {Q : QT} {n : Nat} {h : Hp} {x1 : Int32} {x2 : Int32} {x3 : Int32} (hp : g.2.2.2.2 = true)  (H : CallI g m_X10_isSlot d [.int x1] n h (fun v1 h1 => (((v1 = (0 : Int32)) → (Q (some (.int (-1 : Int32))) n h1)) ∧ ((¬ v1 = (0 : Int32)) → (CallI g m_X10_isSlot d [.int x3] n h1 (fun v2 h2 => (((¬ v2 = (0 : Int32)) → (vp_in x1 12 ∧ ∀ r3, r3 = 10245 + 9 * (x1).toNatClampNeg → ((((ri h2 r3 0) = (3 : Int32)) → (W_X10_part_2 g d av Q n 45 [some (.ref 2759), none, some (.int x2), some (.int x3), some (.ref r3)] [] h2)) ∧ ((¬ (ri h2 r3 0) = (3 : Int32)) → ((((ri h2 r3 0) = (4 : Int32)) → (W_X10_part_2 g d av Q n 45 [some (.ref 2759), none, some (.int x2), some (.int x3), some (.ref r3)] [] h2)) ∧ ((¬ (ri h2 r3 0) = (4 : Int32)) → (Q (some (.int (-3 : Int32))) n h2))))))) ∧ ((v2 = (0 : Int32)) → (Q (some (.int (-1 : Int32))) n h2))))))))) : W_X10_part_2 g d av Q n 0 [some (.ref 2759), some (.int x1), some (.int x2), some (.int x3), none] [] h := by
  refine r_iload_n dX10_part_2_0 rfl rfl ?_
  refine k_SI (As := [.int x1]) (stk := []) cs_X10_551 dX10_part_2_1 rfl (Nat.le_of_ble_eq_true rfl) (H.mono (fun v1 h1 H => ?_)) ⟨Nat.le_refl _, Nat.le_refl _⟩
  refine r_if_eq (tgt := 14) dX10_part_2_4 rfl (fun cH => ?_) (fun cH => ?_)
  · replace H := H.1 cH
    refine r_iconst (v := (-1 : Int32)) dX10_part_2_14 rfl ?_
    exact r_zret dX10_part_2_15 rfl rfl (Nat.le_refl _) (Nat.le_refl _) H
  · replace H := H.2 cH
    refine r_iload_n dX10_part_2_7 rfl rfl ?_
    refine k_SI (As := [.int x3]) (stk := []) cs_X10_551 dX10_part_2_8 rfl (Nat.le_of_ble_eq_true rfl) (H.mono (fun v2 h2 H => ?_)) ⟨Nat.le_refl _, Nat.le_refl _⟩
    refine r_if_ne (tgt := 16) dX10_part_2_11 rfl (fun cH => ?_) (fun cH => ?_)
    · replace H := H.1 cH
      refine r_aload_n dX10_part_2_16 rfl rfl ?_
      refine m_getF (x := 2841) hp fw_X10_450 dX10_part_2_17 rfl ly_10 (ff_10_20 ly_10) ?_
      refine r_iload_n dX10_part_2_20 rfl rfl ?_
      obtain ⟨r3, er3⟩ : ∃ y, y = 10245 + 9 * (x1).toNatClampNeg := ⟨_, rfl⟩
      have hir3 := H.1
      replace H := H.2 r3 er3
      have tLr3 := la_2841 hir3 er3
      refine m_aalF (x := r3) hp dX10_part_2_21 (lf_10_20 ly_10) rfl rfl (lu_10_20 ly_10) hir3 (fa_2841 hir3 er3) ?_
      refine r_astore (ls2 := [some (.ref 2759), some (.int x1), some (.int x2), some (.int x3), some (.ref r3)]) dX10_part_2_22 (by decide) rfl ?_
      refine r_aload dX10_part_2_24 rfl ?_
      refine m_getI hp fw_X10_202 dX10_part_2_26 rfl tLr3 ?_
      refine r_iconst (v := (3 : Int32)) dX10_part_2_29 rfl ?_
      refine r_icmp_eq (tgt := 45) dX10_part_2_30 rfl (fun cH => ?_) (fun cH => ?_)
      · replace H := H.1 cH
        refine r_prune [true, false, true, true, true] (ls2 := [some (.ref 2759), none, some (.int x2), some (.int x3), some (.ref r3)]) rfl ?_
        exact H
      · replace H := H.2 cH
        refine r_aload dX10_part_2_33 rfl ?_
        refine m_getI hp fw_X10_202 dX10_part_2_35 rfl tLr3 ?_
        refine r_iconst (v := (4 : Int32)) dX10_part_2_38 rfl ?_
        refine r_icmp_eq (tgt := 45) dX10_part_2_39 rfl (fun cH => ?_) (fun cH => ?_)
        · replace H := H.1 cH
          refine r_prune [true, false, true, true, true] (ls2 := [some (.ref 2759), none, some (.int x2), some (.int x3), some (.ref r3)]) rfl ?_
          exact H
        · replace H := H.2 cH
          refine r_bipush (v := (-3 : Int32)) dX10_part_2_42 rfl ?_
          exact r_zret dX10_part_2_44 rfl rfl (Nat.le_refl _) (Nat.le_refl _) H
    · replace H := H.2 cH
      refine r_iconst (v := (-1 : Int32)) dX10_part_2_14 rfl ?_
      exact r_zret dX10_part_2_15 rfl rfl (Nat.le_refl _) (Nat.le_refl _) H
theorem s_X10_part_2_45 {g : GX} {d : Nat} {av : List Value} {Q : QT} {n : Nat} {h : Hp} {x2 : Int32} {x3 : Int32} {a4 : Nat} (hp : g.2.2.2.2 = true) (t4 : lay a4 = (0, 11, 15)) (H : ((¬ (ri h a4 0) = (3 : Int32)) → (W_X10_part_2 g d av Q n 60 [some (.ref 2759), none, some (.int x2), some (.int x3), some (.ref a4)] [.int (0 : Int32), .int x2] h)) ∧ (((ri h a4 0) = (3 : Int32)) → (W_X10_part_2 g d av Q n 60 [some (.ref 2759), none, some (.int x2), some (.int x3), some (.ref a4)] [.int (-1 : Int32), .int x2] h))) : W_X10_part_2 g d av Q n 45 [some (.ref 2759), none, some (.int x2), some (.int x3), some (.ref a4)] [] h := by
  refine r_iload_n dX10_part_2_45 rfl rfl ?_
  refine r_aload dX10_part_2_46 rfl ?_
  refine m_getI hp fw_X10_202 dX10_part_2_48 rfl t4 ?_
  refine r_iconst (v := (3 : Int32)) dX10_part_2_51 rfl ?_
  refine r_icmp_ne (tgt := 59) dX10_part_2_52 rfl (fun cH => ?_) (fun cH => ?_)
  · replace H := H.1 cH
    refine r_iconst (v := (0 : Int32)) dX10_part_2_59 rfl ?_
    exact H
  · replace H := H.2 cH
    refine r_iconst (v := (-1 : Int32)) dX10_part_2_55 rfl ?_
    refine r_goto (tgt := 60) dX10_part_2_56 rfl ?_
    exact H
theorem s_X10_part_2_60 {g : GX} {d : Nat} {av : List Value} {Q : QT} {n : Nat} {h : Hp} {x2 : Int32} {x3 : Int32} {a4 : Nat} {xs0 : Int32} {xs1 : Int32} (hp : g.2.2.2.2 = true) (t4 : lay a4 = (0, 11, 15)) (H : ((xs1 < xs0) → (Q (some (.int (-1 : Int32))) n h)) ∧ ((¬ xs1 < xs0) → (((x2 ≤ (ri h a4 10)) → (((¬ x2 = (-1 : Int32)) → (CallV g m_X10_begin d [.ref 2759] n h (fun h1 => (CallV g m_X10_number d [.ref 2759, .ref 2842, .int (0 : Int32)] n h1 (fun h2 => (¬ ((25 : Int32) * x2) < 0 ∧ ¬ (0 : Int32) < 0 ∧ ¬ (25 : Int32) < 0 ∧ (((25 : Int32) * x2)).toNatClampNeg + ((25 : Int32)).toNatClampNeg ≤ 175 ∧ ((0 : Int32)).toNatClampNeg + ((25 : Int32)).toNatClampNeg ≤ 325 ∧ ∀ h3, h3 = cpy h2 (a4 + 7) (((25 : Int32) * x2)).toNatClampNeg 2843 ((0 : Int32)).toNatClampNeg ((25 : Int32)).toNatClampNeg → (CallI g m_X10_keep d [.ref 2759, .int x3] n h3 (fun v4 h4 => (Q (some (.int v4)) n h4))))))))) ∧ ((x2 = (-1 : Int32)) → (CallV g m_X10_copy d [.ref 2842, .ref a4] n h (fun h5 => (CallV g m_X10_plain d [.ref 2842] n h5 (fun h6 => (CallI g m_X10_keep d [.ref 2759, .int x3] n h6 (fun v7 h7 => (Q (some (.int v7)) n h7)))))))))) ∧ ((¬ x2 ≤ (ri h a4 10)) → (Q (some (.int (-1 : Int32))) n h))))) : W_X10_part_2 g d av Q n 60 [some (.ref 2759), none, some (.int x2), some (.int x3), some (.ref a4)] [.int xs0, .int xs1] h := by
  refine r_icmp_lt (tgt := 72) dX10_part_2_60 rfl (fun cH => ?_) (fun cH => ?_)
  · replace H := H.1 cH
    refine r_iconst (v := (-1 : Int32)) dX10_part_2_72 rfl ?_
    exact r_zret dX10_part_2_73 rfl rfl (Nat.le_refl _) (Nat.le_refl _) H
  · replace H := H.2 cH
    refine r_iload_n dX10_part_2_63 rfl rfl ?_
    refine r_aload dX10_part_2_64 rfl ?_
    refine m_getI hp fw_X10_234 dX10_part_2_66 rfl t4 ?_
    refine r_icmp_le (tgt := 74) dX10_part_2_69 rfl (fun cH => ?_) (fun cH => ?_)
    · replace H := H.1 cH
      refine r_iload_n dX10_part_2_74 rfl rfl ?_
      refine r_iconst (v := (-1 : Int32)) dX10_part_2_75 rfl ?_
      refine r_icmp_ne (tgt := 101) dX10_part_2_76 rfl (fun cH => ?_) (fun cH => ?_)
      · replace H := H.1 cH
        refine r_aload_n dX10_part_2_101 rfl rfl ?_
        refine k_VV (As := []) (stk := []) hp cv_X10_555 dX10_part_2_102 rfl (Nat.le_of_ble_eq_true rfl) ly_10 (H.mono (fun h1 H => ?_)) ⟨Nat.le_refl _, Nat.le_refl _⟩
        refine r_aload_n dX10_part_2_105 rfl rfl ?_
        refine r_aload_n dX10_part_2_106 rfl rfl ?_
        refine m_getF (x := 2842) hp fw_X10_453 dX10_part_2_107 rfl ly_10 (ff_10_21 ly_10) ?_
        refine r_iconst (v := (0 : Int32)) dX10_part_2_110 rfl ?_
        refine k_VV (As := [.ref 2842, .int (0 : Int32)]) (stk := []) hp cv_X10_292 dX10_part_2_111 rfl (Nat.le_of_ble_eq_true rfl) ly_10 (H.mono (fun h2 H => ?_)) ⟨Nat.le_refl _, Nat.le_refl _⟩
        refine r_aload dX10_part_2_114 rfl ?_
        refine m_getF (x := (a4 + 7)) hp fw_X10_237 dX10_part_2_116 rfl t4 (ff_11_11 t4) ?_
        refine r_bipush (v := (25 : Int32)) dX10_part_2_119 rfl ?_
        refine r_iload_n dX10_part_2_121 rfl rfl ?_
        refine r_imul dX10_part_2_122 ?_
        refine r_aload_n dX10_part_2_123 rfl rfl ?_
        refine m_getF (x := 2842) hp fw_X10_453 dX10_part_2_124 rfl ly_10 (ff_10_21 ly_10) ?_
        refine m_getF (x := 2843) hp fw_X10_207 dX10_part_2_127 rfl (lf_10_21 ly_10) (ff_11_1 (lf_10_21 ly_10)) ?_
        refine r_iconst (v := (0 : Int32)) dX10_part_2_130 rfl ?_
        refine r_bipush (v := (25 : Int32)) dX10_part_2_131 rfl ?_
        obtain ⟨c1, c2, c3, c4, c5, H⟩ := H
        refine m_copy hp ar_X10_34 dX10_part_2_133 rfl rfl (lf_11_11 t4) (lf_11_1 (lf_10_21 ly_10)) c1 c2 c3 c4 c5 (fun _ _ => rfl) (Nat.le_of_ble_eq_true rfl) (Nat.le_add_left 1 d) (fun h3 eh3 => ?_)
        replace H := H h3 eh3
        refine r_aload_n dX10_part_2_136 rfl rfl ?_
        refine r_iload_n dX10_part_2_137 rfl rfl ?_
        refine k_VI (As := [.int x3]) (stk := []) hp cv_X10_558 dX10_part_2_138 rfl (Nat.le_of_ble_eq_true rfl) ly_10 (H.mono (fun v4 h4 H => ?_)) ⟨Nat.le_refl _, Nat.le_refl _⟩
        exact r_zret dX10_part_2_141 rfl rfl (Nat.le_refl _) (Nat.le_refl _) H
      · replace H := H.2 cH
        refine r_aload_n dX10_part_2_79 rfl rfl ?_
        refine m_getF (x := 2842) hp fw_X10_453 dX10_part_2_80 rfl ly_10 (ff_10_21 ly_10) ?_
        refine r_aload dX10_part_2_83 rfl ?_
        refine k_SV (As := [.ref 2842, .ref a4]) (stk := []) cs_X10_547 dX10_part_2_85 rfl (Nat.le_of_ble_eq_true rfl) (H.mono (fun h5 H => ?_)) ⟨Nat.le_refl _, Nat.le_refl _⟩
        refine r_aload_n dX10_part_2_88 rfl rfl ?_
        refine m_getF (x := 2842) hp fw_X10_453 dX10_part_2_89 rfl ly_10 (ff_10_21 ly_10) ?_
        refine k_SV (As := [.ref 2842]) (stk := []) cs_X10_257 dX10_part_2_92 rfl (Nat.le_of_ble_eq_true rfl) (H.mono (fun h6 H => ?_)) ⟨Nat.le_refl _, Nat.le_refl _⟩
        refine r_aload_n dX10_part_2_95 rfl rfl ?_
        refine r_iload_n dX10_part_2_96 rfl rfl ?_
        refine k_VI (As := [.int x3]) (stk := []) hp cv_X10_558 dX10_part_2_97 rfl (Nat.le_of_ble_eq_true rfl) ly_10 (H.mono (fun v7 h7 H => ?_)) ⟨Nat.le_refl _, Nat.le_refl _⟩
        exact r_zret dX10_part_2_100 rfl rfl (Nat.le_refl _) (Nat.le_refl _) H
    · replace H := H.2 cH
      refine r_iconst (v := (-1 : Int32)) dX10_part_2_72 rfl ?_
      exact r_zret dX10_part_2_73 rfl rfl (Nat.le_refl _) (Nat.le_refl _) H
abbrev W_X10_check (g : GX) (d : Nat) (av : List Value) (Q : QT) (n : Nat) (pc : Nat) (ls : LV) (stk : List Value) (h : Hp) : Prop := RJ g m_X10_check (d + 1) 0 0 av Q pc ls stk n h 0 0
theorem s_X10_check_0 {g : GX} {d : Nat} {av : List Value} {Q : QT} {n : Nat} {h : Hp} {x1 : Int32} {x2 : Int32} (hp : g.2.2.2.2 = true)  (H : CallI g m_X10_isSlot d [.int x1] n h (fun v1 h1 => (((v1 = (0 : Int32)) → (Q (some (.int (-1 : Int32))) n h1)) ∧ ((¬ v1 = (0 : Int32)) → (CallI g m_X10_isSlot d [.int x2] n h1 (fun v2 h2 => (((¬ v2 = (0 : Int32)) → (vp_in x1 12 ∧ ∀ r3, r3 = 10245 + 9 * (x1).toNatClampNeg → (vp_in x2 12 ∧ ∀ r4, r4 = 10245 + 9 * (x2).toNatClampNeg → (((¬ (ri h2 r3 0) = (3 : Int32)) → (Q (some (.int (-3 : Int32))) n h2)) ∧ (((ri h2 r3 0) = (3 : Int32)) → ((((ri h2 r4 0) = (1 : Int32)) → (W_X10_check g d av Q n 60 [some (.ref 2759), none, none, some (.ref r3), some (.ref r4), none, none, none, none, none, none, none, none] [] h2)) ∧ ((¬ (ri h2 r4 0) = (1 : Int32)) → ((((ri h2 r4 0) = (2 : Int32)) → (W_X10_check g d av Q n 60 [some (.ref 2759), none, none, some (.ref r3), some (.ref r4), none, none, none, none, none, none, none, none] [] h2)) ∧ ((¬ (ri h2 r4 0) = (2 : Int32)) → (Q (some (.int (-3 : Int32))) n h2)))))))))) ∧ ((v2 = (0 : Int32)) → (Q (some (.int (-1 : Int32))) n h2))))))))) : W_X10_check g d av Q n 0 [some (.ref 2759), some (.int x1), some (.int x2), none, none, none, none, none, none, none, none, none, none] [] h := by
  refine r_iload_n dX10_check_0 rfl rfl ?_
  refine k_SI (As := [.int x1]) (stk := []) cs_X10_551 dX10_check_1 rfl (Nat.le_of_ble_eq_true rfl) (H.mono (fun v1 h1 H => ?_)) ⟨Nat.le_refl _, Nat.le_refl _⟩
  refine r_if_eq (tgt := 14) dX10_check_4 rfl (fun cH => ?_) (fun cH => ?_)
  · replace H := H.1 cH
    refine r_iconst (v := (-1 : Int32)) dX10_check_14 rfl ?_
    exact r_zret dX10_check_15 rfl rfl (Nat.le_refl _) (Nat.le_refl _) H
  · replace H := H.2 cH
    refine r_iload_n dX10_check_7 rfl rfl ?_
    refine k_SI (As := [.int x2]) (stk := []) cs_X10_551 dX10_check_8 rfl (Nat.le_of_ble_eq_true rfl) (H.mono (fun v2 h2 H => ?_)) ⟨Nat.le_refl _, Nat.le_refl _⟩
    refine r_if_ne (tgt := 16) dX10_check_11 rfl (fun cH => ?_) (fun cH => ?_)
    · replace H := H.1 cH
      refine r_aload_n dX10_check_16 rfl rfl ?_
      refine m_getF (x := 2841) hp fw_X10_450 dX10_check_17 rfl ly_10 (ff_10_20 ly_10) ?_
      refine r_iload_n dX10_check_20 rfl rfl ?_
      obtain ⟨r3, er3⟩ : ∃ y, y = 10245 + 9 * (x1).toNatClampNeg := ⟨_, rfl⟩
      have hir3 := H.1
      replace H := H.2 r3 er3
      have tLr3 := la_2841 hir3 er3
      refine m_aalF (x := r3) hp dX10_check_21 (lf_10_20 ly_10) rfl rfl (lu_10_20 ly_10) hir3 (fa_2841 hir3 er3) ?_
      refine r_astore_n (ls2 := [some (.ref 2759), some (.int x1), some (.int x2), some (.ref r3), none, none, none, none, none, none, none, none, none]) dX10_check_22 rfl (by decide) rfl ?_
      refine r_aload_n dX10_check_23 rfl rfl ?_
      refine m_getF (x := 2841) hp fw_X10_450 dX10_check_24 rfl ly_10 (ff_10_20 ly_10) ?_
      refine r_iload_n dX10_check_27 rfl rfl ?_
      obtain ⟨r4, er4⟩ : ∃ y, y = 10245 + 9 * (x2).toNatClampNeg := ⟨_, rfl⟩
      have hir4 := H.1
      replace H := H.2 r4 er4
      have tLr4 := la_2841 hir4 er4
      refine m_aalF (x := r4) hp dX10_check_28 (lf_10_20 ly_10) rfl rfl (lu_10_20 ly_10) hir4 (fa_2841 hir4 er4) ?_
      refine r_astore (ls2 := [some (.ref 2759), some (.int x1), some (.int x2), some (.ref r3), some (.ref r4), none, none, none, none, none, none, none, none]) dX10_check_29 (by decide) rfl ?_
      refine r_aload_n dX10_check_31 rfl rfl ?_
      refine m_getI hp fw_X10_202 dX10_check_32 rfl tLr3 ?_
      refine r_iconst (v := (3 : Int32)) dX10_check_35 rfl ?_
      refine r_icmp_ne (tgt := 57) dX10_check_36 rfl (fun cH => ?_) (fun cH => ?_)
      · replace H := H.1 cH
        refine r_bipush (v := (-3 : Int32)) dX10_check_57 rfl ?_
        exact r_zret dX10_check_59 rfl rfl (Nat.le_refl _) (Nat.le_refl _) H
      · replace H := H.2 cH
        refine r_aload dX10_check_39 rfl ?_
        refine m_getI hp fw_X10_202 dX10_check_41 rfl tLr4 ?_
        refine r_iconst (v := (1 : Int32)) dX10_check_44 rfl ?_
        refine r_icmp_eq (tgt := 60) dX10_check_45 rfl (fun cH => ?_) (fun cH => ?_)
        · replace H := H.1 cH
          refine r_prune [true, false, false, true, true, false, false, false, false, false, false, false, false] (ls2 := [some (.ref 2759), none, none, some (.ref r3), some (.ref r4), none, none, none, none, none, none, none, none]) rfl ?_
          exact H
        · replace H := H.2 cH
          refine r_aload dX10_check_48 rfl ?_
          refine m_getI hp fw_X10_202 dX10_check_50 rfl tLr4 ?_
          refine r_iconst (v := (2 : Int32)) dX10_check_53 rfl ?_
          refine r_icmp_eq (tgt := 60) dX10_check_54 rfl (fun cH => ?_) (fun cH => ?_)
          · replace H := H.1 cH
            refine r_prune [true, false, false, true, true, false, false, false, false, false, false, false, false] (ls2 := [some (.ref 2759), none, none, some (.ref r3), some (.ref r4), none, none, none, none, none, none, none, none]) rfl ?_
            exact H
          · replace H := H.2 cH
            refine r_bipush (v := (-3 : Int32)) dX10_check_57 rfl ?_
            exact r_zret dX10_check_59 rfl rfl (Nat.le_refl _) (Nat.le_refl _) H
    · replace H := H.2 cH
      refine r_iconst (v := (-1 : Int32)) dX10_check_14 rfl ?_
      exact r_zret dX10_check_15 rfl rfl (Nat.le_refl _) (Nat.le_refl _) H
theorem s_X10_check_60 {g : GX} {d : Nat} {av : List Value} {Q : QT} {n : Nat} {h : Hp} {a3 : Nat} {a4 : Nat} (hp : g.2.2.2.2 = true) (t3 : lay a3 = (0, 11, 15)) (t4 : lay a4 = (0, 11, 15)) (H : CallI g m_X10_isZero d [.ref a4] n h (fun v1 h1 => (((v1 = (0 : Int32)) → (CallV g m_X10_begin d [.ref 2759] n h1 (fun h2 => (W_X10_check g d av Q n 84 [some (.ref 2759), none, none, some (.ref a3), some (.ref a4), some (.int (24 : Int32)), some (.int (0 : Int32)), some (.int (0 : Int32)), none, none, none, none, none] [] h2)))) ∧ ((¬ v1 = (0 : Int32)) → (Q (some (.int (-1 : Int32))) n h1))))) : W_X10_check g d av Q n 60 [some (.ref 2759), none, none, some (.ref a3), some (.ref a4), none, none, none, none, none, none, none, none] [] h := by
  refine r_aload dX10_check_60 rfl ?_
  refine k_SI (As := [.ref a4]) (stk := []) cs_X10_288 dX10_check_62 rfl (Nat.le_of_ble_eq_true rfl) (H.mono (fun v1 h1 H => ?_)) ⟨Nat.le_refl _, Nat.le_refl _⟩
  refine r_if_eq (tgt := 70) dX10_check_65 rfl (fun cH => ?_) (fun cH => ?_)
  · replace H := H.1 cH
    refine r_aload_n dX10_check_70 rfl rfl ?_
    refine k_VV (As := []) (stk := []) hp cv_X10_555 dX10_check_71 rfl (Nat.le_of_ble_eq_true rfl) ly_10 (H.mono (fun h2 H => ?_)) ⟨Nat.le_refl _, Nat.le_refl _⟩
    refine r_bipush (v := (24 : Int32)) dX10_check_74 rfl ?_
    refine r_istore (ls2 := [some (.ref 2759), none, none, some (.ref a3), some (.ref a4), some (.int (24 : Int32)), none, none, none, none, none, none, none]) dX10_check_76 (by decide) rfl ?_
    refine r_iconst (v := (0 : Int32)) dX10_check_78 rfl ?_
    refine r_istore (ls2 := [some (.ref 2759), none, none, some (.ref a3), some (.ref a4), some (.int (24 : Int32)), some (.int (0 : Int32)), none, none, none, none, none, none]) dX10_check_79 (by decide) rfl ?_
    refine r_iconst (v := (0 : Int32)) dX10_check_81 rfl ?_
    refine r_istore (ls2 := [some (.ref 2759), none, none, some (.ref a3), some (.ref a4), some (.int (24 : Int32)), some (.int (0 : Int32)), some (.int (0 : Int32)), none, none, none, none, none]) dX10_check_82 (by decide) rfl ?_
    exact H
  · replace H := H.2 cH
    refine r_iconst (v := (-1 : Int32)) dX10_check_68 rfl ?_
    exact r_zret dX10_check_69 rfl rfl (Nat.le_refl _) (Nat.le_refl _) H
theorem s_X10_check_84 {g : GX} {d : Nat} {av : List Value} {Q : QT} {n : Nat} {h : Hp} {a3 : Nat} {a4 : Nat} {x5 : Int32} {x6 : Int32} {x7 : Int32} (hp : g.2.2.2.2 = true) (t3 : lay a3 = (0, 11, 15)) (t4 : lay a4 = (0, 11, 15)) (H : (((ri h a3 10) < x7) → (CallR g m_X10_newB d [.ref 2759] n h (fun v1 h1 => (lay v1 = (0, 14, 2) ∧ (CallR g m_X10_newB d [.ref 2759] n h1 (fun v2 h2 => (lay v2 = (0, 14, 2) ∧ (CallI g m_X10_quotient_2 d [.ref 2759, .ref v1, .ref v2, .ref a4, .int (0 : Int32), .int (1 : Int32)] n h2 (fun v3 h3 => (((¬ v3 = (0 : Int32)) → (CallR g m_X10_newB d [.ref 2759] n h3 (fun v4 h4 => (lay v4 = (0, 14, 2) ∧ (CallR g m_X10_newB d [.ref 2759] n h4 (fun v5 h5 => (lay v5 = (0, 14, 2) ∧ (CallV g m_X10_load d [.ref v4, .ref (a3 + 1)] n h5 (fun h6 => (CallV g m_X10_load d [.ref v5, .ref (a3 + 2)] n h6 (fun h7 => (CallI g m_X14_degreeN d [.ref v1] n h7 (fun v8 h8 => (CallI g m_X14_degreeN d [.ref v2] n h8 (fun v9 h9 => (CallI g m_J3_max d [.int v8, .int v9] n h9 (fun v10 h10 => (CallI g m_X14_degreeN d [.ref v4] n h10 (fun v11 h11 => (CallI g m_X14_degreeN d [.ref v5] n h11 (fun v12 h12 => (CallI g m_J3_max d [.int v11, .int v12] n h12 (fun v13 h13 => (CallI g m_X14_degreeK d [.ref v1] n h13 (fun v14 h14 => (CallI g m_X14_degreeK d [.ref v2] n h14 (fun v15 h15 => (CallI g m_J3_max d [.int v14, .int v15] n h15 (fun v16 h16 => (CallI g m_X14_degreeK d [.ref v4] n h16 (fun v17 h17 => (CallI g m_X14_degreeK d [.ref v5] n h17 (fun v18 h18 => (CallI g m_J3_max d [.int v17, .int v18] n h18 (fun v19 h19 => (W_X10_check g d av Q n 337 [some (.ref 2759), none, none, some (.ref a3), none, some (.int (x5 + (v10 + ((2 : Int32) * v13)))), some (.int (x6 + (v16 + ((2 : Int32) * v19)))), some (.ref v1), some (.ref v2), some (.ref v4), some (.ref v5), some (.int (0 : Int32)), none] [] h19)))))))))))))))))))))))))))))))))))) ∧ ((v3 = (0 : Int32)) → (Q (some (.int (-2 : Int32))) n h3)))))))))))) ∧ ((¬ (ri h a3 10) < x7) → (CallR g m_X10_newB d [.ref 2759] n h (fun v20 h20 => (lay v20 = (0, 14, 2) ∧ (vp_in x7 4 ∧ fin 2950 (x7).toNatClampNeg = none ∧ ∀ h21, h21 = wr h20 2950 (x7).toNatClampNeg (some v20) → (CallR g m_X10_newB d [.ref 2759] n h21 (fun v22 h22 => (lay v22 = (0, 14, 2) ∧ (vp_in x7 4 ∧ fin 2951 (x7).toNatClampNeg = none ∧ ∀ h23, h23 = wr h22 2951 (x7).toNatClampNeg (some v22) → (vp_in x7 4 ∧ ∃ r24, rr h23 2950 (x7).toNatClampNeg = some r24 ∧ lay r24 = (0, 14, 2) ∧ (vp_in x7 4 ∧ ∃ r25, rr h23 2951 (x7).toNatClampNeg = some r25 ∧ lay r25 = (0, 14, 2) ∧ (CallI g m_X10_quotient_2 d [.ref 2759, .ref r24, .ref r25, .ref a4, .int x7, .int (0 : Int32)] n h23 (fun v26 h26 => (((¬ v26 = (0 : Int32)) → (vp_in x7 4 ∧ ∃ r27, rr h26 2950 (x7).toNatClampNeg = some r27 ∧ lay r27 = (0, 14, 2) ∧ (CallI g m_X14_degreeN d [.ref r27] n h26 (fun v28 h28 => (vp_in x7 4 ∧ ∃ r29, rr h28 2951 (x7).toNatClampNeg = some r29 ∧ lay r29 = (0, 14, 2) ∧ (CallI g m_X14_degreeN d [.ref r29] n h28 (fun v30 h30 => (CallI g m_J3_max d [.int v28, .int v30] n h30 (fun v31 h31 => (vp_in x7 4 ∧ ∃ r32, rr h31 2950 (x7).toNatClampNeg = some r32 ∧ lay r32 = (0, 14, 2) ∧ (CallI g m_X14_degreeK d [.ref r32] n h31 (fun v33 h33 => (vp_in x7 4 ∧ ∃ r34, rr h33 2951 (x7).toNatClampNeg = some r34 ∧ lay r34 = (0, 14, 2) ∧ (CallI g m_X14_degreeK d [.ref r34] n h33 (fun v35 h35 => (CallI g m_J3_max d [.int v33, .int v35] n h35 (fun v36 h36 => (W_X10_check g d av Q n 84 [some (.ref 2759), none, none, some (.ref a3), some (.ref a4), some (.int (x5 + v31)), some (.int (x6 + v36)), some (.int (x7 + (1 : Int32))), none, none, none, none, none] [] h36)))))))))))))))))) ∧ ((v26 = (0 : Int32)) → (Q (some (.int (-2 : Int32))) n h26))))))))))))))))) : W_X10_check g d av Q n 84 [some (.ref 2759), none, none, some (.ref a3), some (.ref a4), some (.int x5), some (.int x6), some (.int x7), none, none, none, none, none] [] h := by
  refine r_iload dX10_check_84 rfl ?_
  refine r_aload_n dX10_check_86 rfl rfl ?_
  refine m_getI hp fw_X10_234 dX10_check_87 rfl t3 ?_
  refine r_icmp_gt (tgt := 206) dX10_check_90 rfl (fun cH => ?_) (fun cH => ?_)
  · replace H := H.1 cH
    refine r_aload_n dX10_check_206 rfl rfl ?_
    refine k_VR (As := []) (stk := []) hp cv_X10_140 dX10_check_207 rfl (Nat.le_of_ble_eq_true rfl) ly_10 (H.mono (fun v1 h1 H => ?_)) ⟨Nat.le_refl _, Nat.le_refl _⟩
    obtain ⟨tv1, H⟩ := H
    refine r_astore (ls2 := [some (.ref 2759), none, none, some (.ref a3), some (.ref a4), some (.int x5), some (.int x6), some (.ref v1), none, none, none, none, none]) dX10_check_210 (by decide) rfl ?_
    refine r_aload_n dX10_check_212 rfl rfl ?_
    refine k_VR (As := []) (stk := []) hp cv_X10_140 dX10_check_213 rfl (Nat.le_of_ble_eq_true rfl) ly_10 (H.mono (fun v2 h2 H => ?_)) ⟨Nat.le_refl _, Nat.le_refl _⟩
    obtain ⟨tv2, H⟩ := H
    refine r_astore (ls2 := [some (.ref 2759), none, none, some (.ref a3), some (.ref a4), some (.int x5), some (.int x6), some (.ref v1), some (.ref v2), none, none, none, none]) dX10_check_216 (by decide) rfl ?_
    refine r_aload_n dX10_check_218 rfl rfl ?_
    refine r_aload dX10_check_219 rfl ?_
    refine r_aload dX10_check_221 rfl ?_
    refine r_aload dX10_check_223 rfl ?_
    refine r_iconst (v := (0 : Int32)) dX10_check_225 rfl ?_
    refine r_iconst (v := (1 : Int32)) dX10_check_226 rfl ?_
    refine k_VI (As := [.ref v1, .ref v2, .ref a4, .int (0 : Int32), .int (1 : Int32)]) (stk := []) hp cv_X10_633 dX10_check_227 rfl (Nat.le_of_ble_eq_true rfl) ly_10 (H.mono (fun v3 h3 H => ?_)) ⟨Nat.le_refl _, Nat.le_refl _⟩
    refine r_if_ne (tgt := 236) dX10_check_230 rfl (fun cH => ?_) (fun cH => ?_)
    · replace H := H.1 cH
      refine r_aload_n dX10_check_236 rfl rfl ?_
      refine k_VR (As := []) (stk := []) hp cv_X10_140 dX10_check_237 rfl (Nat.le_of_ble_eq_true rfl) ly_10 (H.mono (fun v4 h4 H => ?_)) ⟨Nat.le_refl _, Nat.le_refl _⟩
      obtain ⟨tv4, H⟩ := H
      refine r_astore (ls2 := [some (.ref 2759), none, none, some (.ref a3), some (.ref a4), some (.int x5), some (.int x6), some (.ref v1), some (.ref v2), some (.ref v4), none, none, none]) dX10_check_240 (by decide) rfl ?_
      refine r_aload_n dX10_check_242 rfl rfl ?_
      refine k_VR (As := []) (stk := []) hp cv_X10_140 dX10_check_243 rfl (Nat.le_of_ble_eq_true rfl) ly_10 (H.mono (fun v5 h5 H => ?_)) ⟨Nat.le_refl _, Nat.le_refl _⟩
      obtain ⟨tv5, H⟩ := H
      refine r_astore (ls2 := [some (.ref 2759), none, none, some (.ref a3), some (.ref a4), some (.int x5), some (.int x6), some (.ref v1), some (.ref v2), some (.ref v4), some (.ref v5), none, none]) dX10_check_246 (by decide) rfl ?_
      refine r_aload dX10_check_248 rfl ?_
      refine r_aload_n dX10_check_250 rfl rfl ?_
      refine m_getF (x := (a3 + 1)) hp fw_X10_207 dX10_check_251 rfl t3 (ff_11_1 t3) ?_
      refine k_SV (As := [.ref v4, .ref (a3 + 1)]) (stk := []) cs_X10_295 dX10_check_254 rfl (Nat.le_of_ble_eq_true rfl) (H.mono (fun h6 H => ?_)) ⟨Nat.le_refl _, Nat.le_refl _⟩
      refine r_aload dX10_check_257 rfl ?_
      refine r_aload_n dX10_check_259 rfl rfl ?_
      refine m_getF (x := (a3 + 2)) hp fw_X10_210 dX10_check_260 rfl t3 (ff_11_2 t3) ?_
      refine k_SV (As := [.ref v5, .ref (a3 + 2)]) (stk := []) cs_X10_295 dX10_check_263 rfl (Nat.le_of_ble_eq_true rfl) (H.mono (fun h7 H => ?_)) ⟨Nat.le_refl _, Nat.le_refl _⟩
      refine r_iload dX10_check_266 rfl ?_
      refine r_aload dX10_check_268 rfl ?_
      refine k_VI (As := []) (stk := [.int x5]) hp cv_X10_119 dX10_check_270 rfl (Nat.le_of_ble_eq_true rfl) tv1 (H.mono (fun v8 h8 H => ?_)) ⟨Nat.le_refl _, Nat.le_refl _⟩
      refine r_aload dX10_check_273 rfl ?_
      refine k_VI (As := []) (stk := [.int v8, .int x5]) hp cv_X10_119 dX10_check_275 rfl (Nat.le_of_ble_eq_true rfl) tv2 (H.mono (fun v9 h9 H => ?_)) ⟨Nat.le_refl _, Nat.le_refl _⟩
      refine k_SI (As := [.int v8, .int v9]) (stk := [.int x5]) cs_X10_40 dX10_check_278 rfl (Nat.le_of_ble_eq_true rfl) (H.mono (fun v10 h10 H => ?_)) ⟨Nat.le_refl _, Nat.le_refl _⟩
      refine r_iconst (v := (2 : Int32)) dX10_check_281 rfl ?_
      refine r_aload dX10_check_282 rfl ?_
      refine k_VI (As := []) (stk := [.int (2 : Int32), .int v10, .int x5]) hp cv_X10_119 dX10_check_284 rfl (Nat.le_of_ble_eq_true rfl) tv4 (H.mono (fun v11 h11 H => ?_)) ⟨Nat.le_refl _, Nat.le_refl _⟩
      refine r_aload dX10_check_287 rfl ?_
      refine k_VI (As := []) (stk := [.int v11, .int (2 : Int32), .int v10, .int x5]) hp cv_X10_119 dX10_check_289 rfl (Nat.le_of_ble_eq_true rfl) tv5 (H.mono (fun v12 h12 H => ?_)) ⟨Nat.le_refl _, Nat.le_refl _⟩
      refine k_SI (As := [.int v11, .int v12]) (stk := [.int (2 : Int32), .int v10, .int x5]) cs_X10_40 dX10_check_292 rfl (Nat.le_of_ble_eq_true rfl) (H.mono (fun v13 h13 H => ?_)) ⟨Nat.le_refl _, Nat.le_refl _⟩
      refine r_imul dX10_check_295 ?_
      refine r_iadd dX10_check_296 ?_
      refine r_iadd dX10_check_297 ?_
      refine r_istore (ls2 := [some (.ref 2759), none, none, some (.ref a3), some (.ref a4), some (.int (x5 + (v10 + ((2 : Int32) * v13)))), some (.int x6), some (.ref v1), some (.ref v2), some (.ref v4), some (.ref v5), none, none]) dX10_check_298 (by decide) rfl ?_
      refine r_iload dX10_check_300 rfl ?_
      refine r_aload dX10_check_302 rfl ?_
      refine k_VI (As := []) (stk := [.int x6]) hp cv_X10_314 dX10_check_304 rfl (Nat.le_of_ble_eq_true rfl) tv1 (H.mono (fun v14 h14 H => ?_)) ⟨Nat.le_refl _, Nat.le_refl _⟩
      refine r_aload dX10_check_307 rfl ?_
      refine k_VI (As := []) (stk := [.int v14, .int x6]) hp cv_X10_314 dX10_check_309 rfl (Nat.le_of_ble_eq_true rfl) tv2 (H.mono (fun v15 h15 H => ?_)) ⟨Nat.le_refl _, Nat.le_refl _⟩
      refine k_SI (As := [.int v14, .int v15]) (stk := [.int x6]) cs_X10_40 dX10_check_312 rfl (Nat.le_of_ble_eq_true rfl) (H.mono (fun v16 h16 H => ?_)) ⟨Nat.le_refl _, Nat.le_refl _⟩
      refine r_iconst (v := (2 : Int32)) dX10_check_315 rfl ?_
      refine r_aload dX10_check_316 rfl ?_
      refine k_VI (As := []) (stk := [.int (2 : Int32), .int v16, .int x6]) hp cv_X10_314 dX10_check_318 rfl (Nat.le_of_ble_eq_true rfl) tv4 (H.mono (fun v17 h17 H => ?_)) ⟨Nat.le_refl _, Nat.le_refl _⟩
      refine r_aload dX10_check_321 rfl ?_
      refine k_VI (As := []) (stk := [.int v17, .int (2 : Int32), .int v16, .int x6]) hp cv_X10_314 dX10_check_323 rfl (Nat.le_of_ble_eq_true rfl) tv5 (H.mono (fun v18 h18 H => ?_)) ⟨Nat.le_refl _, Nat.le_refl _⟩
      refine k_SI (As := [.int v17, .int v18]) (stk := [.int (2 : Int32), .int v16, .int x6]) cs_X10_40 dX10_check_326 rfl (Nat.le_of_ble_eq_true rfl) (H.mono (fun v19 h19 H => ?_)) ⟨Nat.le_refl _, Nat.le_refl _⟩
      refine r_imul dX10_check_329 ?_
      refine r_iadd dX10_check_330 ?_
      refine r_iadd dX10_check_331 ?_
      refine r_istore (ls2 := [some (.ref 2759), none, none, some (.ref a3), some (.ref a4), some (.int (x5 + (v10 + ((2 : Int32) * v13)))), some (.int (x6 + (v16 + ((2 : Int32) * v19)))), some (.ref v1), some (.ref v2), some (.ref v4), some (.ref v5), none, none]) dX10_check_332 (by decide) rfl ?_
      refine r_iconst (v := (0 : Int32)) dX10_check_334 rfl ?_
      refine r_istore (ls2 := [some (.ref 2759), none, none, some (.ref a3), some (.ref a4), some (.int (x5 + (v10 + ((2 : Int32) * v13)))), some (.int (x6 + (v16 + ((2 : Int32) * v19)))), some (.ref v1), some (.ref v2), some (.ref v4), some (.ref v5), some (.int (0 : Int32)), none]) dX10_check_335 (by decide) rfl ?_
      refine r_prune [true, false, false, true, false, true, true, true, true, true, true, true, false] (ls2 := [some (.ref 2759), none, none, some (.ref a3), none, some (.int (x5 + (v10 + ((2 : Int32) * v13)))), some (.int (x6 + (v16 + ((2 : Int32) * v19)))), some (.ref v1), some (.ref v2), some (.ref v4), some (.ref v5), some (.int (0 : Int32)), none]) rfl ?_
      exact H
    · replace H := H.2 cH
      refine r_bipush (v := (-2 : Int32)) dX10_check_233 rfl ?_
      exact r_zret dX10_check_235 rfl rfl (Nat.le_refl _) (Nat.le_refl _) H
  · replace H := H.2 cH
    refine r_aload_n dX10_check_93 rfl rfl ?_
    refine m_getF (x := 2950) hp fw_X10_511 dX10_check_94 rfl ly_10 (ff_10_53 ly_10) ?_
    refine r_iload dX10_check_97 rfl ?_
    refine r_aload_n dX10_check_99 rfl rfl ?_
    refine k_VR (As := []) (stk := [.int x7, .ref 2950]) hp cv_X10_140 dX10_check_100 rfl (Nat.le_of_ble_eq_true rfl) ly_10 (H.mono (fun v20 h20 H => ?_)) ⟨Nat.le_refl _, Nat.le_refl _⟩
    obtain ⟨tv20, H⟩ := H
    refine m_aast (nf := 0) hp dX10_check_103 (lf_10_53 ly_10) rfl (cw14).1 tv20 (lu_10_53 ly_10) H.1 H.2.1 (fun h21 eh21 => ?_)
    replace H := H.2.2 h21 eh21
    refine r_aload_n dX10_check_104 rfl rfl ?_
    refine m_getF (x := 2951) hp fw_X10_514 dX10_check_105 rfl ly_10 (ff_10_54 ly_10) ?_
    refine r_iload dX10_check_108 rfl ?_
    refine r_aload_n dX10_check_110 rfl rfl ?_
    refine k_VR (As := []) (stk := [.int x7, .ref 2951]) hp cv_X10_140 dX10_check_111 rfl (Nat.le_of_ble_eq_true rfl) ly_10 (H.mono (fun v22 h22 H => ?_)) ⟨Nat.le_refl _, Nat.le_refl _⟩
    obtain ⟨tv22, H⟩ := H
    refine m_aast (nf := 0) hp dX10_check_114 (lf_10_54 ly_10) rfl (cw14).1 tv22 (lu_10_54 ly_10) H.1 H.2.1 (fun h23 eh23 => ?_)
    replace H := H.2.2 h23 eh23
    refine r_aload_n dX10_check_115 rfl rfl ?_
    refine r_aload_n dX10_check_116 rfl rfl ?_
    refine m_getF (x := 2950) hp fw_X10_511 dX10_check_117 rfl ly_10 (ff_10_53 ly_10) ?_
    refine r_iload dX10_check_120 rfl ?_
    have hir24 := H.1
    obtain ⟨r24, er24, tr24, H⟩ := H.2
    refine m_aalM (x := r24) hp dX10_check_122 (lf_10_53 ly_10) rfl rfl (lu_10_53 ly_10) hir24 er24 ?_
    refine r_aload_n dX10_check_123 rfl rfl ?_
    refine m_getF (x := 2951) hp fw_X10_514 dX10_check_124 rfl ly_10 (ff_10_54 ly_10) ?_
    refine r_iload dX10_check_127 rfl ?_
    have hir25 := H.1
    obtain ⟨r25, er25, tr25, H⟩ := H.2
    refine m_aalM (x := r25) hp dX10_check_129 (lf_10_54 ly_10) rfl rfl (lu_10_54 ly_10) hir25 er25 ?_
    refine r_aload dX10_check_130 rfl ?_
    refine r_iload dX10_check_132 rfl ?_
    refine r_iconst (v := (0 : Int32)) dX10_check_134 rfl ?_
    refine k_VI (As := [.ref r24, .ref r25, .ref a4, .int x7, .int (0 : Int32)]) (stk := []) hp cv_X10_633 dX10_check_135 rfl (Nat.le_of_ble_eq_true rfl) ly_10 (H.mono (fun v26 h26 H => ?_)) ⟨Nat.le_refl _, Nat.le_refl _⟩
    refine r_if_ne (tgt := 144) dX10_check_138 rfl (fun cH => ?_) (fun cH => ?_)
    · replace H := H.1 cH
      refine r_iload dX10_check_144 rfl ?_
      refine r_aload_n dX10_check_146 rfl rfl ?_
      refine m_getF (x := 2950) hp fw_X10_511 dX10_check_147 rfl ly_10 (ff_10_53 ly_10) ?_
      refine r_iload dX10_check_150 rfl ?_
      have hir27 := H.1
      obtain ⟨r27, er27, tr27, H⟩ := H.2
      refine m_aalM (x := r27) hp dX10_check_152 (lf_10_53 ly_10) rfl rfl (lu_10_53 ly_10) hir27 er27 ?_
      refine k_VI (As := []) (stk := [.int x5]) hp cv_X10_119 dX10_check_153 rfl (Nat.le_of_ble_eq_true rfl) tr27 (H.mono (fun v28 h28 H => ?_)) ⟨Nat.le_refl _, Nat.le_refl _⟩
      refine r_aload_n dX10_check_156 rfl rfl ?_
      refine m_getF (x := 2951) hp fw_X10_514 dX10_check_157 rfl ly_10 (ff_10_54 ly_10) ?_
      refine r_iload dX10_check_160 rfl ?_
      have hir29 := H.1
      obtain ⟨r29, er29, tr29, H⟩ := H.2
      refine m_aalM (x := r29) hp dX10_check_162 (lf_10_54 ly_10) rfl rfl (lu_10_54 ly_10) hir29 er29 ?_
      refine k_VI (As := []) (stk := [.int v28, .int x5]) hp cv_X10_119 dX10_check_163 rfl (Nat.le_of_ble_eq_true rfl) tr29 (H.mono (fun v30 h30 H => ?_)) ⟨Nat.le_refl _, Nat.le_refl _⟩
      refine k_SI (As := [.int v28, .int v30]) (stk := [.int x5]) cs_X10_40 dX10_check_166 rfl (Nat.le_of_ble_eq_true rfl) (H.mono (fun v31 h31 H => ?_)) ⟨Nat.le_refl _, Nat.le_refl _⟩
      refine r_iadd dX10_check_169 ?_
      refine r_istore (ls2 := [some (.ref 2759), none, none, some (.ref a3), some (.ref a4), some (.int (x5 + v31)), some (.int x6), some (.int x7), none, none, none, none, none]) dX10_check_170 (by decide) rfl ?_
      refine r_iload dX10_check_172 rfl ?_
      refine r_aload_n dX10_check_174 rfl rfl ?_
      refine m_getF (x := 2950) hp fw_X10_511 dX10_check_175 rfl ly_10 (ff_10_53 ly_10) ?_
      refine r_iload dX10_check_178 rfl ?_
      have hir32 := H.1
      obtain ⟨r32, er32, tr32, H⟩ := H.2
      refine m_aalM (x := r32) hp dX10_check_180 (lf_10_53 ly_10) rfl rfl (lu_10_53 ly_10) hir32 er32 ?_
      refine k_VI (As := []) (stk := [.int x6]) hp cv_X10_314 dX10_check_181 rfl (Nat.le_of_ble_eq_true rfl) tr32 (H.mono (fun v33 h33 H => ?_)) ⟨Nat.le_refl _, Nat.le_refl _⟩
      refine r_aload_n dX10_check_184 rfl rfl ?_
      refine m_getF (x := 2951) hp fw_X10_514 dX10_check_185 rfl ly_10 (ff_10_54 ly_10) ?_
      refine r_iload dX10_check_188 rfl ?_
      have hir34 := H.1
      obtain ⟨r34, er34, tr34, H⟩ := H.2
      refine m_aalM (x := r34) hp dX10_check_190 (lf_10_54 ly_10) rfl rfl (lu_10_54 ly_10) hir34 er34 ?_
      refine k_VI (As := []) (stk := [.int v33, .int x6]) hp cv_X10_314 dX10_check_191 rfl (Nat.le_of_ble_eq_true rfl) tr34 (H.mono (fun v35 h35 H => ?_)) ⟨Nat.le_refl _, Nat.le_refl _⟩
      refine k_SI (As := [.int v33, .int v35]) (stk := [.int x6]) cs_X10_40 dX10_check_194 rfl (Nat.le_of_ble_eq_true rfl) (H.mono (fun v36 h36 H => ?_)) ⟨Nat.le_refl _, Nat.le_refl _⟩
      refine r_iadd dX10_check_197 ?_
      refine r_istore (ls2 := [some (.ref 2759), none, none, some (.ref a3), some (.ref a4), some (.int (x5 + v31)), some (.int (x6 + v36)), some (.int x7), none, none, none, none, none]) dX10_check_198 (by decide) rfl ?_
      refine r_iinc (v := (x7 + (1 : Int32))) (ls2 := [some (.ref 2759), none, none, some (.ref a3), some (.ref a4), some (.int (x5 + v31)), some (.int (x6 + v36)), some (.int (x7 + (1 : Int32))), none, none, none, none, none]) dX10_check_200 rfl rfl (by decide) rfl ?_
      refine r_goto (tgt := 84) dX10_check_203 rfl ?_
      exact H
    · replace H := H.2 cH
      refine r_bipush (v := (-2 : Int32)) dX10_check_141 rfl ?_
      exact r_zret dX10_check_143 rfl rfl (Nat.le_refl _) (Nat.le_refl _) H
theorem s_X10_check_337 {g : GX} {d : Nat} {av : List Value} {Q : QT} {n : Nat} {h : Hp} {a3 : Nat} {x5 : Int32} {x6 : Int32} {a7 : Nat} {a8 : Nat} {a9 : Nat} {a10 : Nat} {x11 : Int32} (hp : g.2.2.2.2 = true) (t3 : lay a3 = (0, 11, 15)) (t7 : lay a7 = (0, 14, 2)) (t8 : lay a8 = (0, 14, 2)) (t9 : lay a9 = (0, 14, 2)) (t10 : lay a10 = (0, 14, 2)) (H : ((x5 < x11) → (Q (some (.int (1 : Int32))) n h)) ∧ ((¬ x5 < x11) → (W_X10_check g d av Q n 347 [some (.ref 2759), none, none, some (.ref a3), none, some (.int x5), some (.int x6), some (.ref a7), some (.ref a8), some (.ref a9), some (.ref a10), some (.int x11), some (.int (0 : Int32))] [] h))) : W_X10_check g d av Q n 337 [some (.ref 2759), none, none, some (.ref a3), none, some (.int x5), some (.int x6), some (.ref a7), some (.ref a8), some (.ref a9), some (.ref a10), some (.int x11), none] [] h := by
  refine r_iload dX10_check_337 rfl ?_
  refine r_iload dX10_check_339 rfl ?_
  refine r_icmp_gt (tgt := 388) dX10_check_341 rfl (fun cH => ?_) (fun cH => ?_)
  · replace H := H.1 cH
    refine r_iconst (v := (1 : Int32)) dX10_check_388 rfl ?_
    exact r_zret dX10_check_389 rfl rfl (Nat.le_refl _) (Nat.le_refl _) H
  · replace H := H.2 cH
    refine r_iconst (v := (0 : Int32)) dX10_check_344 rfl ?_
    refine r_istore (ls2 := [some (.ref 2759), none, none, some (.ref a3), none, some (.int x5), some (.int x6), some (.ref a7), some (.ref a8), some (.ref a9), some (.ref a10), some (.int x11), some (.int (0 : Int32))]) dX10_check_345 (by decide) rfl ?_
    exact H
theorem s_X10_check_347 {g : GX} {d : Nat} {av : List Value} {Q : QT} {n : Nat} {h : Hp} {a3 : Nat} {x5 : Int32} {x6 : Int32} {a7 : Nat} {a8 : Nat} {a9 : Nat} {a10 : Nat} {x11 : Int32} {x12 : Int32} (hp : g.2.2.2.2 = true) (t3 : lay a3 = (0, 11, 15)) (t7 : lay a7 = (0, 14, 2)) (t8 : lay a8 = (0, 14, 2)) (t9 : lay a9 = (0, 14, 2)) (t10 : lay a10 = (0, 14, 2)) (H : ((x6 < x12) → (W_X10_check g d av Q n 337 [some (.ref 2759), none, none, some (.ref a3), none, some (.int x5), some (.int x6), some (.ref a7), some (.ref a8), some (.ref a9), some (.ref a10), some (.int (x11 + (1 : Int32))), none] [] h)) ∧ ((¬ x6 < x12) → (CallI g m_X10_isRight d [.ref 2759, .ref a3, .int x11, .int x12, .ref a7, .ref a8, .ref a9, .ref a10] n h (fun v1 h1 => (((¬ v1 = (0 : Int32)) → (W_X10_check g d av Q n 347 [some (.ref 2759), none, none, some (.ref a3), none, some (.int x5), some (.int x6), some (.ref a7), some (.ref a8), some (.ref a9), some (.ref a10), some (.int x11), some (.int (x12 + (1 : Int32)))] [] h1)) ∧ ((v1 = (0 : Int32)) → (Q (some (.int (0 : Int32))) n h1))))))) : W_X10_check g d av Q n 347 [some (.ref 2759), none, none, some (.ref a3), none, some (.int x5), some (.int x6), some (.ref a7), some (.ref a8), some (.ref a9), some (.ref a10), some (.int x11), some (.int x12)] [] h := by
  refine r_iload dX10_check_347 rfl ?_
  refine r_iload dX10_check_349 rfl ?_
  refine r_icmp_gt (tgt := 382) dX10_check_351 rfl (fun cH => ?_) (fun cH => ?_)
  · replace H := H.1 cH
    refine r_iinc (v := (x11 + (1 : Int32))) (ls2 := [some (.ref 2759), none, none, some (.ref a3), none, some (.int x5), some (.int x6), some (.ref a7), some (.ref a8), some (.ref a9), some (.ref a10), some (.int (x11 + (1 : Int32))), some (.int x12)]) dX10_check_382 rfl rfl (by decide) rfl ?_
    refine r_goto (tgt := 337) dX10_check_385 rfl ?_
    refine r_prune [true, false, false, true, false, true, true, true, true, true, true, true, false] (ls2 := [some (.ref 2759), none, none, some (.ref a3), none, some (.int x5), some (.int x6), some (.ref a7), some (.ref a8), some (.ref a9), some (.ref a10), some (.int (x11 + (1 : Int32))), none]) rfl ?_
    exact H
  · replace H := H.2 cH
    refine r_aload_n dX10_check_354 rfl rfl ?_
    refine r_aload_n dX10_check_355 rfl rfl ?_
    refine r_iload dX10_check_356 rfl ?_
    refine r_iload dX10_check_358 rfl ?_
    refine r_aload dX10_check_360 rfl ?_
    refine r_aload dX10_check_362 rfl ?_
    refine r_aload dX10_check_364 rfl ?_
    refine r_aload dX10_check_366 rfl ?_
    refine k_VI (As := [.ref a3, .int x11, .int x12, .ref a7, .ref a8, .ref a9, .ref a10]) (stk := []) hp cv_X10_765 dX10_check_368 rfl (Nat.le_of_ble_eq_true rfl) ly_10 (H.mono (fun v1 h1 H => ?_)) ⟨Nat.le_refl _, Nat.le_refl _⟩
    refine r_if_ne (tgt := 376) dX10_check_371 rfl (fun cH => ?_) (fun cH => ?_)
    · replace H := H.1 cH
      refine r_iinc (v := (x12 + (1 : Int32))) (ls2 := [some (.ref 2759), none, none, some (.ref a3), none, some (.int x5), some (.int x6), some (.ref a7), some (.ref a8), some (.ref a9), some (.ref a10), some (.int x11), some (.int (x12 + (1 : Int32)))]) dX10_check_376 rfl rfl (by decide) rfl ?_
      refine r_goto (tgt := 347) dX10_check_379 rfl ?_
      exact H
    · replace H := H.2 cH
      refine r_iconst (v := (0 : Int32)) dX10_check_374 rfl ?_
      exact r_zret dX10_check_375 rfl rfl (Nat.le_refl _) (Nat.le_refl _) H
abbrev W_X10_isRight (g : GX) (d : Nat) (av : List Value) (Q : QT) (n : Nat) (pc : Nat) (ls : LV) (stk : List Value) (h : Hp) : Prop := RJ g m_X10_isRight (d + 1) 0 0 av Q pc ls stk n h 0 0
theorem s_X10_isRight_0 {g : GX} {d : Nat} {av : List Value} {Q : QT} {n : Nat} {h : Hp} {a1 : Nat} {x2 : Int32} {x3 : Int32} {a4 : Nat} {a5 : Nat} {a6 : Nat} {a7 : Nat} (hp : g.2.2.2.2 = true) (t1 : lay a1 = (0, 11, 15)) (t4 : lay a4 = (0, 14, 2)) (t5 : lay a5 = (0, 14, 2)) (t6 : lay a6 = (0, 14, 2)) (t7 : lay a7 = (0, 14, 2)) (H : W_X10_isRight g d av Q n 6 [some (.ref 2759), some (.ref a1), some (.int x2), some (.int x3), some (.ref a4), some (.ref a5), some (.ref a6), some (.ref a7), some (.int (1 : Int32)), some (.int (0 : Int32)), none, none, none, none] [] h) : W_X10_isRight g d av Q n 0 [some (.ref 2759), some (.ref a1), some (.int x2), some (.int x3), some (.ref a4), some (.ref a5), some (.ref a6), some (.ref a7), none, none, none, none, none, none] [] h := by
  refine r_iconst (v := (1 : Int32)) dX10_isRight_0 rfl ?_
  refine r_istore (ls2 := [some (.ref 2759), some (.ref a1), some (.int x2), some (.int x3), some (.ref a4), some (.ref a5), some (.ref a6), some (.ref a7), some (.int (1 : Int32)), none, none, none, none, none]) dX10_isRight_1 (by decide) rfl ?_
  refine r_iconst (v := (0 : Int32)) dX10_isRight_3 rfl ?_
  refine r_istore (ls2 := [some (.ref 2759), some (.ref a1), some (.int x2), some (.int x3), some (.ref a4), some (.ref a5), some (.ref a6), some (.ref a7), some (.int (1 : Int32)), some (.int (0 : Int32)), none, none, none, none]) dX10_isRight_4 (by decide) rfl ?_
  exact H
theorem s_X10_isRight_6 {g : GX} {d : Nat} {av : List Value} {Q : QT} {n : Nat} {h : Hp} {a1 : Nat} {x2 : Int32} {x3 : Int32} {a4 : Nat} {a5 : Nat} {a6 : Nat} {a7 : Nat} {x8 : Int32} {x9 : Int32} (hp : g.2.2.2.2 = true) (t1 : lay a1 = (0, 11, 15)) (t4 : lay a4 = (0, 14, 2)) (t5 : lay a5 = (0, 14, 2)) (t6 : lay a6 = (0, 14, 2)) (t7 : lay a7 = (0, 14, 2)) (H : (((ri h a1 10) < x9) → (W_X10_isRight g d av Q n 46 [some (.ref 2759), some (.ref a1), some (.int x2), some (.int x3), some (.ref a4), some (.ref a5), some (.ref a6), some (.ref a7), some (.int x8), some (.int (0 : Int32)), some (.int (0 : Int32)), none, none, none] [] h)) ∧ ((¬ (ri h a1 10) < x9) → (vp_in x9 4 ∧ ∃ r1, rr h 2951 (x9).toNatClampNeg = some r1 ∧ lay r1 = (0, 14, 2) ∧ (CallI g m_X10_eval_2 d [.ref r1, .int x2, .int x3] n h (fun v2 h2 => (CallI g m_X10_mul d [.int x8, .int v2] n h2 (fun v3 h3 => (W_X10_isRight g d av Q n 6 [some (.ref 2759), some (.ref a1), some (.int x2), some (.int x3), some (.ref a4), some (.ref a5), some (.ref a6), some (.ref a7), some (.int v3), some (.int (x9 + (1 : Int32))), none, none, none, none] [] h3)))))))) : W_X10_isRight g d av Q n 6 [some (.ref 2759), some (.ref a1), some (.int x2), some (.int x3), some (.ref a4), some (.ref a5), some (.ref a6), some (.ref a7), some (.int x8), some (.int x9), none, none, none, none] [] h := by
  refine r_iload dX10_isRight_6 rfl ?_
  refine r_aload_n dX10_isRight_8 rfl rfl ?_
  refine m_getI hp fw_X10_234 dX10_isRight_9 rfl t1 ?_
  refine r_icmp_gt (tgt := 40) dX10_isRight_12 rfl (fun cH => ?_) (fun cH => ?_)
  · replace H := H.1 cH
    refine r_iconst (v := (0 : Int32)) dX10_isRight_40 rfl ?_
    refine r_istore (ls2 := [some (.ref 2759), some (.ref a1), some (.int x2), some (.int x3), some (.ref a4), some (.ref a5), some (.ref a6), some (.ref a7), some (.int x8), some (.int (0 : Int32)), none, none, none, none]) dX10_isRight_41 (by decide) rfl ?_
    refine r_iconst (v := (0 : Int32)) dX10_isRight_43 rfl ?_
    refine r_istore (ls2 := [some (.ref 2759), some (.ref a1), some (.int x2), some (.int x3), some (.ref a4), some (.ref a5), some (.ref a6), some (.ref a7), some (.int x8), some (.int (0 : Int32)), some (.int (0 : Int32)), none, none, none]) dX10_isRight_44 (by decide) rfl ?_
    exact H
  · replace H := H.2 cH
    refine r_iload dX10_isRight_15 rfl ?_
    refine r_aload_n dX10_isRight_17 rfl rfl ?_
    refine m_getF (x := 2951) hp fw_X10_514 dX10_isRight_18 rfl ly_10 (ff_10_54 ly_10) ?_
    refine r_iload dX10_isRight_21 rfl ?_
    have hir1 := H.1
    obtain ⟨r1, er1, tr1, H⟩ := H.2
    refine m_aalM (x := r1) hp dX10_isRight_23 (lf_10_54 ly_10) rfl rfl (lu_10_54 ly_10) hir1 er1 ?_
    refine r_iload_n dX10_isRight_24 rfl rfl ?_
    refine r_iload_n dX10_isRight_25 rfl rfl ?_
    refine k_SI (As := [.ref r1, .int x2, .int x3]) (stk := [.int x8]) cs_X10_769 dX10_isRight_26 rfl (Nat.le_of_ble_eq_true rfl) (H.mono (fun v2 h2 H => ?_)) ⟨Nat.le_refl _, Nat.le_refl _⟩
    refine k_SI (As := [.int x8, .int v2]) (stk := []) cs_X10_56 dX10_isRight_29 rfl (Nat.le_of_ble_eq_true rfl) (H.mono (fun v3 h3 H => ?_)) ⟨Nat.le_refl _, Nat.le_refl _⟩
    refine r_istore (ls2 := [some (.ref 2759), some (.ref a1), some (.int x2), some (.int x3), some (.ref a4), some (.ref a5), some (.ref a6), some (.ref a7), some (.int v3), some (.int x9), none, none, none, none]) dX10_isRight_32 (by decide) rfl ?_
    refine r_iinc (v := (x9 + (1 : Int32))) (ls2 := [some (.ref 2759), some (.ref a1), some (.int x2), some (.int x3), some (.ref a4), some (.ref a5), some (.ref a6), some (.ref a7), some (.int v3), some (.int (x9 + (1 : Int32))), none, none, none, none]) dX10_isRight_34 rfl rfl (by decide) rfl ?_
    refine r_goto (tgt := 6) dX10_isRight_37 rfl ?_
    exact H
theorem s_X10_isRight_46 {g : GX} {d : Nat} {av : List Value} {Q : QT} {n : Nat} {h : Hp} {a1 : Nat} {x2 : Int32} {x3 : Int32} {a4 : Nat} {a5 : Nat} {a6 : Nat} {a7 : Nat} {x8 : Int32} {x9 : Int32} {x10 : Int32} (hp : g.2.2.2.2 = true) (t1 : lay a1 = (0, 11, 15)) (t4 : lay a4 = (0, 14, 2)) (t5 : lay a5 = (0, 14, 2)) (t6 : lay a6 = (0, 14, 2)) (t7 : lay a7 = (0, 14, 2)) (H : (((ri h a1 10) < x10) → (CallI g m_X10_eval_2 d [.ref a7, .int x2, .int x3] n h (fun v1 h1 => (CallI g m_X10_eval_2 d [.ref a7, .int x2, .int (x3 + (1 : Int32))] n h1 (fun v2 h2 => (CallI g m_X10_eval_2 d [.ref a5, .int x2, .int x3] n h2 (fun v3 h3 => (CallI g m_X10_mul d [.int x9, .int v3] n h3 (fun v4 h4 => (CallI g m_X10_mul d [.int v1, .int v2] n h4 (fun v5 h5 => (CallI g m_X10_mul d [.int v4, .int v5] n h5 (fun v6 h6 => (CallI g m_X10_eval_2 d [.ref a6, .int x2, .int (x3 + (1 : Int32))] n h6 (fun v7 h7 => (CallI g m_X10_eval_2 d [.ref a4, .int x2, .int x3] n h7 (fun v8 h8 => (CallI g m_X10_mul d [.int v7, .int v8] n h8 (fun v9 h9 => (CallI g m_X10_mul d [.int v9, .int v1] n h9 (fun v10 h10 => (CallI g m_X10_eval_2 d [.ref a6, .int x2, .int x3] n h10 (fun v11 h11 => (CallI g m_X10_mul d [.int v11, .int v3] n h11 (fun v12 h12 => (CallI g m_X10_mul d [.int v12, .int v2] n h12 (fun v13 h13 => (CallI g m_X10_sub d [.int v10, .int v13] n h13 (fun v14 h14 => (CallI g m_X10_mul d [.int v14, .int x8] n h14 (fun v15 h15 => (((¬ v6 = v15) → (Q (some (.int (0 : Int32))) n h15)) ∧ ((v6 = v15) → (Q (some (.int (1 : Int32))) n h15)))))))))))))))))))))))))))))))))) ∧ ((¬ (ri h a1 10) < x10) → (CallI g m_X10_polynomialAt d [.ref (a1 + 7), .int ((25 : Int32) * x10), .int x2] n h (fun v16 h16 => (vp_in x10 4 ∧ ∃ r17, rr h16 2950 (x10).toNatClampNeg = some r17 ∧ lay r17 = (0, 14, 2) ∧ (CallI g m_X10_eval_2 d [.ref r17, .int x2, .int x3] n h16 (fun v18 h18 => (CallI g m_X10_mul d [.int v16, .int v18] n h18 (fun v19 h19 => (W_X10_isRight g d av Q n 88 [some (.ref 2759), some (.ref a1), some (.int x2), some (.int x3), some (.ref a4), some (.ref a5), some (.ref a6), some (.ref a7), some (.int x8), some (.int x9), some (.int x10), some (.int v19), some (.int (0 : Int32)), none] [] h19)))))))))) : W_X10_isRight g d av Q n 46 [some (.ref 2759), some (.ref a1), some (.int x2), some (.int x3), some (.ref a4), some (.ref a5), some (.ref a6), some (.ref a7), some (.int x8), some (.int x9), some (.int x10), none, none, none] [] h := by
  refine r_iload dX10_isRight_46 rfl ?_
  refine r_aload_n dX10_isRight_48 rfl rfl ?_
  refine m_getI hp fw_X10_234 dX10_isRight_49 rfl t1 ?_
  refine r_icmp_gt (tgt := 154) dX10_isRight_52 rfl (fun cH => ?_) (fun cH => ?_)
  · replace H := H.1 cH
    refine r_aload dX10_isRight_154 rfl ?_
    refine r_iload_n dX10_isRight_156 rfl rfl ?_
    refine r_iload_n dX10_isRight_157 rfl rfl ?_
    refine k_SI (As := [.ref a7, .int x2, .int x3]) (stk := []) cs_X10_769 dX10_isRight_158 rfl (Nat.le_of_ble_eq_true rfl) (H.mono (fun v1 h1 H => ?_)) ⟨Nat.le_refl _, Nat.le_refl _⟩
    refine r_istore (ls2 := [some (.ref 2759), some (.ref a1), some (.int x2), some (.int x3), some (.ref a4), some (.ref a5), some (.ref a6), some (.ref a7), some (.int x8), some (.int x9), some (.int v1), none, none, none]) dX10_isRight_161 (by decide) rfl ?_
    refine r_aload dX10_isRight_163 rfl ?_
    refine r_iload_n dX10_isRight_165 rfl rfl ?_
    refine r_iload_n dX10_isRight_166 rfl rfl ?_
    refine r_iconst (v := (1 : Int32)) dX10_isRight_167 rfl ?_
    refine r_iadd dX10_isRight_168 ?_
    refine k_SI (As := [.ref a7, .int x2, .int (x3 + (1 : Int32))]) (stk := []) cs_X10_769 dX10_isRight_169 rfl (Nat.le_of_ble_eq_true rfl) (H.mono (fun v2 h2 H => ?_)) ⟨Nat.le_refl _, Nat.le_refl _⟩
    refine r_istore (ls2 := [some (.ref 2759), some (.ref a1), some (.int x2), some (.int x3), some (.ref a4), some (.ref a5), some (.ref a6), some (.ref a7), some (.int x8), some (.int x9), some (.int v1), some (.int v2), none, none]) dX10_isRight_172 (by decide) rfl ?_
    refine r_aload dX10_isRight_174 rfl ?_
    refine r_iload_n dX10_isRight_176 rfl rfl ?_
    refine r_iload_n dX10_isRight_177 rfl rfl ?_
    refine k_SI (As := [.ref a5, .int x2, .int x3]) (stk := []) cs_X10_769 dX10_isRight_178 rfl (Nat.le_of_ble_eq_true rfl) (H.mono (fun v3 h3 H => ?_)) ⟨Nat.le_refl _, Nat.le_refl _⟩
    refine r_istore (ls2 := [some (.ref 2759), some (.ref a1), some (.int x2), some (.int x3), some (.ref a4), some (.ref a5), some (.ref a6), some (.ref a7), some (.int x8), some (.int x9), some (.int v1), some (.int v2), some (.int v3), none]) dX10_isRight_181 (by decide) rfl ?_
    refine r_iload dX10_isRight_183 rfl ?_
    refine r_iload dX10_isRight_185 rfl ?_
    refine k_SI (As := [.int x9, .int v3]) (stk := []) cs_X10_56 dX10_isRight_187 rfl (Nat.le_of_ble_eq_true rfl) (H.mono (fun v4 h4 H => ?_)) ⟨Nat.le_refl _, Nat.le_refl _⟩
    refine r_iload dX10_isRight_190 rfl ?_
    refine r_iload dX10_isRight_192 rfl ?_
    refine k_SI (As := [.int v1, .int v2]) (stk := [.int v4]) cs_X10_56 dX10_isRight_194 rfl (Nat.le_of_ble_eq_true rfl) (H.mono (fun v5 h5 H => ?_)) ⟨Nat.le_refl _, Nat.le_refl _⟩
    refine k_SI (As := [.int v4, .int v5]) (stk := []) cs_X10_56 dX10_isRight_197 rfl (Nat.le_of_ble_eq_true rfl) (H.mono (fun v6 h6 H => ?_)) ⟨Nat.le_refl _, Nat.le_refl _⟩
    refine r_istore (ls2 := [some (.ref 2759), some (.ref a1), some (.int x2), some (.int x3), some (.ref a4), some (.ref a5), some (.ref a6), some (.ref a7), some (.int x8), some (.int v6), some (.int v1), some (.int v2), some (.int v3), none]) dX10_isRight_200 (by decide) rfl ?_
    refine r_aload dX10_isRight_202 rfl ?_
    refine r_iload_n dX10_isRight_204 rfl rfl ?_
    refine r_iload_n dX10_isRight_205 rfl rfl ?_
    refine r_iconst (v := (1 : Int32)) dX10_isRight_206 rfl ?_
    refine r_iadd dX10_isRight_207 ?_
    refine k_SI (As := [.ref a6, .int x2, .int (x3 + (1 : Int32))]) (stk := []) cs_X10_769 dX10_isRight_208 rfl (Nat.le_of_ble_eq_true rfl) (H.mono (fun v7 h7 H => ?_)) ⟨Nat.le_refl _, Nat.le_refl _⟩
    refine r_aload dX10_isRight_211 rfl ?_
    refine r_iload_n dX10_isRight_213 rfl rfl ?_
    refine r_iload_n dX10_isRight_214 rfl rfl ?_
    refine k_SI (As := [.ref a4, .int x2, .int x3]) (stk := [.int v7]) cs_X10_769 dX10_isRight_215 rfl (Nat.le_of_ble_eq_true rfl) (H.mono (fun v8 h8 H => ?_)) ⟨Nat.le_refl _, Nat.le_refl _⟩
    refine k_SI (As := [.int v7, .int v8]) (stk := []) cs_X10_56 dX10_isRight_218 rfl (Nat.le_of_ble_eq_true rfl) (H.mono (fun v9 h9 H => ?_)) ⟨Nat.le_refl _, Nat.le_refl _⟩
    refine r_iload dX10_isRight_221 rfl ?_
    refine k_SI (As := [.int v9, .int v1]) (stk := []) cs_X10_56 dX10_isRight_223 rfl (Nat.le_of_ble_eq_true rfl) (H.mono (fun v10 h10 H => ?_)) ⟨Nat.le_refl _, Nat.le_refl _⟩
    refine r_aload dX10_isRight_226 rfl ?_
    refine r_iload_n dX10_isRight_228 rfl rfl ?_
    refine r_iload_n dX10_isRight_229 rfl rfl ?_
    refine k_SI (As := [.ref a6, .int x2, .int x3]) (stk := [.int v10]) cs_X10_769 dX10_isRight_230 rfl (Nat.le_of_ble_eq_true rfl) (H.mono (fun v11 h11 H => ?_)) ⟨Nat.le_refl _, Nat.le_refl _⟩
    refine r_iload dX10_isRight_233 rfl ?_
    refine k_SI (As := [.int v11, .int v3]) (stk := [.int v10]) cs_X10_56 dX10_isRight_235 rfl (Nat.le_of_ble_eq_true rfl) (H.mono (fun v12 h12 H => ?_)) ⟨Nat.le_refl _, Nat.le_refl _⟩
    refine r_iload dX10_isRight_238 rfl ?_
    refine k_SI (As := [.int v12, .int v2]) (stk := [.int v10]) cs_X10_56 dX10_isRight_240 rfl (Nat.le_of_ble_eq_true rfl) (H.mono (fun v13 h13 H => ?_)) ⟨Nat.le_refl _, Nat.le_refl _⟩
    refine k_SI (As := [.int v10, .int v13]) (stk := []) cs_X10_46 dX10_isRight_243 rfl (Nat.le_of_ble_eq_true rfl) (H.mono (fun v14 h14 H => ?_)) ⟨Nat.le_refl _, Nat.le_refl _⟩
    refine r_istore (ls2 := [some (.ref 2759), some (.ref a1), some (.int x2), some (.int x3), some (.ref a4), some (.ref a5), some (.ref a6), some (.ref a7), some (.int x8), some (.int v6), some (.int v1), some (.int v2), some (.int v3), some (.int v14)]) dX10_isRight_246 (by decide) rfl ?_
    refine r_iload dX10_isRight_248 rfl ?_
    refine r_iload dX10_isRight_250 rfl ?_
    refine r_iload dX10_isRight_252 rfl ?_
    refine k_SI (As := [.int v14, .int x8]) (stk := [.int v6]) cs_X10_56 dX10_isRight_254 rfl (Nat.le_of_ble_eq_true rfl) (H.mono (fun v15 h15 H => ?_)) ⟨Nat.le_refl _, Nat.le_refl _⟩
    refine r_icmp_ne (tgt := 264) dX10_isRight_257 rfl (fun cH => ?_) (fun cH => ?_)
    · replace H := H.1 cH
      refine r_iconst (v := (0 : Int32)) dX10_isRight_264 rfl ?_
      exact r_zret dX10_isRight_265 rfl rfl (Nat.le_refl _) (Nat.le_refl _) H
    · replace H := H.2 cH
      refine r_iconst (v := (1 : Int32)) dX10_isRight_260 rfl ?_
      refine r_goto (tgt := 265) dX10_isRight_261 rfl ?_
      exact r_zret dX10_isRight_265 rfl rfl (Nat.le_refl _) (Nat.le_refl _) H
  · replace H := H.2 cH
    refine r_aload_n dX10_isRight_55 rfl rfl ?_
    refine m_getF (x := (a1 + 7)) hp fw_X10_237 dX10_isRight_56 rfl t1 (ff_11_11 t1) ?_
    refine r_bipush (v := (25 : Int32)) dX10_isRight_59 rfl ?_
    refine r_iload dX10_isRight_61 rfl ?_
    refine r_imul dX10_isRight_63 ?_
    refine r_iload_n dX10_isRight_64 rfl rfl ?_
    refine k_SI (As := [.ref (a1 + 7), .int ((25 : Int32) * x10), .int x2]) (stk := []) cs_X10_772 dX10_isRight_65 rfl (Nat.le_of_ble_eq_true rfl) (H.mono (fun v16 h16 H => ?_)) ⟨Nat.le_refl _, Nat.le_refl _⟩
    refine r_aload_n dX10_isRight_68 rfl rfl ?_
    refine m_getF (x := 2950) hp fw_X10_511 dX10_isRight_69 rfl ly_10 (ff_10_53 ly_10) ?_
    refine r_iload dX10_isRight_72 rfl ?_
    have hir17 := H.1
    obtain ⟨r17, er17, tr17, H⟩ := H.2
    refine m_aalM (x := r17) hp dX10_isRight_74 (lf_10_53 ly_10) rfl rfl (lu_10_53 ly_10) hir17 er17 ?_
    refine r_iload_n dX10_isRight_75 rfl rfl ?_
    refine r_iload_n dX10_isRight_76 rfl rfl ?_
    refine k_SI (As := [.ref r17, .int x2, .int x3]) (stk := [.int v16]) cs_X10_769 dX10_isRight_77 rfl (Nat.le_of_ble_eq_true rfl) (H.mono (fun v18 h18 H => ?_)) ⟨Nat.le_refl _, Nat.le_refl _⟩
    refine k_SI (As := [.int v16, .int v18]) (stk := []) cs_X10_56 dX10_isRight_80 rfl (Nat.le_of_ble_eq_true rfl) (H.mono (fun v19 h19 H => ?_)) ⟨Nat.le_refl _, Nat.le_refl _⟩
    refine r_istore (ls2 := [some (.ref 2759), some (.ref a1), some (.int x2), some (.int x3), some (.ref a4), some (.ref a5), some (.ref a6), some (.ref a7), some (.int x8), some (.int x9), some (.int x10), some (.int v19), none, none]) dX10_isRight_83 (by decide) rfl ?_
    refine r_iconst (v := (0 : Int32)) dX10_isRight_85 rfl ?_
    refine r_istore (ls2 := [some (.ref 2759), some (.ref a1), some (.int x2), some (.int x3), some (.ref a4), some (.ref a5), some (.ref a6), some (.ref a7), some (.int x8), some (.int x9), some (.int x10), some (.int v19), some (.int (0 : Int32)), none]) dX10_isRight_86 (by decide) rfl ?_
    exact H
theorem s_X10_isRight_88 {g : GX} {d : Nat} {av : List Value} {Q : QT} {n : Nat} {h : Hp} {a1 : Nat} {x2 : Int32} {x3 : Int32} {a4 : Nat} {a5 : Nat} {a6 : Nat} {a7 : Nat} {x8 : Int32} {x9 : Int32} {x10 : Int32} {x11 : Int32} {x12 : Int32} (hp : g.2.2.2.2 = true) (t1 : lay a1 = (0, 11, 15)) (t4 : lay a4 = (0, 14, 2)) (t5 : lay a5 = (0, 14, 2)) (t6 : lay a6 = (0, 14, 2)) (t7 : lay a7 = (0, 14, 2)) (H : (((ri h a1 10) < x12) → (W_X10_isRight g d av Q n 139 [some (.ref 2759), some (.ref a1), some (.int x2), some (.int x3), some (.ref a4), some (.ref a5), some (.ref a6), some (.ref a7), some (.int x8), some (.int x9), some (.int x10), some (.int x11), none, none] [] h)) ∧ ((¬ (ri h a1 10) < x12) → (((x11 = (0 : Int32)) → (W_X10_isRight g d av Q n 139 [some (.ref 2759), some (.ref a1), some (.int x2), some (.int x3), some (.ref a4), some (.ref a5), some (.ref a6), some (.ref a7), some (.int x8), some (.int x9), some (.int x10), some (.int x11), none, none] [] h)) ∧ ((¬ x11 = (0 : Int32)) → (((¬ x12 = x10) → (vp_in x12 4 ∧ ∃ r1, rr h 2951 (x12).toNatClampNeg = some r1 ∧ lay r1 = (0, 14, 2) ∧ (CallI g m_X10_eval_2 d [.ref r1, .int x2, .int x3] n h (fun v2 h2 => (CallI g m_X10_mul d [.int x11, .int v2] n h2 (fun v3 h3 => (W_X10_isRight g d av Q n 131 [some (.ref 2759), some (.ref a1), some (.int x2), some (.int x3), some (.ref a4), some (.ref a5), some (.ref a6), some (.ref a7), some (.int x8), some (.int x9), some (.int x10), none, some (.int x12), none] [.int v3] h3))))))) ∧ ((x12 = x10) → (W_X10_isRight g d av Q n 131 [some (.ref 2759), some (.ref a1), some (.int x2), some (.int x3), some (.ref a4), some (.ref a5), some (.ref a6), some (.ref a7), some (.int x8), some (.int x9), some (.int x10), none, some (.int x12), none] [.int x11] h))))))) : W_X10_isRight g d av Q n 88 [some (.ref 2759), some (.ref a1), some (.int x2), some (.int x3), some (.ref a4), some (.ref a5), some (.ref a6), some (.ref a7), some (.int x8), some (.int x9), some (.int x10), some (.int x11), some (.int x12), none] [] h := by
  refine r_iload dX10_isRight_88 rfl ?_
  refine r_aload_n dX10_isRight_90 rfl rfl ?_
  refine m_getI hp fw_X10_234 dX10_isRight_91 rfl t1 ?_
  refine r_icmp_gt (tgt := 139) dX10_isRight_94 rfl (fun cH => ?_) (fun cH => ?_)
  · replace H := H.1 cH
    refine r_prune [true, true, true, true, true, true, true, true, true, true, true, true, false, false] (ls2 := [some (.ref 2759), some (.ref a1), some (.int x2), some (.int x3), some (.ref a4), some (.ref a5), some (.ref a6), some (.ref a7), some (.int x8), some (.int x9), some (.int x10), some (.int x11), none, none]) rfl ?_
    exact H
  · replace H := H.2 cH
    refine r_iload dX10_isRight_97 rfl ?_
    refine r_if_eq (tgt := 139) dX10_isRight_99 rfl (fun cH => ?_) (fun cH => ?_)
    · replace H := H.1 cH
      refine r_prune [true, true, true, true, true, true, true, true, true, true, true, true, false, false] (ls2 := [some (.ref 2759), some (.ref a1), some (.int x2), some (.int x3), some (.ref a4), some (.ref a5), some (.ref a6), some (.ref a7), some (.int x8), some (.int x9), some (.int x10), some (.int x11), none, none]) rfl ?_
      exact H
    · replace H := H.2 cH
      refine r_iload dX10_isRight_102 rfl ?_
      refine r_iload dX10_isRight_104 rfl ?_
      refine r_icmp_ne (tgt := 114) dX10_isRight_106 rfl (fun cH => ?_) (fun cH => ?_)
      · replace H := H.1 cH
        refine r_iload dX10_isRight_114 rfl ?_
        refine r_aload_n dX10_isRight_116 rfl rfl ?_
        refine m_getF (x := 2951) hp fw_X10_514 dX10_isRight_117 rfl ly_10 (ff_10_54 ly_10) ?_
        refine r_iload dX10_isRight_120 rfl ?_
        have hir1 := H.1
        obtain ⟨r1, er1, tr1, H⟩ := H.2
        refine m_aalM (x := r1) hp dX10_isRight_122 (lf_10_54 ly_10) rfl rfl (lu_10_54 ly_10) hir1 er1 ?_
        refine r_iload_n dX10_isRight_123 rfl rfl ?_
        refine r_iload_n dX10_isRight_124 rfl rfl ?_
        refine k_SI (As := [.ref r1, .int x2, .int x3]) (stk := [.int x11]) cs_X10_769 dX10_isRight_125 rfl (Nat.le_of_ble_eq_true rfl) (H.mono (fun v2 h2 H => ?_)) ⟨Nat.le_refl _, Nat.le_refl _⟩
        refine k_SI (As := [.int x11, .int v2]) (stk := []) cs_X10_56 dX10_isRight_128 rfl (Nat.le_of_ble_eq_true rfl) (H.mono (fun v3 h3 H => ?_)) ⟨Nat.le_refl _, Nat.le_refl _⟩
        refine r_prune [true, true, true, true, true, true, true, true, true, true, true, false, true, false] (ls2 := [some (.ref 2759), some (.ref a1), some (.int x2), some (.int x3), some (.ref a4), some (.ref a5), some (.ref a6), some (.ref a7), some (.int x8), some (.int x9), some (.int x10), none, some (.int x12), none]) rfl ?_
        exact H
      · replace H := H.2 cH
        refine r_iload dX10_isRight_109 rfl ?_
        refine r_goto (tgt := 131) dX10_isRight_111 rfl ?_
        refine r_prune [true, true, true, true, true, true, true, true, true, true, true, false, true, false] (ls2 := [some (.ref 2759), some (.ref a1), some (.int x2), some (.int x3), some (.ref a4), some (.ref a5), some (.ref a6), some (.ref a7), some (.int x8), some (.int x9), some (.int x10), none, some (.int x12), none]) rfl ?_
        exact H
theorem s_X10_isRight_131 {g : GX} {d : Nat} {av : List Value} {Q : QT} {n : Nat} {h : Hp} {a1 : Nat} {x2 : Int32} {x3 : Int32} {a4 : Nat} {a5 : Nat} {a6 : Nat} {a7 : Nat} {x8 : Int32} {x9 : Int32} {x10 : Int32} {x12 : Int32} {xs0 : Int32} (hp : g.2.2.2.2 = true) (t1 : lay a1 = (0, 11, 15)) (t4 : lay a4 = (0, 14, 2)) (t5 : lay a5 = (0, 14, 2)) (t6 : lay a6 = (0, 14, 2)) (t7 : lay a7 = (0, 14, 2)) (H : W_X10_isRight g d av Q n 88 [some (.ref 2759), some (.ref a1), some (.int x2), some (.int x3), some (.ref a4), some (.ref a5), some (.ref a6), some (.ref a7), some (.int x8), some (.int x9), some (.int x10), some (.int xs0), some (.int (x12 + (1 : Int32))), none] [] h) : W_X10_isRight g d av Q n 131 [some (.ref 2759), some (.ref a1), some (.int x2), some (.int x3), some (.ref a4), some (.ref a5), some (.ref a6), some (.ref a7), some (.int x8), some (.int x9), some (.int x10), none, some (.int x12), none] [.int xs0] h := by
  refine r_istore (ls2 := [some (.ref 2759), some (.ref a1), some (.int x2), some (.int x3), some (.ref a4), some (.ref a5), some (.ref a6), some (.ref a7), some (.int x8), some (.int x9), some (.int x10), some (.int xs0), some (.int x12), none]) dX10_isRight_131 (by decide) rfl ?_
  refine r_iinc (v := (x12 + (1 : Int32))) (ls2 := [some (.ref 2759), some (.ref a1), some (.int x2), some (.int x3), some (.ref a4), some (.ref a5), some (.ref a6), some (.ref a7), some (.int x8), some (.int x9), some (.int x10), some (.int xs0), some (.int (x12 + (1 : Int32))), none]) dX10_isRight_133 rfl rfl (by decide) rfl ?_
  refine r_goto (tgt := 88) dX10_isRight_136 rfl ?_
  exact H
theorem s_X10_isRight_139 {g : GX} {d : Nat} {av : List Value} {Q : QT} {n : Nat} {h : Hp} {a1 : Nat} {x2 : Int32} {x3 : Int32} {a4 : Nat} {a5 : Nat} {a6 : Nat} {a7 : Nat} {x8 : Int32} {x9 : Int32} {x10 : Int32} {x11 : Int32} (hp : g.2.2.2.2 = true) (t1 : lay a1 = (0, 11, 15)) (t4 : lay a4 = (0, 14, 2)) (t5 : lay a5 = (0, 14, 2)) (t6 : lay a6 = (0, 14, 2)) (t7 : lay a7 = (0, 14, 2)) (H : CallI g m_X10_add d [.int x9, .int x11] n h (fun v1 h1 => (W_X10_isRight g d av Q n 46 [some (.ref 2759), some (.ref a1), some (.int x2), some (.int x3), some (.ref a4), some (.ref a5), some (.ref a6), some (.ref a7), some (.int x8), some (.int v1), some (.int (x10 + (1 : Int32))), none, none, none] [] h1))) : W_X10_isRight g d av Q n 139 [some (.ref 2759), some (.ref a1), some (.int x2), some (.int x3), some (.ref a4), some (.ref a5), some (.ref a6), some (.ref a7), some (.int x8), some (.int x9), some (.int x10), some (.int x11), none, none] [] h := by
  refine r_iload dX10_isRight_139 rfl ?_
  refine r_iload dX10_isRight_141 rfl ?_
  refine k_SI (As := [.int x9, .int x11]) (stk := []) cs_X10_49 dX10_isRight_143 rfl (Nat.le_of_ble_eq_true rfl) (H.mono (fun v1 h1 H => ?_)) ⟨Nat.le_refl _, Nat.le_refl _⟩
  refine r_istore (ls2 := [some (.ref 2759), some (.ref a1), some (.int x2), some (.int x3), some (.ref a4), some (.ref a5), some (.ref a6), some (.ref a7), some (.int x8), some (.int v1), some (.int x10), some (.int x11), none, none]) dX10_isRight_146 (by decide) rfl ?_
  refine r_iinc (v := (x10 + (1 : Int32))) (ls2 := [some (.ref 2759), some (.ref a1), some (.int x2), some (.int x3), some (.ref a4), some (.ref a5), some (.ref a6), some (.ref a7), some (.int x8), some (.int v1), some (.int (x10 + (1 : Int32))), some (.int x11), none, none]) dX10_isRight_148 rfl rfl (by decide) rfl ?_
  refine r_goto (tgt := 46) dX10_isRight_151 rfl ?_
  refine r_prune [true, true, true, true, true, true, true, true, true, true, true, false, false, false] (ls2 := [some (.ref 2759), some (.ref a1), some (.int x2), some (.int x3), some (.ref a4), some (.ref a5), some (.ref a6), some (.ref a7), some (.int x8), some (.int v1), some (.int (x10 + (1 : Int32))), none, none, none]) rfl ?_
  exact H
abbrev W_X10_eval_2 (g : GX) (d : Nat) (av : List Value) (Q : QT) (n : Nat) (pc : Nat) (ls : LV) (stk : List Value) (h : Hp) : Prop := RJ g m_X10_eval_2 (d + 1) 0 0 av Q pc ls stk n h 0 0
theorem s_X10_eval_2_0 {g : GX} {d : Nat} {av : List Value} {Q : QT} {n : Nat} {h : Hp} {a0 : Nat} {x1 : Int32} {x2 : Int32} (hp : g.2.2.2.2 = true) (t0 : lay a0 = (0, 14, 2)) (H : W_X10_eval_2 g d av Q n 10 [some (.ref a0), some (.int x1), some (.int x2), some (.long (0 : Int64)), none, some (.int ((ri h a0 1) - (1 : Int32)))] [] h) : W_X10_eval_2 g d av Q n 0 [some (.ref a0), some (.int x1), some (.int x2), none, none, none] [] h := by
  refine r_lconst (v := (0 : Int64)) dX10_eval_2_0 rfl ?_
  refine r_lstore_n (ls2 := [some (.ref a0), some (.int x1), some (.int x2), some (.long (0 : Int64)), none, none]) dX10_eval_2_1 rfl (by decide) rfl ?_
  refine r_aload_n dX10_eval_2_2 rfl rfl ?_
  refine m_getI hp fw_X10_93 dX10_eval_2_3 rfl t0 ?_
  refine r_iconst (v := (1 : Int32)) dX10_eval_2_6 rfl ?_
  refine r_isub dX10_eval_2_7 ?_
  refine r_istore (ls2 := [some (.ref a0), some (.int x1), some (.int x2), some (.long (0 : Int64)), none, some (.int ((ri h a0 1) - (1 : Int32)))]) dX10_eval_2_8 (by decide) rfl ?_
  exact H
theorem s_X10_eval_2_10 {g : GX} {d : Nat} {av : List Value} {Q : QT} {n : Nat} {h : Hp} {a0 : Nat} {x1 : Int32} {x2 : Int32} {y3 : Int64} {x5 : Int32} (hp : g.2.2.2.2 = true) (t0 : lay a0 = (0, 14, 2)) (H : ((x5 < (0 : Int32)) → (Q (some (.int (y3).toInt32)) n h)) ∧ ((¬ x5 < (0 : Int32)) → (vp_in x5 64 ∧ ∀ r1, r1 = (a0 + 2) + 2 * (x5).toNatClampNeg → (CallI g m_X10_eval d [.ref r1, .int x1] n h (fun v2 h2 => (W_X10_eval_2 g d av Q n 10 [some (.ref a0), some (.int x1), some (.int x2), some (.long (((y3 * (x2).toInt64) + (v2).toInt64) - ((y3 * (x2).toInt64) + (v2).toInt64) / (2147483647 : Int64) * (2147483647 : Int64))), none, some (.int (x5 + (-1 : Int32)))] [] h2)))))) : W_X10_eval_2 g d av Q n 10 [some (.ref a0), some (.int x1), some (.int x2), some (.long y3), none, some (.int x5)] [] h := by
  refine r_iload dX10_eval_2_10 rfl ?_
  refine r_if_lt (tgt := 43) dX10_eval_2_12 rfl (fun cH => ?_) (fun cH => ?_)
  · replace H := H.1 cH
    refine r_lload_n dX10_eval_2_43 rfl rfl ?_
    refine r_l2i dX10_eval_2_44 ?_
    exact r_zret dX10_eval_2_45 rfl rfl (Nat.le_refl _) (Nat.le_refl _) H
  · replace H := H.2 cH
    refine r_lload_n dX10_eval_2_15 rfl rfl ?_
    refine r_iload_n dX10_eval_2_16 rfl rfl ?_
    refine r_i2l dX10_eval_2_17 ?_
    refine r_lmul dX10_eval_2_18 ?_
    refine r_aload_n dX10_eval_2_19 rfl rfl ?_
    refine m_getF (x := (a0 + 1)) hp fw_X10_98 dX10_eval_2_20 rfl t0 (ff_14_0 t0) ?_
    refine r_iload dX10_eval_2_23 rfl ?_
    obtain ⟨r1, er1⟩ : ∃ y, y = (a0 + 2) + 2 * (x5).toNatClampNeg := ⟨_, rfl⟩
    have hir1 := H.1
    replace H := H.2 r1 er1
    have tLr1 := le_14 t0 hir1 er1
    refine m_aalF (x := r1) hp dX10_eval_2_25 (lf_14_0 t0) rfl rfl (lu_14_0 t0) hir1 (fe_14 t0 hir1 er1) ?_
    refine r_iload_n dX10_eval_2_26 rfl rfl ?_
    refine k_SI (As := [.ref r1, .int x1]) (stk := [.long (y3 * (x2).toInt64)]) cs_X10_136 dX10_eval_2_27 rfl (Nat.le_of_ble_eq_true rfl) (H.mono (fun v2 h2 H => ?_)) ⟨Nat.le_refl _, Nat.le_refl _⟩
    refine r_i2l dX10_eval_2_30 ?_
    refine r_ladd dX10_eval_2_31 ?_
    refine r_ldc2 (own := "") (v := (2147483647 : Int64)) dX10_eval_2_32 q2239 ?_
    refine r_lrem dX10_eval_2_35 (by decide) ?_
    refine r_lstore_n (ls2 := [some (.ref a0), some (.int x1), some (.int x2), some (.long (((y3 * (x2).toInt64) + (v2).toInt64) - ((y3 * (x2).toInt64) + (v2).toInt64) / (2147483647 : Int64) * (2147483647 : Int64))), none, some (.int x5)]) dX10_eval_2_36 rfl (by decide) rfl ?_
    refine r_iinc (v := (x5 + (-1 : Int32))) (ls2 := [some (.ref a0), some (.int x1), some (.int x2), some (.long (((y3 * (x2).toInt64) + (v2).toInt64) - ((y3 * (x2).toInt64) + (v2).toInt64) / (2147483647 : Int64) * (2147483647 : Int64))), none, some (.int (x5 + (-1 : Int32)))]) dX10_eval_2_37 rfl rfl (by decide) rfl ?_
    refine r_goto (tgt := 10) dX10_eval_2_40 rfl ?_
    exact H
abbrev W_X10_polynomialAt (g : GX) (d : Nat) (av : List Value) (Q : QT) (n : Nat) (pc : Nat) (ls : LV) (stk : List Value) (h : Hp) : Prop := RJ g m_X10_polynomialAt d 0 0 av Q pc ls stk n h 0 0
theorem s_X10_polynomialAt_0 {g : GX} {d : Nat} {av : List Value} {Q : QT} {n : Nat} {h : Hp} {a0 : Nat} {L0 : Nat} {x1 : Int32} {x2 : Int32} (hp : g.2.2.2.2 = true) (t0 : lay a0 = (1, L0, 0)) (H : W_X10_polynomialAt g d av Q n 6 [some (.ref a0), some (.int x1), some (.int x2), some (.long (0 : Int64)), none, some (.int (24 : Int32))] [] h) : W_X10_polynomialAt g d av Q n 0 [some (.ref a0), some (.int x1), some (.int x2), none, none, none] [] h := by
  refine r_lconst (v := (0 : Int64)) dX10_polynomialAt_0 rfl ?_
  refine r_lstore_n (ls2 := [some (.ref a0), some (.int x1), some (.int x2), some (.long (0 : Int64)), none, none]) dX10_polynomialAt_1 rfl (by decide) rfl ?_
  refine r_bipush (v := (24 : Int32)) dX10_polynomialAt_2 rfl ?_
  refine r_istore (ls2 := [some (.ref a0), some (.int x1), some (.int x2), some (.long (0 : Int64)), none, some (.int (24 : Int32))]) dX10_polynomialAt_4 (by decide) rfl ?_
  exact H
theorem s_X10_polynomialAt_6 {g : GX} {d : Nat} {av : List Value} {Q : QT} {n : Nat} {h : Hp} {a0 : Nat} {L0 : Nat} {x1 : Int32} {x2 : Int32} {y3 : Int64} {x5 : Int32} (hp : g.2.2.2.2 = true) (t0 : lay a0 = (1, L0, 0)) (H : ((x5 < (0 : Int32)) → (Q (some (.int (y3).toInt32)) n h)) ∧ ((¬ x5 < (0 : Int32)) → (vp_in (x1 + x5) L0 ∧ (W_X10_polynomialAt g d av Q n 6 [some (.ref a0), some (.int x1), some (.int x2), some (.long (((y3 * (x2).toInt64) + ((ri h a0 ((x1 + x5)).toNatClampNeg)).toInt64) - ((y3 * (x2).toInt64) + ((ri h a0 ((x1 + x5)).toNatClampNeg)).toInt64) / (2147483647 : Int64) * (2147483647 : Int64))), none, some (.int (x5 + (-1 : Int32)))] [] h)))) : W_X10_polynomialAt g d av Q n 6 [some (.ref a0), some (.int x1), some (.int x2), some (.long y3), none, some (.int x5)] [] h := by
  refine r_iload dX10_polynomialAt_6 rfl ?_
  refine r_if_lt (tgt := 34) dX10_polynomialAt_8 rfl (fun cH => ?_) (fun cH => ?_)
  · replace H := H.1 cH
    refine r_lload_n dX10_polynomialAt_34 rfl rfl ?_
    refine r_l2i dX10_polynomialAt_35 ?_
    exact r_zret dX10_polynomialAt_36 rfl rfl (Nat.le_refl _) (Nat.le_refl _) H
  · replace H := H.2 cH
    refine r_lload_n dX10_polynomialAt_11 rfl rfl ?_
    refine r_iload_n dX10_polynomialAt_12 rfl rfl ?_
    refine r_i2l dX10_polynomialAt_13 ?_
    refine r_lmul dX10_polynomialAt_14 ?_
    refine r_aload_n dX10_polynomialAt_15 rfl rfl ?_
    refine r_iload_n dX10_polynomialAt_16 rfl rfl ?_
    refine r_iload dX10_polynomialAt_17 rfl ?_
    refine r_iadd dX10_polynomialAt_19 ?_
    refine m_iald hp dX10_polynomialAt_20 t0 H.1 ?_
    replace H := H.2
    refine r_i2l dX10_polynomialAt_21 ?_
    refine r_ladd dX10_polynomialAt_22 ?_
    refine r_ldc2 (own := "") (v := (2147483647 : Int64)) dX10_polynomialAt_23 q2239 ?_
    refine r_lrem dX10_polynomialAt_26 (by decide) ?_
    refine r_lstore_n (ls2 := [some (.ref a0), some (.int x1), some (.int x2), some (.long (((y3 * (x2).toInt64) + ((ri h a0 ((x1 + x5)).toNatClampNeg)).toInt64) - ((y3 * (x2).toInt64) + ((ri h a0 ((x1 + x5)).toNatClampNeg)).toInt64) / (2147483647 : Int64) * (2147483647 : Int64))), none, some (.int x5)]) dX10_polynomialAt_27 rfl (by decide) rfl ?_
    refine r_iinc (v := (x5 + (-1 : Int32))) (ls2 := [some (.ref a0), some (.int x1), some (.int x2), some (.long (((y3 * (x2).toInt64) + ((ri h a0 ((x1 + x5)).toNatClampNeg)).toInt64) - ((y3 * (x2).toInt64) + ((ri h a0 ((x1 + x5)).toNatClampNeg)).toInt64) / (2147483647 : Int64) * (2147483647 : Int64))), none, some (.int (x5 + (-1 : Int32)))]) dX10_polynomialAt_28 rfl rfl (by decide) rfl ?_
    refine r_goto (tgt := 6) dX10_polynomialAt_31 rfl ?_
    exact H
abbrev W_X10_poke (g : GX) (d : Nat) (av : List Value) (Q : QT) (n : Nat) (pc : Nat) (ls : LV) (stk : List Value) (h : Hp) : Prop := RJ g m_X10_poke (d + 1) 0 0 av Q pc ls stk n h 0 0
theorem s_X10_poke_0 {g : GX} {d : Nat} {av : List Value} {Q : QT} {n : Nat} {h : Hp} {x1 : Int32} {x2 : Int32} {x3 : Int32} {x4 : Int32} {x5 : Int32} (hp : g.2.2.2.2 = true)  (H : CallI g m_X10_isSlot d [.int x1] n h (fun v1 h1 => (((¬ v1 = (0 : Int32)) → (vp_in x1 12 ∧ ∀ r2, r2 = 10245 + 9 * (x1).toNatClampNeg → ((((ri h1 r2 0) = (3 : Int32)) → (((x2 < (-1 : Int32)) → (Q (some (.int (-1 : Int32))) n h1)) ∧ ((¬ x2 < (-1 : Int32)) → ((((ri h1 r2 10) < x2) → (Q (some (.int (-1 : Int32))) n h1)) ∧ ((¬ (ri h1 r2 10) < x2) → (((x3 < (0 : Int32)) → (Q (some (.int (-1 : Int32))) n h1)) ∧ ((¬ x3 < (0 : Int32)) → ((((24 : Int32) < x3) → (Q (some (.int (-1 : Int32))) n h1)) ∧ ((¬ (24 : Int32) < x3) → (((x4 < (0 : Int32)) → (Q (some (.int (-1 : Int32))) n h1)) ∧ ((¬ x4 < (0 : Int32)) → ((((0 : Int32) ≤ x2) → (W_X10_poke g d av Q n 70 [some (.ref 2759), none, some (.int x2), some (.int x3), some (.int x4), some (.int x5), some (.ref r2), none, none, none, none, none, none] [.int (0 : Int32), .int x4] h1)) ∧ ((¬ (0 : Int32) ≤ x2) → (W_X10_poke g d av Q n 70 [some (.ref 2759), none, some (.int x2), some (.int x3), some (.int x4), some (.int x5), some (.ref r2), none, none, none, none, none, none] [.int (12 : Int32), .int x4] h1)))))))))))))) ∧ ((¬ (ri h1 r2 0) = (3 : Int32)) → (Q (some (.int (-3 : Int32))) n h1))))) ∧ ((v1 = (0 : Int32)) → (Q (some (.int (-1 : Int32))) n h1))))) : W_X10_poke g d av Q n 0 [some (.ref 2759), some (.int x1), some (.int x2), some (.int x3), some (.int x4), some (.int x5), none, none, none, none, none, none, none] [] h := by
  refine r_iload_n dX10_poke_0 rfl rfl ?_
  refine k_SI (As := [.int x1]) (stk := []) cs_X10_551 dX10_poke_1 rfl (Nat.le_of_ble_eq_true rfl) (H.mono (fun v1 h1 H => ?_)) ⟨Nat.le_refl _, Nat.le_refl _⟩
  refine r_if_ne (tgt := 9) dX10_poke_4 rfl (fun cH => ?_) (fun cH => ?_)
  · replace H := H.1 cH
    refine r_aload_n dX10_poke_9 rfl rfl ?_
    refine m_getF (x := 2841) hp fw_X10_450 dX10_poke_10 rfl ly_10 (ff_10_20 ly_10) ?_
    refine r_iload_n dX10_poke_13 rfl rfl ?_
    obtain ⟨r2, er2⟩ : ∃ y, y = 10245 + 9 * (x1).toNatClampNeg := ⟨_, rfl⟩
    have hir2 := H.1
    replace H := H.2 r2 er2
    have tLr2 := la_2841 hir2 er2
    refine m_aalF (x := r2) hp dX10_poke_14 (lf_10_20 ly_10) rfl rfl (lu_10_20 ly_10) hir2 (fa_2841 hir2 er2) ?_
    refine r_astore (ls2 := [some (.ref 2759), some (.int x1), some (.int x2), some (.int x3), some (.int x4), some (.int x5), some (.ref r2), none, none, none, none, none, none]) dX10_poke_15 (by decide) rfl ?_
    refine r_aload dX10_poke_17 rfl ?_
    refine m_getI hp fw_X10_202 dX10_poke_19 rfl tLr2 ?_
    refine r_iconst (v := (3 : Int32)) dX10_poke_22 rfl ?_
    refine r_icmp_eq (tgt := 29) dX10_poke_23 rfl (fun cH => ?_) (fun cH => ?_)
    · replace H := H.1 cH
      refine r_iload_n dX10_poke_29 rfl rfl ?_
      refine r_iconst (v := (-1 : Int32)) dX10_poke_30 rfl ?_
      refine r_icmp_lt (tgt := 73) dX10_poke_31 rfl (fun cH => ?_) (fun cH => ?_)
      · replace H := H.1 cH
        refine r_iconst (v := (-1 : Int32)) dX10_poke_73 rfl ?_
        exact r_zret dX10_poke_74 rfl rfl (Nat.le_refl _) (Nat.le_refl _) H
      · replace H := H.2 cH
        refine r_iload_n dX10_poke_34 rfl rfl ?_
        refine r_aload dX10_poke_35 rfl ?_
        refine m_getI hp fw_X10_234 dX10_poke_37 rfl tLr2 ?_
        refine r_icmp_gt (tgt := 73) dX10_poke_40 rfl (fun cH => ?_) (fun cH => ?_)
        · replace H := H.1 cH
          refine r_iconst (v := (-1 : Int32)) dX10_poke_73 rfl ?_
          exact r_zret dX10_poke_74 rfl rfl (Nat.le_refl _) (Nat.le_refl _) H
        · replace H := H.2 cH
          refine r_iload_n dX10_poke_43 rfl rfl ?_
          refine r_if_lt (tgt := 73) dX10_poke_44 rfl (fun cH => ?_) (fun cH => ?_)
          · replace H := H.1 cH
            refine r_iconst (v := (-1 : Int32)) dX10_poke_73 rfl ?_
            exact r_zret dX10_poke_74 rfl rfl (Nat.le_refl _) (Nat.le_refl _) H
          · replace H := H.2 cH
            refine r_iload_n dX10_poke_47 rfl rfl ?_
            refine r_bipush (v := (24 : Int32)) dX10_poke_48 rfl ?_
            refine r_icmp_gt (tgt := 73) dX10_poke_50 rfl (fun cH => ?_) (fun cH => ?_)
            · replace H := H.1 cH
              refine r_iconst (v := (-1 : Int32)) dX10_poke_73 rfl ?_
              exact r_zret dX10_poke_74 rfl rfl (Nat.le_refl _) (Nat.le_refl _) H
            · replace H := H.2 cH
              refine r_iload dX10_poke_53 rfl ?_
              refine r_if_lt (tgt := 73) dX10_poke_55 rfl (fun cH => ?_) (fun cH => ?_)
              · replace H := H.1 cH
                refine r_iconst (v := (-1 : Int32)) dX10_poke_73 rfl ?_
                exact r_zret dX10_poke_74 rfl rfl (Nat.le_refl _) (Nat.le_refl _) H
              · replace H := H.2 cH
                refine r_iload dX10_poke_58 rfl ?_
                refine r_iload_n dX10_poke_60 rfl rfl ?_
                refine r_if_ge (tgt := 69) dX10_poke_61 rfl (fun cH => ?_) (fun cH => ?_)
                · replace H := H.1 cH
                  refine r_iconst (v := (0 : Int32)) dX10_poke_69 rfl ?_
                  refine r_prune [true, false, true, true, true, true, true, false, false, false, false, false, false] (ls2 := [some (.ref 2759), none, some (.int x2), some (.int x3), some (.int x4), some (.int x5), some (.ref r2), none, none, none, none, none, none]) rfl ?_
                  exact H
                · replace H := H.2 cH
                  refine r_bipush (v := (12 : Int32)) dX10_poke_64 rfl ?_
                  refine r_goto (tgt := 70) dX10_poke_66 rfl ?_
                  refine r_prune [true, false, true, true, true, true, true, false, false, false, false, false, false] (ls2 := [some (.ref 2759), none, some (.int x2), some (.int x3), some (.int x4), some (.int x5), some (.ref r2), none, none, none, none, none, none]) rfl ?_
                  exact H
    · replace H := H.2 cH
      refine r_bipush (v := (-3 : Int32)) dX10_poke_26 rfl ?_
      exact r_zret dX10_poke_28 rfl rfl (Nat.le_refl _) (Nat.le_refl _) H
  · replace H := H.2 cH
    refine r_iconst (v := (-1 : Int32)) dX10_poke_7 rfl ?_
    exact r_zret dX10_poke_8 rfl rfl (Nat.le_refl _) (Nat.le_refl _) H
theorem s_X10_poke_70 {g : GX} {d : Nat} {av : List Value} {Q : QT} {n : Nat} {h : Hp} {x2 : Int32} {x3 : Int32} {x4 : Int32} {x5 : Int32} {a6 : Nat} {xs0 : Int32} {xs1 : Int32} (hp : g.2.2.2.2 = true) (t6 : lay a6 = (0, 11, 15)) (H : ((xs1 ≤ xs0) → ((((0 : Int32) ≤ x2) → (W_X10_poke g d av Q n 92 [some (.ref 2759), none, some (.int x2), some (.int x3), some (.int x4), some (.int x5), some (.ref a6), none, none, none, none, none, none] [.ref (a6 + 7)] h)) ∧ ((¬ (0 : Int32) ≤ x2) → (W_X10_poke g d av Q n 92 [some (.ref 2759), none, some (.int x2), some (.int x3), some (.int x4), some (.int x5), some (.ref a6), none, none, none, none, none, none] [.ref (a6 + 1)] h)))) ∧ ((¬ xs1 ≤ xs0) → (Q (some (.int (-1 : Int32))) n h))) : W_X10_poke g d av Q n 70 [some (.ref 2759), none, some (.int x2), some (.int x3), some (.int x4), some (.int x5), some (.ref a6), none, none, none, none, none, none] [.int xs0, .int xs1] h := by
  refine r_icmp_le (tgt := 75) dX10_poke_70 rfl (fun cH => ?_) (fun cH => ?_)
  · replace H := H.1 cH
    refine r_iload_n dX10_poke_75 rfl rfl ?_
    refine r_if_ge (tgt := 87) dX10_poke_76 rfl (fun cH => ?_) (fun cH => ?_)
    · replace H := H.1 cH
      refine r_aload dX10_poke_87 rfl ?_
      refine m_getF (x := (a6 + 7)) hp fw_X10_237 dX10_poke_89 rfl t6 (ff_11_11 t6) ?_
      exact H
    · replace H := H.2 cH
      refine r_aload dX10_poke_79 rfl ?_
      refine m_getF (x := (a6 + 1)) hp fw_X10_207 dX10_poke_81 rfl t6 (ff_11_1 t6) ?_
      refine r_goto (tgt := 92) dX10_poke_84 rfl ?_
      exact H
  · replace H := H.2 cH
    refine r_iconst (v := (-1 : Int32)) dX10_poke_73 rfl ?_
    exact r_zret dX10_poke_74 rfl rfl (Nat.le_refl _) (Nat.le_refl _) H
theorem s_X10_poke_92 {g : GX} {d : Nat} {av : List Value} {Q : QT} {n : Nat} {h : Hp} {x2 : Int32} {x3 : Int32} {x4 : Int32} {x5 : Int32} {a6 : Nat} {as0 : Nat} {Ls0 : Nat} (hp : g.2.2.2.2 = true) (t6 : lay a6 = (0, 11, 15)) (ts0 : lay as0 = (1, Ls0, 0)) (H : (((0 : Int32) ≤ x2) → (W_X10_poke g d av Q n 114 [some (.ref 2759), none, some (.int x2), none, none, some (.int x5), some (.ref a6), some (.ref as0), none, none, none, none, none] [.int (((25 : Int32) * x2) + x3)] h)) ∧ ((¬ (0 : Int32) ≤ x2) → (W_X10_poke g d av Q n 114 [some (.ref 2759), none, some (.int x2), none, none, some (.int x5), some (.ref a6), some (.ref as0), none, none, none, none, none] [.int (((25 : Int32) * x4) + x3)] h))) : W_X10_poke g d av Q n 92 [some (.ref 2759), none, some (.int x2), some (.int x3), some (.int x4), some (.int x5), some (.ref a6), none, none, none, none, none, none] [.ref as0] h := by
  refine r_astore (ls2 := [some (.ref 2759), none, some (.int x2), some (.int x3), some (.int x4), some (.int x5), some (.ref a6), some (.ref as0), none, none, none, none, none]) dX10_poke_92 (by decide) rfl ?_
  refine r_iload_n dX10_poke_94 rfl rfl ?_
  refine r_if_ge (tgt := 108) dX10_poke_95 rfl (fun cH => ?_) (fun cH => ?_)
  · replace H := H.1 cH
    refine r_bipush (v := (25 : Int32)) dX10_poke_108 rfl ?_
    refine r_iload_n dX10_poke_110 rfl rfl ?_
    refine r_imul dX10_poke_111 ?_
    refine r_iload_n dX10_poke_112 rfl rfl ?_
    refine r_iadd dX10_poke_113 ?_
    refine r_prune [true, false, true, false, false, true, true, true, false, false, false, false, false] (ls2 := [some (.ref 2759), none, some (.int x2), none, none, some (.int x5), some (.ref a6), some (.ref as0), none, none, none, none, none]) rfl ?_
    exact H
  · replace H := H.2 cH
    refine r_bipush (v := (25 : Int32)) dX10_poke_98 rfl ?_
    refine r_iload dX10_poke_100 rfl ?_
    refine r_imul dX10_poke_102 ?_
    refine r_iload_n dX10_poke_103 rfl rfl ?_
    refine r_iadd dX10_poke_104 ?_
    refine r_goto (tgt := 114) dX10_poke_105 rfl ?_
    refine r_prune [true, false, true, false, false, true, true, true, false, false, false, false, false] (ls2 := [some (.ref 2759), none, some (.int x2), none, none, some (.int x5), some (.ref a6), some (.ref as0), none, none, none, none, none]) rfl ?_
    exact H
theorem s_X10_poke_114 {g : GX} {d : Nat} {av : List Value} {Q : QT} {n : Nat} {h : Hp} {x2 : Int32} {x5 : Int32} {a6 : Nat} {a7 : Nat} {L7 : Nat} {xs0 : Int32} (hp : g.2.2.2.2 = true) (t6 : lay a6 = (0, 11, 15)) (t7 : lay a7 = (1, L7, 0)) (H : vp_in xs0 L7 ∧ (CallI g m_X10_rest d [.int x5] n h (fun v1 h1 => (vp_in xs0 L7 ∧ ∀ h2, h2 = wi h1 a7 (xs0).toNatClampNeg v1 → ((((0 : Int32) ≤ x2) → (Q (some (.int (ri h a7 (xs0).toNatClampNeg))) n h2)) ∧ ((¬ (0 : Int32) ≤ x2) → (CallV g m_X10_begin d [.ref 2759] n h2 (fun h3 => (CallR g m_X10_newB d [.ref 2759] n h3 (fun v4 h4 => (lay v4 = (0, 14, 2) ∧ (CallR g m_X10_newB d [.ref 2759] n h4 (fun v5 h5 => (lay v5 = (0, 14, 2) ∧ (CallV g m_X10_load d [.ref v4, .ref (a6 + 1)] n h5 (fun h6 => (CallV g m_X10_load d [.ref v5, .ref (a6 + 2)] n h6 (fun h7 => (CallV g m_X10_reduce d [.ref 2759, .ref v4, .ref v5] n h7 (fun h8 => (CallI g m_X10_put d [.ref a6, .ref v4, .ref v5] n h8 (fun v9 h9 => (Q (some (.int (ri h a7 (xs0).toNatClampNeg))) n h9))))))))))))))))))))))) : W_X10_poke g d av Q n 114 [some (.ref 2759), none, some (.int x2), none, none, some (.int x5), some (.ref a6), some (.ref a7), none, none, none, none, none] [.int xs0] h := by
  refine r_istore (ls2 := [some (.ref 2759), none, some (.int x2), none, none, some (.int x5), some (.ref a6), some (.ref a7), some (.int xs0), none, none, none, none]) dX10_poke_114 (by decide) rfl ?_
  refine r_aload dX10_poke_116 rfl ?_
  refine r_iload dX10_poke_118 rfl ?_
  refine m_iald hp dX10_poke_120 t7 H.1 ?_
  replace H := H.2
  refine r_istore (ls2 := [some (.ref 2759), none, some (.int x2), none, none, some (.int x5), some (.ref a6), some (.ref a7), some (.int xs0), some (.int (ri h a7 (xs0).toNatClampNeg)), none, none, none]) dX10_poke_121 (by decide) rfl ?_
  refine r_aload dX10_poke_123 rfl ?_
  refine r_iload dX10_poke_125 rfl ?_
  refine r_iload dX10_poke_127 rfl ?_
  refine k_SI (As := [.int x5]) (stk := [.int xs0, .ref a7]) cs_X10_600 dX10_poke_129 rfl (Nat.le_of_ble_eq_true rfl) (H.mono (fun v1 h1 H => ?_)) ⟨Nat.le_refl _, Nat.le_refl _⟩
  refine m_iast hp dX10_poke_132 t7 H.1 (fun h2 eh2 => ?_)
  replace H := H.2 h2 eh2
  refine r_iload_n dX10_poke_133 rfl rfl ?_
  refine r_if_ge (tgt := 192) dX10_poke_134 rfl (fun cH => ?_) (fun cH => ?_)
  · replace H := H.1 cH
    refine r_iload dX10_poke_192 rfl ?_
    exact r_zret dX10_poke_194 rfl rfl (Nat.le_refl _) (Nat.le_refl _) H
  · replace H := H.2 cH
    refine r_aload_n dX10_poke_137 rfl rfl ?_
    refine k_VV (As := []) (stk := []) hp cv_X10_555 dX10_poke_138 rfl (Nat.le_of_ble_eq_true rfl) ly_10 (H.mono (fun h3 H => ?_)) ⟨Nat.le_refl _, Nat.le_refl _⟩
    refine r_aload_n dX10_poke_141 rfl rfl ?_
    refine k_VR (As := []) (stk := []) hp cv_X10_140 dX10_poke_142 rfl (Nat.le_of_ble_eq_true rfl) ly_10 (H.mono (fun v4 h4 H => ?_)) ⟨Nat.le_refl _, Nat.le_refl _⟩
    obtain ⟨tv4, H⟩ := H
    refine r_astore (ls2 := [some (.ref 2759), none, some (.int x2), none, none, some (.int x5), some (.ref a6), some (.ref a7), some (.int xs0), some (.int (ri h a7 (xs0).toNatClampNeg)), some (.ref v4), none, none]) dX10_poke_145 (by decide) rfl ?_
    refine r_aload_n dX10_poke_147 rfl rfl ?_
    refine k_VR (As := []) (stk := []) hp cv_X10_140 dX10_poke_148 rfl (Nat.le_of_ble_eq_true rfl) ly_10 (H.mono (fun v5 h5 H => ?_)) ⟨Nat.le_refl _, Nat.le_refl _⟩
    obtain ⟨tv5, H⟩ := H
    refine r_astore (ls2 := [some (.ref 2759), none, some (.int x2), none, none, some (.int x5), some (.ref a6), some (.ref a7), some (.int xs0), some (.int (ri h a7 (xs0).toNatClampNeg)), some (.ref v4), some (.ref v5), none]) dX10_poke_151 (by decide) rfl ?_
    refine r_aload dX10_poke_153 rfl ?_
    refine r_aload dX10_poke_155 rfl ?_
    refine m_getF (x := (a6 + 1)) hp fw_X10_207 dX10_poke_157 rfl t6 (ff_11_1 t6) ?_
    refine k_SV (As := [.ref v4, .ref (a6 + 1)]) (stk := []) cs_X10_295 dX10_poke_160 rfl (Nat.le_of_ble_eq_true rfl) (H.mono (fun h6 H => ?_)) ⟨Nat.le_refl _, Nat.le_refl _⟩
    refine r_aload dX10_poke_163 rfl ?_
    refine r_aload dX10_poke_165 rfl ?_
    refine m_getF (x := (a6 + 2)) hp fw_X10_210 dX10_poke_167 rfl t6 (ff_11_2 t6) ?_
    refine k_SV (As := [.ref v5, .ref (a6 + 2)]) (stk := []) cs_X10_295 dX10_poke_170 rfl (Nat.le_of_ble_eq_true rfl) (H.mono (fun h7 H => ?_)) ⟨Nat.le_refl _, Nat.le_refl _⟩
    refine r_aload_n dX10_poke_173 rfl rfl ?_
    refine r_aload dX10_poke_174 rfl ?_
    refine r_aload dX10_poke_176 rfl ?_
    refine k_VV (As := [.ref v4, .ref v5]) (stk := []) hp cv_X10_659 dX10_poke_178 rfl (Nat.le_of_ble_eq_true rfl) ly_10 (H.mono (fun h8 H => ?_)) ⟨Nat.le_refl _, Nat.le_refl _⟩
    refine r_aload dX10_poke_181 rfl ?_
    refine r_aload dX10_poke_183 rfl ?_
    refine r_aload dX10_poke_185 rfl ?_
    refine k_SI (As := [.ref a6, .ref v4, .ref v5]) (stk := []) cs_X10_261 dX10_poke_187 rfl (Nat.le_of_ble_eq_true rfl) (H.mono (fun v9 h9 H => ?_)) ⟨Nat.le_refl _, Nat.le_refl _⟩
    refine r_istore (ls2 := [some (.ref 2759), none, some (.int x2), none, none, some (.int x5), some (.ref a6), some (.ref a7), some (.int xs0), some (.int (ri h a7 (xs0).toNatClampNeg)), some (.ref v4), some (.ref v5), some (.int v9)]) dX10_poke_190 (by decide) rfl ?_
    refine r_iload dX10_poke_192 rfl ?_
    exact r_zret dX10_poke_194 rfl rfl (Nat.le_refl _) (Nat.le_refl _) H
abbrev W_X10_holds (g : GX) (d : Nat) (av : List Value) (Q : QT) (n : Nat) (pc : Nat) (ls : LV) (stk : List Value) (h : Hp) : Prop := RJ g m_X10_holds (d + 1) 0 0 av Q pc ls stk n h 0 0
theorem s_X10_holds_0 {g : GX} {d : Nat} {av : List Value} {Q : QT} {n : Nat} {h : Hp} {x1 : Int32} {x2 : Int32} {x3 : Int32} {x4 : Int32} {x5 : Int32} (hp : g.2.2.2.2 = true)  (H : CallI g m_X10_isSlot d [.int x1] n h (fun v1 h1 => (((v1 = (0 : Int32)) → (Q (some (.int (-1 : Int32))) n h1)) ∧ ((¬ v1 = (0 : Int32)) → (CallI g m_X10_isSlot d [.int x2] n h1 (fun v2 h2 => (((¬ v2 = (0 : Int32)) → (vp_in x1 12 ∧ ∀ r3, r3 = 10245 + 9 * (x1).toNatClampNeg → (vp_in x2 12 ∧ ∀ r4, r4 = 10245 + 9 * (x2).toNatClampNeg → (((¬ (ri h2 r3 0) = (3 : Int32)) → (Q (some (.int (-3 : Int32))) n h2)) ∧ (((ri h2 r3 0) = (3 : Int32)) → ((((ri h2 r4 0) = (1 : Int32)) → (W_X10_holds g d av Q n 62 [some (.ref 2759), none, none, some (.int x3), some (.int x4), some (.int x5), some (.ref r3), some (.ref r4), none, none, none, none, none] [] h2)) ∧ ((¬ (ri h2 r4 0) = (1 : Int32)) → ((((ri h2 r4 0) = (2 : Int32)) → (W_X10_holds g d av Q n 62 [some (.ref 2759), none, none, some (.int x3), some (.int x4), some (.int x5), some (.ref r3), some (.ref r4), none, none, none, none, none] [] h2)) ∧ ((¬ (ri h2 r4 0) = (2 : Int32)) → (Q (some (.int (-3 : Int32))) n h2)))))))))) ∧ ((v2 = (0 : Int32)) → (Q (some (.int (-1 : Int32))) n h2))))))))) : W_X10_holds g d av Q n 0 [some (.ref 2759), some (.int x1), some (.int x2), some (.int x3), some (.int x4), some (.int x5), none, none, none, none, none, none, none] [] h := by
  refine r_iload_n dX10_holds_0 rfl rfl ?_
  refine k_SI (As := [.int x1]) (stk := []) cs_X10_551 dX10_holds_1 rfl (Nat.le_of_ble_eq_true rfl) (H.mono (fun v1 h1 H => ?_)) ⟨Nat.le_refl _, Nat.le_refl _⟩
  refine r_if_eq (tgt := 14) dX10_holds_4 rfl (fun cH => ?_) (fun cH => ?_)
  · replace H := H.1 cH
    refine r_iconst (v := (-1 : Int32)) dX10_holds_14 rfl ?_
    exact r_zret dX10_holds_15 rfl rfl (Nat.le_refl _) (Nat.le_refl _) H
  · replace H := H.2 cH
    refine r_iload_n dX10_holds_7 rfl rfl ?_
    refine k_SI (As := [.int x2]) (stk := []) cs_X10_551 dX10_holds_8 rfl (Nat.le_of_ble_eq_true rfl) (H.mono (fun v2 h2 H => ?_)) ⟨Nat.le_refl _, Nat.le_refl _⟩
    refine r_if_ne (tgt := 16) dX10_holds_11 rfl (fun cH => ?_) (fun cH => ?_)
    · replace H := H.1 cH
      refine r_aload_n dX10_holds_16 rfl rfl ?_
      refine m_getF (x := 2841) hp fw_X10_450 dX10_holds_17 rfl ly_10 (ff_10_20 ly_10) ?_
      refine r_iload_n dX10_holds_20 rfl rfl ?_
      obtain ⟨r3, er3⟩ : ∃ y, y = 10245 + 9 * (x1).toNatClampNeg := ⟨_, rfl⟩
      have hir3 := H.1
      replace H := H.2 r3 er3
      have tLr3 := la_2841 hir3 er3
      refine m_aalF (x := r3) hp dX10_holds_21 (lf_10_20 ly_10) rfl rfl (lu_10_20 ly_10) hir3 (fa_2841 hir3 er3) ?_
      refine r_astore (ls2 := [some (.ref 2759), some (.int x1), some (.int x2), some (.int x3), some (.int x4), some (.int x5), some (.ref r3), none, none, none, none, none, none]) dX10_holds_22 (by decide) rfl ?_
      refine r_aload_n dX10_holds_24 rfl rfl ?_
      refine m_getF (x := 2841) hp fw_X10_450 dX10_holds_25 rfl ly_10 (ff_10_20 ly_10) ?_
      refine r_iload_n dX10_holds_28 rfl rfl ?_
      obtain ⟨r4, er4⟩ : ∃ y, y = 10245 + 9 * (x2).toNatClampNeg := ⟨_, rfl⟩
      have hir4 := H.1
      replace H := H.2 r4 er4
      have tLr4 := la_2841 hir4 er4
      refine m_aalF (x := r4) hp dX10_holds_29 (lf_10_20 ly_10) rfl rfl (lu_10_20 ly_10) hir4 (fa_2841 hir4 er4) ?_
      refine r_astore (ls2 := [some (.ref 2759), some (.int x1), some (.int x2), some (.int x3), some (.int x4), some (.int x5), some (.ref r3), some (.ref r4), none, none, none, none, none]) dX10_holds_30 (by decide) rfl ?_
      refine r_aload dX10_holds_32 rfl ?_
      refine m_getI hp fw_X10_202 dX10_holds_34 rfl tLr3 ?_
      refine r_iconst (v := (3 : Int32)) dX10_holds_37 rfl ?_
      refine r_icmp_ne (tgt := 59) dX10_holds_38 rfl (fun cH => ?_) (fun cH => ?_)
      · replace H := H.1 cH
        refine r_bipush (v := (-3 : Int32)) dX10_holds_59 rfl ?_
        exact r_zret dX10_holds_61 rfl rfl (Nat.le_refl _) (Nat.le_refl _) H
      · replace H := H.2 cH
        refine r_aload dX10_holds_41 rfl ?_
        refine m_getI hp fw_X10_202 dX10_holds_43 rfl tLr4 ?_
        refine r_iconst (v := (1 : Int32)) dX10_holds_46 rfl ?_
        refine r_icmp_eq (tgt := 62) dX10_holds_47 rfl (fun cH => ?_) (fun cH => ?_)
        · replace H := H.1 cH
          refine r_prune [true, false, false, true, true, true, true, true, false, false, false, false, false] (ls2 := [some (.ref 2759), none, none, some (.int x3), some (.int x4), some (.int x5), some (.ref r3), some (.ref r4), none, none, none, none, none]) rfl ?_
          exact H
        · replace H := H.2 cH
          refine r_aload dX10_holds_50 rfl ?_
          refine m_getI hp fw_X10_202 dX10_holds_52 rfl tLr4 ?_
          refine r_iconst (v := (2 : Int32)) dX10_holds_55 rfl ?_
          refine r_icmp_eq (tgt := 62) dX10_holds_56 rfl (fun cH => ?_) (fun cH => ?_)
          · replace H := H.1 cH
            refine r_prune [true, false, false, true, true, true, true, true, false, false, false, false, false] (ls2 := [some (.ref 2759), none, none, some (.int x3), some (.int x4), some (.int x5), some (.ref r3), some (.ref r4), none, none, none, none, none]) rfl ?_
            exact H
          · replace H := H.2 cH
            refine r_bipush (v := (-3 : Int32)) dX10_holds_59 rfl ?_
            exact r_zret dX10_holds_61 rfl rfl (Nat.le_refl _) (Nat.le_refl _) H
    · replace H := H.2 cH
      refine r_iconst (v := (-1 : Int32)) dX10_holds_14 rfl ?_
      exact r_zret dX10_holds_15 rfl rfl (Nat.le_refl _) (Nat.le_refl _) H
theorem s_X10_holds_62 {g : GX} {d : Nat} {av : List Value} {Q : QT} {n : Nat} {h : Hp} {x3 : Int32} {x4 : Int32} {x5 : Int32} {a6 : Nat} {a7 : Nat} (hp : g.2.2.2.2 = true) (t6 : lay a6 = (0, 11, 15)) (t7 : lay a7 = (0, 11, 15)) (H : CallI g m_X10_isWhole d [.int x3] n h (fun v1 h1 => (((v1 = (0 : Int32)) → (Q (some (.int (-1 : Int32))) n h1)) ∧ ((¬ v1 = (0 : Int32)) → (CallI g m_X10_isWhole d [.int x4] n h1 (fun v2 h2 => (((v2 = (0 : Int32)) → (Q (some (.int (-1 : Int32))) n h2)) ∧ ((¬ v2 = (0 : Int32)) → (CallI g m_X10_isWhole d [.int x5] n h2 (fun v3 h3 => (((v3 = (0 : Int32)) → (Q (some (.int (-1 : Int32))) n h3)) ∧ ((¬ v3 = (0 : Int32)) → ((((500 : Int32) < (x3 + (ri h3 a6 10))) → (Q (some (.int (-1 : Int32))) n h3)) ∧ ((¬ (500 : Int32) < (x3 + (ri h3 a6 10))) → ((((x5 + (1 : Int32)) ≤ (500 : Int32)) → (W_X10_holds g d av Q n 116 [some (.ref 2759), none, none, some (.int x3), some (.int x4), some (.int x5), some (.ref a6), some (.ref a7), some (.int (0 : Int32)), some (.int (0 : Int32)), none, none, none] [] h3)) ∧ ((¬ (x5 + (1 : Int32)) ≤ (500 : Int32)) → (Q (some (.int (-1 : Int32))) n h3))))))))))))))))) : W_X10_holds g d av Q n 62 [some (.ref 2759), none, none, some (.int x3), some (.int x4), some (.int x5), some (.ref a6), some (.ref a7), none, none, none, none, none] [] h := by
  refine r_iload_n dX10_holds_62 rfl rfl ?_
  refine k_SI (As := [.int x3]) (stk := []) cs_X10_682 dX10_holds_63 rfl (Nat.le_of_ble_eq_true rfl) (H.mono (fun v1 h1 H => ?_)) ⟨Nat.le_refl _, Nat.le_refl _⟩
  refine r_if_eq (tgt := 108) dX10_holds_66 rfl (fun cH => ?_) (fun cH => ?_)
  · replace H := H.1 cH
    refine r_iconst (v := (-1 : Int32)) dX10_holds_108 rfl ?_
    exact r_zret dX10_holds_109 rfl rfl (Nat.le_refl _) (Nat.le_refl _) H
  · replace H := H.2 cH
    refine r_iload dX10_holds_69 rfl ?_
    refine k_SI (As := [.int x4]) (stk := []) cs_X10_682 dX10_holds_71 rfl (Nat.le_of_ble_eq_true rfl) (H.mono (fun v2 h2 H => ?_)) ⟨Nat.le_refl _, Nat.le_refl _⟩
    refine r_if_eq (tgt := 108) dX10_holds_74 rfl (fun cH => ?_) (fun cH => ?_)
    · replace H := H.1 cH
      refine r_iconst (v := (-1 : Int32)) dX10_holds_108 rfl ?_
      exact r_zret dX10_holds_109 rfl rfl (Nat.le_refl _) (Nat.le_refl _) H
    · replace H := H.2 cH
      refine r_iload dX10_holds_77 rfl ?_
      refine k_SI (As := [.int x5]) (stk := []) cs_X10_682 dX10_holds_79 rfl (Nat.le_of_ble_eq_true rfl) (H.mono (fun v3 h3 H => ?_)) ⟨Nat.le_refl _, Nat.le_refl _⟩
      refine r_if_eq (tgt := 108) dX10_holds_82 rfl (fun cH => ?_) (fun cH => ?_)
      · replace H := H.1 cH
        refine r_iconst (v := (-1 : Int32)) dX10_holds_108 rfl ?_
        exact r_zret dX10_holds_109 rfl rfl (Nat.le_refl _) (Nat.le_refl _) H
      · replace H := H.2 cH
        refine r_iload_n dX10_holds_85 rfl rfl ?_
        refine r_aload dX10_holds_86 rfl ?_
        refine m_getI hp fw_X10_234 dX10_holds_88 rfl t6 ?_
        refine r_iadd dX10_holds_91 ?_
        refine r_sipush (v := (500 : Int32)) dX10_holds_92 rfl ?_
        refine r_icmp_gt (tgt := 108) dX10_holds_95 rfl (fun cH => ?_) (fun cH => ?_)
        · replace H := H.1 cH
          refine r_iconst (v := (-1 : Int32)) dX10_holds_108 rfl ?_
          exact r_zret dX10_holds_109 rfl rfl (Nat.le_refl _) (Nat.le_refl _) H
        · replace H := H.2 cH
          refine r_iload dX10_holds_98 rfl ?_
          refine r_iconst (v := (1 : Int32)) dX10_holds_100 rfl ?_
          refine r_iadd dX10_holds_101 ?_
          refine r_sipush (v := (500 : Int32)) dX10_holds_102 rfl ?_
          refine r_icmp_le (tgt := 110) dX10_holds_105 rfl (fun cH => ?_) (fun cH => ?_)
          · replace H := H.1 cH
            refine r_iconst (v := (0 : Int32)) dX10_holds_110 rfl ?_
            refine r_istore (ls2 := [some (.ref 2759), none, none, some (.int x3), some (.int x4), some (.int x5), some (.ref a6), some (.ref a7), some (.int (0 : Int32)), none, none, none, none]) dX10_holds_111 (by decide) rfl ?_
            refine r_iconst (v := (0 : Int32)) dX10_holds_113 rfl ?_
            refine r_istore (ls2 := [some (.ref 2759), none, none, some (.int x3), some (.int x4), some (.int x5), some (.ref a6), some (.ref a7), some (.int (0 : Int32)), some (.int (0 : Int32)), none, none, none]) dX10_holds_114 (by decide) rfl ?_
            exact H
          · replace H := H.2 cH
            refine r_iconst (v := (-1 : Int32)) dX10_holds_108 rfl ?_
            exact r_zret dX10_holds_109 rfl rfl (Nat.le_refl _) (Nat.le_refl _) H
theorem s_X10_holds_116 {g : GX} {d : Nat} {av : List Value} {Q : QT} {n : Nat} {h : Hp} {x3 : Int32} {x4 : Int32} {x5 : Int32} {a6 : Nat} {a7 : Nat} {x8 : Int32} {x9 : Int32} (hp : g.2.2.2.2 = true) (t6 : lay a6 = (0, 11, 15)) (t7 : lay a7 = (0, 11, 15)) (H : (((ri h a6 10) < x9) → (CallI g m_X10_valueAt d [.ref 2759, .ref a7, .int x3, .int (x5 + (1 : Int32))] n h (fun v1 h1 => (CallI g m_X10_valueAt d [.ref 2759, .ref a7, .int x3, .int x4] n h1 (fun v2 h2 => (CallI g m_X10_ratioAt d [.ref 2759, .ref a6, .int x3, .int (x5 + (1 : Int32))] n h2 (fun v3 h3 => (CallI g m_X10_ratioAt d [.ref 2759, .ref a6, .int x3, .int x4] n h3 (fun v4 h4 => (((v1 = (-1 : Int32)) → (Q (some (.int (-1 : Int32))) n h4)) ∧ ((¬ v1 = (-1 : Int32)) → (((v2 = (-1 : Int32)) → (Q (some (.int (-1 : Int32))) n h4)) ∧ ((¬ v2 = (-1 : Int32)) → (((v3 = (-1 : Int32)) → (Q (some (.int (-1 : Int32))) n h4)) ∧ ((¬ v3 = (-1 : Int32)) → (((¬ v4 = (-1 : Int32)) → (CallI g m_X10_mul d [.int v3, .int v1] n h4 (fun v5 h5 => (CallI g m_X10_mul d [.int v4, .int v2] n h5 (fun v6 h6 => (CallI g m_X10_sub d [.int v5, .int v6] n h6 (fun v7 h7 => (((¬ x8 = v7) → (Q (some (.int (0 : Int32))) n h7)) ∧ ((x8 = v7) → (Q (some (.int (1 : Int32))) n h7)))))))))) ∧ ((v4 = (-1 : Int32)) → (Q (some (.int (-1 : Int32))) n h4)))))))))))))))))) ∧ ((¬ (ri h a6 10) < x9) → (CallI g m_X10_sumOf d [.ref 2759, .ref a7, .int (x3 + x9), .int x4, .int x5] n h (fun v8 h8 => (((¬ v8 = (-1 : Int32)) → (CallI g m_X10_polynomialAt d [.ref (a6 + 7), .int ((25 : Int32) * x9), .int x3] n h8 (fun v9 h9 => (CallI g m_X10_mul d [.int v9, .int v8] n h9 (fun v10 h10 => (CallI g m_X10_add d [.int x8, .int v10] n h10 (fun v11 h11 => (W_X10_holds g d av Q n 116 [some (.ref 2759), none, none, some (.int x3), some (.int x4), some (.int x5), some (.ref a6), some (.ref a7), some (.int v11), some (.int (x9 + (1 : Int32))), none, none, none] [] h11)))))))) ∧ ((v8 = (-1 : Int32)) → (Q (some (.int (-1 : Int32))) n h8))))))) : W_X10_holds g d av Q n 116 [some (.ref 2759), none, none, some (.int x3), some (.int x4), some (.int x5), some (.ref a6), some (.ref a7), some (.int x8), some (.int x9), none, none, none] [] h := by
  refine r_iload dX10_holds_116 rfl ?_
  refine r_aload dX10_holds_118 rfl ?_
  refine m_getI hp fw_X10_234 dX10_holds_120 rfl t6 ?_
  refine r_icmp_gt (tgt := 182) dX10_holds_123 rfl (fun cH => ?_) (fun cH => ?_)
  · replace H := H.1 cH
    refine r_aload_n dX10_holds_182 rfl rfl ?_
    refine r_aload dX10_holds_183 rfl ?_
    refine r_iload_n dX10_holds_185 rfl rfl ?_
    refine r_iload dX10_holds_186 rfl ?_
    refine r_iconst (v := (1 : Int32)) dX10_holds_188 rfl ?_
    refine r_iadd dX10_holds_189 ?_
    refine k_VI (As := [.ref a7, .int x3, .int (x5 + (1 : Int32))]) (stk := []) hp cv_X10_688 dX10_holds_190 rfl (Nat.le_of_ble_eq_true rfl) ly_10 (H.mono (fun v1 h1 H => ?_)) ⟨Nat.le_refl _, Nat.le_refl _⟩
    refine r_istore (ls2 := [some (.ref 2759), none, none, some (.int x3), some (.int x4), some (.int x5), some (.ref a6), some (.ref a7), some (.int x8), some (.int v1), none, none, none]) dX10_holds_193 (by decide) rfl ?_
    refine r_aload_n dX10_holds_195 rfl rfl ?_
    refine r_aload dX10_holds_196 rfl ?_
    refine r_iload_n dX10_holds_198 rfl rfl ?_
    refine r_iload dX10_holds_199 rfl ?_
    refine k_VI (As := [.ref a7, .int x3, .int x4]) (stk := []) hp cv_X10_688 dX10_holds_201 rfl (Nat.le_of_ble_eq_true rfl) ly_10 (H.mono (fun v2 h2 H => ?_)) ⟨Nat.le_refl _, Nat.le_refl _⟩
    refine r_istore (ls2 := [some (.ref 2759), none, none, some (.int x3), some (.int x4), some (.int x5), some (.ref a6), some (.ref a7), some (.int x8), some (.int v1), some (.int v2), none, none]) dX10_holds_204 (by decide) rfl ?_
    refine r_aload_n dX10_holds_206 rfl rfl ?_
    refine r_aload dX10_holds_207 rfl ?_
    refine r_iload_n dX10_holds_209 rfl rfl ?_
    refine r_iload dX10_holds_210 rfl ?_
    refine r_iconst (v := (1 : Int32)) dX10_holds_212 rfl ?_
    refine r_iadd dX10_holds_213 ?_
    refine k_VI (As := [.ref a6, .int x3, .int (x5 + (1 : Int32))]) (stk := []) hp cv_X10_678 dX10_holds_214 rfl (Nat.le_of_ble_eq_true rfl) ly_10 (H.mono (fun v3 h3 H => ?_)) ⟨Nat.le_refl _, Nat.le_refl _⟩
    refine r_istore (ls2 := [some (.ref 2759), none, none, some (.int x3), some (.int x4), some (.int x5), some (.ref a6), some (.ref a7), some (.int x8), some (.int v1), some (.int v2), some (.int v3), none]) dX10_holds_217 (by decide) rfl ?_
    refine r_aload_n dX10_holds_219 rfl rfl ?_
    refine r_aload dX10_holds_220 rfl ?_
    refine r_iload_n dX10_holds_222 rfl rfl ?_
    refine r_iload dX10_holds_223 rfl ?_
    refine k_VI (As := [.ref a6, .int x3, .int x4]) (stk := []) hp cv_X10_678 dX10_holds_225 rfl (Nat.le_of_ble_eq_true rfl) ly_10 (H.mono (fun v4 h4 H => ?_)) ⟨Nat.le_refl _, Nat.le_refl _⟩
    refine r_istore (ls2 := [some (.ref 2759), none, none, some (.int x3), some (.int x4), some (.int x5), some (.ref a6), some (.ref a7), some (.int x8), some (.int v1), some (.int v2), some (.int v3), some (.int v4)]) dX10_holds_228 (by decide) rfl ?_
    refine r_iload dX10_holds_230 rfl ?_
    refine r_iconst (v := (-1 : Int32)) dX10_holds_232 rfl ?_
    refine r_icmp_eq (tgt := 254) dX10_holds_233 rfl (fun cH => ?_) (fun cH => ?_)
    · replace H := H.1 cH
      refine r_iconst (v := (-1 : Int32)) dX10_holds_254 rfl ?_
      exact r_zret dX10_holds_255 rfl rfl (Nat.le_refl _) (Nat.le_refl _) H
    · replace H := H.2 cH
      refine r_iload dX10_holds_236 rfl ?_
      refine r_iconst (v := (-1 : Int32)) dX10_holds_238 rfl ?_
      refine r_icmp_eq (tgt := 254) dX10_holds_239 rfl (fun cH => ?_) (fun cH => ?_)
      · replace H := H.1 cH
        refine r_iconst (v := (-1 : Int32)) dX10_holds_254 rfl ?_
        exact r_zret dX10_holds_255 rfl rfl (Nat.le_refl _) (Nat.le_refl _) H
      · replace H := H.2 cH
        refine r_iload dX10_holds_242 rfl ?_
        refine r_iconst (v := (-1 : Int32)) dX10_holds_244 rfl ?_
        refine r_icmp_eq (tgt := 254) dX10_holds_245 rfl (fun cH => ?_) (fun cH => ?_)
        · replace H := H.1 cH
          refine r_iconst (v := (-1 : Int32)) dX10_holds_254 rfl ?_
          exact r_zret dX10_holds_255 rfl rfl (Nat.le_refl _) (Nat.le_refl _) H
        · replace H := H.2 cH
          refine r_iload dX10_holds_248 rfl ?_
          refine r_iconst (v := (-1 : Int32)) dX10_holds_250 rfl ?_
          refine r_icmp_ne (tgt := 256) dX10_holds_251 rfl (fun cH => ?_) (fun cH => ?_)
          · replace H := H.1 cH
            refine r_iload dX10_holds_256 rfl ?_
            refine r_iload dX10_holds_258 rfl ?_
            refine r_iload dX10_holds_260 rfl ?_
            refine k_SI (As := [.int v3, .int v1]) (stk := [.int x8]) cs_X10_56 dX10_holds_262 rfl (Nat.le_of_ble_eq_true rfl) (H.mono (fun v5 h5 H => ?_)) ⟨Nat.le_refl _, Nat.le_refl _⟩
            refine r_iload dX10_holds_265 rfl ?_
            refine r_iload dX10_holds_267 rfl ?_
            refine k_SI (As := [.int v4, .int v2]) (stk := [.int v5, .int x8]) cs_X10_56 dX10_holds_269 rfl (Nat.le_of_ble_eq_true rfl) (H.mono (fun v6 h6 H => ?_)) ⟨Nat.le_refl _, Nat.le_refl _⟩
            refine k_SI (As := [.int v5, .int v6]) (stk := [.int x8]) cs_X10_46 dX10_holds_272 rfl (Nat.le_of_ble_eq_true rfl) (H.mono (fun v7 h7 H => ?_)) ⟨Nat.le_refl _, Nat.le_refl _⟩
            refine r_icmp_ne (tgt := 282) dX10_holds_275 rfl (fun cH => ?_) (fun cH => ?_)
            · replace H := H.1 cH
              refine r_iconst (v := (0 : Int32)) dX10_holds_282 rfl ?_
              exact r_zret dX10_holds_283 rfl rfl (Nat.le_refl _) (Nat.le_refl _) H
            · replace H := H.2 cH
              refine r_iconst (v := (1 : Int32)) dX10_holds_278 rfl ?_
              refine r_goto (tgt := 283) dX10_holds_279 rfl ?_
              exact r_zret dX10_holds_283 rfl rfl (Nat.le_refl _) (Nat.le_refl _) H
          · replace H := H.2 cH
            refine r_iconst (v := (-1 : Int32)) dX10_holds_254 rfl ?_
            exact r_zret dX10_holds_255 rfl rfl (Nat.le_refl _) (Nat.le_refl _) H
  · replace H := H.2 cH
    refine r_aload_n dX10_holds_126 rfl rfl ?_
    refine r_aload dX10_holds_127 rfl ?_
    refine r_iload_n dX10_holds_129 rfl rfl ?_
    refine r_iload dX10_holds_130 rfl ?_
    refine r_iadd dX10_holds_132 ?_
    refine r_iload dX10_holds_133 rfl ?_
    refine r_iload dX10_holds_135 rfl ?_
    refine k_VI (As := [.ref a7, .int (x3 + x9), .int x4, .int x5]) (stk := []) hp cv_X10_691 dX10_holds_137 rfl (Nat.le_of_ble_eq_true rfl) ly_10 (H.mono (fun v8 h8 H => ?_)) ⟨Nat.le_refl _, Nat.le_refl _⟩
    refine r_istore (ls2 := [some (.ref 2759), none, none, some (.int x3), some (.int x4), some (.int x5), some (.ref a6), some (.ref a7), some (.int x8), some (.int x9), some (.int v8), none, none]) dX10_holds_140 (by decide) rfl ?_
    refine r_iload dX10_holds_142 rfl ?_
    refine r_iconst (v := (-1 : Int32)) dX10_holds_144 rfl ?_
    refine r_icmp_ne (tgt := 150) dX10_holds_145 rfl (fun cH => ?_) (fun cH => ?_)
    · replace H := H.1 cH
      refine r_iload dX10_holds_150 rfl ?_
      refine r_aload dX10_holds_152 rfl ?_
      refine m_getF (x := (a6 + 7)) hp fw_X10_237 dX10_holds_154 rfl t6 (ff_11_11 t6) ?_
      refine r_bipush (v := (25 : Int32)) dX10_holds_157 rfl ?_
      refine r_iload dX10_holds_159 rfl ?_
      refine r_imul dX10_holds_161 ?_
      refine r_iload_n dX10_holds_162 rfl rfl ?_
      refine k_SI (As := [.ref (a6 + 7), .int ((25 : Int32) * x9), .int x3]) (stk := [.int x8]) cs_X10_772 dX10_holds_163 rfl (Nat.le_of_ble_eq_true rfl) (H.mono (fun v9 h9 H => ?_)) ⟨Nat.le_refl _, Nat.le_refl _⟩
      refine r_iload dX10_holds_166 rfl ?_
      refine k_SI (As := [.int v9, .int v8]) (stk := [.int x8]) cs_X10_56 dX10_holds_168 rfl (Nat.le_of_ble_eq_true rfl) (H.mono (fun v10 h10 H => ?_)) ⟨Nat.le_refl _, Nat.le_refl _⟩
      refine k_SI (As := [.int x8, .int v10]) (stk := []) cs_X10_49 dX10_holds_171 rfl (Nat.le_of_ble_eq_true rfl) (H.mono (fun v11 h11 H => ?_)) ⟨Nat.le_refl _, Nat.le_refl _⟩
      refine r_istore (ls2 := [some (.ref 2759), none, none, some (.int x3), some (.int x4), some (.int x5), some (.ref a6), some (.ref a7), some (.int v11), some (.int x9), some (.int v8), none, none]) dX10_holds_174 (by decide) rfl ?_
      refine r_iinc (v := (x9 + (1 : Int32))) (ls2 := [some (.ref 2759), none, none, some (.int x3), some (.int x4), some (.int x5), some (.ref a6), some (.ref a7), some (.int v11), some (.int (x9 + (1 : Int32))), some (.int v8), none, none]) dX10_holds_176 rfl rfl (by decide) rfl ?_
      refine r_goto (tgt := 116) dX10_holds_179 rfl ?_
      refine r_prune [true, false, false, true, true, true, true, true, true, true, false, false, false] (ls2 := [some (.ref 2759), none, none, some (.int x3), some (.int x4), some (.int x5), some (.ref a6), some (.ref a7), some (.int v11), some (.int (x9 + (1 : Int32))), none, none, none]) rfl ?_
      exact H
    · replace H := H.2 cH
      refine r_iconst (v := (-1 : Int32)) dX10_holds_148 rfl ?_
      exact r_zret dX10_holds_149 rfl rfl (Nat.le_refl _) (Nat.le_refl _) H
abbrev W_X10_row (g : GX) (d : Nat) (av : List Value) (Q : QT) (n : Nat) (pc : Nat) (ls : LV) (stk : List Value) (h : Hp) : Prop := RJ g m_X10_row (d + 1) 0 0 av Q pc ls stk n h 0 0
theorem s_X10_row_0 {g : GX} {d : Nat} {av : List Value} {Q : QT} {n : Nat} {h : Hp} {x1 : Int32} {x2 : Int32} (hp : g.2.2.2.2 = true)  (H : CallI g m_X10_isSlot d [.int x1] n h (fun v1 h1 => (((v1 = (0 : Int32)) → (Q (some (.int (-1 : Int32))) n h1)) ∧ ((¬ v1 = (0 : Int32)) → (CallI g m_X10_isSlot d [.int x2] n h1 (fun v2 h2 => (((¬ v2 = (0 : Int32)) → (vp_in x1 12 ∧ ∀ r3, r3 = 10245 + 9 * (x1).toNatClampNeg → ((((ri h2 r3 0) = (3 : Int32)) → (CallV g m_X10_begin d [.ref 2759] n h2 (fun h4 => (W_X10_row g d av Q n 41 [some (.ref 2759), none, some (.int x2), some (.ref r3), some (.int (0 : Int32))] [] h4)))) ∧ ((¬ (ri h2 r3 0) = (3 : Int32)) → (Q (some (.int (-3 : Int32))) n h2))))) ∧ ((v2 = (0 : Int32)) → (Q (some (.int (-1 : Int32))) n h2))))))))) : W_X10_row g d av Q n 0 [some (.ref 2759), some (.int x1), some (.int x2), none, none] [] h := by
  refine r_iload_n dX10_row_0 rfl rfl ?_
  refine k_SI (As := [.int x1]) (stk := []) cs_X10_551 dX10_row_1 rfl (Nat.le_of_ble_eq_true rfl) (H.mono (fun v1 h1 H => ?_)) ⟨Nat.le_refl _, Nat.le_refl _⟩
  refine r_if_eq (tgt := 14) dX10_row_4 rfl (fun cH => ?_) (fun cH => ?_)
  · replace H := H.1 cH
    refine r_iconst (v := (-1 : Int32)) dX10_row_14 rfl ?_
    exact r_zret dX10_row_15 rfl rfl (Nat.le_refl _) (Nat.le_refl _) H
  · replace H := H.2 cH
    refine r_iload_n dX10_row_7 rfl rfl ?_
    refine k_SI (As := [.int x2]) (stk := []) cs_X10_551 dX10_row_8 rfl (Nat.le_of_ble_eq_true rfl) (H.mono (fun v2 h2 H => ?_)) ⟨Nat.le_refl _, Nat.le_refl _⟩
    refine r_if_ne (tgt := 16) dX10_row_11 rfl (fun cH => ?_) (fun cH => ?_)
    · replace H := H.1 cH
      refine r_aload_n dX10_row_16 rfl rfl ?_
      refine m_getF (x := 2841) hp fw_X10_450 dX10_row_17 rfl ly_10 (ff_10_20 ly_10) ?_
      refine r_iload_n dX10_row_20 rfl rfl ?_
      obtain ⟨r3, er3⟩ : ∃ y, y = 10245 + 9 * (x1).toNatClampNeg := ⟨_, rfl⟩
      have hir3 := H.1
      replace H := H.2 r3 er3
      have tLr3 := la_2841 hir3 er3
      refine m_aalF (x := r3) hp dX10_row_21 (lf_10_20 ly_10) rfl rfl (lu_10_20 ly_10) hir3 (fa_2841 hir3 er3) ?_
      refine r_astore_n (ls2 := [some (.ref 2759), some (.int x1), some (.int x2), some (.ref r3), none]) dX10_row_22 rfl (by decide) rfl ?_
      refine r_aload_n dX10_row_23 rfl rfl ?_
      refine m_getI hp fw_X10_202 dX10_row_24 rfl tLr3 ?_
      refine r_iconst (v := (3 : Int32)) dX10_row_27 rfl ?_
      refine r_icmp_eq (tgt := 34) dX10_row_28 rfl (fun cH => ?_) (fun cH => ?_)
      · replace H := H.1 cH
        refine r_aload_n dX10_row_34 rfl rfl ?_
        refine k_VV (As := []) (stk := []) hp cv_X10_555 dX10_row_35 rfl (Nat.le_of_ble_eq_true rfl) ly_10 (H.mono (fun h4 H => ?_)) ⟨Nat.le_refl _, Nat.le_refl _⟩
        refine r_iconst (v := (0 : Int32)) dX10_row_38 rfl ?_
        refine r_istore (ls2 := [some (.ref 2759), some (.int x1), some (.int x2), some (.ref r3), some (.int (0 : Int32))]) dX10_row_39 (by decide) rfl ?_
        refine r_prune [true, false, true, true, true] (ls2 := [some (.ref 2759), none, some (.int x2), some (.ref r3), some (.int (0 : Int32))]) rfl ?_
        exact H
      · replace H := H.2 cH
        refine r_bipush (v := (-3 : Int32)) dX10_row_31 rfl ?_
        exact r_zret dX10_row_33 rfl rfl (Nat.le_refl _) (Nat.le_refl _) H
    · replace H := H.2 cH
      refine r_iconst (v := (-1 : Int32)) dX10_row_14 rfl ?_
      exact r_zret dX10_row_15 rfl rfl (Nat.le_refl _) (Nat.le_refl _) H
theorem s_X10_row_41 {g : GX} {d : Nat} {av : List Value} {Q : QT} {n : Nat} {h : Hp} {x2 : Int32} {a3 : Nat} {x4 : Int32} (hp : g.2.2.2.2 = true) (t3 : lay a3 = (0, 11, 15)) (H : (((ri h a3 10) < x4) → ((((ri h a3 10) < (1 : Int32)) → (Q (some (.int (-1 : Int32))) n h)) ∧ ((¬ (ri h a3 10) < (1 : Int32)) → (vp_in (ri h a3 10) 8 ∧ ∃ r1, rr h 2952 ((ri h a3 10)).toNatClampNeg = some r1 ∧ lay r1 = (0, 13, 2) ∧ (((¬ (ri h r1 1) = (0 : Int32)) → (CallI g m_X10_makeRow d [.ref 2759, .ref 2952, .int (ri h a3 10)] n h (fun v2 h2 => (CallI g m_X10_needsOf d [.ref 2849, .int (ri h2 2842 10), .int (0 : Int32)] n h2 (fun v3 h3 => (∀ h4, h4 = wi h3 2842 12 v3 → ((((ri h4 2842 12) ≤ (60 : Int32)) → (vp_in x2 12 ∧ ∀ r5, r5 = 10245 + 9 * (x2).toNatClampNeg → (CallV g m_X10_copy d [.ref r5, .ref 2842] n h4 (fun h6 => (Q (some (.int (ri h6 2842 12))) n h6))))) ∧ ((¬ (ri h4 2842 12) ≤ (60 : Int32)) → (Q (some (.int (-2 : Int32))) n h4))))))))) ∧ (((ri h r1 1) = (0 : Int32)) → (Q (some (.int (-1 : Int32))) n h))))))) ∧ ((¬ (ri h a3 10) < x4) → (CallR g m_X10_newU d [.ref 2759] n h (fun v7 h7 => (lay v7 = (0, 13, 2) ∧ (vp_in x4 8 ∧ fin 2952 (x4).toNatClampNeg = none ∧ ∀ h8, h8 = wr h7 2952 (x4).toNatClampNeg (some v7) → (vp_in x4 8 ∧ ∃ r9, rr h8 2952 (x4).toNatClampNeg = some r9 ∧ lay r9 = (0, 13, 2) ∧ (CallV g m_X10_load_2 d [.ref r9, .ref (a3 + 7), .int ((25 : Int32) * x4)] n h8 (fun h10 => (W_X10_row g d av Q n 41 [some (.ref 2759), none, some (.int x2), some (.ref a3), some (.int (x4 + (1 : Int32)))] [] h10)))))))))) : W_X10_row g d av Q n 41 [some (.ref 2759), none, some (.int x2), some (.ref a3), some (.int x4)] [] h := by
  refine r_iload dX10_row_41 rfl ?_
  refine r_aload_n dX10_row_43 rfl rfl ?_
  refine m_getI hp fw_X10_234 dX10_row_44 rfl t3 ?_
  refine r_icmp_gt (tgt := 86) dX10_row_47 rfl (fun cH => ?_) (fun cH => ?_)
  · replace H := H.1 cH
    refine r_aload_n dX10_row_86 rfl rfl ?_
    refine m_getI hp fw_X10_234 dX10_row_87 rfl t3 ?_
    refine r_iconst (v := (1 : Int32)) dX10_row_90 rfl ?_
    refine r_icmp_lt (tgt := 109) dX10_row_91 rfl (fun cH => ?_) (fun cH => ?_)
    · replace H := H.1 cH
      refine r_iconst (v := (-1 : Int32)) dX10_row_109 rfl ?_
      exact r_zret dX10_row_110 rfl rfl (Nat.le_refl _) (Nat.le_refl _) H
    · replace H := H.2 cH
      refine r_aload_n dX10_row_94 rfl rfl ?_
      refine m_getF (x := 2952) hp fw_X10_517 dX10_row_95 rfl ly_10 (ff_10_55 ly_10) ?_
      refine r_aload_n dX10_row_98 rfl rfl ?_
      refine m_getI hp fw_X10_234 dX10_row_99 rfl t3 ?_
      have hir1 := H.1
      obtain ⟨r1, er1, tr1, H⟩ := H.2
      refine m_aalM (x := r1) hp dX10_row_102 (lf_10_55 ly_10) rfl rfl (lu_10_55 ly_10) hir1 er1 ?_
      refine m_getI hp fw_X10_25 dX10_row_103 rfl tr1 ?_
      refine r_if_ne (tgt := 111) dX10_row_106 rfl (fun cH => ?_) (fun cH => ?_)
      · replace H := H.1 cH
        refine r_aload_n dX10_row_111 rfl rfl ?_
        refine r_aload_n dX10_row_112 rfl rfl ?_
        refine m_getF (x := 2952) hp fw_X10_517 dX10_row_113 rfl ly_10 (ff_10_55 ly_10) ?_
        refine r_aload_n dX10_row_116 rfl rfl ?_
        refine m_getI hp fw_X10_234 dX10_row_117 rfl t3 ?_
        refine k_VI (As := [.ref 2952, .int (ri h a3 10)]) (stk := []) hp cv_X10_777 dX10_row_120 rfl (Nat.le_of_ble_eq_true rfl) ly_10 (H.mono (fun v2 h2 H => ?_)) ⟨Nat.le_refl _, Nat.le_refl _⟩
        refine r_istore (ls2 := [some (.ref 2759), none, some (.int x2), some (.ref a3), some (.int v2)]) dX10_row_123 (by decide) rfl ?_
        refine r_aload_n dX10_row_125 rfl rfl ?_
        refine m_getF (x := 2842) hp fw_X10_453 dX10_row_126 rfl ly_10 (ff_10_21 ly_10) ?_
        refine r_aload_n dX10_row_129 rfl rfl ?_
        refine m_getF (x := 2842) hp fw_X10_453 dX10_row_130 rfl ly_10 (ff_10_21 ly_10) ?_
        refine m_getF (x := 2849) hp fw_X10_237 dX10_row_133 rfl (lf_10_21 ly_10) (ff_11_11 (lf_10_21 ly_10)) ?_
        refine r_aload_n dX10_row_136 rfl rfl ?_
        refine m_getF (x := 2842) hp fw_X10_453 dX10_row_137 rfl ly_10 (ff_10_21 ly_10) ?_
        refine m_getI hp fw_X10_234 dX10_row_140 rfl (lf_10_21 ly_10) ?_
        refine r_iconst (v := (0 : Int32)) dX10_row_143 rfl ?_
        refine k_SI (As := [.ref 2849, .int (ri h2 2842 10), .int (0 : Int32)]) (stk := [.ref 2842]) cs_X10_781 dX10_row_144 rfl (Nat.le_of_ble_eq_true rfl) (H.mono (fun v3 h3 H => ?_)) ⟨Nat.le_refl _, Nat.le_refl _⟩
        refine m_putI hp fw_X10_240 dX10_row_147 rfl rfl (lf_10_21 ly_10) (fun h4 eh4 => ?_)
        replace H := H h4 eh4
        refine r_aload_n dX10_row_150 rfl rfl ?_
        refine m_getF (x := 2842) hp fw_X10_453 dX10_row_151 rfl ly_10 (ff_10_21 ly_10) ?_
        refine m_getI hp fw_X10_240 dX10_row_154 rfl (lf_10_21 ly_10) ?_
        refine r_bipush (v := (60 : Int32)) dX10_row_157 rfl ?_
        refine r_icmp_le (tgt := 165) dX10_row_159 rfl (fun cH => ?_) (fun cH => ?_)
        · replace H := H.1 cH
          refine r_aload_n dX10_row_165 rfl rfl ?_
          refine m_getF (x := 2841) hp fw_X10_450 dX10_row_166 rfl ly_10 (ff_10_20 ly_10) ?_
          refine r_iload_n dX10_row_169 rfl rfl ?_
          obtain ⟨r5, er5⟩ : ∃ y, y = 10245 + 9 * (x2).toNatClampNeg := ⟨_, rfl⟩
          have hir5 := H.1
          replace H := H.2 r5 er5
          have tLr5 := la_2841 hir5 er5
          refine m_aalF (x := r5) hp dX10_row_170 (lf_10_20 ly_10) rfl rfl (lu_10_20 ly_10) hir5 (fa_2841 hir5 er5) ?_
          refine r_aload_n dX10_row_171 rfl rfl ?_
          refine m_getF (x := 2842) hp fw_X10_453 dX10_row_172 rfl ly_10 (ff_10_21 ly_10) ?_
          refine k_SV (As := [.ref r5, .ref 2842]) (stk := []) cs_X10_547 dX10_row_175 rfl (Nat.le_of_ble_eq_true rfl) (H.mono (fun h6 H => ?_)) ⟨Nat.le_refl _, Nat.le_refl _⟩
          refine r_aload_n dX10_row_178 rfl rfl ?_
          refine m_getF (x := 2842) hp fw_X10_453 dX10_row_179 rfl ly_10 (ff_10_21 ly_10) ?_
          refine m_getI hp fw_X10_240 dX10_row_182 rfl (lf_10_21 ly_10) ?_
          exact r_zret dX10_row_185 rfl rfl (Nat.le_refl _) (Nat.le_refl _) H
        · replace H := H.2 cH
          refine r_bipush (v := (-2 : Int32)) dX10_row_162 rfl ?_
          exact r_zret dX10_row_164 rfl rfl (Nat.le_refl _) (Nat.le_refl _) H
      · replace H := H.2 cH
        refine r_iconst (v := (-1 : Int32)) dX10_row_109 rfl ?_
        exact r_zret dX10_row_110 rfl rfl (Nat.le_refl _) (Nat.le_refl _) H
  · replace H := H.2 cH
    refine r_aload_n dX10_row_50 rfl rfl ?_
    refine m_getF (x := 2952) hp fw_X10_517 dX10_row_51 rfl ly_10 (ff_10_55 ly_10) ?_
    refine r_iload dX10_row_54 rfl ?_
    refine r_aload_n dX10_row_56 rfl rfl ?_
    refine k_VR (As := []) (stk := [.int x4, .ref 2952]) hp cv_X10_74 dX10_row_57 rfl (Nat.le_of_ble_eq_true rfl) ly_10 (H.mono (fun v7 h7 H => ?_)) ⟨Nat.le_refl _, Nat.le_refl _⟩
    obtain ⟨tv7, H⟩ := H
    refine m_aast (nf := 0) hp dX10_row_60 (lf_10_55 ly_10) rfl (cw13).1 tv7 (lu_10_55 ly_10) H.1 H.2.1 (fun h8 eh8 => ?_)
    replace H := H.2.2 h8 eh8
    refine r_aload_n dX10_row_61 rfl rfl ?_
    refine m_getF (x := 2952) hp fw_X10_517 dX10_row_62 rfl ly_10 (ff_10_55 ly_10) ?_
    refine r_iload dX10_row_65 rfl ?_
    have hir9 := H.1
    obtain ⟨r9, er9, tr9, H⟩ := H.2
    refine m_aalM (x := r9) hp dX10_row_67 (lf_10_55 ly_10) rfl rfl (lu_10_55 ly_10) hir9 er9 ?_
    refine r_aload_n dX10_row_68 rfl rfl ?_
    refine m_getF (x := (a3 + 7)) hp fw_X10_237 dX10_row_69 rfl t3 (ff_11_11 t3) ?_
    refine r_bipush (v := (25 : Int32)) dX10_row_72 rfl ?_
    refine r_iload dX10_row_74 rfl ?_
    refine r_imul dX10_row_76 ?_
    refine k_SV (As := [.ref r9, .ref (a3 + 7), .int ((25 : Int32) * x4)]) (stk := []) cs_X10_775 dX10_row_77 rfl (Nat.le_of_ble_eq_true rfl) (H.mono (fun h10 H => ?_)) ⟨Nat.le_refl _, Nat.le_refl _⟩
    refine r_iinc (v := (x4 + (1 : Int32))) (ls2 := [some (.ref 2759), none, some (.int x2), some (.ref a3), some (.int (x4 + (1 : Int32)))]) dX10_row_80 rfl rfl (by decide) rfl ?_
    refine r_goto (tgt := 41) dX10_row_83 rfl ?_
    exact H
abbrev W_X10_load_2 (g : GX) (d : Nat) (av : List Value) (Q : QT) (n : Nat) (pc : Nat) (ls : LV) (stk : List Value) (h : Hp) : Prop := RJ g m_X10_load_2 (d + 1) 0 0 av Q pc ls stk n h 0 0
theorem s_X10_load_2_0 {g : GX} {d : Nat} {av : List Value} {Q : QT} {n : Nat} {h : Hp} {a0 : Nat} {a1 : Nat} {L1 : Nat} {x2 : Int32} (hp : g.2.2.2.2 = true) (t0 : lay a0 = (0, 13, 2)) (t1 : lay a1 = (1, L1, 0)) (H : ¬ x2 < 0 ∧ ¬ (0 : Int32) < 0 ∧ ¬ (25 : Int32) < 0 ∧ (x2).toNatClampNeg + ((25 : Int32)).toNatClampNeg ≤ L1 ∧ ((0 : Int32)).toNatClampNeg + ((25 : Int32)).toNatClampNeg ≤ (rm (a0 + 1)) ∧ ∀ h1, h1 = cpy h a1 (x2).toNatClampNeg (a0 + 1) ((0 : Int32)).toNatClampNeg ((25 : Int32)).toNatClampNeg → (∀ h2, h2 = wi h1 a0 1 (25 : Int32) → (CallV g m_X13_trim d [.ref a0] n h2 (fun h3 => (Q none n h3))))) : W_X10_load_2 g d av Q n 0 [some (.ref a0), some (.ref a1), some (.int x2)] [] h := by
  refine r_aload_n dX10_load_2_0 rfl rfl ?_
  refine r_iload_n dX10_load_2_1 rfl rfl ?_
  refine r_aload_n dX10_load_2_2 rfl rfl ?_
  refine m_getF (x := (a0 + 1)) hp fw_X10_30 dX10_load_2_3 rfl t0 (ff_13_0 t0) ?_
  refine r_iconst (v := (0 : Int32)) dX10_load_2_6 rfl ?_
  refine r_bipush (v := (25 : Int32)) dX10_load_2_7 rfl ?_
  obtain ⟨c1, c2, c3, c4, c5, H⟩ := H
  refine m_copy hp ar_X10_34 dX10_load_2_9 rfl rfl t1 (lf_13_0 t0) c1 c2 c3 c4 c5 (fun _ _ => rfl) (Nat.le_of_ble_eq_true rfl) (Nat.le_add_left 1 d) (fun h1 eh1 => ?_)
  replace H := H h1 eh1
  refine r_aload_n dX10_load_2_12 rfl rfl ?_
  refine r_bipush (v := (25 : Int32)) dX10_load_2_13 rfl ?_
  refine m_putI hp fw_X10_25 dX10_load_2_15 rfl rfl t0 (fun h2 eh2 => ?_)
  replace H := H h2 eh2
  refine r_aload_n dX10_load_2_18 rfl rfl ?_
  refine k_VV (As := []) (stk := []) hp cv_X10_52 dX10_load_2_19 rfl (Nat.le_of_ble_eq_true rfl) t0 (H.mono (fun h3 H => ?_)) ⟨Nat.le_refl _, Nat.le_refl _⟩
  exact r_vret dX10_load_2_22 rfl (Nat.le_refl _) (Nat.le_refl _) H
abbrev W_X10_makeRow (g : GX) (d : Nat) (av : List Value) (Q : QT) (n : Nat) (pc : Nat) (ls : LV) (stk : List Value) (h : Hp) : Prop := RJ g m_X10_makeRow (d + 1) 0 0 av Q pc ls stk n h 0 0
theorem s_X10_makeRow_0 {g : GX} {d : Nat} {av : List Value} {Q : QT} {n : Nat} {h : Hp} {a1 : Nat} {L1 : Nat} {x2 : Int32} (hp : g.2.2.2.2 = true) (t1 : lay a1 = (2, L1, 10)) (u1 : a1 < N0) (H : CallR g m_X10_newU d [.ref 2759] n h (fun v1 h1 => (lay v1 = (0, 13, 2) ∧ (∀ h2, h2 = wi h1 v1 1 (0 : Int32) → (W_X10_makeRow g d av Q n 13 [some (.ref 2759), some (.ref a1), some (.int x2), some (.ref v1), some (.int (0 : Int32)), none, none] [] h2))))) : W_X10_makeRow g d av Q n 0 [some (.ref 2759), some (.ref a1), some (.int x2), none, none, none, none] [] h := by
  refine r_aload_n dX10_makeRow_0 rfl rfl ?_
  refine k_VR (As := []) (stk := []) hp cv_X10_74 dX10_makeRow_1 rfl (Nat.le_of_ble_eq_true rfl) ly_10 (H.mono (fun v1 h1 H => ?_)) ⟨Nat.le_refl _, Nat.le_refl _⟩
  obtain ⟨tv1, H⟩ := H
  refine r_astore_n (ls2 := [some (.ref 2759), some (.ref a1), some (.int x2), some (.ref v1), none, none, none]) dX10_makeRow_4 rfl (by decide) rfl ?_
  refine r_aload_n dX10_makeRow_5 rfl rfl ?_
  refine r_iconst (v := (0 : Int32)) dX10_makeRow_6 rfl ?_
  refine m_putI hp fw_X10_25 dX10_makeRow_7 rfl rfl tv1 (fun h2 eh2 => ?_)
  replace H := H h2 eh2
  refine r_iconst (v := (0 : Int32)) dX10_makeRow_10 rfl ?_
  refine r_istore (ls2 := [some (.ref 2759), some (.ref a1), some (.int x2), some (.ref v1), some (.int (0 : Int32)), none, none]) dX10_makeRow_11 (by decide) rfl ?_
  exact H
theorem s_X10_makeRow_13 {g : GX} {d : Nat} {av : List Value} {Q : QT} {n : Nat} {h : Hp} {a1 : Nat} {L1 : Nat} {x2 : Int32} {a3 : Nat} {x4 : Int32} (hp : g.2.2.2.2 = true) (t1 : lay a1 = (2, L1, 10)) (u1 : a1 < N0) (t3 : lay a3 = (0, 13, 2)) (H : ((x2 < x4) → (CallV g m_X10_plain d [.ref 2842] n h (fun h1 => (∀ h2, h2 = wi h1 2842 0 (4 : Int32) → (∀ h3, h3 = wi h2 2842 10 x2 → (∀ h4, h4 = wi h3 2842 13 (0 : Int32) → (W_X10_makeRow g d av Q n 69 [some (.ref 2759), some (.ref a1), some (.int x2), some (.ref a3), some (.int (0 : Int32)), none, none] [] h4))))))) ∧ ((¬ x2 < x4) → (vp_in x4 L1 ∧ ∃ r5, rr h a1 (x4).toNatClampNeg = some r5 ∧ lay r5 = (0, 13, 2) ∧ (CallV g m_X10_gcd_2 d [.ref 2759, .ref a3, .ref a3, .ref r5] n h (fun h6 => (W_X10_makeRow g d av Q n 13 [some (.ref 2759), some (.ref a1), some (.int x2), some (.ref a3), some (.int (x4 + (1 : Int32))), none, none] [] h6)))))) : W_X10_makeRow g d av Q n 13 [some (.ref 2759), some (.ref a1), some (.int x2), some (.ref a3), some (.int x4), none, none] [] h := by
  refine r_iload dX10_makeRow_13 rfl ?_
  refine r_iload_n dX10_makeRow_15 rfl rfl ?_
  refine r_icmp_gt (tgt := 35) dX10_makeRow_16 rfl (fun cH => ?_) (fun cH => ?_)
  · replace H := H.1 cH
    refine r_aload_n dX10_makeRow_35 rfl rfl ?_
    refine m_getF (x := 2842) hp fw_X10_453 dX10_makeRow_36 rfl ly_10 (ff_10_21 ly_10) ?_
    refine k_SV (As := [.ref 2842]) (stk := []) cs_X10_257 dX10_makeRow_39 rfl (Nat.le_of_ble_eq_true rfl) (H.mono (fun h1 H => ?_)) ⟨Nat.le_refl _, Nat.le_refl _⟩
    refine r_aload_n dX10_makeRow_42 rfl rfl ?_
    refine m_getF (x := 2842) hp fw_X10_453 dX10_makeRow_43 rfl ly_10 (ff_10_21 ly_10) ?_
    refine r_iconst (v := (4 : Int32)) dX10_makeRow_46 rfl ?_
    refine m_putI hp fw_X10_202 dX10_makeRow_47 rfl rfl (lf_10_21 ly_10) (fun h2 eh2 => ?_)
    replace H := H h2 eh2
    refine r_aload_n dX10_makeRow_50 rfl rfl ?_
    refine m_getF (x := 2842) hp fw_X10_453 dX10_makeRow_51 rfl ly_10 (ff_10_21 ly_10) ?_
    refine r_iload_n dX10_makeRow_54 rfl rfl ?_
    refine m_putI hp fw_X10_234 dX10_makeRow_55 rfl rfl (lf_10_21 ly_10) (fun h3 eh3 => ?_)
    replace H := H h3 eh3
    refine r_aload_n dX10_makeRow_58 rfl rfl ?_
    refine m_getF (x := 2842) hp fw_X10_453 dX10_makeRow_59 rfl ly_10 (ff_10_21 ly_10) ?_
    refine r_iconst (v := (0 : Int32)) dX10_makeRow_62 rfl ?_
    refine m_putI hp fw_X10_243 dX10_makeRow_63 rfl rfl (lf_10_21 ly_10) (fun h4 eh4 => ?_)
    replace H := H h4 eh4
    refine r_iconst (v := (0 : Int32)) dX10_makeRow_66 rfl ?_
    refine r_istore (ls2 := [some (.ref 2759), some (.ref a1), some (.int x2), some (.ref a3), some (.int (0 : Int32)), none, none]) dX10_makeRow_67 (by decide) rfl ?_
    exact H
  · replace H := H.2 cH
    refine r_aload_n dX10_makeRow_19 rfl rfl ?_
    refine r_aload_n dX10_makeRow_20 rfl rfl ?_
    refine r_aload_n dX10_makeRow_21 rfl rfl ?_
    refine r_aload_n dX10_makeRow_22 rfl rfl ?_
    refine r_iload dX10_makeRow_23 rfl ?_
    have hir5 := H.1
    obtain ⟨r5, er5, tr5, H⟩ := H.2
    refine m_aalM (x := r5) hp dX10_makeRow_25 t1 rfl rfl u1 hir5 er5 ?_
    refine k_VV (As := [.ref a3, .ref a3, .ref r5]) (stk := []) hp cv_X10_125 dX10_makeRow_26 rfl (Nat.le_of_ble_eq_true rfl) ly_10 (H.mono (fun h6 H => ?_)) ⟨Nat.le_refl _, Nat.le_refl _⟩
    refine r_iinc (v := (x4 + (1 : Int32))) (ls2 := [some (.ref 2759), some (.ref a1), some (.int x2), some (.ref a3), some (.int (x4 + (1 : Int32))), none, none]) dX10_makeRow_29 rfl rfl (by decide) rfl ?_
    refine r_goto (tgt := 13) dX10_makeRow_32 rfl ?_
    exact H
theorem s_X10_makeRow_69 {g : GX} {d : Nat} {av : List Value} {Q : QT} {n : Nat} {h : Hp} {a1 : Nat} {L1 : Nat} {x2 : Int32} {a3 : Nat} {x4 : Int32} (hp : g.2.2.2.2 = true) (t1 : lay a1 = (2, L1, 10)) (u1 : a1 < N0) (t3 : lay a3 = (0, 13, 2)) (H : (((175 : Int32) ≤ x4) → (W_X10_makeRow g d av Q n 103 [some (.ref 2759), some (.ref a1), some (.int x2), some (.ref a3), some (.int (1 : Int32)), some (.int (1 : Int32)), some (.int x2)] [] h)) ∧ ((¬ (175 : Int32) ≤ x4) → (vp_in x4 175 ∧ ∀ h1, h1 = wi h 2849 (x4).toNatClampNeg (0 : Int32) → (W_X10_makeRow g d av Q n 69 [some (.ref 2759), some (.ref a1), some (.int x2), some (.ref a3), some (.int (x4 + (1 : Int32))), none, none] [] h1)))) : W_X10_makeRow g d av Q n 69 [some (.ref 2759), some (.ref a1), some (.int x2), some (.ref a3), some (.int x4), none, none] [] h := by
  refine r_iload dX10_makeRow_69 rfl ?_
  refine r_sipush (v := (175 : Int32)) dX10_makeRow_71 rfl ?_
  refine r_icmp_ge (tgt := 94) dX10_makeRow_74 rfl (fun cH => ?_) (fun cH => ?_)
  · replace H := H.1 cH
    refine r_iconst (v := (1 : Int32)) dX10_makeRow_94 rfl ?_
    refine r_istore (ls2 := [some (.ref 2759), some (.ref a1), some (.int x2), some (.ref a3), some (.int (1 : Int32)), none, none]) dX10_makeRow_95 (by decide) rfl ?_
    refine r_iconst (v := (1 : Int32)) dX10_makeRow_97 rfl ?_
    refine r_istore (ls2 := [some (.ref 2759), some (.ref a1), some (.int x2), some (.ref a3), some (.int (1 : Int32)), some (.int (1 : Int32)), none]) dX10_makeRow_98 (by decide) rfl ?_
    refine r_iload_n dX10_makeRow_100 rfl rfl ?_
    refine r_istore (ls2 := [some (.ref 2759), some (.ref a1), some (.int x2), some (.ref a3), some (.int (1 : Int32)), some (.int (1 : Int32)), some (.int x2)]) dX10_makeRow_101 (by decide) rfl ?_
    exact H
  · replace H := H.2 cH
    refine r_aload_n dX10_makeRow_77 rfl rfl ?_
    refine m_getF (x := 2842) hp fw_X10_453 dX10_makeRow_78 rfl ly_10 (ff_10_21 ly_10) ?_
    refine m_getF (x := 2849) hp fw_X10_237 dX10_makeRow_81 rfl (lf_10_21 ly_10) (ff_11_11 (lf_10_21 ly_10)) ?_
    refine r_iload dX10_makeRow_84 rfl ?_
    refine r_iconst (v := (0 : Int32)) dX10_makeRow_86 rfl ?_
    refine m_iast hp dX10_makeRow_87 (lf_11_11 (lf_10_21 ly_10)) H.1 (fun h1 eh1 => ?_)
    replace H := H.2 h1 eh1
    refine r_iinc (v := (x4 + (1 : Int32))) (ls2 := [some (.ref 2759), some (.ref a1), some (.int x2), some (.ref a3), some (.int (x4 + (1 : Int32))), none, none]) dX10_makeRow_88 rfl rfl (by decide) rfl ?_
    refine r_goto (tgt := 69) dX10_makeRow_91 rfl ?_
    exact H
theorem s_X10_makeRow_103 {g : GX} {d : Nat} {av : List Value} {Q : QT} {n : Nat} {h : Hp} {a1 : Nat} {L1 : Nat} {x2 : Int32} {a3 : Nat} {x4 : Int32} {x5 : Int32} {x6 : Int32} (hp : g.2.2.2.2 = true) (t1 : lay a1 = (2, L1, 10)) (u1 : a1 < N0) (t3 : lay a3 = (0, 13, 2)) (H : ((x6 < (0 : Int32)) → ((x4 = 0 ∨ x4 = 1) ∧ Q (some (.int x4)) n h)) ∧ ((¬ x6 < (0 : Int32)) → (vp_in x6 L1 ∧ ∃ r1, rr h a1 (x6).toNatClampNeg = some r1 ∧ lay r1 = (0, 13, 2) ∧ (vp_in x6 L1 ∧ ∃ r2, rr h a1 (x6).toNatClampNeg = some r2 ∧ lay r2 = (0, 13, 2) ∧ (CallV g m_X10_exact d [.ref 2759, .ref r1, .ref r2, .ref a3] n h (fun h3 => (((¬ x6 = x2) → (W_X10_makeRow g d av Q n 142 [some (.ref 2759), some (.ref a1), some (.int x2), some (.ref a3), some (.int x4), none, some (.int x6)] [.int x5] h3)) ∧ ((x6 = x2) → (vp_in x6 L1 ∧ ∃ r4, rr h3 a1 (x6).toNatClampNeg = some r4 ∧ lay r4 = (0, 13, 2) ∧ (CallI g m_X13_head d [.ref r4] n h3 (fun v5 h5 => (CallI g m_X10_inv d [.int v5] n h5 (fun v6 h6 => (W_X10_makeRow g d av Q n 142 [some (.ref 2759), some (.ref a1), some (.int x2), some (.ref a3), some (.int x4), none, some (.int x6)] [.int v6] h6)))))))))))))) : W_X10_makeRow g d av Q n 103 [some (.ref 2759), some (.ref a1), some (.int x2), some (.ref a3), some (.int x4), some (.int x5), some (.int x6)] [] h := by
  refine r_iload dX10_makeRow_103 rfl ?_
  refine r_if_lt (tgt := 209) dX10_makeRow_105 rfl (fun cH => ?_) (fun cH => ?_)
  · replace H := H.1 cH
    refine r_iload dX10_makeRow_209 rfl ?_
    exact r_zret dX10_makeRow_211 rfl (nar01 H.1) (Nat.le_refl _) (Nat.le_refl _) H.2
  · replace H := H.2 cH
    refine r_aload_n dX10_makeRow_108 rfl rfl ?_
    refine r_aload_n dX10_makeRow_109 rfl rfl ?_
    refine r_iload dX10_makeRow_110 rfl ?_
    have hir1 := H.1
    obtain ⟨r1, er1, tr1, H⟩ := H.2
    refine m_aalM (x := r1) hp dX10_makeRow_112 t1 rfl rfl u1 hir1 er1 ?_
    refine r_aload_n dX10_makeRow_113 rfl rfl ?_
    refine r_iload dX10_makeRow_114 rfl ?_
    have hir2 := H.1
    obtain ⟨r2, er2, tr2, H⟩ := H.2
    refine m_aalM (x := r2) hp dX10_makeRow_116 t1 rfl rfl u1 hir2 er2 ?_
    refine r_aload_n dX10_makeRow_117 rfl rfl ?_
    refine k_VV (As := [.ref r1, .ref r2, .ref a3]) (stk := []) hp cv_X10_110 dX10_makeRow_118 rfl (Nat.le_of_ble_eq_true rfl) ly_10 (H.mono (fun h3 H => ?_)) ⟨Nat.le_refl _, Nat.le_refl _⟩
    refine r_iload dX10_makeRow_121 rfl ?_
    refine r_iload_n dX10_makeRow_123 rfl rfl ?_
    refine r_icmp_ne (tgt := 140) dX10_makeRow_124 rfl (fun cH => ?_) (fun cH => ?_)
    · replace H := H.1 cH
      refine r_iload dX10_makeRow_140 rfl ?_
      refine r_prune [true, true, true, true, true, false, true] (ls2 := [some (.ref 2759), some (.ref a1), some (.int x2), some (.ref a3), some (.int x4), none, some (.int x6)]) rfl ?_
      exact H
    · replace H := H.2 cH
      refine r_aload_n dX10_makeRow_127 rfl rfl ?_
      refine r_iload dX10_makeRow_128 rfl ?_
      have hir4 := H.1
      obtain ⟨r4, er4, tr4, H⟩ := H.2
      refine m_aalM (x := r4) hp dX10_makeRow_130 t1 rfl rfl u1 hir4 er4 ?_
      refine k_VI (As := []) (stk := []) hp cv_X10_66 dX10_makeRow_131 rfl (Nat.le_of_ble_eq_true rfl) tr4 (H.mono (fun v5 h5 H => ?_)) ⟨Nat.le_refl _, Nat.le_refl _⟩
      refine k_SI (As := [.int v5]) (stk := []) cs_X10_13 dX10_makeRow_134 rfl (Nat.le_of_ble_eq_true rfl) (H.mono (fun v6 h6 H => ?_)) ⟨Nat.le_refl _, Nat.le_refl _⟩
      refine r_goto (tgt := 142) dX10_makeRow_137 rfl ?_
      refine r_prune [true, true, true, true, true, false, true] (ls2 := [some (.ref 2759), some (.ref a1), some (.int x2), some (.ref a3), some (.int x4), none, some (.int x6)]) rfl ?_
      exact H
theorem s_X10_makeRow_142 {g : GX} {d : Nat} {av : List Value} {Q : QT} {n : Nat} {h : Hp} {a1 : Nat} {L1 : Nat} {x2 : Int32} {a3 : Nat} {x4 : Int32} {x6 : Int32} {xs0 : Int32} (hp : g.2.2.2.2 = true) (t1 : lay a1 = (2, L1, 10)) (u1 : a1 < N0) (t3 : lay a3 = (0, 13, 2)) (H : vp_in x6 L1 ∧ ∃ r1, rr h a1 (x6).toNatClampNeg = some r1 ∧ lay r1 = (0, 13, 2) ∧ (vp_in x6 L1 ∧ ∃ r2, rr h a1 (x6).toNatClampNeg = some r2 ∧ lay r2 = (0, 13, 2) ∧ (CallV g m_X10_scale_2 d [.ref r1, .ref r2, .int xs0] n h (fun h3 => (vp_in x6 L1 ∧ ∃ r4, rr h3 a1 (x6).toNatClampNeg = some r4 ∧ lay r4 = (0, 13, 2) ∧ ((((25 : Int32) < (ri h3 r4 1)) → (W_X10_makeRow g d av Q n 176 [some (.ref 2759), some (.ref a1), some (.int x2), some (.ref a3), none, some (.int xs0), some (.int x6)] [.int (0 : Int32), .int x4] h3)) ∧ ((¬ (25 : Int32) < (ri h3 r4 1)) → (W_X10_makeRow g d av Q n 176 [some (.ref 2759), some (.ref a1), some (.int x2), some (.ref a3), none, some (.int xs0), some (.int x6)] [.int (1 : Int32), .int x4] h3)))))))) : W_X10_makeRow g d av Q n 142 [some (.ref 2759), some (.ref a1), some (.int x2), some (.ref a3), some (.int x4), none, some (.int x6)] [.int xs0] h := by
  refine r_istore (ls2 := [some (.ref 2759), some (.ref a1), some (.int x2), some (.ref a3), some (.int x4), some (.int xs0), some (.int x6)]) dX10_makeRow_142 (by decide) rfl ?_
  refine r_aload_n dX10_makeRow_144 rfl rfl ?_
  refine r_iload dX10_makeRow_145 rfl ?_
  have hir1 := H.1
  obtain ⟨r1, er1, tr1, H⟩ := H.2
  refine m_aalM (x := r1) hp dX10_makeRow_147 t1 rfl rfl u1 hir1 er1 ?_
  refine r_aload_n dX10_makeRow_148 rfl rfl ?_
  refine r_iload dX10_makeRow_149 rfl ?_
  have hir2 := H.1
  obtain ⟨r2, er2, tr2, H⟩ := H.2
  refine m_aalM (x := r2) hp dX10_makeRow_151 t1 rfl rfl u1 hir2 er2 ?_
  refine r_iload dX10_makeRow_152 rfl ?_
  refine k_SV (As := [.ref r1, .ref r2, .int xs0]) (stk := []) cs_X10_70 dX10_makeRow_154 rfl (Nat.le_of_ble_eq_true rfl) (H.mono (fun h3 H => ?_)) ⟨Nat.le_refl _, Nat.le_refl _⟩
  refine r_iload dX10_makeRow_157 rfl ?_
  refine r_aload_n dX10_makeRow_159 rfl rfl ?_
  refine r_iload dX10_makeRow_160 rfl ?_
  have hir4 := H.1
  obtain ⟨r4, er4, tr4, H⟩ := H.2
  refine m_aalM (x := r4) hp dX10_makeRow_162 t1 rfl rfl u1 hir4 er4 ?_
  refine m_getI hp fw_X10_25 dX10_makeRow_163 rfl tr4 ?_
  refine r_bipush (v := (25 : Int32)) dX10_makeRow_166 rfl ?_
  refine r_icmp_gt (tgt := 175) dX10_makeRow_168 rfl (fun cH => ?_) (fun cH => ?_)
  · replace H := H.1 cH
    refine r_iconst (v := (0 : Int32)) dX10_makeRow_175 rfl ?_
    refine r_prune [true, true, true, true, false, true, true] (ls2 := [some (.ref 2759), some (.ref a1), some (.int x2), some (.ref a3), none, some (.int xs0), some (.int x6)]) rfl ?_
    exact H
  · replace H := H.2 cH
    refine r_iconst (v := (1 : Int32)) dX10_makeRow_171 rfl ?_
    refine r_goto (tgt := 176) dX10_makeRow_172 rfl ?_
    refine r_prune [true, true, true, true, false, true, true] (ls2 := [some (.ref 2759), some (.ref a1), some (.int x2), some (.ref a3), none, some (.int xs0), some (.int x6)]) rfl ?_
    exact H
theorem s_X10_makeRow_176 {g : GX} {d : Nat} {av : List Value} {Q : QT} {n : Nat} {h : Hp} {a1 : Nat} {L1 : Nat} {x2 : Int32} {a3 : Nat} {x5 : Int32} {x6 : Int32} {xs0 : Int32} {xs1 : Int32} (hp : g.2.2.2.2 = true) (t1 : lay a1 = (2, L1, 10)) (u1 : a1 < N0) (t3 : lay a3 = (0, 13, 2)) (H : (((xs1 &&& xs0) = (0 : Int32)) → (W_X10_makeRow g d av Q n 203 [some (.ref 2759), some (.ref a1), some (.int x2), some (.ref a3), some (.int (xs1 &&& xs0)), some (.int x5), some (.int x6)] [] h)) ∧ ((¬ (xs1 &&& xs0) = (0 : Int32)) → (vp_in x6 L1 ∧ ∃ r1, rr h a1 (x6).toNatClampNeg = some r1 ∧ lay r1 = (0, 13, 2) ∧ (CallV g m_X10_store_2 d [.ref 2849, .int ((25 : Int32) * x6), .ref r1] n h (fun h2 => (W_X10_makeRow g d av Q n 203 [some (.ref 2759), some (.ref a1), some (.int x2), some (.ref a3), some (.int (xs1 &&& xs0)), some (.int x5), some (.int x6)] [] h2)))))) : W_X10_makeRow g d av Q n 176 [some (.ref 2759), some (.ref a1), some (.int x2), some (.ref a3), none, some (.int x5), some (.int x6)] [.int xs0, .int xs1] h := by
  refine r_iand dX10_makeRow_176 ?_
  refine r_istore (ls2 := [some (.ref 2759), some (.ref a1), some (.int x2), some (.ref a3), some (.int (xs1 &&& xs0)), some (.int x5), some (.int x6)]) dX10_makeRow_177 (by decide) rfl ?_
  refine r_iload dX10_makeRow_179 rfl ?_
  refine r_if_eq (tgt := 203) dX10_makeRow_181 rfl (fun cH => ?_) (fun cH => ?_)
  · replace H := H.1 cH
    exact H
  · replace H := H.2 cH
    refine r_aload_n dX10_makeRow_184 rfl rfl ?_
    refine m_getF (x := 2842) hp fw_X10_453 dX10_makeRow_185 rfl ly_10 (ff_10_21 ly_10) ?_
    refine m_getF (x := 2849) hp fw_X10_237 dX10_makeRow_188 rfl (lf_10_21 ly_10) (ff_11_11 (lf_10_21 ly_10)) ?_
    refine r_bipush (v := (25 : Int32)) dX10_makeRow_191 rfl ?_
    refine r_iload dX10_makeRow_193 rfl ?_
    refine r_imul dX10_makeRow_195 ?_
    refine r_aload_n dX10_makeRow_196 rfl rfl ?_
    refine r_iload dX10_makeRow_197 rfl ?_
    have hir1 := H.1
    obtain ⟨r1, er1, tr1, H⟩ := H.2
    refine m_aalM (x := r1) hp dX10_makeRow_199 t1 rfl rfl u1 hir1 er1 ?_
    refine k_SV (As := [.ref 2849, .int ((25 : Int32) * x6), .ref r1]) (stk := []) cs_X10_762 dX10_makeRow_200 rfl (Nat.le_of_ble_eq_true rfl) (H.mono (fun h2 H => ?_)) ⟨Nat.le_refl _, Nat.le_refl _⟩
    exact H
theorem s_X10_makeRow_203 {g : GX} {d : Nat} {av : List Value} {Q : QT} {n : Nat} {h : Hp} {a1 : Nat} {L1 : Nat} {x2 : Int32} {a3 : Nat} {x4 : Int32} {x5 : Int32} {x6 : Int32} (hp : g.2.2.2.2 = true) (t1 : lay a1 = (2, L1, 10)) (u1 : a1 < N0) (t3 : lay a3 = (0, 13, 2)) (H : W_X10_makeRow g d av Q n 103 [some (.ref 2759), some (.ref a1), some (.int x2), some (.ref a3), some (.int x4), some (.int x5), some (.int (x6 + (-1 : Int32)))] [] h) : W_X10_makeRow g d av Q n 203 [some (.ref 2759), some (.ref a1), some (.int x2), some (.ref a3), some (.int x4), some (.int x5), some (.int x6)] [] h := by
  refine r_iinc (v := (x6 + (-1 : Int32))) (ls2 := [some (.ref 2759), some (.ref a1), some (.int x2), some (.ref a3), some (.int x4), some (.int x5), some (.int (x6 + (-1 : Int32)))]) dX10_makeRow_203 rfl rfl (by decide) rfl ?_
  refine r_goto (tgt := 103) dX10_makeRow_206 rfl ?_
  exact H
abbrev W_X10_needsOf (g : GX) (d : Nat) (av : List Value) (Q : QT) (n : Nat) (pc : Nat) (ls : LV) (stk : List Value) (h : Hp) : Prop := RJ g m_X10_needsOf (d + 1) 0 0 av Q pc ls stk n h 0 0
theorem s_X10_needsOf_0 {g : GX} {d : Nat} {av : List Value} {Q : QT} {n : Nat} {h : Hp} {a0 : Nat} {L0 : Nat} {x1 : Int32} {x2 : Int32} (hp : g.2.2.2.2 = true) (t0 : lay a0 = (1, L0, 0)) (H : CallI g m_J3_max d [.int x1, .int x2] n h (fun v1 h1 => (W_X10_needsOf g d av Q n 9 [some (.ref a0), some (.int x1), none, some (.int v1), some (.int (0 : Int32))] [] h1))) : W_X10_needsOf g d av Q n 0 [some (.ref a0), some (.int x1), some (.int x2), none, none] [] h := by
  refine r_iload_n dX10_needsOf_0 rfl rfl ?_
  refine r_iload_n dX10_needsOf_1 rfl rfl ?_
  refine k_SI (As := [.int x1, .int x2]) (stk := []) cs_X10_40 dX10_needsOf_2 rfl (Nat.le_of_ble_eq_true rfl) (H.mono (fun v1 h1 H => ?_)) ⟨Nat.le_refl _, Nat.le_refl _⟩
  refine r_istore_n (ls2 := [some (.ref a0), some (.int x1), some (.int x2), some (.int v1), none]) dX10_needsOf_5 rfl (by decide) rfl ?_
  refine r_iconst (v := (0 : Int32)) dX10_needsOf_6 rfl ?_
  refine r_istore (ls2 := [some (.ref a0), some (.int x1), some (.int x2), some (.int v1), some (.int (0 : Int32))]) dX10_needsOf_7 (by decide) rfl ?_
  refine r_prune [true, true, false, true, true] (ls2 := [some (.ref a0), some (.int x1), none, some (.int v1), some (.int (0 : Int32))]) rfl ?_
  exact H
theorem s_X10_needsOf_9 {g : GX} {d : Nat} {av : List Value} {Q : QT} {n : Nat} {h : Hp} {a0 : Nat} {L0 : Nat} {x1 : Int32} {x3 : Int32} {x4 : Int32} (hp : g.2.2.2.2 = true) (t0 : lay a0 = (1, L0, 0)) (H : (((300 : Int32) < x4) → (Q (some (.int x3)) n h)) ∧ ((¬ (300 : Int32) < x4) → (CallI g m_X10_polynomialAt d [.ref a0, .int ((25 : Int32) * x1), .int x4] n h (fun v1 h1 => (((¬ v1 = (0 : Int32)) → (W_X10_needsOf g d av Q n 44 [some (.ref a0), some (.int x1), none, none, some (.int x4)] [.int x3] h1)) ∧ ((v1 = (0 : Int32)) → (CallI g m_J3_max d [.int x3, .int ((x1 + (1 : Int32)) + x4)] n h1 (fun v2 h2 => (W_X10_needsOf g d av Q n 44 [some (.ref a0), some (.int x1), none, none, some (.int x4)] [.int v2] h2))))))))) : W_X10_needsOf g d av Q n 9 [some (.ref a0), some (.int x1), none, some (.int x3), some (.int x4)] [] h := by
  refine r_iload dX10_needsOf_9 rfl ?_
  refine r_sipush (v := (300 : Int32)) dX10_needsOf_11 rfl ?_
  refine r_icmp_gt (tgt := 51) dX10_needsOf_14 rfl (fun cH => ?_) (fun cH => ?_)
  · replace H := H.1 cH
    refine r_iload_n dX10_needsOf_51 rfl rfl ?_
    exact r_zret dX10_needsOf_52 rfl rfl (Nat.le_refl _) (Nat.le_refl _) H
  · replace H := H.2 cH
    refine r_aload_n dX10_needsOf_17 rfl rfl ?_
    refine r_bipush (v := (25 : Int32)) dX10_needsOf_18 rfl ?_
    refine r_iload_n dX10_needsOf_20 rfl rfl ?_
    refine r_imul dX10_needsOf_21 ?_
    refine r_iload dX10_needsOf_22 rfl ?_
    refine k_SI (As := [.ref a0, .int ((25 : Int32) * x1), .int x4]) (stk := []) cs_X10_772 dX10_needsOf_24 rfl (Nat.le_of_ble_eq_true rfl) (H.mono (fun v1 h1 H => ?_)) ⟨Nat.le_refl _, Nat.le_refl _⟩
    refine r_if_ne (tgt := 43) dX10_needsOf_27 rfl (fun cH => ?_) (fun cH => ?_)
    · replace H := H.1 cH
      refine r_iload_n dX10_needsOf_43 rfl rfl ?_
      refine r_prune [true, true, false, false, true] (ls2 := [some (.ref a0), some (.int x1), none, none, some (.int x4)]) rfl ?_
      exact H
    · replace H := H.2 cH
      refine r_iload_n dX10_needsOf_30 rfl rfl ?_
      refine r_iload_n dX10_needsOf_31 rfl rfl ?_
      refine r_iconst (v := (1 : Int32)) dX10_needsOf_32 rfl ?_
      refine r_iadd dX10_needsOf_33 ?_
      refine r_iload dX10_needsOf_34 rfl ?_
      refine r_iadd dX10_needsOf_36 ?_
      refine k_SI (As := [.int x3, .int ((x1 + (1 : Int32)) + x4)]) (stk := []) cs_X10_40 dX10_needsOf_37 rfl (Nat.le_of_ble_eq_true rfl) (H.mono (fun v2 h2 H => ?_)) ⟨Nat.le_refl _, Nat.le_refl _⟩
      refine r_goto (tgt := 44) dX10_needsOf_40 rfl ?_
      refine r_prune [true, true, false, false, true] (ls2 := [some (.ref a0), some (.int x1), none, none, some (.int x4)]) rfl ?_
      exact H
theorem s_X10_needsOf_44 {g : GX} {d : Nat} {av : List Value} {Q : QT} {n : Nat} {h : Hp} {a0 : Nat} {L0 : Nat} {x1 : Int32} {x4 : Int32} {xs0 : Int32} (hp : g.2.2.2.2 = true) (t0 : lay a0 = (1, L0, 0)) (H : W_X10_needsOf g d av Q n 9 [some (.ref a0), some (.int x1), none, some (.int xs0), some (.int (x4 + (1 : Int32)))] [] h) : W_X10_needsOf g d av Q n 44 [some (.ref a0), some (.int x1), none, none, some (.int x4)] [.int xs0] h := by
  refine r_istore_n (ls2 := [some (.ref a0), some (.int x1), none, some (.int xs0), some (.int x4)]) dX10_needsOf_44 rfl (by decide) rfl ?_
  refine r_iinc (v := (x4 + (1 : Int32))) (ls2 := [some (.ref a0), some (.int x1), none, some (.int xs0), some (.int (x4 + (1 : Int32)))]) dX10_needsOf_45 rfl rfl (by decide) rfl ?_
  refine r_goto (tgt := 9) dX10_needsOf_48 rfl ?_
  exact H
abbrev W_X10_first (g : GX) (d : Nat) (av : List Value) (Q : QT) (n : Nat) (pc : Nat) (ls : LV) (stk : List Value) (h : Hp) : Prop := RJ g m_X10_first (d + 1) 0 0 av Q pc ls stk n h 0 0
theorem s_X10_first_0 {g : GX} {d : Nat} {av : List Value} {Q : QT} {n : Nat} {h : Hp} {x1 : Int32} {x2 : Int32} (hp : g.2.2.2.2 = true)  (H : CallI g m_X10_isSlot d [.int x1] n h (fun v1 h1 => (((¬ v1 = (0 : Int32)) → (vp_in x1 12 ∧ ∀ r2, r2 = 10245 + 9 * (x1).toNatClampNeg → ((((ri h1 r2 0) = (4 : Int32)) → (((¬ (ri h1 r2 13) = (ri h1 r2 12)) → (∀ h3, h3 = wi h1 r2 13 ((ri h1 r2 13) + (1 : Int32)) → (CallI g m_X10_rest d [.int x2] n h3 (fun v4 h4 => (vp_in (ri h1 r2 13) 361 ∧ ∀ h5, h5 = wi h4 (r2 + 8) ((ri h1 r2 13)).toNatClampNeg v4 → (CallV g m_X10_fill d [.ref r2] n h5 (fun h6 => (Q (some (.int (ri h6 r2 13))) n h6)))))))) ∧ (((ri h1 r2 13) = (ri h1 r2 12)) → (Q (some (.int (-1 : Int32))) n h1)))) ∧ ((¬ (ri h1 r2 0) = (4 : Int32)) → (Q (some (.int (-3 : Int32))) n h1))))) ∧ ((v1 = (0 : Int32)) → (Q (some (.int (-1 : Int32))) n h1))))) : W_X10_first g d av Q n 0 [some (.ref 2759), some (.int x1), some (.int x2), none] [] h := by
  refine r_iload_n dX10_first_0 rfl rfl ?_
  refine k_SI (As := [.int x1]) (stk := []) cs_X10_551 dX10_first_1 rfl (Nat.le_of_ble_eq_true rfl) (H.mono (fun v1 h1 H => ?_)) ⟨Nat.le_refl _, Nat.le_refl _⟩
  refine r_if_ne (tgt := 9) dX10_first_4 rfl (fun cH => ?_) (fun cH => ?_)
  · replace H := H.1 cH
    refine r_aload_n dX10_first_9 rfl rfl ?_
    refine m_getF (x := 2841) hp fw_X10_450 dX10_first_10 rfl ly_10 (ff_10_20 ly_10) ?_
    refine r_iload_n dX10_first_13 rfl rfl ?_
    obtain ⟨r2, er2⟩ : ∃ y, y = 10245 + 9 * (x1).toNatClampNeg := ⟨_, rfl⟩
    have hir2 := H.1
    replace H := H.2 r2 er2
    have tLr2 := la_2841 hir2 er2
    refine m_aalF (x := r2) hp dX10_first_14 (lf_10_20 ly_10) rfl rfl (lu_10_20 ly_10) hir2 (fa_2841 hir2 er2) ?_
    refine r_astore_n (ls2 := [some (.ref 2759), some (.int x1), some (.int x2), some (.ref r2)]) dX10_first_15 rfl (by decide) rfl ?_
    refine r_aload_n dX10_first_16 rfl rfl ?_
    refine m_getI hp fw_X10_202 dX10_first_17 rfl tLr2 ?_
    refine r_iconst (v := (4 : Int32)) dX10_first_20 rfl ?_
    refine r_icmp_eq (tgt := 27) dX10_first_21 rfl (fun cH => ?_) (fun cH => ?_)
    · replace H := H.1 cH
      refine r_aload_n dX10_first_27 rfl rfl ?_
      refine m_getI hp fw_X10_243 dX10_first_28 rfl tLr2 ?_
      refine r_aload_n dX10_first_31 rfl rfl ?_
      refine m_getI hp fw_X10_240 dX10_first_32 rfl tLr2 ?_
      refine r_icmp_ne (tgt := 40) dX10_first_35 rfl (fun cH => ?_) (fun cH => ?_)
      · replace H := H.1 cH
        refine r_aload_n dX10_first_40 rfl rfl ?_
        refine m_getF (x := (r2 + 8)) hp fw_X10_246 dX10_first_41 rfl tLr2 (ff_11_14 tLr2) ?_
        refine r_aload_n dX10_first_44 rfl rfl ?_
        refine r_dup dX10_first_45 rfl ?_
        refine m_getI hp fw_X10_243 dX10_first_46 rfl tLr2 ?_
        refine r_dup_x1 dX10_first_49 rfl rfl ?_
        refine r_iconst (v := (1 : Int32)) dX10_first_50 rfl ?_
        refine r_iadd dX10_first_51 ?_
        refine m_putI hp fw_X10_243 dX10_first_52 rfl rfl tLr2 (fun h3 eh3 => ?_)
        replace H := H h3 eh3
        refine r_iload_n dX10_first_55 rfl rfl ?_
        refine k_SI (As := [.int x2]) (stk := [.int (ri h1 r2 13), .ref (r2 + 8)]) cs_X10_600 dX10_first_56 rfl (Nat.le_of_ble_eq_true rfl) (H.mono (fun v4 h4 H => ?_)) ⟨Nat.le_refl _, Nat.le_refl _⟩
        refine m_iast hp dX10_first_59 (lf_11_14 tLr2) H.1 (fun h5 eh5 => ?_)
        replace H := H.2 h5 eh5
        refine r_aload_n dX10_first_60 rfl rfl ?_
        refine k_SV (As := [.ref r2]) (stk := []) cs_X10_784 dX10_first_61 rfl (Nat.le_of_ble_eq_true rfl) (H.mono (fun h6 H => ?_)) ⟨Nat.le_refl _, Nat.le_refl _⟩
        refine r_aload_n dX10_first_64 rfl rfl ?_
        refine m_getI hp fw_X10_243 dX10_first_65 rfl tLr2 ?_
        exact r_zret dX10_first_68 rfl rfl (Nat.le_refl _) (Nat.le_refl _) H
      · replace H := H.2 cH
        refine r_iconst (v := (-1 : Int32)) dX10_first_38 rfl ?_
        exact r_zret dX10_first_39 rfl rfl (Nat.le_refl _) (Nat.le_refl _) H
    · replace H := H.2 cH
      refine r_bipush (v := (-3 : Int32)) dX10_first_24 rfl ?_
      exact r_zret dX10_first_26 rfl rfl (Nat.le_refl _) (Nat.le_refl _) H
  · replace H := H.2 cH
    refine r_iconst (v := (-1 : Int32)) dX10_first_7 rfl ?_
    exact r_zret dX10_first_8 rfl rfl (Nat.le_refl _) (Nat.le_refl _) H
abbrev W_X10_fill (g : GX) (d : Nat) (av : List Value) (Q : QT) (n : Nat) (pc : Nat) (ls : LV) (stk : List Value) (h : Hp) : Prop := RJ g m_X10_fill (d + 1) 0 0 av Q pc ls stk n h 0 0
theorem s_X10_fill_0 {g : GX} {d : Nat} {av : List Value} {Q : QT} {n : Nat} {h : Hp} {a0 : Nat} (hp : g.2.2.2.2 = true) (t0 : lay a0 = (0, 11, 15)) (H : (((ri h a0 12) ≤ (ri h a0 13)) → (W_X10_fill g d av Q n 17 [some (.ref a0), some (.int (ri h a0 12)), none, none, none] [] h)) ∧ ((¬ (ri h a0 12) ≤ (ri h a0 13)) → (Q none n h))) : W_X10_fill g d av Q n 0 [some (.ref a0), none, none, none, none] [] h := by
  refine r_aload_n dX10_fill_0 rfl rfl ?_
  refine m_getI hp fw_X10_243 dX10_fill_1 rfl t0 ?_
  refine r_aload_n dX10_fill_4 rfl rfl ?_
  refine m_getI hp fw_X10_240 dX10_fill_5 rfl t0 ?_
  refine r_icmp_ge (tgt := 12) dX10_fill_8 rfl (fun cH => ?_) (fun cH => ?_)
  · replace H := H.1 cH
    refine r_aload_n dX10_fill_12 rfl rfl ?_
    refine m_getI hp fw_X10_240 dX10_fill_13 rfl t0 ?_
    refine r_istore_n (ls2 := [some (.ref a0), some (.int (ri h a0 12)), none, none, none]) dX10_fill_16 rfl (by decide) rfl ?_
    exact H
  · replace H := H.2 cH
    exact r_vret dX10_fill_11 rfl (Nat.le_refl _) (Nat.le_refl _) H
theorem s_X10_fill_17 {g : GX} {d : Nat} {av : List Value} {Q : QT} {n : Nat} {h : Hp} {a0 : Nat} {x1 : Int32} (hp : g.2.2.2.2 = true) (t0 : lay a0 = (0, 11, 15)) (H : (((300 : Int32) < x1) → (Q none n h)) ∧ ((¬ (300 : Int32) < x1) → (W_X10_fill g d av Q n 36 [some (.ref a0), some (.int x1), some (.int (x1 - (ri h a0 10))), some (.int (0 : Int32)), some (.int (0 : Int32))] [] h))) : W_X10_fill g d av Q n 17 [some (.ref a0), some (.int x1), none, none, none] [] h := by
  refine r_iload_n dX10_fill_17 rfl rfl ?_
  refine r_sipush (v := (300 : Int32)) dX10_fill_18 rfl ?_
  refine r_icmp_gt (tgt := 119) dX10_fill_21 rfl (fun cH => ?_) (fun cH => ?_)
  · replace H := H.1 cH
    exact r_vret dX10_fill_119 rfl (Nat.le_refl _) (Nat.le_refl _) H
  · replace H := H.2 cH
    refine r_iload_n dX10_fill_24 rfl rfl ?_
    refine r_aload_n dX10_fill_25 rfl rfl ?_
    refine m_getI hp fw_X10_234 dX10_fill_26 rfl t0 ?_
    refine r_isub dX10_fill_29 ?_
    refine r_istore_n (ls2 := [some (.ref a0), some (.int x1), some (.int (x1 - (ri h a0 10))), none, none]) dX10_fill_30 rfl (by decide) rfl ?_
    refine r_iconst (v := (0 : Int32)) dX10_fill_31 rfl ?_
    refine r_istore_n (ls2 := [some (.ref a0), some (.int x1), some (.int (x1 - (ri h a0 10))), some (.int (0 : Int32)), none]) dX10_fill_32 rfl (by decide) rfl ?_
    refine r_iconst (v := (0 : Int32)) dX10_fill_33 rfl ?_
    refine r_istore (ls2 := [some (.ref a0), some (.int x1), some (.int (x1 - (ri h a0 10))), some (.int (0 : Int32)), some (.int (0 : Int32))]) dX10_fill_34 (by decide) rfl ?_
    exact H
theorem s_X10_fill_36 {g : GX} {d : Nat} {av : List Value} {Q : QT} {n : Nat} {h : Hp} {a0 : Nat} {x1 : Int32} {x2 : Int32} {x3 : Int32} {x4 : Int32} (hp : g.2.2.2.2 = true) (t0 : lay a0 = (0, 11, 15)) (H : (((ri h a0 10) ≤ x4) → (CallI g m_X10_sub d [.int (0 : Int32), .int x3] n h (fun v1 h1 => (CallI g m_X10_polynomialAt d [.ref (a0 + 7), .int ((25 : Int32) * (ri h1 a0 10)), .int x2] n h1 (fun v2 h2 => (CallI g m_X10_inv d [.int v2] n h2 (fun v3 h3 => (CallI g m_X10_mul d [.int v1, .int v3] n h3 (fun v4 h4 => (vp_in x1 361 ∧ ∀ h5, h5 = wi h4 (a0 + 8) (x1).toNatClampNeg v4 → (W_X10_fill g d av Q n 17 [some (.ref a0), some (.int (x1 + (1 : Int32))), none, none, none] [] h5))))))))))) ∧ ((¬ (ri h a0 10) ≤ x4) → (CallI g m_X10_polynomialAt d [.ref (a0 + 7), .int ((25 : Int32) * x4), .int x2] n h (fun v6 h6 => (vp_in (x2 + x4) 361 ∧ (CallI g m_X10_mul d [.int v6, .int (ri h6 (a0 + 8) ((x2 + x4)).toNatClampNeg)] n h6 (fun v7 h7 => (CallI g m_X10_add d [.int x3, .int v7] n h7 (fun v8 h8 => (W_X10_fill g d av Q n 36 [some (.ref a0), some (.int x1), some (.int x2), some (.int v8), some (.int (x4 + (1 : Int32)))] [] h8)))))))))) : W_X10_fill g d av Q n 36 [some (.ref a0), some (.int x1), some (.int x2), some (.int x3), some (.int x4)] [] h := by
  refine r_iload dX10_fill_36 rfl ?_
  refine r_aload_n dX10_fill_38 rfl rfl ?_
  refine m_getI hp fw_X10_234 dX10_fill_39 rfl t0 ?_
  refine r_icmp_ge (tgt := 81) dX10_fill_42 rfl (fun cH => ?_) (fun cH => ?_)
  · replace H := H.1 cH
    refine r_aload_n dX10_fill_81 rfl rfl ?_
    refine m_getF (x := (a0 + 8)) hp fw_X10_246 dX10_fill_82 rfl t0 (ff_11_14 t0) ?_
    refine r_iload_n dX10_fill_85 rfl rfl ?_
    refine r_iconst (v := (0 : Int32)) dX10_fill_86 rfl ?_
    refine r_iload_n dX10_fill_87 rfl rfl ?_
    refine k_SI (As := [.int (0 : Int32), .int x3]) (stk := [.int x1, .ref (a0 + 8)]) cs_X10_46 dX10_fill_88 rfl (Nat.le_of_ble_eq_true rfl) (H.mono (fun v1 h1 H => ?_)) ⟨Nat.le_refl _, Nat.le_refl _⟩
    refine r_aload_n dX10_fill_91 rfl rfl ?_
    refine m_getF (x := (a0 + 7)) hp fw_X10_237 dX10_fill_92 rfl t0 (ff_11_11 t0) ?_
    refine r_bipush (v := (25 : Int32)) dX10_fill_95 rfl ?_
    refine r_aload_n dX10_fill_97 rfl rfl ?_
    refine m_getI hp fw_X10_234 dX10_fill_98 rfl t0 ?_
    refine r_imul dX10_fill_101 ?_
    refine r_iload_n dX10_fill_102 rfl rfl ?_
    refine k_SI (As := [.ref (a0 + 7), .int ((25 : Int32) * (ri h1 a0 10)), .int x2]) (stk := [.int v1, .int x1, .ref (a0 + 8)]) cs_X10_772 dX10_fill_103 rfl (Nat.le_of_ble_eq_true rfl) (H.mono (fun v2 h2 H => ?_)) ⟨Nat.le_refl _, Nat.le_refl _⟩
    refine k_SI (As := [.int v2]) (stk := [.int v1, .int x1, .ref (a0 + 8)]) cs_X10_13 dX10_fill_106 rfl (Nat.le_of_ble_eq_true rfl) (H.mono (fun v3 h3 H => ?_)) ⟨Nat.le_refl _, Nat.le_refl _⟩
    refine k_SI (As := [.int v1, .int v3]) (stk := [.int x1, .ref (a0 + 8)]) cs_X10_56 dX10_fill_109 rfl (Nat.le_of_ble_eq_true rfl) (H.mono (fun v4 h4 H => ?_)) ⟨Nat.le_refl _, Nat.le_refl _⟩
    refine m_iast hp dX10_fill_112 (lf_11_14 t0) H.1 (fun h5 eh5 => ?_)
    replace H := H.2 h5 eh5
    refine r_iinc (v := (x1 + (1 : Int32))) (ls2 := [some (.ref a0), some (.int (x1 + (1 : Int32))), some (.int x2), some (.int x3), some (.int x4)]) dX10_fill_113 rfl rfl (by decide) rfl ?_
    refine r_goto (tgt := 17) dX10_fill_116 rfl ?_
    refine r_prune [true, true, false, false, false] (ls2 := [some (.ref a0), some (.int (x1 + (1 : Int32))), none, none, none]) rfl ?_
    exact H
  · replace H := H.2 cH
    refine r_iload_n dX10_fill_45 rfl rfl ?_
    refine r_aload_n dX10_fill_46 rfl rfl ?_
    refine m_getF (x := (a0 + 7)) hp fw_X10_237 dX10_fill_47 rfl t0 (ff_11_11 t0) ?_
    refine r_bipush (v := (25 : Int32)) dX10_fill_50 rfl ?_
    refine r_iload dX10_fill_52 rfl ?_
    refine r_imul dX10_fill_54 ?_
    refine r_iload_n dX10_fill_55 rfl rfl ?_
    refine k_SI (As := [.ref (a0 + 7), .int ((25 : Int32) * x4), .int x2]) (stk := [.int x3]) cs_X10_772 dX10_fill_56 rfl (Nat.le_of_ble_eq_true rfl) (H.mono (fun v6 h6 H => ?_)) ⟨Nat.le_refl _, Nat.le_refl _⟩
    refine r_aload_n dX10_fill_59 rfl rfl ?_
    refine m_getF (x := (a0 + 8)) hp fw_X10_246 dX10_fill_60 rfl t0 (ff_11_14 t0) ?_
    refine r_iload_n dX10_fill_63 rfl rfl ?_
    refine r_iload dX10_fill_64 rfl ?_
    refine r_iadd dX10_fill_66 ?_
    refine m_iald hp dX10_fill_67 (lf_11_14 t0) H.1 ?_
    replace H := H.2
    refine k_SI (As := [.int v6, .int (ri h6 (a0 + 8) ((x2 + x4)).toNatClampNeg)]) (stk := [.int x3]) cs_X10_56 dX10_fill_68 rfl (Nat.le_of_ble_eq_true rfl) (H.mono (fun v7 h7 H => ?_)) ⟨Nat.le_refl _, Nat.le_refl _⟩
    refine k_SI (As := [.int x3, .int v7]) (stk := []) cs_X10_49 dX10_fill_71 rfl (Nat.le_of_ble_eq_true rfl) (H.mono (fun v8 h8 H => ?_)) ⟨Nat.le_refl _, Nat.le_refl _⟩
    refine r_istore_n (ls2 := [some (.ref a0), some (.int x1), some (.int x2), some (.int v8), some (.int x4)]) dX10_fill_74 rfl (by decide) rfl ?_
    refine r_iinc (v := (x4 + (1 : Int32))) (ls2 := [some (.ref a0), some (.int x1), some (.int x2), some (.int v8), some (.int (x4 + (1 : Int32)))]) dX10_fill_75 rfl rfl (by decide) rfl ?_
    refine r_goto (tgt := 36) dX10_fill_78 rfl ?_
    exact H
abbrev W_X10_at (g : GX) (d : Nat) (av : List Value) (Q : QT) (n : Nat) (pc : Nat) (ls : LV) (stk : List Value) (h : Hp) : Prop := RJ g m_X10_at (d + 1) 0 0 av Q pc ls stk n h 0 0
theorem s_X10_at_0 {g : GX} {d : Nat} {av : List Value} {Q : QT} {n : Nat} {h : Hp} {x1 : Int32} {x2 : Int32} (hp : g.2.2.2.2 = true)  (H : CallI g m_X10_isSlot d [.int x1] n h (fun v1 h1 => (((¬ v1 = (0 : Int32)) → (vp_in x1 12 ∧ ∀ r2, r2 = 10245 + 9 * (x1).toNatClampNeg → ((((ri h1 r2 0) = (4 : Int32)) → (((x2 < (0 : Int32)) → (Q (some (.int (-1 : Int32))) n h1)) ∧ ((¬ x2 < (0 : Int32)) → ((((300 : Int32) < x2) → (Q (some (.int (-1 : Int32))) n h1)) ∧ ((¬ (300 : Int32) < x2) → ((((ri h1 r2 12) ≤ (ri h1 r2 13)) → (vp_in x2 361 ∧ (Q (some (.int (ri h1 (r2 + 8) (x2).toNatClampNeg))) n h1))) ∧ ((¬ (ri h1 r2 12) ≤ (ri h1 r2 13)) → (Q (some (.int (-1 : Int32))) n h1)))))))) ∧ ((¬ (ri h1 r2 0) = (4 : Int32)) → (Q (some (.int (-3 : Int32))) n h1))))) ∧ ((v1 = (0 : Int32)) → (Q (some (.int (-1 : Int32))) n h1))))) : W_X10_at g d av Q n 0 [some (.ref 2759), some (.int x1), some (.int x2), none] [] h := by
  refine r_iload_n dX10_at_0 rfl rfl ?_
  refine k_SI (As := [.int x1]) (stk := []) cs_X10_551 dX10_at_1 rfl (Nat.le_of_ble_eq_true rfl) (H.mono (fun v1 h1 H => ?_)) ⟨Nat.le_refl _, Nat.le_refl _⟩
  refine r_if_ne (tgt := 9) dX10_at_4 rfl (fun cH => ?_) (fun cH => ?_)
  · replace H := H.1 cH
    refine r_aload_n dX10_at_9 rfl rfl ?_
    refine m_getF (x := 2841) hp fw_X10_450 dX10_at_10 rfl ly_10 (ff_10_20 ly_10) ?_
    refine r_iload_n dX10_at_13 rfl rfl ?_
    obtain ⟨r2, er2⟩ : ∃ y, y = 10245 + 9 * (x1).toNatClampNeg := ⟨_, rfl⟩
    have hir2 := H.1
    replace H := H.2 r2 er2
    have tLr2 := la_2841 hir2 er2
    refine m_aalF (x := r2) hp dX10_at_14 (lf_10_20 ly_10) rfl rfl (lu_10_20 ly_10) hir2 (fa_2841 hir2 er2) ?_
    refine r_astore_n (ls2 := [some (.ref 2759), some (.int x1), some (.int x2), some (.ref r2)]) dX10_at_15 rfl (by decide) rfl ?_
    refine r_aload_n dX10_at_16 rfl rfl ?_
    refine m_getI hp fw_X10_202 dX10_at_17 rfl tLr2 ?_
    refine r_iconst (v := (4 : Int32)) dX10_at_20 rfl ?_
    refine r_icmp_eq (tgt := 27) dX10_at_21 rfl (fun cH => ?_) (fun cH => ?_)
    · replace H := H.1 cH
      refine r_iload_n dX10_at_27 rfl rfl ?_
      refine r_if_lt (tgt := 49) dX10_at_28 rfl (fun cH => ?_) (fun cH => ?_)
      · replace H := H.1 cH
        refine r_iconst (v := (-1 : Int32)) dX10_at_49 rfl ?_
        refine r_goto (tgt := 59) dX10_at_50 rfl ?_
        exact r_zret dX10_at_59 rfl rfl (Nat.le_refl _) (Nat.le_refl _) H
      · replace H := H.2 cH
        refine r_iload_n dX10_at_31 rfl rfl ?_
        refine r_sipush (v := (300 : Int32)) dX10_at_32 rfl ?_
        refine r_icmp_gt (tgt := 49) dX10_at_35 rfl (fun cH => ?_) (fun cH => ?_)
        · replace H := H.1 cH
          refine r_iconst (v := (-1 : Int32)) dX10_at_49 rfl ?_
          refine r_goto (tgt := 59) dX10_at_50 rfl ?_
          exact r_zret dX10_at_59 rfl rfl (Nat.le_refl _) (Nat.le_refl _) H
        · replace H := H.2 cH
          refine r_aload_n dX10_at_38 rfl rfl ?_
          refine m_getI hp fw_X10_243 dX10_at_39 rfl tLr2 ?_
          refine r_aload_n dX10_at_42 rfl rfl ?_
          refine m_getI hp fw_X10_240 dX10_at_43 rfl tLr2 ?_
          refine r_icmp_ge (tgt := 53) dX10_at_46 rfl (fun cH => ?_) (fun cH => ?_)
          · replace H := H.1 cH
            refine r_aload_n dX10_at_53 rfl rfl ?_
            refine m_getF (x := (r2 + 8)) hp fw_X10_246 dX10_at_54 rfl tLr2 (ff_11_14 tLr2) ?_
            refine r_iload_n dX10_at_57 rfl rfl ?_
            refine m_iald hp dX10_at_58 (lf_11_14 tLr2) H.1 ?_
            replace H := H.2
            exact r_zret dX10_at_59 rfl rfl (Nat.le_refl _) (Nat.le_refl _) H
          · replace H := H.2 cH
            refine r_iconst (v := (-1 : Int32)) dX10_at_49 rfl ?_
            refine r_goto (tgt := 59) dX10_at_50 rfl ?_
            exact r_zret dX10_at_59 rfl rfl (Nat.le_refl _) (Nat.le_refl _) H
    · replace H := H.2 cH
      refine r_bipush (v := (-3 : Int32)) dX10_at_24 rfl ?_
      exact r_zret dX10_at_26 rfl rfl (Nat.le_refl _) (Nat.le_refl _) H
  · replace H := H.2 cH
    refine r_iconst (v := (-1 : Int32)) dX10_at_7 rfl ?_
    exact r_zret dX10_at_8 rfl rfl (Nat.le_refl _) (Nat.le_refl _) H
abbrev W_X10_join (g : GX) (d : Nat) (av : List Value) (Q : QT) (n : Nat) (pc : Nat) (ls : LV) (stk : List Value) (h : Hp) : Prop := RJ g m_X10_join (d + 1) 0 0 av Q pc ls stk n h 0 0
theorem s_X10_join_0 {g : GX} {d : Nat} {av : List Value} {Q : QT} {n : Nat} {h : Hp} {x1 : Int32} {x2 : Int32} {x3 : Int32} {x4 : Int32} (hp : g.2.2.2.2 = true)  (H : ((x1 < (0 : Int32)) → (W_X10_join g d av Q n 9 [some (.ref 2759), some (.int x1), some (.int x2), some (.int x3), some (.int x4), none, none, none, none, none, none, none, none, none] [] h)) ∧ ((¬ x1 < (0 : Int32)) → (((x1 ≤ (2 : Int32)) → (W_X10_join g d av Q n 14 [some (.ref 2759), some (.int x1), some (.int x2), some (.int x3), some (.int x4), none, none, none, none, none, none, none, none, none] [] h)) ∧ ((¬ x1 ≤ (2 : Int32)) → (W_X10_join g d av Q n 9 [some (.ref 2759), some (.int x1), some (.int x2), some (.int x3), some (.int x4), none, none, none, none, none, none, none, none, none] [] h))))) : W_X10_join g d av Q n 0 [some (.ref 2759), some (.int x1), some (.int x2), some (.int x3), some (.int x4), none, none, none, none, none, none, none, none, none] [] h := by
  refine r_iload_n dX10_join_0 rfl rfl ?_
  refine r_if_lt (tgt := 9) dX10_join_1 rfl (fun cH => ?_) (fun cH => ?_)
  · replace H := H.1 cH
    exact H
  · replace H := H.2 cH
    refine r_iload_n dX10_join_4 rfl rfl ?_
    refine r_iconst (v := (2 : Int32)) dX10_join_5 rfl ?_
    refine r_icmp_le (tgt := 14) dX10_join_6 rfl (fun cH => ?_) (fun cH => ?_)
    · replace H := H.1 cH
      exact H
    · replace H := H.2 cH
      exact H
theorem s_X10_join_9 {g : GX} {d : Nat} {av : List Value} {Q : QT} {n : Nat} {h : Hp} {x1 : Int32} {x2 : Int32} {x3 : Int32} {x4 : Int32} (hp : g.2.2.2.2 = true)  (H : ((¬ x1 = (5 : Int32)) → (W_X10_join g d av Q n 19 [some (.ref 2759), some (.int x1), some (.int x2), some (.int x3), some (.int x4), none, none, none, none, none, none, none, none, none] [.int (0 : Int32)] h)) ∧ ((x1 = (5 : Int32)) → (W_X10_join g d av Q n 14 [some (.ref 2759), some (.int x1), some (.int x2), some (.int x3), some (.int x4), none, none, none, none, none, none, none, none, none] [] h))) : W_X10_join g d av Q n 9 [some (.ref 2759), some (.int x1), some (.int x2), some (.int x3), some (.int x4), none, none, none, none, none, none, none, none, none] [] h := by
  refine r_iload_n dX10_join_9 rfl rfl ?_
  refine r_iconst (v := (5 : Int32)) dX10_join_10 rfl ?_
  refine r_icmp_ne (tgt := 18) dX10_join_11 rfl (fun cH => ?_) (fun cH => ?_)
  · replace H := H.1 cH
    refine r_iconst (v := (0 : Int32)) dX10_join_18 rfl ?_
    exact H
  · replace H := H.2 cH
    exact H
theorem s_X10_join_14 {g : GX} {d : Nat} {av : List Value} {Q : QT} {n : Nat} {h : Hp} {x1 : Int32} {x2 : Int32} {x3 : Int32} {x4 : Int32} (hp : g.2.2.2.2 = true)  (H : W_X10_join g d av Q n 19 [some (.ref 2759), some (.int x1), some (.int x2), some (.int x3), some (.int x4), none, none, none, none, none, none, none, none, none] [.int (1 : Int32)] h) : W_X10_join g d av Q n 14 [some (.ref 2759), some (.int x1), some (.int x2), some (.int x3), some (.int x4), none, none, none, none, none, none, none, none, none] [] h := by
  refine r_iconst (v := (1 : Int32)) dX10_join_14 rfl ?_
  refine r_goto (tgt := 19) dX10_join_15 rfl ?_
  exact H
theorem s_X10_join_19 {g : GX} {d : Nat} {av : List Value} {Q : QT} {n : Nat} {h : Hp} {x1 : Int32} {x2 : Int32} {x3 : Int32} {x4 : Int32} {xs0 : Int32} (hp : g.2.2.2.2 = true)  (H : CallI g m_X10_isSlot d [.int x2] n h (fun v1 h1 => (((v1 = (0 : Int32)) → (Q (some (.int (-1 : Int32))) n h1)) ∧ ((¬ v1 = (0 : Int32)) → (((xs0 = (0 : Int32)) → (W_X10_join g d av Q n 40 [some (.ref 2759), some (.int x1), some (.int x2), some (.int x3), some (.int x4), some (.int xs0), none, none, none, none, none, none, none, none] [] h1)) ∧ ((¬ xs0 = (0 : Int32)) → (CallI g m_X10_isSlot d [.int x3] n h1 (fun v2 h2 => (((v2 = (0 : Int32)) → (Q (some (.int (-1 : Int32))) n h2)) ∧ ((¬ v2 = (0 : Int32)) → (W_X10_join g d av Q n 40 [some (.ref 2759), some (.int x1), some (.int x2), some (.int x3), some (.int x4), some (.int xs0), none, none, none, none, none, none, none, none] [] h2))))))))))) : W_X10_join g d av Q n 19 [some (.ref 2759), some (.int x1), some (.int x2), some (.int x3), some (.int x4), none, none, none, none, none, none, none, none, none] [.int xs0] h := by
  refine r_istore (ls2 := [some (.ref 2759), some (.int x1), some (.int x2), some (.int x3), some (.int x4), some (.int xs0), none, none, none, none, none, none, none, none]) dX10_join_19 (by decide) rfl ?_
  refine r_iload_n dX10_join_21 rfl rfl ?_
  refine k_SI (As := [.int x2]) (stk := []) cs_X10_551 dX10_join_22 rfl (Nat.le_of_ble_eq_true rfl) (H.mono (fun v1 h1 H => ?_)) ⟨Nat.le_refl _, Nat.le_refl _⟩
  refine r_if_eq (tgt := 48) dX10_join_25 rfl (fun cH => ?_) (fun cH => ?_)
  · replace H := H.1 cH
    refine r_iconst (v := (-1 : Int32)) dX10_join_48 rfl ?_
    exact r_zret dX10_join_49 rfl rfl (Nat.le_refl _) (Nat.le_refl _) H
  · replace H := H.2 cH
    refine r_iload dX10_join_28 rfl ?_
    refine r_if_eq (tgt := 40) dX10_join_30 rfl (fun cH => ?_) (fun cH => ?_)
    · replace H := H.1 cH
      exact H
    · replace H := H.2 cH
      refine r_iload_n dX10_join_33 rfl rfl ?_
      refine k_SI (As := [.int x3]) (stk := []) cs_X10_551 dX10_join_34 rfl (Nat.le_of_ble_eq_true rfl) (H.mono (fun v2 h2 H => ?_)) ⟨Nat.le_refl _, Nat.le_refl _⟩
      refine r_if_eq (tgt := 48) dX10_join_37 rfl (fun cH => ?_) (fun cH => ?_)
      · replace H := H.1 cH
        refine r_iconst (v := (-1 : Int32)) dX10_join_48 rfl ?_
        exact r_zret dX10_join_49 rfl rfl (Nat.le_refl _) (Nat.le_refl _) H
      · replace H := H.2 cH
        exact H
theorem s_X10_join_40 {g : GX} {d : Nat} {av : List Value} {Q : QT} {n : Nat} {h : Hp} {x1 : Int32} {x2 : Int32} {x3 : Int32} {x4 : Int32} {x5 : Int32} (hp : g.2.2.2.2 = true)  (H : CallI g m_X10_isSlot d [.int x4] n h (fun v1 h1 => (((¬ v1 = (0 : Int32)) → (vp_in x2 12 ∧ ∀ r2, r2 = 10245 + 9 * (x2).toNatClampNeg → ((((ri h1 r2 0) = (4 : Int32)) → (((x5 = (0 : Int32)) → (W_X10_join g d av Q n 86 [some (.ref 2759), some (.int x1), none, none, some (.int x4), none, some (.ref r2), none, none, none, none, none, none, none] [.ref r2] h1)) ∧ ((¬ x5 = (0 : Int32)) → (vp_in x3 12 ∧ ∀ r3, r3 = 10245 + 9 * (x3).toNatClampNeg → (W_X10_join g d av Q n 86 [some (.ref 2759), some (.int x1), none, none, some (.int x4), none, some (.ref r2), none, none, none, none, none, none, none] [.ref r3] h1))))) ∧ ((¬ (ri h1 r2 0) = (4 : Int32)) → (Q (some (.int (-3 : Int32))) n h1))))) ∧ ((v1 = (0 : Int32)) → (Q (some (.int (-1 : Int32))) n h1))))) : W_X10_join g d av Q n 40 [some (.ref 2759), some (.int x1), some (.int x2), some (.int x3), some (.int x4), some (.int x5), none, none, none, none, none, none, none, none] [] h := by
  refine r_iload dX10_join_40 rfl ?_
  refine k_SI (As := [.int x4]) (stk := []) cs_X10_551 dX10_join_42 rfl (Nat.le_of_ble_eq_true rfl) (H.mono (fun v1 h1 H => ?_)) ⟨Nat.le_refl _, Nat.le_refl _⟩
  refine r_if_ne (tgt := 50) dX10_join_45 rfl (fun cH => ?_) (fun cH => ?_)
  · replace H := H.1 cH
    refine r_aload_n dX10_join_50 rfl rfl ?_
    refine m_getF (x := 2841) hp fw_X10_450 dX10_join_51 rfl ly_10 (ff_10_20 ly_10) ?_
    refine r_iload_n dX10_join_54 rfl rfl ?_
    obtain ⟨r2, er2⟩ : ∃ y, y = 10245 + 9 * (x2).toNatClampNeg := ⟨_, rfl⟩
    have hir2 := H.1
    replace H := H.2 r2 er2
    have tLr2 := la_2841 hir2 er2
    refine m_aalF (x := r2) hp dX10_join_55 (lf_10_20 ly_10) rfl rfl (lu_10_20 ly_10) hir2 (fa_2841 hir2 er2) ?_
    refine r_astore (ls2 := [some (.ref 2759), some (.int x1), some (.int x2), some (.int x3), some (.int x4), some (.int x5), some (.ref r2), none, none, none, none, none, none, none]) dX10_join_56 (by decide) rfl ?_
    refine r_aload dX10_join_58 rfl ?_
    refine m_getI hp fw_X10_202 dX10_join_60 rfl tLr2 ?_
    refine r_iconst (v := (4 : Int32)) dX10_join_63 rfl ?_
    refine r_icmp_eq (tgt := 70) dX10_join_64 rfl (fun cH => ?_) (fun cH => ?_)
    · replace H := H.1 cH
      refine r_iload dX10_join_70 rfl ?_
      refine r_if_eq (tgt := 84) dX10_join_72 rfl (fun cH => ?_) (fun cH => ?_)
      · replace H := H.1 cH
        refine r_aload dX10_join_84 rfl ?_
        refine r_prune [true, true, false, false, true, false, true, false, false, false, false, false, false, false] (ls2 := [some (.ref 2759), some (.int x1), none, none, some (.int x4), none, some (.ref r2), none, none, none, none, none, none, none]) rfl ?_
        exact H
      · replace H := H.2 cH
        refine r_aload_n dX10_join_75 rfl rfl ?_
        refine m_getF (x := 2841) hp fw_X10_450 dX10_join_76 rfl ly_10 (ff_10_20 ly_10) ?_
        refine r_iload_n dX10_join_79 rfl rfl ?_
        obtain ⟨r3, er3⟩ : ∃ y, y = 10245 + 9 * (x3).toNatClampNeg := ⟨_, rfl⟩
        have hir3 := H.1
        replace H := H.2 r3 er3
        have tLr3 := la_2841 hir3 er3
        refine m_aalF (x := r3) hp dX10_join_80 (lf_10_20 ly_10) rfl rfl (lu_10_20 ly_10) hir3 (fa_2841 hir3 er3) ?_
        refine r_goto (tgt := 86) dX10_join_81 rfl ?_
        refine r_prune [true, true, false, false, true, false, true, false, false, false, false, false, false, false] (ls2 := [some (.ref 2759), some (.int x1), none, none, some (.int x4), none, some (.ref r2), none, none, none, none, none, none, none]) rfl ?_
        exact H
    · replace H := H.2 cH
      refine r_bipush (v := (-3 : Int32)) dX10_join_67 rfl ?_
      exact r_zret dX10_join_69 rfl rfl (Nat.le_refl _) (Nat.le_refl _) H
  · replace H := H.2 cH
    refine r_iconst (v := (-1 : Int32)) dX10_join_48 rfl ?_
    exact r_zret dX10_join_49 rfl rfl (Nat.le_refl _) (Nat.le_refl _) H
theorem s_X10_join_86 {g : GX} {d : Nat} {av : List Value} {Q : QT} {n : Nat} {h : Hp} {x1 : Int32} {x4 : Int32} {a6 : Nat} {as0 : Nat} (hp : g.2.2.2.2 = true) (t6 : lay a6 = (0, 11, 15)) (ts0 : lay as0 = (0, 11, 15)) (H : ((x1 < (0 : Int32)) → (W_X10_join g d av Q n 109 [some (.ref 2759), some (.int x1), none, none, some (.int x4), none, some (.ref a6), some (.ref as0), none, none, none, none, none, none] [] h)) ∧ ((¬ x1 < (0 : Int32)) → ((((2 : Int32) < x1) → (W_X10_join g d av Q n 109 [some (.ref 2759), some (.int x1), none, none, some (.int x4), none, some (.ref a6), some (.ref as0), none, none, none, none, none, none] [] h)) ∧ ((¬ (2 : Int32) < x1) → ((((ri h as0 0) = (4 : Int32)) → (W_X10_join g d av Q n 109 [some (.ref 2759), some (.int x1), none, none, some (.int x4), none, some (.ref a6), some (.ref as0), none, none, none, none, none, none] [] h)) ∧ ((¬ (ri h as0 0) = (4 : Int32)) → (Q (some (.int (-3 : Int32))) n h))))))) : W_X10_join g d av Q n 86 [some (.ref 2759), some (.int x1), none, none, some (.int x4), none, some (.ref a6), none, none, none, none, none, none, none] [.ref as0] h := by
  refine r_astore (ls2 := [some (.ref 2759), some (.int x1), none, none, some (.int x4), none, some (.ref a6), some (.ref as0), none, none, none, none, none, none]) dX10_join_86 (by decide) rfl ?_
  refine r_iload_n dX10_join_88 rfl rfl ?_
  refine r_if_lt (tgt := 109) dX10_join_89 rfl (fun cH => ?_) (fun cH => ?_)
  · replace H := H.1 cH
    exact H
  · replace H := H.2 cH
    refine r_iload_n dX10_join_92 rfl rfl ?_
    refine r_iconst (v := (2 : Int32)) dX10_join_93 rfl ?_
    refine r_icmp_gt (tgt := 109) dX10_join_94 rfl (fun cH => ?_) (fun cH => ?_)
    · replace H := H.1 cH
      exact H
    · replace H := H.2 cH
      refine r_aload dX10_join_97 rfl ?_
      refine m_getI hp fw_X10_202 dX10_join_99 rfl ts0 ?_
      refine r_iconst (v := (4 : Int32)) dX10_join_102 rfl ?_
      refine r_icmp_eq (tgt := 109) dX10_join_103 rfl (fun cH => ?_) (fun cH => ?_)
      · replace H := H.1 cH
        exact H
      · replace H := H.2 cH
        refine r_bipush (v := (-3 : Int32)) dX10_join_106 rfl ?_
        exact r_zret dX10_join_108 rfl rfl (Nat.le_refl _) (Nat.le_refl _) H
theorem s_X10_join_109 {g : GX} {d : Nat} {av : List Value} {Q : QT} {n : Nat} {h : Hp} {x1 : Int32} {x4 : Int32} {a6 : Nat} {a7 : Nat} (hp : g.2.2.2.2 = true) (t6 : lay a6 = (0, 11, 15)) (t7 : lay a7 = (0, 11, 15)) (H : ((¬ x1 = (5 : Int32)) → (W_X10_join g d av Q n 145 [some (.ref 2759), some (.int x1), none, none, some (.int x4), none, some (.ref a6), some (.ref a7), none, none, none, none, none, none] [] h)) ∧ ((x1 = (5 : Int32)) → (CallI g m_X10_isPolynomial d [.ref a7] n h (fun v1 h1 => (((v1 = (0 : Int32)) → (Q (some (.int (-3 : Int32))) n h1)) ∧ ((¬ v1 = (0 : Int32)) → (CallI g m_X10_isZero d [.ref a7] n h1 (fun v2 h2 => (((¬ v2 = (0 : Int32)) → (Q (some (.int (-3 : Int32))) n h2)) ∧ ((v2 = (0 : Int32)) → (CallI g m_X10_degree_2 d [.ref (a7 + 1), .int (1 : Int32)] n h2 (fun v3 h3 => (((v3 ≤ (0 : Int32)) → (W_X10_join g d av Q n 145 [some (.ref 2759), some (.int x1), none, none, some (.int x4), none, some (.ref a6), some (.ref a7), none, none, none, none, none, none] [] h3)) ∧ ((¬ v3 ≤ (0 : Int32)) → (Q (some (.int (-3 : Int32))) n h3))))))))))))))) : W_X10_join g d av Q n 109 [some (.ref 2759), some (.int x1), none, none, some (.int x4), none, some (.ref a6), some (.ref a7), none, none, none, none, none, none] [] h := by
  refine r_iload_n dX10_join_109 rfl rfl ?_
  refine r_iconst (v := (5 : Int32)) dX10_join_110 rfl ?_
  refine r_icmp_ne (tgt := 145) dX10_join_111 rfl (fun cH => ?_) (fun cH => ?_)
  · replace H := H.1 cH
    exact H
  · replace H := H.2 cH
    refine r_aload dX10_join_114 rfl ?_
    refine k_SI (As := [.ref a7]) (stk := []) cs_X10_637 dX10_join_116 rfl (Nat.le_of_ble_eq_true rfl) (H.mono (fun v1 h1 H => ?_)) ⟨Nat.le_refl _, Nat.le_refl _⟩
    refine r_if_eq (tgt := 142) dX10_join_119 rfl (fun cH => ?_) (fun cH => ?_)
    · replace H := H.1 cH
      refine r_bipush (v := (-3 : Int32)) dX10_join_142 rfl ?_
      exact r_zret dX10_join_144 rfl rfl (Nat.le_refl _) (Nat.le_refl _) H
    · replace H := H.2 cH
      refine r_aload dX10_join_122 rfl ?_
      refine k_SI (As := [.ref a7]) (stk := []) cs_X10_288 dX10_join_124 rfl (Nat.le_of_ble_eq_true rfl) (H.mono (fun v2 h2 H => ?_)) ⟨Nat.le_refl _, Nat.le_refl _⟩
      refine r_if_ne (tgt := 142) dX10_join_127 rfl (fun cH => ?_) (fun cH => ?_)
      · replace H := H.1 cH
        refine r_bipush (v := (-3 : Int32)) dX10_join_142 rfl ?_
        exact r_zret dX10_join_144 rfl rfl (Nat.le_refl _) (Nat.le_refl _) H
      · replace H := H.2 cH
        refine r_aload dX10_join_130 rfl ?_
        refine m_getF (x := (a7 + 1)) hp fw_X10_207 dX10_join_132 rfl t7 (ff_11_1 t7) ?_
        refine r_iconst (v := (1 : Int32)) dX10_join_135 rfl ?_
        refine k_SI (As := [.ref (a7 + 1), .int (1 : Int32)]) (stk := []) cs_X10_603 dX10_join_136 rfl (Nat.le_of_ble_eq_true rfl) (H.mono (fun v3 h3 H => ?_)) ⟨Nat.le_refl _, Nat.le_refl _⟩
        refine r_if_le (tgt := 145) dX10_join_139 rfl (fun cH => ?_) (fun cH => ?_)
        · replace H := H.1 cH
          exact H
        · replace H := H.2 cH
          refine r_bipush (v := (-3 : Int32)) dX10_join_142 rfl ?_
          exact r_zret dX10_join_144 rfl rfl (Nat.le_refl _) (Nat.le_refl _) H
theorem s_X10_join_145 {g : GX} {d : Nat} {av : List Value} {Q : QT} {n : Nat} {h : Hp} {x1 : Int32} {x4 : Int32} {a6 : Nat} {a7 : Nat} (hp : g.2.2.2.2 = true) (t6 : lay a6 = (0, 11, 15)) (t7 : lay a7 = (0, 11, 15)) (H : ((x1 < (0 : Int32)) → (Q (some (.int (-1 : Int32))) n h)) ∧ ((¬ x1 < (0 : Int32)) → ((((5 : Int32) < x1) → (Q (some (.int (-1 : Int32))) n h)) ∧ ((¬ (5 : Int32) < x1) → ((((ri h a6 13) < (ri h a6 12)) → (Q (some (.int (-1 : Int32))) n h)) ∧ ((¬ (ri h a6 13) < (ri h a6 12)) → ((((2 : Int32) < x1) → (W_X10_join g d av Q n 187 [some (.ref 2759), some (.int x1), none, none, some (.int x4), none, some (.ref a6), some (.ref a7), none, none, none, none, none, none] [] h)) ∧ ((¬ (2 : Int32) < x1) → ((((ri h a7 12) ≤ (ri h a7 13)) → (W_X10_join g d av Q n 187 [some (.ref 2759), some (.int x1), none, none, some (.int x4), none, some (.ref a6), some (.ref a7), none, none, none, none, none, none] [] h)) ∧ ((¬ (ri h a7 12) ≤ (ri h a7 13)) → (Q (some (.int (-1 : Int32))) n h))))))))))) : W_X10_join g d av Q n 145 [some (.ref 2759), some (.int x1), none, none, some (.int x4), none, some (.ref a6), some (.ref a7), none, none, none, none, none, none] [] h := by
  refine r_iload_n dX10_join_145 rfl rfl ?_
  refine r_if_lt (tgt := 185) dX10_join_146 rfl (fun cH => ?_) (fun cH => ?_)
  · replace H := H.1 cH
    refine r_iconst (v := (-1 : Int32)) dX10_join_185 rfl ?_
    exact r_zret dX10_join_186 rfl rfl (Nat.le_refl _) (Nat.le_refl _) H
  · replace H := H.2 cH
    refine r_iload_n dX10_join_149 rfl rfl ?_
    refine r_iconst (v := (5 : Int32)) dX10_join_150 rfl ?_
    refine r_icmp_gt (tgt := 185) dX10_join_151 rfl (fun cH => ?_) (fun cH => ?_)
    · replace H := H.1 cH
      refine r_iconst (v := (-1 : Int32)) dX10_join_185 rfl ?_
      exact r_zret dX10_join_186 rfl rfl (Nat.le_refl _) (Nat.le_refl _) H
    · replace H := H.2 cH
      refine r_aload dX10_join_154 rfl ?_
      refine m_getI hp fw_X10_243 dX10_join_156 rfl t6 ?_
      refine r_aload dX10_join_159 rfl ?_
      refine m_getI hp fw_X10_240 dX10_join_161 rfl t6 ?_
      refine r_icmp_lt (tgt := 185) dX10_join_164 rfl (fun cH => ?_) (fun cH => ?_)
      · replace H := H.1 cH
        refine r_iconst (v := (-1 : Int32)) dX10_join_185 rfl ?_
        exact r_zret dX10_join_186 rfl rfl (Nat.le_refl _) (Nat.le_refl _) H
      · replace H := H.2 cH
        refine r_iload_n dX10_join_167 rfl rfl ?_
        refine r_iconst (v := (2 : Int32)) dX10_join_168 rfl ?_
        refine r_icmp_gt (tgt := 187) dX10_join_169 rfl (fun cH => ?_) (fun cH => ?_)
        · replace H := H.1 cH
          exact H
        · replace H := H.2 cH
          refine r_aload dX10_join_172 rfl ?_
          refine m_getI hp fw_X10_243 dX10_join_174 rfl t7 ?_
          refine r_aload dX10_join_177 rfl ?_
          refine m_getI hp fw_X10_240 dX10_join_179 rfl t7 ?_
          refine r_icmp_ge (tgt := 187) dX10_join_182 rfl (fun cH => ?_) (fun cH => ?_)
          · replace H := H.1 cH
            exact H
          · replace H := H.2 cH
            refine r_iconst (v := (-1 : Int32)) dX10_join_185 rfl ?_
            exact r_zret dX10_join_186 rfl rfl (Nat.le_refl _) (Nat.le_refl _) H
theorem s_X10_join_187 {g : GX} {d : Nat} {av : List Value} {Q : QT} {n : Nat} {h : Hp} {x1 : Int32} {x4 : Int32} {a6 : Nat} {a7 : Nat} (hp : g.2.2.2.2 = true) (t6 : lay a6 = (0, 11, 15)) (t7 : lay a7 = (0, 11, 15)) (H : CallV g m_X10_begin d [.ref 2759] n h (fun h1 => (((¬ x1 = (5 : Int32)) → (W_X10_join g d av Q n 205 [some (.ref 2759), some (.int x1), none, none, some (.int x4), none, some (.ref a6), some (.ref a7), none, none, none, none, none, none] [.int (ri h1 a7 10)] h1)) ∧ ((x1 = (5 : Int32)) → (W_X10_join g d av Q n 205 [some (.ref 2759), some (.int x1), none, none, some (.int x4), none, some (.ref a6), some (.ref a7), none, none, none, none, none, none] [.int (1 : Int32)] h1))))) : W_X10_join g d av Q n 187 [some (.ref 2759), some (.int x1), none, none, some (.int x4), none, some (.ref a6), some (.ref a7), none, none, none, none, none, none] [] h := by
  refine r_aload_n dX10_join_187 rfl rfl ?_
  refine k_VV (As := []) (stk := []) hp cv_X10_555 dX10_join_188 rfl (Nat.le_of_ble_eq_true rfl) ly_10 (H.mono (fun h1 H => ?_)) ⟨Nat.le_refl _, Nat.le_refl _⟩
  refine r_iload_n dX10_join_191 rfl rfl ?_
  refine r_iconst (v := (5 : Int32)) dX10_join_192 rfl ?_
  refine r_icmp_ne (tgt := 200) dX10_join_193 rfl (fun cH => ?_) (fun cH => ?_)
  · replace H := H.1 cH
    refine r_aload dX10_join_200 rfl ?_
    refine m_getI hp fw_X10_234 dX10_join_202 rfl t7 ?_
    exact H
  · replace H := H.2 cH
    refine r_iconst (v := (1 : Int32)) dX10_join_196 rfl ?_
    refine r_goto (tgt := 205) dX10_join_197 rfl ?_
    exact H
theorem s_X10_join_205 {g : GX} {d : Nat} {av : List Value} {Q : QT} {n : Nat} {h : Hp} {x1 : Int32} {x4 : Int32} {a6 : Nat} {a7 : Nat} {xs0 : Int32} (hp : g.2.2.2.2 = true) (t6 : lay a6 = (0, 11, 15)) (t7 : lay a7 = (0, 11, 15)) (H : ((¬ x1 = (2 : Int32)) → ((((2 : Int32) ≤ x1) → (W_X10_join g d av Q n 244 [some (.ref 2759), some (.int x1), none, none, some (.int x4), none, some (.ref a6), some (.ref a7), none, none, none, none, none, none] [.int (ri h a6 10)] h)) ∧ ((¬ (2 : Int32) ≤ x1) → (W_X10_join g d av Q n 244 [some (.ref 2759), some (.int x1), none, none, some (.int x4), none, some (.ref a6), some (.ref a7), none, none, none, none, none, none] [.int ((ri h a6 10) + xs0)] h)))) ∧ ((x1 = (2 : Int32)) → (W_X10_join g d av Q n 244 [some (.ref 2759), some (.int x1), none, none, some (.int x4), none, some (.ref a6), some (.ref a7), none, none, none, none, none, none] [.int ((ri h a6 10) * xs0)] h))) : W_X10_join g d av Q n 205 [some (.ref 2759), some (.int x1), none, none, some (.int x4), none, some (.ref a6), some (.ref a7), none, none, none, none, none, none] [.int xs0] h := by
  refine r_istore (ls2 := [some (.ref 2759), some (.int x1), none, none, some (.int x4), none, some (.ref a6), some (.ref a7), some (.int xs0), none, none, none, none, none]) dX10_join_205 (by decide) rfl ?_
  refine r_iload_n dX10_join_207 rfl rfl ?_
  refine r_iconst (v := (2 : Int32)) dX10_join_208 rfl ?_
  refine r_icmp_ne (tgt := 223) dX10_join_209 rfl (fun cH => ?_) (fun cH => ?_)
  · replace H := H.1 cH
    refine r_iload_n dX10_join_223 rfl rfl ?_
    refine r_iconst (v := (2 : Int32)) dX10_join_224 rfl ?_
    refine r_icmp_ge (tgt := 239) dX10_join_225 rfl (fun cH => ?_) (fun cH => ?_)
    · replace H := H.1 cH
      refine r_aload dX10_join_239 rfl ?_
      refine m_getI hp fw_X10_234 dX10_join_241 rfl t6 ?_
      refine r_prune [true, true, false, false, true, false, true, true, false, false, false, false, false, false] (ls2 := [some (.ref 2759), some (.int x1), none, none, some (.int x4), none, some (.ref a6), some (.ref a7), none, none, none, none, none, none]) rfl ?_
      exact H
    · replace H := H.2 cH
      refine r_aload dX10_join_228 rfl ?_
      refine m_getI hp fw_X10_234 dX10_join_230 rfl t6 ?_
      refine r_iload dX10_join_233 rfl ?_
      refine r_iadd dX10_join_235 ?_
      refine r_goto (tgt := 244) dX10_join_236 rfl ?_
      refine r_prune [true, true, false, false, true, false, true, true, false, false, false, false, false, false] (ls2 := [some (.ref 2759), some (.int x1), none, none, some (.int x4), none, some (.ref a6), some (.ref a7), none, none, none, none, none, none]) rfl ?_
      exact H
  · replace H := H.2 cH
    refine r_aload dX10_join_212 rfl ?_
    refine m_getI hp fw_X10_234 dX10_join_214 rfl t6 ?_
    refine r_iload dX10_join_217 rfl ?_
    refine r_imul dX10_join_219 ?_
    refine r_goto (tgt := 244) dX10_join_220 rfl ?_
    refine r_prune [true, true, false, false, true, false, true, true, false, false, false, false, false, false] (ls2 := [some (.ref 2759), some (.int x1), none, none, some (.int x4), none, some (.ref a6), some (.ref a7), none, none, none, none, none, none]) rfl ?_
    exact H
theorem s_X10_join_244 {g : GX} {d : Nat} {av : List Value} {Q : QT} {n : Nat} {h : Hp} {x1 : Int32} {x4 : Int32} {a6 : Nat} {a7 : Nat} {xs0 : Int32} (hp : g.2.2.2.2 = true) (t6 : lay a6 = (0, 11, 15)) (t7 : lay a7 = (0, 11, 15)) (H : ((x1 = (3 : Int32)) → (W_X10_join g d av Q n 256 [some (.ref 2759), some (.int x1), none, none, some (.int x4), none, some (.ref a6), some (.ref a7), none, none, none, none, none, none] [] h)) ∧ ((¬ x1 = (3 : Int32)) → (((¬ x1 = (4 : Int32)) → (((¬ x1 = (5 : Int32)) → (CallI g m_X10_degreeOf d [.ref a7] n h (fun v1 h1 => (W_X10_join g d av Q n 329 [some (.ref 2759), some (.int x1), none, none, some (.int x4), none, some (.ref a6), some (.ref a7), none, some (.int xs0), none, none, none, none] [.int v1] h1)))) ∧ ((x1 = (5 : Int32)) → (CallI g m_X10_degree_2 d [.ref (a7 + 1), .int (0 : Int32)] n h (fun v2 h2 => (W_X10_join g d av Q n 329 [some (.ref 2759), some (.int x1), none, none, some (.int x4), none, some (.ref a6), some (.ref a7), none, some (.int xs0), none, none, none, none] [.int v2] h2)))))) ∧ ((x1 = (4 : Int32)) → (W_X10_join g d av Q n 256 [some (.ref 2759), some (.int x1), none, none, some (.int x4), none, some (.ref a6), some (.ref a7), none, none, none, none, none, none] [] h))))) : W_X10_join g d av Q n 244 [some (.ref 2759), some (.int x1), none, none, some (.int x4), none, some (.ref a6), some (.ref a7), none, none, none, none, none, none] [.int xs0] h := by
  refine r_istore (ls2 := [some (.ref 2759), some (.int x1), none, none, some (.int x4), none, some (.ref a6), some (.ref a7), none, some (.int xs0), none, none, none, none]) dX10_join_244 (by decide) rfl ?_
  refine r_iload_n dX10_join_246 rfl rfl ?_
  refine r_iconst (v := (3 : Int32)) dX10_join_247 rfl ?_
  refine r_icmp_eq (tgt := 256) dX10_join_248 rfl (fun cH => ?_) (fun cH => ?_)
  · replace H := H.1 cH
    refine r_prune [true, true, false, false, true, false, true, true, false, false, false, false, false, false] (ls2 := [some (.ref 2759), some (.int x1), none, none, some (.int x4), none, some (.ref a6), some (.ref a7), none, none, none, none, none, none]) rfl ?_
    exact H
  · replace H := H.2 cH
    refine r_iload_n dX10_join_251 rfl rfl ?_
    refine r_iconst (v := (4 : Int32)) dX10_join_252 rfl ?_
    refine r_icmp_ne (tgt := 307) dX10_join_253 rfl (fun cH => ?_) (fun cH => ?_)
    · replace H := H.1 cH
      refine r_iload_n dX10_join_307 rfl rfl ?_
      refine r_iconst (v := (5 : Int32)) dX10_join_308 rfl ?_
      refine r_icmp_ne (tgt := 324) dX10_join_309 rfl (fun cH => ?_) (fun cH => ?_)
      · replace H := H.1 cH
        refine r_aload dX10_join_324 rfl ?_
        refine k_SI (As := [.ref a7]) (stk := []) cs_X10_795 dX10_join_326 rfl (Nat.le_of_ble_eq_true rfl) (H.mono (fun v1 h1 H => ?_)) ⟨Nat.le_refl _, Nat.le_refl _⟩
        exact H
      · replace H := H.2 cH
        refine r_aload dX10_join_312 rfl ?_
        refine m_getF (x := (a7 + 1)) hp fw_X10_207 dX10_join_314 rfl t7 (ff_11_1 t7) ?_
        refine r_iconst (v := (0 : Int32)) dX10_join_317 rfl ?_
        refine k_SI (As := [.ref (a7 + 1), .int (0 : Int32)]) (stk := []) cs_X10_603 dX10_join_318 rfl (Nat.le_of_ble_eq_true rfl) (H.mono (fun v2 h2 H => ?_)) ⟨Nat.le_refl _, Nat.le_refl _⟩
        refine r_goto (tgt := 329) dX10_join_321 rfl ?_
        exact H
    · replace H := H.2 cH
      refine r_prune [true, true, false, false, true, false, true, true, false, false, false, false, false, false] (ls2 := [some (.ref 2759), some (.int x1), none, none, some (.int x4), none, some (.ref a6), some (.ref a7), none, none, none, none, none, none]) rfl ?_
      exact H
theorem s_X10_join_256 {g : GX} {d : Nat} {av : List Value} {Q : QT} {n : Nat} {h : Hp} {x1 : Int32} {x4 : Int32} {a6 : Nat} {a7 : Nat} (hp : g.2.2.2.2 = true) (t6 : lay a6 = (0, 11, 15)) (t7 : lay a7 = (0, 11, 15)) (H : ((¬ x1 = (3 : Int32)) → (W_X10_join g d av Q n 276 [some (.ref 2759), some (.int x1), none, none, some (.int x4), none, some (.ref a6), some (.ref a7), none, none, none, none, none, none] [.int (ri h a6 10)] h)) ∧ ((x1 = (3 : Int32)) → (W_X10_join g d av Q n 276 [some (.ref 2759), some (.int x1), none, none, some (.int x4), none, some (.ref a6), some (.ref a7), none, none, none, none, none, none] [.int ((ri h a6 10) + (1 : Int32))] h))) : W_X10_join g d av Q n 256 [some (.ref 2759), some (.int x1), none, none, some (.int x4), none, some (.ref a6), some (.ref a7), none, none, none, none, none, none] [] h := by
  refine r_iload_n dX10_join_256 rfl rfl ?_
  refine r_iconst (v := (3 : Int32)) dX10_join_257 rfl ?_
  refine r_icmp_ne (tgt := 271) dX10_join_258 rfl (fun cH => ?_) (fun cH => ?_)
  · replace H := H.1 cH
    refine r_aload dX10_join_271 rfl ?_
    refine m_getI hp fw_X10_234 dX10_join_273 rfl t6 ?_
    exact H
  · replace H := H.2 cH
    refine r_aload dX10_join_261 rfl ?_
    refine m_getI hp fw_X10_234 dX10_join_263 rfl t6 ?_
    refine r_iconst (v := (1 : Int32)) dX10_join_266 rfl ?_
    refine r_iadd dX10_join_267 ?_
    refine r_goto (tgt := 276) dX10_join_268 rfl ?_
    exact H
theorem s_X10_join_276 {g : GX} {d : Nat} {av : List Value} {Q : QT} {n : Nat} {h : Hp} {x1 : Int32} {x4 : Int32} {a6 : Nat} {a7 : Nat} {xs0 : Int32} (hp : g.2.2.2.2 = true) (t6 : lay a6 = (0, 11, 15)) (t7 : lay a7 = (0, 11, 15)) (H : ((xs0 ≤ (6 : Int32)) → (((¬ x1 = (3 : Int32)) → (W_X10_join g d av Q n 301 [some (.ref 2759), some (.int x1), none, none, some (.int x4), none, some (.ref a6), some (.ref a7), none, none, some (.int xs0), none, none, none] [.int (0 : Int32), .ref a6, .ref 2759] h)) ∧ ((x1 = (3 : Int32)) → (W_X10_join g d av Q n 301 [some (.ref 2759), some (.int x1), none, none, some (.int x4), none, some (.ref a6), some (.ref a7), none, none, some (.int xs0), none, none, none] [.int (1 : Int32), .ref a6, .ref 2759] h)))) ∧ ((¬ xs0 ≤ (6 : Int32)) → (Q (some (.int (-2 : Int32))) n h))) : W_X10_join g d av Q n 276 [some (.ref 2759), some (.int x1), none, none, some (.int x4), none, some (.ref a6), some (.ref a7), none, none, none, none, none, none] [.int xs0] h := by
  refine r_istore (ls2 := [some (.ref 2759), some (.int x1), none, none, some (.int x4), none, some (.ref a6), some (.ref a7), none, none, some (.int xs0), none, none, none]) dX10_join_276 (by decide) rfl ?_
  refine r_iload dX10_join_278 rfl ?_
  refine r_bipush (v := (6 : Int32)) dX10_join_280 rfl ?_
  refine r_icmp_le (tgt := 288) dX10_join_282 rfl (fun cH => ?_) (fun cH => ?_)
  · replace H := H.1 cH
    refine r_aload_n dX10_join_288 rfl rfl ?_
    refine r_aload dX10_join_289 rfl ?_
    refine r_iload_n dX10_join_291 rfl rfl ?_
    refine r_iconst (v := (3 : Int32)) dX10_join_292 rfl ?_
    refine r_icmp_ne (tgt := 300) dX10_join_293 rfl (fun cH => ?_) (fun cH => ?_)
    · replace H := H.1 cH
      refine r_iconst (v := (0 : Int32)) dX10_join_300 rfl ?_
      exact H
    · replace H := H.2 cH
      refine r_iconst (v := (1 : Int32)) dX10_join_296 rfl ?_
      refine r_goto (tgt := 301) dX10_join_297 rfl ?_
      exact H
  · replace H := H.2 cH
    refine r_bipush (v := (-2 : Int32)) dX10_join_285 rfl ?_
    exact r_zret dX10_join_287 rfl rfl (Nat.le_refl _) (Nat.le_refl _) H
theorem s_X10_join_301 {g : GX} {d : Nat} {av : List Value} {Q : QT} {n : Nat} {h : Hp} {x1 : Int32} {x4 : Int32} {a6 : Nat} {a7 : Nat} {x10 : Int32} {xs0 : Int32} {as1 : Nat} {as2 : Nat} (hp : g.2.2.2.2 = true) (t6 : lay a6 = (0, 11, 15)) (t7 : lay a7 = (0, 11, 15)) (ts1 : lay as1 = (0, 11, 15)) (ts2 : lay as2 = (0, 10, 65)) (H : CallV g m_X10_simple d [.ref as2, .ref as1, .int xs0] n h (fun h1 => (W_X10_join g d av Q n 371 [some (.ref 2759), some (.int x1), none, none, some (.int x4), none, some (.ref a6), some (.ref a7), none, none, some (.int x10), none, none, none] [] h1))) : W_X10_join g d av Q n 301 [some (.ref 2759), some (.int x1), none, none, some (.int x4), none, some (.ref a6), some (.ref a7), none, none, some (.int x10), none, none, none] [.int xs0, .ref as1, .ref as2] h := by
  refine k_VV (As := [.ref as1, .int xs0]) (stk := []) hp cv_X10_791 dX10_join_301 rfl (Nat.le_of_ble_eq_true rfl) ts2 (H.mono (fun h1 H => ?_)) ⟨Nat.le_refl _, Nat.le_refl _⟩
  refine r_goto (tgt := 371) dX10_join_304 rfl ?_
  exact H
theorem s_X10_join_329 {g : GX} {d : Nat} {av : List Value} {Q : QT} {n : Nat} {h : Hp} {x1 : Int32} {x4 : Int32} {a6 : Nat} {a7 : Nat} {x9 : Int32} {xs0 : Int32} (hp : g.2.2.2.2 = true) (t6 : lay a6 = (0, 11, 15)) (t7 : lay a7 = (0, 11, 15)) (H : (((6 : Int32) < x9) → (Q (some (.int (-2 : Int32))) n h)) ∧ ((¬ (6 : Int32) < x9) → (CallI g m_X10_degreeOf d [.ref a6] n h (fun v1 h1 => ((((6 : Int32) < v1) → (Q (some (.int (-2 : Int32))) n h1)) ∧ ((¬ (6 : Int32) < v1) → (((xs0 ≤ (6 : Int32)) → (CallI g m_X10_combine d [.ref 2759, .int x1, .ref a6, .ref a7, .int x9] n h1 (fun v2 h2 => (W_X10_join g d av Q n 371 [some (.ref 2759), some (.int x1), none, none, some (.int x4), none, some (.ref a6), some (.ref a7), none, none, some (.int v2), none, none, none] [] h2)))) ∧ ((¬ xs0 ≤ (6 : Int32)) → (Q (some (.int (-2 : Int32))) n h1))))))))) : W_X10_join g d av Q n 329 [some (.ref 2759), some (.int x1), none, none, some (.int x4), none, some (.ref a6), some (.ref a7), none, some (.int x9), none, none, none, none] [.int xs0] h := by
  refine r_istore (ls2 := [some (.ref 2759), some (.int x1), none, none, some (.int x4), none, some (.ref a6), some (.ref a7), none, some (.int x9), none, some (.int xs0), none, none]) dX10_join_329 (by decide) rfl ?_
  refine r_iload dX10_join_331 rfl ?_
  refine r_bipush (v := (6 : Int32)) dX10_join_333 rfl ?_
  refine r_icmp_gt (tgt := 355) dX10_join_335 rfl (fun cH => ?_) (fun cH => ?_)
  · replace H := H.1 cH
    refine r_bipush (v := (-2 : Int32)) dX10_join_355 rfl ?_
    exact r_zret dX10_join_357 rfl rfl (Nat.le_refl _) (Nat.le_refl _) H
  · replace H := H.2 cH
    refine r_aload dX10_join_338 rfl ?_
    refine k_SI (As := [.ref a6]) (stk := []) cs_X10_795 dX10_join_340 rfl (Nat.le_of_ble_eq_true rfl) (H.mono (fun v1 h1 H => ?_)) ⟨Nat.le_refl _, Nat.le_refl _⟩
    refine r_bipush (v := (6 : Int32)) dX10_join_343 rfl ?_
    refine r_icmp_gt (tgt := 355) dX10_join_345 rfl (fun cH => ?_) (fun cH => ?_)
    · replace H := H.1 cH
      refine r_bipush (v := (-2 : Int32)) dX10_join_355 rfl ?_
      exact r_zret dX10_join_357 rfl rfl (Nat.le_refl _) (Nat.le_refl _) H
    · replace H := H.2 cH
      refine r_iload dX10_join_348 rfl ?_
      refine r_bipush (v := (6 : Int32)) dX10_join_350 rfl ?_
      refine r_icmp_le (tgt := 358) dX10_join_352 rfl (fun cH => ?_) (fun cH => ?_)
      · replace H := H.1 cH
        refine r_aload_n dX10_join_358 rfl rfl ?_
        refine r_iload_n dX10_join_359 rfl rfl ?_
        refine r_aload dX10_join_360 rfl ?_
        refine r_aload dX10_join_362 rfl ?_
        refine r_iload dX10_join_364 rfl ?_
        refine k_VI (As := [.int x1, .ref a6, .ref a7, .int x9]) (stk := []) hp cv_X10_798 dX10_join_366 rfl (Nat.le_of_ble_eq_true rfl) ly_10 (H.mono (fun v2 h2 H => ?_)) ⟨Nat.le_refl _, Nat.le_refl _⟩
        refine r_istore (ls2 := [some (.ref 2759), some (.int x1), none, none, some (.int x4), none, some (.ref a6), some (.ref a7), none, some (.int x9), some (.int v2), some (.int xs0), none, none]) dX10_join_369 (by decide) rfl ?_
        refine r_prune [true, true, false, false, true, false, true, true, false, false, true, false, false, false] (ls2 := [some (.ref 2759), some (.int x1), none, none, some (.int x4), none, some (.ref a6), some (.ref a7), none, none, some (.int v2), none, none, none]) rfl ?_
        exact H
      · replace H := H.2 cH
        refine r_bipush (v := (-2 : Int32)) dX10_join_355 rfl ?_
        exact r_zret dX10_join_357 rfl rfl (Nat.le_refl _) (Nat.le_refl _) H
theorem s_X10_join_371 {g : GX} {d : Nat} {av : List Value} {Q : QT} {n : Nat} {h : Hp} {x1 : Int32} {x4 : Int32} {a6 : Nat} {a7 : Nat} {x10 : Int32} (hp : g.2.2.2.2 = true) (t6 : lay a6 = (0, 11, 15)) (t7 : lay a7 = (0, 11, 15)) (H : CallI g m_X10_makeRow d [.ref 2759, .ref 2952, .int x10] n h (fun v1 h1 => (((¬ v1 = (0 : Int32)) → ((((2 : Int32) < x1) → (W_X10_join g d av Q n 406 [some (.ref 2759), some (.int x1), none, none, some (.int x4), none, some (.ref a6), some (.ref a7), none, none, some (.int x10), none, none, none] [.int (0 : Int32), .int (ri h1 a6 12)] h1)) ∧ ((¬ (2 : Int32) < x1) → (W_X10_join g d av Q n 406 [some (.ref 2759), some (.int x1), none, none, some (.int x4), none, some (.ref a6), some (.ref a7), none, none, some (.int x10), none, none, none] [.int (ri h1 a7 12), .int (ri h1 a6 12)] h1)))) ∧ ((v1 = (0 : Int32)) → (Q (some (.int (-2 : Int32))) n h1))))) : W_X10_join g d av Q n 371 [some (.ref 2759), some (.int x1), none, none, some (.int x4), none, some (.ref a6), some (.ref a7), none, none, some (.int x10), none, none, none] [] h := by
  refine r_aload_n dX10_join_371 rfl rfl ?_
  refine r_aload_n dX10_join_372 rfl rfl ?_
  refine m_getF (x := 2952) hp fw_X10_517 dX10_join_373 rfl ly_10 (ff_10_55 ly_10) ?_
  refine r_iload dX10_join_376 rfl ?_
  refine k_VI (As := [.ref 2952, .int x10]) (stk := []) hp cv_X10_777 dX10_join_378 rfl (Nat.le_of_ble_eq_true rfl) ly_10 (H.mono (fun v1 h1 H => ?_)) ⟨Nat.le_refl _, Nat.le_refl _⟩
  refine r_if_ne (tgt := 387) dX10_join_381 rfl (fun cH => ?_) (fun cH => ?_)
  · replace H := H.1 cH
    refine r_aload dX10_join_387 rfl ?_
    refine m_getI hp fw_X10_240 dX10_join_389 rfl t6 ?_
    refine r_iload_n dX10_join_392 rfl rfl ?_
    refine r_iconst (v := (2 : Int32)) dX10_join_393 rfl ?_
    refine r_icmp_gt (tgt := 405) dX10_join_394 rfl (fun cH => ?_) (fun cH => ?_)
    · replace H := H.1 cH
      refine r_iconst (v := (0 : Int32)) dX10_join_405 rfl ?_
      exact H
    · replace H := H.2 cH
      refine r_aload dX10_join_397 rfl ?_
      refine m_getI hp fw_X10_240 dX10_join_399 rfl t7 ?_
      refine r_goto (tgt := 406) dX10_join_402 rfl ?_
      exact H
  · replace H := H.2 cH
    refine r_bipush (v := (-2 : Int32)) dX10_join_384 rfl ?_
    exact r_zret dX10_join_386 rfl rfl (Nat.le_refl _) (Nat.le_refl _) H
theorem s_X10_join_406 {g : GX} {d : Nat} {av : List Value} {Q : QT} {n : Nat} {h : Hp} {x1 : Int32} {x4 : Int32} {a6 : Nat} {a7 : Nat} {x10 : Int32} {xs0 : Int32} {xs1 : Int32} (hp : g.2.2.2.2 = true) (t6 : lay a6 = (0, 11, 15)) (t7 : lay a7 = (0, 11, 15)) (H : CallI g m_J3_max d [.int xs1, .int xs0] n h (fun v1 h1 => (CallI g m_X10_needsOf d [.ref 2849, .int x10, .int (v1 + x10)] n h1 (fun v2 h2 => (∀ h3, h3 = wi h2 2842 12 v2 → ((((ri h3 2842 12) ≤ (60 : Int32)) → (W_X10_join g d av Q n 456 [some (.ref 2759), some (.int x1), none, none, some (.int x4), none, some (.ref a6), some (.ref a7), none, none, some (.int x10), none, some (.int (0 : Int32)), some (.int (0 : Int32))] [] h3)) ∧ ((¬ (ri h3 2842 12) ≤ (60 : Int32)) → (Q (some (.int (-2 : Int32))) n h3)))))))) : W_X10_join g d av Q n 406 [some (.ref 2759), some (.int x1), none, none, some (.int x4), none, some (.ref a6), some (.ref a7), none, none, some (.int x10), none, none, none] [.int xs0, .int xs1] h := by
  refine k_SI (As := [.int xs1, .int xs0]) (stk := []) cs_X10_40 dX10_join_406 rfl (Nat.le_of_ble_eq_true rfl) (H.mono (fun v1 h1 H => ?_)) ⟨Nat.le_refl _, Nat.le_refl _⟩
  refine r_iload dX10_join_409 rfl ?_
  refine r_iadd dX10_join_411 ?_
  refine r_istore (ls2 := [some (.ref 2759), some (.int x1), none, none, some (.int x4), none, some (.ref a6), some (.ref a7), none, none, some (.int x10), some (.int (v1 + x10)), none, none]) dX10_join_412 (by decide) rfl ?_
  refine r_aload_n dX10_join_414 rfl rfl ?_
  refine m_getF (x := 2842) hp fw_X10_453 dX10_join_415 rfl ly_10 (ff_10_21 ly_10) ?_
  refine r_aload_n dX10_join_418 rfl rfl ?_
  refine m_getF (x := 2842) hp fw_X10_453 dX10_join_419 rfl ly_10 (ff_10_21 ly_10) ?_
  refine m_getF (x := 2849) hp fw_X10_237 dX10_join_422 rfl (lf_10_21 ly_10) (ff_11_11 (lf_10_21 ly_10)) ?_
  refine r_iload dX10_join_425 rfl ?_
  refine r_iload dX10_join_427 rfl ?_
  refine k_SI (As := [.ref 2849, .int x10, .int (v1 + x10)]) (stk := [.ref 2842]) cs_X10_781 dX10_join_429 rfl (Nat.le_of_ble_eq_true rfl) (H.mono (fun v2 h2 H => ?_)) ⟨Nat.le_refl _, Nat.le_refl _⟩
  refine m_putI hp fw_X10_240 dX10_join_432 rfl rfl (lf_10_21 ly_10) (fun h3 eh3 => ?_)
  replace H := H h3 eh3
  refine r_aload_n dX10_join_435 rfl rfl ?_
  refine m_getF (x := 2842) hp fw_X10_453 dX10_join_436 rfl ly_10 (ff_10_21 ly_10) ?_
  refine m_getI hp fw_X10_240 dX10_join_439 rfl (lf_10_21 ly_10) ?_
  refine r_bipush (v := (60 : Int32)) dX10_join_442 rfl ?_
  refine r_icmp_le (tgt := 450) dX10_join_444 rfl (fun cH => ?_) (fun cH => ?_)
  · replace H := H.1 cH
    refine r_iconst (v := (0 : Int32)) dX10_join_450 rfl ?_
    refine r_istore (ls2 := [some (.ref 2759), some (.int x1), none, none, some (.int x4), none, some (.ref a6), some (.ref a7), none, none, some (.int x10), some (.int (v1 + x10)), some (.int (0 : Int32)), none]) dX10_join_451 (by decide) rfl ?_
    refine r_iconst (v := (0 : Int32)) dX10_join_453 rfl ?_
    refine r_istore (ls2 := [some (.ref 2759), some (.int x1), none, none, some (.int x4), none, some (.ref a6), some (.ref a7), none, none, some (.int x10), some (.int (v1 + x10)), some (.int (0 : Int32)), some (.int (0 : Int32))]) dX10_join_454 (by decide) rfl ?_
    refine r_prune [true, true, false, false, true, false, true, true, false, false, true, false, true, true] (ls2 := [some (.ref 2759), some (.int x1), none, none, some (.int x4), none, some (.ref a6), some (.ref a7), none, none, some (.int x10), none, some (.int (0 : Int32)), some (.int (0 : Int32))]) rfl ?_
    exact H
  · replace H := H.2 cH
    refine r_bipush (v := (-2 : Int32)) dX10_join_447 rfl ?_
    exact r_zret dX10_join_449 rfl rfl (Nat.le_refl _) (Nat.le_refl _) H
theorem s_X10_join_456 {g : GX} {d : Nat} {av : List Value} {Q : QT} {n : Nat} {h : Hp} {x1 : Int32} {x4 : Int32} {a6 : Nat} {a7 : Nat} {x10 : Int32} {x12 : Int32} {x13 : Int32} (hp : g.2.2.2.2 = true) (t6 : lay a6 = (0, 11, 15)) (t7 : lay a7 = (0, 11, 15)) (H : (((ri h 2842 12) ≤ x13) → (∀ h1, h1 = wi h 2842 13 (ri h 2842 12) → (CallV g m_X10_fill d [.ref 2842] n h1 (fun h2 => (vp_in x4 12 ∧ ∀ r3, r3 = 10245 + 9 * (x4).toNatClampNeg → (CallV g m_X10_copy d [.ref r3, .ref 2842] n h2 (fun h4 => (Q (some (.int x10)) n h4)))))))) ∧ ((¬ (ri h 2842 12) ≤ x13) → (vp_in x13 361 ∧ (CallI g m_X10_add d [.int x12, .int (ri h (a6 + 8) (x13).toNatClampNeg)] n h (fun v5 h5 => (((¬ x1 = (0 : Int32)) → (((¬ x1 = (1 : Int32)) → (((¬ x1 = (2 : Int32)) → (((¬ x1 = (3 : Int32)) → (((¬ x1 = (4 : Int32)) → (CallI g m_X10_cells d [.ref 2759, .ref (a7 + 1), .int x13, .int (0 : Int32)] n h5 (fun v6 h6 => (vp_in x13 361 ∧ (CallI g m_X10_mul d [.int v6, .int (ri h6 (a6 + 8) (x13).toNatClampNeg)] n h6 (fun v7 h7 => (W_X10_join g d av Q n 623 [some (.ref 2759), some (.int x1), none, none, some (.int x4), none, some (.ref a6), some (.ref a7), none, none, some (.int x10), none, some (.int v5), some (.int x13)] [.int v7, .int x13, .ref 2850] h7))))))) ∧ ((x1 = (4 : Int32)) → (vp_in (x13 + (1 : Int32)) 361 ∧ (W_X10_join g d av Q n 623 [some (.ref 2759), some (.int x1), none, none, some (.int x4), none, some (.ref a6), some (.ref a7), none, none, some (.int x10), none, some (.int v5), some (.int x13)] [.int (ri h5 (a6 + 8) ((x13 + (1 : Int32))).toNatClampNeg), .int x13, .ref 2850] h5))))) ∧ ((x1 = (3 : Int32)) → (W_X10_join g d av Q n 623 [some (.ref 2759), some (.int x1), none, none, some (.int x4), none, some (.ref a6), some (.ref a7), none, none, some (.int x10), none, some (.int v5), some (.int x13)] [.int v5, .int x13, .ref 2850] h5)))) ∧ ((x1 = (2 : Int32)) → (vp_in x13 361 ∧ (vp_in x13 361 ∧ (CallI g m_X10_mul d [.int (ri h5 (a6 + 8) (x13).toNatClampNeg), .int (ri h5 (a7 + 8) (x13).toNatClampNeg)] n h5 (fun v8 h8 => (W_X10_join g d av Q n 623 [some (.ref 2759), some (.int x1), none, none, some (.int x4), none, some (.ref a6), some (.ref a7), none, none, some (.int x10), none, some (.int v5), some (.int x13)] [.int v8, .int x13, .ref 2850] h8)))))))) ∧ ((x1 = (1 : Int32)) → (vp_in x13 361 ∧ (vp_in x13 361 ∧ (CallI g m_X10_sub d [.int (ri h5 (a6 + 8) (x13).toNatClampNeg), .int (ri h5 (a7 + 8) (x13).toNatClampNeg)] n h5 (fun v9 h9 => (W_X10_join g d av Q n 623 [some (.ref 2759), some (.int x1), none, none, some (.int x4), none, some (.ref a6), some (.ref a7), none, none, some (.int x10), none, some (.int v5), some (.int x13)] [.int v9, .int x13, .ref 2850] h9)))))))) ∧ ((x1 = (0 : Int32)) → (vp_in x13 361 ∧ (vp_in x13 361 ∧ (CallI g m_X10_add d [.int (ri h5 (a6 + 8) (x13).toNatClampNeg), .int (ri h5 (a7 + 8) (x13).toNatClampNeg)] n h5 (fun v10 h10 => (W_X10_join g d av Q n 623 [some (.ref 2759), some (.int x1), none, none, some (.int x4), none, some (.ref a6), some (.ref a7), none, none, some (.int x10), none, some (.int v5), some (.int x13)] [.int v10, .int x13, .ref 2850] h10)))))))))))) : W_X10_join g d av Q n 456 [some (.ref 2759), some (.int x1), none, none, some (.int x4), none, some (.ref a6), some (.ref a7), none, none, some (.int x10), none, some (.int x12), some (.int x13)] [] h := by
  refine r_iload dX10_join_456 rfl ?_
  refine r_aload_n dX10_join_458 rfl rfl ?_
  refine m_getF (x := 2842) hp fw_X10_453 dX10_join_459 rfl ly_10 (ff_10_21 ly_10) ?_
  refine m_getI hp fw_X10_240 dX10_join_462 rfl (lf_10_21 ly_10) ?_
  refine r_icmp_ge (tgt := 630) dX10_join_465 rfl (fun cH => ?_) (fun cH => ?_)
  · replace H := H.1 cH
    refine r_aload_n dX10_join_630 rfl rfl ?_
    refine m_getF (x := 2842) hp fw_X10_453 dX10_join_631 rfl ly_10 (ff_10_21 ly_10) ?_
    refine r_aload_n dX10_join_634 rfl rfl ?_
    refine m_getF (x := 2842) hp fw_X10_453 dX10_join_635 rfl ly_10 (ff_10_21 ly_10) ?_
    refine m_getI hp fw_X10_240 dX10_join_638 rfl (lf_10_21 ly_10) ?_
    refine m_putI hp fw_X10_243 dX10_join_641 rfl rfl (lf_10_21 ly_10) (fun h1 eh1 => ?_)
    replace H := H h1 eh1
    refine r_aload_n dX10_join_644 rfl rfl ?_
    refine m_getF (x := 2842) hp fw_X10_453 dX10_join_645 rfl ly_10 (ff_10_21 ly_10) ?_
    refine k_SV (As := [.ref 2842]) (stk := []) cs_X10_784 dX10_join_648 rfl (Nat.le_of_ble_eq_true rfl) (H.mono (fun h2 H => ?_)) ⟨Nat.le_refl _, Nat.le_refl _⟩
    refine r_aload_n dX10_join_651 rfl rfl ?_
    refine m_getF (x := 2841) hp fw_X10_450 dX10_join_652 rfl ly_10 (ff_10_20 ly_10) ?_
    refine r_iload dX10_join_655 rfl ?_
    obtain ⟨r3, er3⟩ : ∃ y, y = 10245 + 9 * (x4).toNatClampNeg := ⟨_, rfl⟩
    have hir3 := H.1
    replace H := H.2 r3 er3
    have tLr3 := la_2841 hir3 er3
    refine m_aalF (x := r3) hp dX10_join_657 (lf_10_20 ly_10) rfl rfl (lu_10_20 ly_10) hir3 (fa_2841 hir3 er3) ?_
    refine r_aload_n dX10_join_658 rfl rfl ?_
    refine m_getF (x := 2842) hp fw_X10_453 dX10_join_659 rfl ly_10 (ff_10_21 ly_10) ?_
    refine k_SV (As := [.ref r3, .ref 2842]) (stk := []) cs_X10_547 dX10_join_662 rfl (Nat.le_of_ble_eq_true rfl) (H.mono (fun h4 H => ?_)) ⟨Nat.le_refl _, Nat.le_refl _⟩
    refine r_iload dX10_join_665 rfl ?_
    exact r_zret dX10_join_667 rfl rfl (Nat.le_refl _) (Nat.le_refl _) H
  · replace H := H.2 cH
    refine r_iload dX10_join_468 rfl ?_
    refine r_aload dX10_join_470 rfl ?_
    refine m_getF (x := (a6 + 8)) hp fw_X10_246 dX10_join_472 rfl t6 (ff_11_14 t6) ?_
    refine r_iload dX10_join_475 rfl ?_
    refine m_iald hp dX10_join_477 (lf_11_14 t6) H.1 ?_
    replace H := H.2
    refine k_SI (As := [.int x12, .int (ri h (a6 + 8) (x13).toNatClampNeg)]) (stk := []) cs_X10_49 dX10_join_478 rfl (Nat.le_of_ble_eq_true rfl) (H.mono (fun v5 h5 H => ?_)) ⟨Nat.le_refl _, Nat.le_refl _⟩
    refine r_istore (ls2 := [some (.ref 2759), some (.int x1), none, none, some (.int x4), none, some (.ref a6), some (.ref a7), none, none, some (.int x10), none, some (.int v5), some (.int x13)]) dX10_join_481 (by decide) rfl ?_
    refine r_aload_n dX10_join_483 rfl rfl ?_
    refine m_getF (x := 2842) hp fw_X10_453 dX10_join_484 rfl ly_10 (ff_10_21 ly_10) ?_
    refine m_getF (x := 2850) hp fw_X10_246 dX10_join_487 rfl (lf_10_21 ly_10) (ff_11_14 (lf_10_21 ly_10)) ?_
    refine r_iload dX10_join_490 rfl ?_
    refine r_iload_n dX10_join_492 rfl rfl ?_
    refine r_if_ne (tgt := 518) dX10_join_493 rfl (fun cH => ?_) (fun cH => ?_)
    · replace H := H.1 cH
      refine r_iload_n dX10_join_518 rfl rfl ?_
      refine r_iconst (v := (1 : Int32)) dX10_join_519 rfl ?_
      refine r_icmp_ne (tgt := 545) dX10_join_520 rfl (fun cH => ?_) (fun cH => ?_)
      · replace H := H.1 cH
        refine r_iload_n dX10_join_545 rfl rfl ?_
        refine r_iconst (v := (2 : Int32)) dX10_join_546 rfl ?_
        refine r_icmp_ne (tgt := 572) dX10_join_547 rfl (fun cH => ?_) (fun cH => ?_)
        · replace H := H.1 cH
          refine r_iload_n dX10_join_572 rfl rfl ?_
          refine r_iconst (v := (3 : Int32)) dX10_join_573 rfl ?_
          refine r_icmp_ne (tgt := 582) dX10_join_574 rfl (fun cH => ?_) (fun cH => ?_)
          · replace H := H.1 cH
            refine r_iload_n dX10_join_582 rfl rfl ?_
            refine r_iconst (v := (4 : Int32)) dX10_join_583 rfl ?_
            refine r_icmp_ne (tgt := 600) dX10_join_584 rfl (fun cH => ?_) (fun cH => ?_)
            · replace H := H.1 cH
              refine r_aload_n dX10_join_600 rfl rfl ?_
              refine r_aload dX10_join_601 rfl ?_
              refine m_getF (x := (a7 + 1)) hp fw_X10_207 dX10_join_603 rfl t7 (ff_11_1 t7) ?_
              refine r_iload dX10_join_606 rfl ?_
              refine r_iconst (v := (0 : Int32)) dX10_join_608 rfl ?_
              refine k_VI (As := [.ref (a7 + 1), .int x13, .int (0 : Int32)]) (stk := [.int x13, .ref 2850]) hp cv_X10_674 dX10_join_609 rfl (Nat.le_of_ble_eq_true rfl) ly_10 (H.mono (fun v6 h6 H => ?_)) ⟨Nat.le_refl _, Nat.le_refl _⟩
              refine r_aload dX10_join_612 rfl ?_
              refine m_getF (x := (a6 + 8)) hp fw_X10_246 dX10_join_614 rfl t6 (ff_11_14 t6) ?_
              refine r_iload dX10_join_617 rfl ?_
              refine m_iald hp dX10_join_619 (lf_11_14 t6) H.1 ?_
              replace H := H.2
              refine k_SI (As := [.int v6, .int (ri h6 (a6 + 8) (x13).toNatClampNeg)]) (stk := [.int x13, .ref 2850]) cs_X10_56 dX10_join_620 rfl (Nat.le_of_ble_eq_true rfl) (H.mono (fun v7 h7 H => ?_)) ⟨Nat.le_refl _, Nat.le_refl _⟩
              exact H
            · replace H := H.2 cH
              refine r_aload dX10_join_587 rfl ?_
              refine m_getF (x := (a6 + 8)) hp fw_X10_246 dX10_join_589 rfl t6 (ff_11_14 t6) ?_
              refine r_iload dX10_join_592 rfl ?_
              refine r_iconst (v := (1 : Int32)) dX10_join_594 rfl ?_
              refine r_iadd dX10_join_595 ?_
              refine m_iald hp dX10_join_596 (lf_11_14 t6) H.1 ?_
              replace H := H.2
              refine r_goto (tgt := 623) dX10_join_597 rfl ?_
              exact H
          · replace H := H.2 cH
            refine r_iload dX10_join_577 rfl ?_
            refine r_goto (tgt := 623) dX10_join_579 rfl ?_
            exact H
        · replace H := H.2 cH
          refine r_aload dX10_join_550 rfl ?_
          refine m_getF (x := (a6 + 8)) hp fw_X10_246 dX10_join_552 rfl t6 (ff_11_14 t6) ?_
          refine r_iload dX10_join_555 rfl ?_
          refine m_iald hp dX10_join_557 (lf_11_14 t6) H.1 ?_
          replace H := H.2
          refine r_aload dX10_join_558 rfl ?_
          refine m_getF (x := (a7 + 8)) hp fw_X10_246 dX10_join_560 rfl t7 (ff_11_14 t7) ?_
          refine r_iload dX10_join_563 rfl ?_
          refine m_iald hp dX10_join_565 (lf_11_14 t7) H.1 ?_
          replace H := H.2
          refine k_SI (As := [.int (ri h5 (a6 + 8) (x13).toNatClampNeg), .int (ri h5 (a7 + 8) (x13).toNatClampNeg)]) (stk := [.int x13, .ref 2850]) cs_X10_56 dX10_join_566 rfl (Nat.le_of_ble_eq_true rfl) (H.mono (fun v8 h8 H => ?_)) ⟨Nat.le_refl _, Nat.le_refl _⟩
          refine r_goto (tgt := 623) dX10_join_569 rfl ?_
          exact H
      · replace H := H.2 cH
        refine r_aload dX10_join_523 rfl ?_
        refine m_getF (x := (a6 + 8)) hp fw_X10_246 dX10_join_525 rfl t6 (ff_11_14 t6) ?_
        refine r_iload dX10_join_528 rfl ?_
        refine m_iald hp dX10_join_530 (lf_11_14 t6) H.1 ?_
        replace H := H.2
        refine r_aload dX10_join_531 rfl ?_
        refine m_getF (x := (a7 + 8)) hp fw_X10_246 dX10_join_533 rfl t7 (ff_11_14 t7) ?_
        refine r_iload dX10_join_536 rfl ?_
        refine m_iald hp dX10_join_538 (lf_11_14 t7) H.1 ?_
        replace H := H.2
        refine k_SI (As := [.int (ri h5 (a6 + 8) (x13).toNatClampNeg), .int (ri h5 (a7 + 8) (x13).toNatClampNeg)]) (stk := [.int x13, .ref 2850]) cs_X10_46 dX10_join_539 rfl (Nat.le_of_ble_eq_true rfl) (H.mono (fun v9 h9 H => ?_)) ⟨Nat.le_refl _, Nat.le_refl _⟩
        refine r_goto (tgt := 623) dX10_join_542 rfl ?_
        exact H
    · replace H := H.2 cH
      refine r_aload dX10_join_496 rfl ?_
      refine m_getF (x := (a6 + 8)) hp fw_X10_246 dX10_join_498 rfl t6 (ff_11_14 t6) ?_
      refine r_iload dX10_join_501 rfl ?_
      refine m_iald hp dX10_join_503 (lf_11_14 t6) H.1 ?_
      replace H := H.2
      refine r_aload dX10_join_504 rfl ?_
      refine m_getF (x := (a7 + 8)) hp fw_X10_246 dX10_join_506 rfl t7 (ff_11_14 t7) ?_
      refine r_iload dX10_join_509 rfl ?_
      refine m_iald hp dX10_join_511 (lf_11_14 t7) H.1 ?_
      replace H := H.2
      refine k_SI (As := [.int (ri h5 (a6 + 8) (x13).toNatClampNeg), .int (ri h5 (a7 + 8) (x13).toNatClampNeg)]) (stk := [.int x13, .ref 2850]) cs_X10_49 dX10_join_512 rfl (Nat.le_of_ble_eq_true rfl) (H.mono (fun v10 h10 H => ?_)) ⟨Nat.le_refl _, Nat.le_refl _⟩
      refine r_goto (tgt := 623) dX10_join_515 rfl ?_
      exact H
theorem s_X10_join_623 {g : GX} {d : Nat} {av : List Value} {Q : QT} {n : Nat} {h : Hp} {x1 : Int32} {x4 : Int32} {a6 : Nat} {a7 : Nat} {x10 : Int32} {x12 : Int32} {x13 : Int32} {xs0 : Int32} {xs1 : Int32} {as2 : Nat} {Ls2 : Nat} (hp : g.2.2.2.2 = true) (t6 : lay a6 = (0, 11, 15)) (t7 : lay a7 = (0, 11, 15)) (ts2 : lay as2 = (1, Ls2, 0)) (H : vp_in xs1 Ls2 ∧ ∀ h1, h1 = wi h as2 (xs1).toNatClampNeg xs0 → (W_X10_join g d av Q n 456 [some (.ref 2759), some (.int x1), none, none, some (.int x4), none, some (.ref a6), some (.ref a7), none, none, some (.int x10), none, some (.int x12), some (.int (x13 + (1 : Int32)))] [] h1)) : W_X10_join g d av Q n 623 [some (.ref 2759), some (.int x1), none, none, some (.int x4), none, some (.ref a6), some (.ref a7), none, none, some (.int x10), none, some (.int x12), some (.int x13)] [.int xs0, .int xs1, .ref as2] h := by
  refine m_iast hp dX10_join_623 ts2 H.1 (fun h1 eh1 => ?_)
  replace H := H.2 h1 eh1
  refine r_iinc (v := (x13 + (1 : Int32))) (ls2 := [some (.ref 2759), some (.int x1), none, none, some (.int x4), none, some (.ref a6), some (.ref a7), none, none, some (.int x10), none, some (.int x12), some (.int (x13 + (1 : Int32)))]) dX10_join_624 rfl rfl (by decide) rfl ?_
  refine r_goto (tgt := 456) dX10_join_627 rfl ?_
  exact H
abbrev W_X10_simple (g : GX) (d : Nat) (av : List Value) (Q : QT) (n : Nat) (pc : Nat) (ls : LV) (stk : List Value) (h : Hp) : Prop := RJ g m_X10_simple (d + 1) 0 0 av Q pc ls stk n h 0 0
theorem s_X10_simple_0 {g : GX} {d : Nat} {av : List Value} {Q : QT} {n : Nat} {h : Hp} {a1 : Nat} {x2 : Int32} (hp : g.2.2.2.2 = true) (t1 : lay a1 = (0, 11, 15)) (H : CallR g m_X10_newU d [.ref 2759] n h (fun v1 h1 => (lay v1 = (0, 13, 2) ∧ (W_X10_simple g d av Q n 14 [some (.ref 2759), some (.ref a1), some (.int x2), some (.int (ri h a1 10)), some (.ref v1), some (.int (0 : Int32))] [] h1)))) : W_X10_simple g d av Q n 0 [some (.ref 2759), some (.ref a1), some (.int x2), none, none, none] [] h := by
  refine r_aload_n dX10_simple_0 rfl rfl ?_
  refine m_getI hp fw_X10_234 dX10_simple_1 rfl t1 ?_
  refine r_istore_n (ls2 := [some (.ref 2759), some (.ref a1), some (.int x2), some (.int (ri h a1 10)), none, none]) dX10_simple_4 rfl (by decide) rfl ?_
  refine r_aload_n dX10_simple_5 rfl rfl ?_
  refine k_VR (As := []) (stk := []) hp cv_X10_74 dX10_simple_6 rfl (Nat.le_of_ble_eq_true rfl) ly_10 (H.mono (fun v1 h1 H => ?_)) ⟨Nat.le_refl _, Nat.le_refl _⟩
  obtain ⟨tv1, H⟩ := H
  refine r_astore (ls2 := [some (.ref 2759), some (.ref a1), some (.int x2), some (.int (ri h a1 10)), some (.ref v1), none]) dX10_simple_9 (by decide) rfl ?_
  refine r_iconst (v := (0 : Int32)) dX10_simple_11 rfl ?_
  refine r_istore (ls2 := [some (.ref 2759), some (.ref a1), some (.int x2), some (.int (ri h a1 10)), some (.ref v1), some (.int (0 : Int32))]) dX10_simple_12 (by decide) rfl ?_
  exact H
theorem s_X10_simple_14 {g : GX} {d : Nat} {av : List Value} {Q : QT} {n : Nat} {h : Hp} {a1 : Nat} {x2 : Int32} {x3 : Int32} {a4 : Nat} {x5 : Int32} (hp : g.2.2.2.2 = true) (t1 : lay a1 = (0, 11, 15)) (t4 : lay a4 = (0, 13, 2)) (H : (((x3 + (1 : Int32)) < x5) → (W_X10_simple g d av Q n 42 [some (.ref 2759), some (.ref a1), some (.int x2), some (.int x3), some (.ref a4), some (.int (0 : Int32))] [] h)) ∧ ((¬ (x3 + (1 : Int32)) < x5) → (CallR g m_X10_newU d [.ref 2759] n h (fun v1 h1 => (lay v1 = (0, 13, 2) ∧ (vp_in x5 8 ∧ fin 2952 (x5).toNatClampNeg = none ∧ ∀ h2, h2 = wr h1 2952 (x5).toNatClampNeg (some v1) → (W_X10_simple g d av Q n 14 [some (.ref 2759), some (.ref a1), some (.int x2), some (.int x3), some (.ref a4), some (.int (x5 + (1 : Int32)))] [] h2))))))) : W_X10_simple g d av Q n 14 [some (.ref 2759), some (.ref a1), some (.int x2), some (.int x3), some (.ref a4), some (.int x5)] [] h := by
  refine r_iload dX10_simple_14 rfl ?_
  refine r_iload_n dX10_simple_16 rfl rfl ?_
  refine r_iconst (v := (1 : Int32)) dX10_simple_17 rfl ?_
  refine r_iadd dX10_simple_18 ?_
  refine r_icmp_gt (tgt := 39) dX10_simple_19 rfl (fun cH => ?_) (fun cH => ?_)
  · replace H := H.1 cH
    refine r_iconst (v := (0 : Int32)) dX10_simple_39 rfl ?_
    refine r_istore (ls2 := [some (.ref 2759), some (.ref a1), some (.int x2), some (.int x3), some (.ref a4), some (.int (0 : Int32))]) dX10_simple_40 (by decide) rfl ?_
    exact H
  · replace H := H.2 cH
    refine r_aload_n dX10_simple_22 rfl rfl ?_
    refine m_getF (x := 2952) hp fw_X10_517 dX10_simple_23 rfl ly_10 (ff_10_55 ly_10) ?_
    refine r_iload dX10_simple_26 rfl ?_
    refine r_aload_n dX10_simple_28 rfl rfl ?_
    refine k_VR (As := []) (stk := [.int x5, .ref 2952]) hp cv_X10_74 dX10_simple_29 rfl (Nat.le_of_ble_eq_true rfl) ly_10 (H.mono (fun v1 h1 H => ?_)) ⟨Nat.le_refl _, Nat.le_refl _⟩
    obtain ⟨tv1, H⟩ := H
    refine m_aast (nf := 0) hp dX10_simple_32 (lf_10_55 ly_10) rfl (cw13).1 tv1 (lu_10_55 ly_10) H.1 H.2.1 (fun h2 eh2 => ?_)
    replace H := H.2.2 h2 eh2
    refine r_iinc (v := (x5 + (1 : Int32))) (ls2 := [some (.ref 2759), some (.ref a1), some (.int x2), some (.int x3), some (.ref a4), some (.int (x5 + (1 : Int32)))]) dX10_simple_33 rfl rfl (by decide) rfl ?_
    refine r_goto (tgt := 14) dX10_simple_36 rfl ?_
    exact H
theorem s_X10_simple_42 {g : GX} {d : Nat} {av : List Value} {Q : QT} {n : Nat} {h : Hp} {a1 : Nat} {x2 : Int32} {x3 : Int32} {a4 : Nat} {x5 : Int32} (hp : g.2.2.2.2 = true) (t1 : lay a1 = (0, 11, 15)) (t4 : lay a4 = (0, 13, 2)) (H : ((x3 < x5) → (Q none n h)) ∧ ((¬ x3 < x5) → (CallV g m_X10_load_2 d [.ref a4, .ref (a1 + 7), .int ((25 : Int32) * x5)] n h (fun h1 => (CallV g m_X10_shift d [.ref a4, .ref a4, .int (1 : Int32)] n h1 (fun h2 => (((x2 = (0 : Int32)) → (vp_in x5 8 ∧ ∃ r3, rr h2 2952 (x5).toNatClampNeg = some r3 ∧ lay r3 = (0, 13, 2) ∧ (CallV g m_X10_set_2 d [.ref r3, .ref a4] n h2 (fun h4 => (W_X10_simple g d av Q n 133 [some (.ref 2759), some (.ref a1), some (.int x2), some (.int x3), some (.ref a4), some (.int x5)] [] h4))))) ∧ ((¬ x2 = (0 : Int32)) → (vp_in (x5 + (1 : Int32)) 8 ∧ ∃ r5, rr h2 2952 ((x5 + (1 : Int32))).toNatClampNeg = some r5 ∧ lay r5 = (0, 13, 2) ∧ (vp_in (x5 + (1 : Int32)) 8 ∧ ∃ r6, rr h2 2952 ((x5 + (1 : Int32))).toNatClampNeg = some r6 ∧ lay r6 = (0, 13, 2) ∧ (CallV g m_X10_plus d [.ref r5, .ref r6, .ref a4, .int (0 : Int32)] n h2 (fun h7 => (vp_in x5 8 ∧ ∃ r8, rr h7 2952 (x5).toNatClampNeg = some r8 ∧ lay r8 = (0, 13, 2) ∧ (vp_in x5 8 ∧ ∃ r9, rr h7 2952 (x5).toNatClampNeg = some r9 ∧ lay r9 = (0, 13, 2) ∧ (CallV g m_X10_plus d [.ref r8, .ref r9, .ref a4, .int (1 : Int32)] n h7 (fun h10 => (W_X10_simple g d av Q n 133 [some (.ref 2759), some (.ref a1), some (.int x2), some (.int x3), some (.ref a4), some (.int x5)] [] h10))))))))))))))))) : W_X10_simple g d av Q n 42 [some (.ref 2759), some (.ref a1), some (.int x2), some (.int x3), some (.ref a4), some (.int x5)] [] h := by
  refine r_iload dX10_simple_42 rfl ?_
  refine r_iload_n dX10_simple_44 rfl rfl ?_
  refine r_icmp_gt (tgt := 139) dX10_simple_45 rfl (fun cH => ?_) (fun cH => ?_)
  · replace H := H.1 cH
    exact r_vret dX10_simple_139 rfl (Nat.le_refl _) (Nat.le_refl _) H
  · replace H := H.2 cH
    refine r_aload dX10_simple_48 rfl ?_
    refine r_aload_n dX10_simple_50 rfl rfl ?_
    refine m_getF (x := (a1 + 7)) hp fw_X10_237 dX10_simple_51 rfl t1 (ff_11_11 t1) ?_
    refine r_bipush (v := (25 : Int32)) dX10_simple_54 rfl ?_
    refine r_iload dX10_simple_56 rfl ?_
    refine r_imul dX10_simple_58 ?_
    refine k_SV (As := [.ref a4, .ref (a1 + 7), .int ((25 : Int32) * x5)]) (stk := []) cs_X10_775 dX10_simple_59 rfl (Nat.le_of_ble_eq_true rfl) (H.mono (fun h1 H => ?_)) ⟨Nat.le_refl _, Nat.le_refl _⟩
    refine r_aload dX10_simple_62 rfl ?_
    refine r_aload dX10_simple_64 rfl ?_
    refine r_iconst (v := (1 : Int32)) dX10_simple_66 rfl ?_
    refine k_SV (As := [.ref a4, .ref a4, .int (1 : Int32)]) (stk := []) cs_X10_116 dX10_simple_67 rfl (Nat.le_of_ble_eq_true rfl) (H.mono (fun h2 H => ?_)) ⟨Nat.le_refl _, Nat.le_refl _⟩
    refine r_iload_n dX10_simple_70 rfl rfl ?_
    refine r_if_eq (tgt := 121) dX10_simple_71 rfl (fun cH => ?_) (fun cH => ?_)
    · replace H := H.1 cH
      refine r_aload_n dX10_simple_121 rfl rfl ?_
      refine m_getF (x := 2952) hp fw_X10_517 dX10_simple_122 rfl ly_10 (ff_10_55 ly_10) ?_
      refine r_iload dX10_simple_125 rfl ?_
      have hir3 := H.1
      obtain ⟨r3, er3, tr3, H⟩ := H.2
      refine m_aalM (x := r3) hp dX10_simple_127 (lf_10_55 ly_10) rfl rfl (lu_10_55 ly_10) hir3 er3 ?_
      refine r_aload dX10_simple_128 rfl ?_
      refine k_SV (As := [.ref r3, .ref a4]) (stk := []) cs_X10_62 dX10_simple_130 rfl (Nat.le_of_ble_eq_true rfl) (H.mono (fun h4 H => ?_)) ⟨Nat.le_refl _, Nat.le_refl _⟩
      exact H
    · replace H := H.2 cH
      refine r_aload_n dX10_simple_74 rfl rfl ?_
      refine m_getF (x := 2952) hp fw_X10_517 dX10_simple_75 rfl ly_10 (ff_10_55 ly_10) ?_
      refine r_iload dX10_simple_78 rfl ?_
      refine r_iconst (v := (1 : Int32)) dX10_simple_80 rfl ?_
      refine r_iadd dX10_simple_81 ?_
      have hir5 := H.1
      obtain ⟨r5, er5, tr5, H⟩ := H.2
      refine m_aalM (x := r5) hp dX10_simple_82 (lf_10_55 ly_10) rfl rfl (lu_10_55 ly_10) hir5 er5 ?_
      refine r_aload_n dX10_simple_83 rfl rfl ?_
      refine m_getF (x := 2952) hp fw_X10_517 dX10_simple_84 rfl ly_10 (ff_10_55 ly_10) ?_
      refine r_iload dX10_simple_87 rfl ?_
      refine r_iconst (v := (1 : Int32)) dX10_simple_89 rfl ?_
      refine r_iadd dX10_simple_90 ?_
      have hir6 := H.1
      obtain ⟨r6, er6, tr6, H⟩ := H.2
      refine m_aalM (x := r6) hp dX10_simple_91 (lf_10_55 ly_10) rfl rfl (lu_10_55 ly_10) hir6 er6 ?_
      refine r_aload dX10_simple_92 rfl ?_
      refine r_iconst (v := (0 : Int32)) dX10_simple_94 rfl ?_
      refine k_SV (As := [.ref r5, .ref r6, .ref a4, .int (0 : Int32)]) (stk := []) cs_X10_101 dX10_simple_95 rfl (Nat.le_of_ble_eq_true rfl) (H.mono (fun h7 H => ?_)) ⟨Nat.le_refl _, Nat.le_refl _⟩
      refine r_aload_n dX10_simple_98 rfl rfl ?_
      refine m_getF (x := 2952) hp fw_X10_517 dX10_simple_99 rfl ly_10 (ff_10_55 ly_10) ?_
      refine r_iload dX10_simple_102 rfl ?_
      have hir8 := H.1
      obtain ⟨r8, er8, tr8, H⟩ := H.2
      refine m_aalM (x := r8) hp dX10_simple_104 (lf_10_55 ly_10) rfl rfl (lu_10_55 ly_10) hir8 er8 ?_
      refine r_aload_n dX10_simple_105 rfl rfl ?_
      refine m_getF (x := 2952) hp fw_X10_517 dX10_simple_106 rfl ly_10 (ff_10_55 ly_10) ?_
      refine r_iload dX10_simple_109 rfl ?_
      have hir9 := H.1
      obtain ⟨r9, er9, tr9, H⟩ := H.2
      refine m_aalM (x := r9) hp dX10_simple_111 (lf_10_55 ly_10) rfl rfl (lu_10_55 ly_10) hir9 er9 ?_
      refine r_aload dX10_simple_112 rfl ?_
      refine r_iconst (v := (1 : Int32)) dX10_simple_114 rfl ?_
      refine k_SV (As := [.ref r8, .ref r9, .ref a4, .int (1 : Int32)]) (stk := []) cs_X10_101 dX10_simple_115 rfl (Nat.le_of_ble_eq_true rfl) (H.mono (fun h10 H => ?_)) ⟨Nat.le_refl _, Nat.le_refl _⟩
      refine r_goto (tgt := 133) dX10_simple_118 rfl ?_
      exact H
theorem s_X10_simple_133 {g : GX} {d : Nat} {av : List Value} {Q : QT} {n : Nat} {h : Hp} {a1 : Nat} {x2 : Int32} {x3 : Int32} {a4 : Nat} {x5 : Int32} (hp : g.2.2.2.2 = true) (t1 : lay a1 = (0, 11, 15)) (t4 : lay a4 = (0, 13, 2)) (H : W_X10_simple g d av Q n 42 [some (.ref 2759), some (.ref a1), some (.int x2), some (.int x3), some (.ref a4), some (.int (x5 + (1 : Int32)))] [] h) : W_X10_simple g d av Q n 133 [some (.ref 2759), some (.ref a1), some (.int x2), some (.int x3), some (.ref a4), some (.int x5)] [] h := by
  refine r_iinc (v := (x5 + (1 : Int32))) (ls2 := [some (.ref 2759), some (.ref a1), some (.int x2), some (.int x3), some (.ref a4), some (.int (x5 + (1 : Int32)))]) dX10_simple_133 rfl rfl (by decide) rfl ?_
  refine r_goto (tgt := 42) dX10_simple_136 rfl ?_
  exact H
abbrev W_X10_degreeOf (g : GX) (d : Nat) (av : List Value) (Q : QT) (n : Nat) (pc : Nat) (ls : LV) (stk : List Value) (h : Hp) : Prop := RJ g m_X10_degreeOf (d + 1) 0 0 av Q pc ls stk n h 0 0
theorem s_X10_degreeOf_0 {g : GX} {d : Nat} {av : List Value} {Q : QT} {n : Nat} {h : Hp} {a0 : Nat} (hp : g.2.2.2.2 = true) (t0 : lay a0 = (0, 11, 15)) (H : W_X10_degreeOf g d av Q n 4 [some (.ref a0), some (.int (0 : Int32)), some (.int (0 : Int32)), none] [] h) : W_X10_degreeOf g d av Q n 0 [some (.ref a0), none, none, none] [] h := by
  refine r_iconst (v := (0 : Int32)) dX10_degreeOf_0 rfl ?_
  refine r_istore_n (ls2 := [some (.ref a0), some (.int (0 : Int32)), none, none]) dX10_degreeOf_1 rfl (by decide) rfl ?_
  refine r_iconst (v := (0 : Int32)) dX10_degreeOf_2 rfl ?_
  refine r_istore_n (ls2 := [some (.ref a0), some (.int (0 : Int32)), some (.int (0 : Int32)), none]) dX10_degreeOf_3 rfl (by decide) rfl ?_
  exact H
theorem s_X10_degreeOf_4 {g : GX} {d : Nat} {av : List Value} {Q : QT} {n : Nat} {h : Hp} {a0 : Nat} {x1 : Int32} {x2 : Int32} (hp : g.2.2.2.2 = true) (t0 : lay a0 = (0, 11, 15)) (H : (((ri h a0 10) < x2) → (Q (some (.int x1)) n h)) ∧ ((¬ (ri h a0 10) < x2) → (W_X10_degreeOf g d av Q n 14 [some (.ref a0), some (.int x1), some (.int x2), some (.int (0 : Int32))] [] h))) : W_X10_degreeOf g d av Q n 4 [some (.ref a0), some (.int x1), some (.int x2), none] [] h := by
  refine r_iload_n dX10_degreeOf_4 rfl rfl ?_
  refine r_aload_n dX10_degreeOf_5 rfl rfl ?_
  refine m_getI hp fw_X10_234 dX10_degreeOf_6 rfl t0 ?_
  refine r_icmp_gt (tgt := 56) dX10_degreeOf_9 rfl (fun cH => ?_) (fun cH => ?_)
  · replace H := H.1 cH
    refine r_iload_n dX10_degreeOf_56 rfl rfl ?_
    exact r_zret dX10_degreeOf_57 rfl rfl (Nat.le_refl _) (Nat.le_refl _) H
  · replace H := H.2 cH
    refine r_iconst (v := (0 : Int32)) dX10_degreeOf_12 rfl ?_
    refine r_istore_n (ls2 := [some (.ref a0), some (.int x1), some (.int x2), some (.int (0 : Int32))]) dX10_degreeOf_13 rfl (by decide) rfl ?_
    exact H
theorem s_X10_degreeOf_14 {g : GX} {d : Nat} {av : List Value} {Q : QT} {n : Nat} {h : Hp} {a0 : Nat} {x1 : Int32} {x2 : Int32} {x3 : Int32} (hp : g.2.2.2.2 = true) (t0 : lay a0 = (0, 11, 15)) (H : (((25 : Int32) ≤ x3) → (W_X10_degreeOf g d av Q n 4 [some (.ref a0), some (.int x1), some (.int (x2 + (1 : Int32))), none] [] h)) ∧ ((¬ (25 : Int32) ≤ x3) → (vp_in (((25 : Int32) * x2) + x3) 175 ∧ ((((ri h (a0 + 7) ((((25 : Int32) * x2) + x3)).toNatClampNeg) = (0 : Int32)) → (W_X10_degreeOf g d av Q n 43 [some (.ref a0), none, some (.int x2), some (.int x3)] [.int x1] h)) ∧ ((¬ (ri h (a0 + 7) ((((25 : Int32) * x2) + x3)).toNatClampNeg) = (0 : Int32)) → (CallI g m_J3_max d [.int x1, .int x3] n h (fun v1 h1 => (W_X10_degreeOf g d av Q n 43 [some (.ref a0), none, some (.int x2), some (.int x3)] [.int v1] h1)))))))) : W_X10_degreeOf g d av Q n 14 [some (.ref a0), some (.int x1), some (.int x2), some (.int x3)] [] h := by
  refine r_iload_n dX10_degreeOf_14 rfl rfl ?_
  refine r_bipush (v := (25 : Int32)) dX10_degreeOf_15 rfl ?_
  refine r_icmp_ge (tgt := 50) dX10_degreeOf_17 rfl (fun cH => ?_) (fun cH => ?_)
  · replace H := H.1 cH
    refine r_iinc (v := (x2 + (1 : Int32))) (ls2 := [some (.ref a0), some (.int x1), some (.int (x2 + (1 : Int32))), some (.int x3)]) dX10_degreeOf_50 rfl rfl (by decide) rfl ?_
    refine r_goto (tgt := 4) dX10_degreeOf_53 rfl ?_
    refine r_prune [true, true, true, false] (ls2 := [some (.ref a0), some (.int x1), some (.int (x2 + (1 : Int32))), none]) rfl ?_
    exact H
  · replace H := H.2 cH
    refine r_aload_n dX10_degreeOf_20 rfl rfl ?_
    refine m_getF (x := (a0 + 7)) hp fw_X10_237 dX10_degreeOf_21 rfl t0 (ff_11_11 t0) ?_
    refine r_bipush (v := (25 : Int32)) dX10_degreeOf_24 rfl ?_
    refine r_iload_n dX10_degreeOf_26 rfl rfl ?_
    refine r_imul dX10_degreeOf_27 ?_
    refine r_iload_n dX10_degreeOf_28 rfl rfl ?_
    refine r_iadd dX10_degreeOf_29 ?_
    refine m_iald hp dX10_degreeOf_30 (lf_11_11 t0) H.1 ?_
    replace H := H.2
    refine r_if_eq (tgt := 42) dX10_degreeOf_31 rfl (fun cH => ?_) (fun cH => ?_)
    · replace H := H.1 cH
      refine r_iload_n dX10_degreeOf_42 rfl rfl ?_
      refine r_prune [true, false, true, true] (ls2 := [some (.ref a0), none, some (.int x2), some (.int x3)]) rfl ?_
      exact H
    · replace H := H.2 cH
      refine r_iload_n dX10_degreeOf_34 rfl rfl ?_
      refine r_iload_n dX10_degreeOf_35 rfl rfl ?_
      refine k_SI (As := [.int x1, .int x3]) (stk := []) cs_X10_40 dX10_degreeOf_36 rfl (Nat.le_of_ble_eq_true rfl) (H.mono (fun v1 h1 H => ?_)) ⟨Nat.le_refl _, Nat.le_refl _⟩
      refine r_goto (tgt := 43) dX10_degreeOf_39 rfl ?_
      refine r_prune [true, false, true, true] (ls2 := [some (.ref a0), none, some (.int x2), some (.int x3)]) rfl ?_
      exact H
theorem s_X10_degreeOf_43 {g : GX} {d : Nat} {av : List Value} {Q : QT} {n : Nat} {h : Hp} {a0 : Nat} {x2 : Int32} {x3 : Int32} {xs0 : Int32} (hp : g.2.2.2.2 = true) (t0 : lay a0 = (0, 11, 15)) (H : W_X10_degreeOf g d av Q n 14 [some (.ref a0), some (.int xs0), some (.int x2), some (.int (x3 + (1 : Int32)))] [] h) : W_X10_degreeOf g d av Q n 43 [some (.ref a0), none, some (.int x2), some (.int x3)] [.int xs0] h := by
  refine r_istore_n (ls2 := [some (.ref a0), some (.int xs0), some (.int x2), some (.int x3)]) dX10_degreeOf_43 rfl (by decide) rfl ?_
  refine r_iinc (v := (x3 + (1 : Int32))) (ls2 := [some (.ref a0), some (.int xs0), some (.int x2), some (.int (x3 + (1 : Int32)))]) dX10_degreeOf_44 rfl rfl (by decide) rfl ?_
  refine r_goto (tgt := 14) dX10_degreeOf_47 rfl ?_
  exact H
