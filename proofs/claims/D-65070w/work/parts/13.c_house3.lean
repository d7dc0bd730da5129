set_option maxRecDepth 100000
theorem dX0_part_0 : decode cX0_part 0 = .ok (.iload_n 1, 1) := by decide +kernel
theorem dX0_part_1 : decode cX0_part 1 = .ok (.invokestatic 519, 3) := by decide +kernel
theorem dX0_part_4 : decode cX0_part 4 = .ok (.ifCond .eq 10, 3) := by decide +kernel
theorem dX0_part_7 : decode cX0_part 7 = .ok (.iload_n 3, 1) := by decide +kernel
theorem dX0_part_8 : decode cX0_part 8 = .ok (.invokestatic 519, 3) := by decide +kernel
theorem dX0_part_11 : decode cX0_part 11 = .ok (.ifCond .ne 5, 3) := by decide +kernel
theorem dX0_part_14 : decode cX0_part 14 = .ok (.iconst (-1), 1) := by decide +kernel
theorem dX0_part_15 : decode cX0_part 15 = .ok (.ireturn, 1) := by decide +kernel
theorem dX0_part_16 : decode cX0_part 16 = .ok (.aload_n 0, 1) := by decide +kernel
theorem dX0_part_17 : decode cX0_part 17 = .ok (.getfield 326, 3) := by decide +kernel
theorem dX0_part_20 : decode cX0_part 20 = .ok (.iload_n 1, 1) := by decide +kernel
theorem dX0_part_21 : decode cX0_part 21 = .ok (.aaload, 1) := by decide +kernel
theorem dX0_part_22 : decode cX0_part 22 = .ok (.astore 4, 2) := by decide +kernel
theorem dX0_part_24 : decode cX0_part 24 = .ok (.aload 4, 2) := by decide +kernel
theorem dX0_part_26 : decode cX0_part 26 = .ok (.getfield 509, 3) := by decide +kernel
theorem dX0_part_29 : decode cX0_part 29 = .ok (.iconst 3, 1) := by decide +kernel
theorem dX0_part_30 : decode cX0_part 30 = .ok (.if_icmp .ge 6, 3) := by decide +kernel
theorem dX0_part_33 : decode cX0_part 33 = .ok (.bipush (-3), 2) := by decide +kernel
theorem dX0_part_35 : decode cX0_part 35 = .ok (.ireturn, 1) := by decide +kernel
theorem dX0_part_36 : decode cX0_part 36 = .ok (.iload_n 2, 1) := by decide +kernel
theorem dX0_part_37 : decode cX0_part 37 = .ok (.aload 4, 2) := by decide +kernel
theorem dX0_part_39 : decode cX0_part 39 = .ok (.getfield 509, 3) := by decide +kernel
theorem dX0_part_42 : decode cX0_part 42 = .ok (.iconst 3, 1) := by decide +kernel
theorem dX0_part_43 : decode cX0_part 43 = .ok (.if_icmp .ne 7, 3) := by decide +kernel
theorem dX0_part_46 : decode cX0_part 46 = .ok (.iconst (-1), 1) := by decide +kernel
theorem dX0_part_47 : decode cX0_part 47 = .ok (.goto 4, 3) := by decide +kernel
theorem dX0_part_50 : decode cX0_part 50 = .ok (.iconst 0, 1) := by decide +kernel
theorem dX0_part_51 : decode cX0_part 51 = .ok (.aload 4, 2) := by decide +kernel
theorem dX0_part_53 : decode cX0_part 53 = .ok (.getfield 575, 3) := by decide +kernel
theorem dX0_part_56 : decode cX0_part 56 = .ok (.invokestatic 173, 3) := by decide +kernel
theorem dX0_part_59 : decode cX0_part 59 = .ok (.ifCond .ne 5, 3) := by decide +kernel
theorem dX0_part_62 : decode cX0_part 62 = .ok (.iconst (-1), 1) := by decide +kernel
theorem dX0_part_63 : decode cX0_part 63 = .ok (.ireturn, 1) := by decide +kernel
theorem dX0_part_64 : decode cX0_part 64 = .ok (.aload_n 0, 1) := by decide +kernel
theorem dX0_part_65 : decode cX0_part 65 = .ok (.getfield 330, 3) := by decide +kernel
theorem dX0_part_68 : decode cX0_part 68 = .ok (.invokevirtual 301, 3) := by decide +kernel
theorem dX0_part_71 : decode cX0_part 71 = .ok (.iload_n 2, 1) := by decide +kernel
theorem dX0_part_72 : decode cX0_part 72 = .ok (.ifCond .ge 24, 3) := by decide +kernel
theorem dX0_part_75 : decode cX0_part 75 = .ok (.aload_n 0, 1) := by decide +kernel
theorem dX0_part_76 : decode cX0_part 76 = .ok (.getfield 330, 3) := by decide +kernel
theorem dX0_part_79 : decode cX0_part 79 = .ok (.getfield 110, 3) := by decide +kernel
theorem dX0_part_82 : decode cX0_part 82 = .ok (.aload 4, 2) := by decide +kernel
theorem dX0_part_84 : decode cX0_part 84 = .ok (.getfield 512, 3) := by decide +kernel
theorem dX0_part_87 : decode cX0_part 87 = .ok (.getfield 110, 3) := by decide +kernel
theorem dX0_part_90 : decode cX0_part 90 = .ok (.invokevirtual 760, 3) := by decide +kernel
theorem dX0_part_93 : decode cX0_part 93 = .ok (.goto 75, 3) := by decide +kernel
theorem dX0_part_96 : decode cX0_part 96 = .ok (.aload_n 0, 1) := by decide +kernel
theorem dX0_part_97 : decode cX0_part 97 = .ok (.getfield 330, 3) := by decide +kernel
theorem dX0_part_100 : decode cX0_part 100 = .ok (.getfield 110, 3) := by decide +kernel
theorem dX0_part_103 : decode cX0_part 103 = .ok (.getfield 94, 3) := by decide +kernel
theorem dX0_part_106 : decode cX0_part 106 = .ok (.iconst 1, 1) := by decide +kernel
theorem dX0_part_107 : decode cX0_part 107 = .ok (.invokevirtual 42, 3) := by decide +kernel
theorem dX0_part_110 : decode cX0_part 110 = .ok (.aload_n 0, 1) := by decide +kernel
theorem dX0_part_111 : decode cX0_part 111 = .ok (.getfield 330, 3) := by decide +kernel
theorem dX0_part_114 : decode cX0_part 114 = .ok (.getfield 110, 3) := by decide +kernel
theorem dX0_part_117 : decode cX0_part 117 = .ok (.getfield 89, 3) := by decide +kernel
theorem dX0_part_120 : decode cX0_part 120 = .ok (.aload 4, 2) := by decide +kernel
theorem dX0_part_122 : decode cX0_part 122 = .ok (.getfield 578, 3) := by decide +kernel
theorem dX0_part_125 : decode cX0_part 125 = .ok (.iload_n 2, 1) := by decide +kernel
theorem dX0_part_126 : decode cX0_part 126 = .ok (.aaload, 1) := by decide +kernel
theorem dX0_part_127 : decode cX0_part 127 = .ok (.getfield 636, 3) := by decide +kernel
theorem dX0_part_130 : decode cX0_part 130 = .ok (.iconst 1, 1) := by decide +kernel
theorem dX0_part_131 : decode cX0_part 131 = .ok (.invokevirtual 304, 3) := by decide +kernel
theorem dX0_part_134 : decode cX0_part 134 = .ok (.aload_n 0, 1) := by decide +kernel
theorem dX0_part_135 : decode cX0_part 135 = .ok (.getfield 330, 3) := by decide +kernel
theorem dX0_part_138 : decode cX0_part 138 = .ok (.getfield 110, 3) := by decide +kernel
theorem dX0_part_141 : decode cX0_part 141 = .ok (.getfield 89, 3) := by decide +kernel
theorem dX0_part_144 : decode cX0_part 144 = .ok (.iconst 0, 1) := by decide +kernel
theorem dX0_part_145 : decode cX0_part 145 = .ok (.aload 4, 2) := by decide +kernel
theorem dX0_part_147 : decode cX0_part 147 = .ok (.getfield 578, 3) := by decide +kernel
theorem dX0_part_150 : decode cX0_part 150 = .ok (.iload_n 2, 1) := by decide +kernel
theorem dX0_part_151 : decode cX0_part 151 = .ok (.aaload, 1) := by decide +kernel
theorem dX0_part_152 : decode cX0_part 152 = .ok (.invokevirtual 664, 3) := by decide +kernel
theorem dX0_part_155 : decode cX0_part 155 = .ok (.aload_n 0, 1) := by decide +kernel
theorem dX0_part_156 : decode cX0_part 156 = .ok (.getfield 330, 3) := by decide +kernel
theorem dX0_part_159 : decode cX0_part 159 = .ok (.getfield 110, 3) := by decide +kernel
theorem dX0_part_162 : decode cX0_part 162 = .ok (.getfield 89, 3) := by decide +kernel
theorem dX0_part_165 : decode cX0_part 165 = .ok (.invokevirtual 611, 3) := by decide +kernel
theorem dX0_part_168 : decode cX0_part 168 = .ok (.aload_n 0, 1) := by decide +kernel
theorem dX0_part_169 : decode cX0_part 169 = .ok (.aload_n 0, 1) := by decide +kernel
theorem dX0_part_170 : decode cX0_part 170 = .ok (.getfield 330, 3) := by decide +kernel
theorem dX0_part_173 : decode cX0_part 173 = .ok (.iload_n 3, 1) := by decide +kernel
theorem dX0_part_174 : decode cX0_part 174 = .ok (.invokevirtual 515, 3) := by decide +kernel
theorem dX0_part_177 : decode cX0_part 177 = .ok (.ifCond .le 7, 3) := by decide +kernel
theorem dX0_part_180 : decode cX0_part 180 = .ok (.iconst 1, 1) := by decide +kernel
theorem dX0_part_181 : decode cX0_part 181 = .ok (.goto 4, 3) := by decide +kernel
theorem dX0_part_184 : decode cX0_part 184 = .ok (.iconst 0, 1) := by decide +kernel
theorem dX0_part_185 : decode cX0_part 185 = .ok (.ireturn, 1) := by decide +kernel
theorem dX0_check_0 : decode cX0_check 0 = .ok (.iload_n 1, 1) := by decide +kernel
theorem dX0_check_1 : decode cX0_check 1 = .ok (.invokestatic 519, 3) := by decide +kernel
theorem dX0_check_4 : decode cX0_check 4 = .ok (.ifCond .eq 10, 3) := by decide +kernel
theorem dX0_check_7 : decode cX0_check 7 = .ok (.iload_n 2, 1) := by decide +kernel
theorem dX0_check_8 : decode cX0_check 8 = .ok (.invokestatic 519, 3) := by decide +kernel
theorem dX0_check_11 : decode cX0_check 11 = .ok (.ifCond .ne 5, 3) := by decide +kernel
theorem dX0_check_14 : decode cX0_check 14 = .ok (.iconst (-1), 1) := by decide +kernel
theorem dX0_check_15 : decode cX0_check 15 = .ok (.ireturn, 1) := by decide +kernel
theorem dX0_check_16 : decode cX0_check 16 = .ok (.aload_n 0, 1) := by decide +kernel
theorem dX0_check_17 : decode cX0_check 17 = .ok (.getfield 326, 3) := by decide +kernel
theorem dX0_check_20 : decode cX0_check 20 = .ok (.iload_n 1, 1) := by decide +kernel
theorem dX0_check_21 : decode cX0_check 21 = .ok (.aaload, 1) := by decide +kernel
theorem dX0_check_22 : decode cX0_check 22 = .ok (.getfield 509, 3) := by decide +kernel
theorem dX0_check_25 : decode cX0_check 25 = .ok (.iconst 3, 1) := by decide +kernel
theorem dX0_check_26 : decode cX0_check 26 = .ok (.if_icmp .ne 11, 3) := by decide +kernel
theorem dX0_check_29 : decode cX0_check 29 = .ok (.aload_n 0, 1) := by decide +kernel
theorem dX0_check_30 : decode cX0_check 30 = .ok (.iload_n 2, 1) := by decide +kernel
theorem dX0_check_31 : decode cX0_check 31 = .ok (.invokevirtual 546, 3) := by decide +kernel
theorem dX0_check_34 : decode cX0_check 34 = .ok (.ifCond .ne 6, 3) := by decide +kernel
theorem dX0_check_37 : decode cX0_check 37 = .ok (.bipush (-3), 2) := by decide +kernel
theorem dX0_check_39 : decode cX0_check 39 = .ok (.ireturn, 1) := by decide +kernel
theorem dX0_check_40 : decode cX0_check 40 = .ok (.aload_n 0, 1) := by decide +kernel
theorem dX0_check_41 : decode cX0_check 41 = .ok (.getfield 326, 3) := by decide +kernel
theorem dX0_check_44 : decode cX0_check 44 = .ok (.iload_n 1, 1) := by decide +kernel
theorem dX0_check_45 : decode cX0_check 45 = .ok (.aaload, 1) := by decide +kernel
theorem dX0_check_46 : decode cX0_check 46 = .ok (.astore_n 3, 1) := by decide +kernel
theorem dX0_check_47 : decode cX0_check 47 = .ok (.aload_n 0, 1) := by decide +kernel
theorem dX0_check_48 : decode cX0_check 48 = .ok (.getfield 326, 3) := by decide +kernel
theorem dX0_check_51 : decode cX0_check 51 = .ok (.iload_n 2, 1) := by decide +kernel
theorem dX0_check_52 : decode cX0_check 52 = .ok (.aaload, 1) := by decide +kernel
theorem dX0_check_53 : decode cX0_check 53 = .ok (.getfield 512, 3) := by decide +kernel
theorem dX0_check_56 : decode cX0_check 56 = .ok (.astore 4, 2) := by decide +kernel
theorem dX0_check_58 : decode cX0_check 58 = .ok (.aload 4, 2) := by decide +kernel
theorem dX0_check_60 : decode cX0_check 60 = .ok (.getfield 110, 3) := by decide +kernel
theorem dX0_check_63 : decode cX0_check 63 = .ok (.invokevirtual 128, 3) := by decide +kernel
theorem dX0_check_66 : decode cX0_check 66 = .ok (.ifCond .eq 5, 3) := by decide +kernel
theorem dX0_check_69 : decode cX0_check 69 = .ok (.iconst (-1), 1) := by decide +kernel
theorem dX0_check_70 : decode cX0_check 70 = .ok (.ireturn, 1) := by decide +kernel
theorem dX0_check_71 : decode cX0_check 71 = .ok (.aload_n 0, 1) := by decide +kernel
theorem dX0_check_72 : decode cX0_check 72 = .ok (.aload 4, 2) := by decide +kernel
theorem dX0_check_74 : decode cX0_check 74 = .ok (.aload_n 3, 1) := by decide +kernel
theorem dX0_check_75 : decode cX0_check 75 = .ok (.getfield 575, 3) := by decide +kernel
theorem dX0_check_78 : decode cX0_check 78 = .ok (.invokevirtual 750, 3) := by decide +kernel
theorem dX0_check_81 : decode cX0_check 81 = .ok (.ifCond .ne 6, 3) := by decide +kernel
theorem dX0_check_84 : decode cX0_check 84 = .ok (.bipush (-2), 2) := by decide +kernel
theorem dX0_check_86 : decode cX0_check 86 = .ok (.ireturn, 1) := by decide +kernel
theorem dX0_check_87 : decode cX0_check 87 = .ok (.iconst 0, 1) := by decide +kernel
theorem dX0_check_88 : decode cX0_check 88 = .ok (.istore 5, 2) := by decide +kernel
theorem dX0_check_90 : decode cX0_check 90 = .ok (.iload 5, 2) := by decide +kernel
theorem dX0_check_92 : decode cX0_check 92 = .ok (.aload_n 3, 1) := by decide +kernel
theorem dX0_check_93 : decode cX0_check 93 = .ok (.getfield 575, 3) := by decide +kernel
theorem dX0_check_96 : decode cX0_check 96 = .ok (.if_icmp .gt 64, 3) := by decide +kernel
theorem dX0_check_99 : decode cX0_check 99 = .ok (.aload_n 0, 1) := by decide +kernel
theorem dX0_check_100 : decode cX0_check 100 = .ok (.getfield 31, 3) := by decide +kernel
theorem dX0_check_103 : decode cX0_check 103 = .ok (.aload_n 0, 1) := by decide +kernel
theorem dX0_check_104 : decode cX0_check 104 = .ok (.getfield 420, 3) := by decide +kernel
theorem dX0_check_107 : decode cX0_check 107 = .ok (.iload 5, 2) := by decide +kernel
theorem dX0_check_109 : decode cX0_check 109 = .ok (.aaload, 1) := by decide +kernel
theorem dX0_check_110 : decode cX0_check 110 = .ok (.getfield 89, 3) := by decide +kernel
theorem dX0_check_113 : decode cX0_check 113 = .ok (.invokevirtual 66, 3) := by decide +kernel
theorem dX0_check_116 : decode cX0_check 116 = .ok (.aload_n 0, 1) := by decide +kernel
theorem dX0_check_117 : decode cX0_check 117 = .ok (.getfield 31, 3) := by decide +kernel
theorem dX0_check_120 : decode cX0_check 120 = .ok (.aload_n 3, 1) := by decide +kernel
theorem dX0_check_121 : decode cX0_check 121 = .ok (.getfield 578, 3) := by decide +kernel
theorem dX0_check_124 : decode cX0_check 124 = .ok (.iload 5, 2) := by decide +kernel
theorem dX0_check_126 : decode cX0_check 126 = .ok (.aaload, 1) := by decide +kernel
theorem dX0_check_127 : decode cX0_check 127 = .ok (.aload_n 0, 1) := by decide +kernel
theorem dX0_check_128 : decode cX0_check 128 = .ok (.getfield 59, 3) := by decide +kernel
theorem dX0_check_131 : decode cX0_check 131 = .ok (.invokevirtual 723, 3) := by decide +kernel
theorem dX0_check_134 : decode cX0_check 134 = .ok (.aload_n 0, 1) := by decide +kernel
theorem dX0_check_135 : decode cX0_check 135 = .ok (.iload 5, 2) := by decide +kernel
theorem dX0_check_137 : decode cX0_check 137 = .ok (.aload_n 0, 1) := by decide +kernel
theorem dX0_check_138 : decode cX0_check 138 = .ok (.getfield 31, 3) := by decide +kernel
theorem dX0_check_141 : decode cX0_check 141 = .ok (.aload_n 0, 1) := by decide +kernel
theorem dX0_check_142 : decode cX0_check 142 = .ok (.getfield 420, 3) := by decide +kernel
theorem dX0_check_145 : decode cX0_check 145 = .ok (.iload 5, 2) := by decide +kernel
theorem dX0_check_147 : decode cX0_check 147 = .ok (.aaload, 1) := by decide +kernel
theorem dX0_check_148 : decode cX0_check 148 = .ok (.getfield 94, 3) := by decide +kernel
theorem dX0_check_151 : decode cX0_check 151 = .ok (.invokevirtual 767, 3) := by decide +kernel
theorem dX0_check_154 : decode cX0_check 154 = .ok (.iinc 5 1, 3) := by decide +kernel
theorem dX0_check_157 : decode cX0_check 157 = .ok (.goto (-67), 3) := by decide +kernel
theorem dX0_check_160 : decode cX0_check 160 = .ok (.aload_n 3, 1) := by decide +kernel
theorem dX0_check_161 : decode cX0_check 161 = .ok (.getfield 512, 3) := by decide +kernel
theorem dX0_check_164 : decode cX0_check 164 = .ok (.getfield 110, 3) := by decide +kernel
theorem dX0_check_167 : decode cX0_check 167 = .ok (.astore 5, 2) := by decide +kernel
theorem dX0_check_169 : decode cX0_check 169 = .ok (.aload_n 0, 1) := by decide +kernel
theorem dX0_check_170 : decode cX0_check 170 = .ok (.aload_n 3, 1) := by decide +kernel
theorem dX0_check_171 : decode cX0_check 171 = .ok (.getfield 575, 3) := by decide +kernel
theorem dX0_check_174 : decode cX0_check 174 = .ok (.iconst 1, 1) := by decide +kernel
theorem dX0_check_175 : decode cX0_check 175 = .ok (.iadd, 1) := by decide +kernel
theorem dX0_check_176 : decode cX0_check 176 = .ok (.aload 5, 2) := by decide +kernel
theorem dX0_check_178 : decode cX0_check 178 = .ok (.getfield 89, 3) := by decide +kernel
theorem dX0_check_181 : decode cX0_check 181 = .ok (.aload 5, 2) := by decide +kernel
theorem dX0_check_183 : decode cX0_check 183 = .ok (.getfield 94, 3) := by decide +kernel
theorem dX0_check_186 : decode cX0_check 186 = .ok (.invokevirtual 767, 3) := by decide +kernel
theorem dX0_check_189 : decode cX0_check 189 = .ok (.aload_n 0, 1) := by decide +kernel
theorem dX0_check_190 : decode cX0_check 190 = .ok (.getfield 31, 3) := by decide +kernel
theorem dX0_check_193 : decode cX0_check 193 = .ok (.aload 5, 2) := by decide +kernel
theorem dX0_check_195 : decode cX0_check 195 = .ok (.getfield 89, 3) := by decide +kernel
theorem dX0_check_198 : decode cX0_check 198 = .ok (.invokevirtual 66, 3) := by decide +kernel
theorem dX0_check_201 : decode cX0_check 201 = .ok (.aload_n 0, 1) := by decide +kernel
theorem dX0_check_202 : decode cX0_check 202 = .ok (.getfield 31, 3) := by decide +kernel
theorem dX0_check_205 : decode cX0_check 205 = .ok (.iconst 1, 1) := by decide +kernel
theorem dX0_check_206 : decode cX0_check 206 = .ok (.invokevirtual 617, 3) := by decide +kernel
theorem dX0_check_209 : decode cX0_check 209 = .ok (.aload_n 0, 1) := by decide +kernel
theorem dX0_check_210 : decode cX0_check 210 = .ok (.getfield 39, 3) := by decide +kernel
theorem dX0_check_213 : decode cX0_check 213 = .ok (.aload 5, 2) := by decide +kernel
theorem dX0_check_215 : decode cX0_check 215 = .ok (.getfield 94, 3) := by decide +kernel
theorem dX0_check_218 : decode cX0_check 218 = .ok (.invokevirtual 66, 3) := by decide +kernel
theorem dX0_check_221 : decode cX0_check 221 = .ok (.aload_n 0, 1) := by decide +kernel
theorem dX0_check_222 : decode cX0_check 222 = .ok (.getfield 39, 3) := by decide +kernel
theorem dX0_check_225 : decode cX0_check 225 = .ok (.iconst 1, 1) := by decide +kernel
theorem dX0_check_226 : decode cX0_check 226 = .ok (.invokevirtual 617, 3) := by decide +kernel
theorem dX0_check_229 : decode cX0_check 229 = .ok (.aload_n 0, 1) := by decide +kernel
theorem dX0_check_230 : decode cX0_check 230 = .ok (.getfield 59, 3) := by decide +kernel
theorem dX0_check_233 : decode cX0_check 233 = .ok (.aload_n 0, 1) := by decide +kernel
theorem dX0_check_234 : decode cX0_check 234 = .ok (.getfield 31, 3) := by decide +kernel
theorem dX0_check_237 : decode cX0_check 237 = .ok (.aload_n 0, 1) := by decide +kernel
theorem dX0_check_238 : decode cX0_check 238 = .ok (.getfield 425, 3) := by decide +kernel
theorem dX0_check_241 : decode cX0_check 241 = .ok (.getfield 89, 3) := by decide +kernel
theorem dX0_check_244 : decode cX0_check 244 = .ok (.invokevirtual 97, 3) := by decide +kernel
theorem dX0_check_247 : decode cX0_check 247 = .ok (.aload_n 0, 1) := by decide +kernel
theorem dX0_check_248 : decode cX0_check 248 = .ok (.getfield 59, 3) := by decide +kernel
theorem dX0_check_251 : decode cX0_check 251 = .ok (.ldc 101, 2) := by decide +kernel
theorem dX0_check_253 : decode cX0_check 253 = .ok (.invokevirtual 78, 3) := by decide +kernel
theorem dX0_check_256 : decode cX0_check 256 = .ok (.aload_n 0, 1) := by decide +kernel
theorem dX0_check_257 : decode cX0_check 257 = .ok (.getfield 31, 3) := by decide +kernel
theorem dX0_check_260 : decode cX0_check 260 = .ok (.aload_n 0, 1) := by decide +kernel
theorem dX0_check_261 : decode cX0_check 261 = .ok (.getfield 39, 3) := by decide +kernel
theorem dX0_check_264 : decode cX0_check 264 = .ok (.aload_n 0, 1) := by decide +kernel
theorem dX0_check_265 : decode cX0_check 265 = .ok (.getfield 425, 3) := by decide +kernel
theorem dX0_check_268 : decode cX0_check 268 = .ok (.getfield 94, 3) := by decide +kernel
theorem dX0_check_271 : decode cX0_check 271 = .ok (.invokevirtual 97, 3) := by decide +kernel
theorem dX0_check_274 : decode cX0_check 274 = .ok (.aload_n 0, 1) := by decide +kernel
theorem dX0_check_275 : decode cX0_check 275 = .ok (.aload_n 3, 1) := by decide +kernel
theorem dX0_check_276 : decode cX0_check 276 = .ok (.getfield 575, 3) := by decide +kernel
theorem dX0_check_279 : decode cX0_check 279 = .ok (.iconst 2, 1) := by decide +kernel
theorem dX0_check_280 : decode cX0_check 280 = .ok (.iadd, 1) := by decide +kernel
theorem dX0_check_281 : decode cX0_check 281 = .ok (.aload_n 0, 1) := by decide +kernel
theorem dX0_check_282 : decode cX0_check 282 = .ok (.getfield 59, 3) := by decide +kernel
theorem dX0_check_285 : decode cX0_check 285 = .ok (.aload_n 0, 1) := by decide +kernel
theorem dX0_check_286 : decode cX0_check 286 = .ok (.getfield 31, 3) := by decide +kernel
theorem dX0_check_289 : decode cX0_check 289 = .ok (.invokevirtual 767, 3) := by decide +kernel
theorem dX0_check_292 : decode cX0_check 292 = .ok (.aload_n 0, 1) := by decide +kernel
theorem dX0_check_293 : decode cX0_check 293 = .ok (.aload_n 3, 1) := by decide +kernel
theorem dX0_check_294 : decode cX0_check 294 = .ok (.getfield 575, 3) := by decide +kernel
theorem dX0_check_297 : decode cX0_check 297 = .ok (.iconst 3, 1) := by decide +kernel
theorem dX0_check_298 : decode cX0_check 298 = .ok (.iadd, 1) := by decide +kernel
theorem dX0_check_299 : decode cX0_check 299 = .ok (.invokevirtual 771, 3) := by decide +kernel
theorem dX0_check_302 : decode cX0_check 302 = .ok (.ifCond .eq 7, 3) := by decide +kernel
theorem dX0_check_305 : decode cX0_check 305 = .ok (.iconst 1, 1) := by decide +kernel
theorem dX0_check_306 : decode cX0_check 306 = .ok (.goto 4, 3) := by decide +kernel
theorem dX0_check_309 : decode cX0_check 309 = .ok (.iconst 0, 1) := by decide +kernel
theorem dX0_check_310 : decode cX0_check 310 = .ok (.ireturn, 1) := by decide +kernel
theorem dX0_layFraction_0 : decode cX0_layFraction 0 = .ok (.aload_n 0, 1) := by decide +kernel
theorem dX0_layFraction_1 : decode cX0_layFraction 1 = .ok (.getfield 437, 3) := by decide +kernel
theorem dX0_layFraction_4 : decode cX0_layFraction 4 = .ok (.iload_n 1, 1) := by decide +kernel
theorem dX0_layFraction_5 : decode cX0_layFraction 5 = .ok (.aaload, 1) := by decide +kernel
theorem dX0_layFraction_6 : decode cX0_layFraction 6 = .ok (.aload_n 2, 1) := by decide +kernel
theorem dX0_layFraction_7 : decode cX0_layFraction 7 = .ok (.invokevirtual 66, 3) := by decide +kernel
theorem dX0_layFraction_10 : decode cX0_layFraction 10 = .ok (.aload_n 0, 1) := by decide +kernel
theorem dX0_layFraction_11 : decode cX0_layFraction 11 = .ok (.getfield 440, 3) := by decide +kernel
theorem dX0_layFraction_14 : decode cX0_layFraction 14 = .ok (.iload_n 1, 1) := by decide +kernel
theorem dX0_layFraction_15 : decode cX0_layFraction 15 = .ok (.aaload, 1) := by decide +kernel
theorem dX0_layFraction_16 : decode cX0_layFraction 16 = .ok (.aload_n 3, 1) := by decide +kernel
theorem dX0_layFraction_17 : decode cX0_layFraction 17 = .ok (.invokevirtual 66, 3) := by decide +kernel
theorem dX0_layFraction_20 : decode cX0_layFraction 20 = .ok (.return_, 1) := by decide +kernel
theorem dX0_areNothing_0 : decode cX0_areNothing 0 = .ok (.iconst 0, 1) := by decide +kernel
theorem dX0_areNothing_1 : decode cX0_areNothing 1 = .ok (.istore_n 2, 1) := by decide +kernel
theorem dX0_areNothing_2 : decode cX0_areNothing 2 = .ok (.iconst 0, 1) := by decide +kernel
theorem dX0_areNothing_3 : decode cX0_areNothing 3 = .ok (.istore_n 3, 1) := by decide +kernel
theorem dX0_areNothing_4 : decode cX0_areNothing 4 = .ok (.iconst 0, 1) := by decide +kernel
theorem dX0_areNothing_5 : decode cX0_areNothing 5 = .ok (.istore 4, 2) := by decide +kernel
theorem dX0_areNothing_7 : decode cX0_areNothing 7 = .ok (.iconst 0, 1) := by decide +kernel
theorem dX0_areNothing_8 : decode cX0_areNothing 8 = .ok (.istore 5, 2) := by decide +kernel
theorem dX0_areNothing_10 : decode cX0_areNothing 10 = .ok (.iconst 0, 1) := by decide +kernel
theorem dX0_areNothing_11 : decode cX0_areNothing 11 = .ok (.istore 6, 2) := by decide +kernel
theorem dX0_areNothing_13 : decode cX0_areNothing 13 = .ok (.iload 6, 2) := by decide +kernel
theorem dX0_areNothing_15 : decode cX0_areNothing 15 = .ok (.iload_n 1, 1) := by decide +kernel
theorem dX0_areNothing_16 : decode cX0_areNothing 16 = .ok (.if_icmp .ge 69, 3) := by decide +kernel
theorem dX0_areNothing_19 : decode cX0_areNothing 19 = .ok (.iload_n 2, 1) := by decide +kernel
theorem dX0_areNothing_20 : decode cX0_areNothing 20 = .ok (.aload_n 0, 1) := by decide +kernel
theorem dX0_areNothing_21 : decode cX0_areNothing 21 = .ok (.getfield 440, 3) := by decide +kernel
theorem dX0_areNothing_24 : decode cX0_areNothing 24 = .ok (.iload 6, 2) := by decide +kernel
theorem dX0_areNothing_26 : decode cX0_areNothing 26 = .ok (.aaload, 1) := by decide +kernel
theorem dX0_areNothing_27 : decode cX0_areNothing 27 = .ok (.invokevirtual 569, 3) := by decide +kernel
theorem dX0_areNothing_30 : decode cX0_areNothing 30 = .ok (.iadd, 1) := by decide +kernel
theorem dX0_areNothing_31 : decode cX0_areNothing 31 = .ok (.istore_n 2, 1) := by decide +kernel
theorem dX0_areNothing_32 : decode cX0_areNothing 32 = .ok (.iload_n 3, 1) := by decide +kernel
theorem dX0_areNothing_33 : decode cX0_areNothing 33 = .ok (.aload_n 0, 1) := by decide +kernel
theorem dX0_areNothing_34 : decode cX0_areNothing 34 = .ok (.getfield 440, 3) := by decide +kernel
theorem dX0_areNothing_37 : decode cX0_areNothing 37 = .ok (.iload 6, 2) := by decide +kernel
theorem dX0_areNothing_39 : decode cX0_areNothing 39 = .ok (.aaload, 1) := by decide +kernel
theorem dX0_areNothing_40 : decode cX0_areNothing 40 = .ok (.invokevirtual 572, 3) := by decide +kernel
theorem dX0_areNothing_43 : decode cX0_areNothing 43 = .ok (.iadd, 1) := by decide +kernel
theorem dX0_areNothing_44 : decode cX0_areNothing 44 = .ok (.istore_n 3, 1) := by decide +kernel
theorem dX0_areNothing_45 : decode cX0_areNothing 45 = .ok (.iload 4, 2) := by decide +kernel
theorem dX0_areNothing_47 : decode cX0_areNothing 47 = .ok (.aload_n 0, 1) := by decide +kernel
theorem dX0_areNothing_48 : decode cX0_areNothing 48 = .ok (.getfield 437, 3) := by decide +kernel
theorem dX0_areNothing_51 : decode cX0_areNothing 51 = .ok (.iload 6, 2) := by decide +kernel
theorem dX0_areNothing_53 : decode cX0_areNothing 53 = .ok (.aaload, 1) := by decide +kernel
theorem dX0_areNothing_54 : decode cX0_areNothing 54 = .ok (.invokevirtual 569, 3) := by decide +kernel
theorem dX0_areNothing_57 : decode cX0_areNothing 57 = .ok (.invokestatic 679, 3) := by decide +kernel
theorem dX0_areNothing_60 : decode cX0_areNothing 60 = .ok (.istore 4, 2) := by decide +kernel
theorem dX0_areNothing_62 : decode cX0_areNothing 62 = .ok (.iload 5, 2) := by decide +kernel
theorem dX0_areNothing_64 : decode cX0_areNothing 64 = .ok (.aload_n 0, 1) := by decide +kernel
theorem dX0_areNothing_65 : decode cX0_areNothing 65 = .ok (.getfield 437, 3) := by decide +kernel
theorem dX0_areNothing_68 : decode cX0_areNothing 68 = .ok (.iload 6, 2) := by decide +kernel
theorem dX0_areNothing_70 : decode cX0_areNothing 70 = .ok (.aaload, 1) := by decide +kernel
theorem dX0_areNothing_71 : decode cX0_areNothing 71 = .ok (.invokevirtual 572, 3) := by decide +kernel
theorem dX0_areNothing_74 : decode cX0_areNothing 74 = .ok (.invokestatic 679, 3) := by decide +kernel
theorem dX0_areNothing_77 : decode cX0_areNothing 77 = .ok (.istore 5, 2) := by decide +kernel
theorem dX0_areNothing_79 : decode cX0_areNothing 79 = .ok (.iinc 6 1, 3) := by decide +kernel
theorem dX0_areNothing_82 : decode cX0_areNothing 82 = .ok (.goto (-69), 3) := by decide +kernel
theorem dX0_areNothing_85 : decode cX0_areNothing 85 = .ok (.iconst 0, 1) := by decide +kernel
theorem dX0_areNothing_86 : decode cX0_areNothing 86 = .ok (.istore 6, 2) := by decide +kernel
theorem dX0_areNothing_88 : decode cX0_areNothing 88 = .ok (.iload 6, 2) := by decide +kernel
theorem dX0_areNothing_90 : decode cX0_areNothing 90 = .ok (.iload_n 2, 1) := by decide +kernel
theorem dX0_areNothing_91 : decode cX0_areNothing 91 = .ok (.iload 4, 2) := by decide +kernel
theorem dX0_areNothing_93 : decode cX0_areNothing 93 = .ok (.iadd, 1) := by decide +kernel
theorem dX0_areNothing_94 : decode cX0_areNothing 94 = .ok (.if_icmp .gt 92, 3) := by decide +kernel
theorem dX0_areNothing_97 : decode cX0_areNothing 97 = .ok (.iconst 0, 1) := by decide +kernel
theorem dX0_areNothing_98 : decode cX0_areNothing 98 = .ok (.istore 7, 2) := by decide +kernel
theorem dX0_areNothing_100 : decode cX0_areNothing 100 = .ok (.iload 7, 2) := by decide +kernel
theorem dX0_areNothing_102 : decode cX0_areNothing 102 = .ok (.iload_n 1, 1) := by decide +kernel
theorem dX0_areNothing_103 : decode cX0_areNothing 103 = .ok (.if_icmp .ge 47, 3) := by decide +kernel
theorem dX0_areNothing_106 : decode cX0_areNothing 106 = .ok (.aload_n 0, 1) := by decide +kernel
theorem dX0_areNothing_107 : decode cX0_areNothing 107 = .ok (.getfield 437, 3) := by decide +kernel
theorem dX0_areNothing_110 : decode cX0_areNothing 110 = .ok (.iload 7, 2) := by decide +kernel
theorem dX0_areNothing_112 : decode cX0_areNothing 112 = .ok (.aaload, 1) := by decide +kernel
theorem dX0_areNothing_113 : decode cX0_areNothing 113 = .ok (.iload 6, 2) := by decide +kernel
theorem dX0_areNothing_115 : decode cX0_areNothing 115 = .ok (.aload_n 0, 1) := by decide +kernel
theorem dX0_areNothing_116 : decode cX0_areNothing 116 = .ok (.getfield 443, 3) := by decide +kernel
theorem dX0_areNothing_119 : decode cX0_areNothing 119 = .ok (.iload 7, 2) := by decide +kernel
theorem dX0_areNothing_121 : decode cX0_areNothing 121 = .ok (.aaload, 1) := by decide +kernel
theorem dX0_areNothing_122 : decode cX0_areNothing 122 = .ok (.invokevirtual 632, 3) := by decide +kernel
theorem dX0_areNothing_125 : decode cX0_areNothing 125 = .ok (.aload_n 0, 1) := by decide +kernel
theorem dX0_areNothing_126 : decode cX0_areNothing 126 = .ok (.getfield 440, 3) := by decide +kernel
theorem dX0_areNothing_129 : decode cX0_areNothing 129 = .ok (.iload 7, 2) := by decide +kernel
theorem dX0_areNothing_131 : decode cX0_areNothing 131 = .ok (.aaload, 1) := by decide +kernel
theorem dX0_areNothing_132 : decode cX0_areNothing 132 = .ok (.iload 6, 2) := by decide +kernel
theorem dX0_areNothing_134 : decode cX0_areNothing 134 = .ok (.aload_n 0, 1) := by decide +kernel
theorem dX0_areNothing_135 : decode cX0_areNothing 135 = .ok (.getfield 446, 3) := by decide +kernel
theorem dX0_areNothing_138 : decode cX0_areNothing 138 = .ok (.iload 7, 2) := by decide +kernel
theorem dX0_areNothing_140 : decode cX0_areNothing 140 = .ok (.aaload, 1) := by decide +kernel
theorem dX0_areNothing_141 : decode cX0_areNothing 141 = .ok (.invokevirtual 632, 3) := by decide +kernel
theorem dX0_areNothing_144 : decode cX0_areNothing 144 = .ok (.iinc 7 1, 3) := by decide +kernel
theorem dX0_areNothing_147 : decode cX0_areNothing 147 = .ok (.goto (-47), 3) := by decide +kernel
theorem dX0_areNothing_150 : decode cX0_areNothing 150 = .ok (.iconst 0, 1) := by decide +kernel
theorem dX0_areNothing_151 : decode cX0_areNothing 151 = .ok (.istore 7, 2) := by decide +kernel
theorem dX0_areNothing_153 : decode cX0_areNothing 153 = .ok (.iload 7, 2) := by decide +kernel
theorem dX0_areNothing_155 : decode cX0_areNothing 155 = .ok (.iload_n 3, 1) := by decide +kernel
theorem dX0_areNothing_156 : decode cX0_areNothing 156 = .ok (.iload 5, 2) := by decide +kernel
theorem dX0_areNothing_158 : decode cX0_areNothing 158 = .ok (.iadd, 1) := by decide +kernel
theorem dX0_areNothing_159 : decode cX0_areNothing 159 = .ok (.if_icmp .gt 21, 3) := by decide +kernel
theorem dX0_areNothing_162 : decode cX0_areNothing 162 = .ok (.aload_n 0, 1) := by decide +kernel
theorem dX0_areNothing_163 : decode cX0_areNothing 163 = .ok (.iload_n 1, 1) := by decide +kernel
theorem dX0_areNothing_164 : decode cX0_areNothing 164 = .ok (.iload 7, 2) := by decide +kernel
theorem dX0_areNothing_166 : decode cX0_areNothing 166 = .ok (.invokevirtual 762, 3) := by decide +kernel
theorem dX0_areNothing_169 : decode cX0_areNothing 169 = .ok (.ifCond .ne 5, 3) := by decide +kernel
theorem dX0_areNothing_172 : decode cX0_areNothing 172 = .ok (.iconst 0, 1) := by decide +kernel
theorem dX0_areNothing_173 : decode cX0_areNothing 173 = .ok (.ireturn, 1) := by decide +kernel
theorem dX0_areNothing_174 : decode cX0_areNothing 174 = .ok (.iinc 7 1, 3) := by decide +kernel
theorem dX0_areNothing_177 : decode cX0_areNothing 177 = .ok (.goto (-24), 3) := by decide +kernel
theorem dX0_areNothing_180 : decode cX0_areNothing 180 = .ok (.iinc 6 1, 3) := by decide +kernel
theorem dX0_areNothing_183 : decode cX0_areNothing 183 = .ok (.goto (-95), 3) := by decide +kernel
theorem dX0_areNothing_186 : decode cX0_areNothing 186 = .ok (.iconst 1, 1) := by decide +kernel
theorem dX0_areNothing_187 : decode cX0_areNothing 187 = .ok (.ireturn, 1) := by decide +kernel
theorem dX0_isNothing_0 : decode cX0_isNothing 0 = .ok (.iconst 0, 1) := by decide +kernel
theorem dX0_isNothing_1 : decode cX0_isNothing 1 = .ok (.istore_n 3, 1) := by decide +kernel
theorem dX0_isNothing_2 : decode cX0_isNothing 2 = .ok (.iload_n 3, 1) := by decide +kernel
theorem dX0_isNothing_3 : decode cX0_isNothing 3 = .ok (.iload_n 1, 1) := by decide +kernel
theorem dX0_isNothing_4 : decode cX0_isNothing 4 = .ok (.if_icmp .ge 41, 3) := by decide +kernel
theorem dX0_isNothing_7 : decode cX0_isNothing 7 = .ok (.aload_n 0, 1) := by decide +kernel
theorem dX0_isNothing_8 : decode cX0_isNothing 8 = .ok (.getfield 449, 3) := by decide +kernel
theorem dX0_isNothing_11 : decode cX0_isNothing 11 = .ok (.iload_n 3, 1) := by decide +kernel
theorem dX0_isNothing_12 : decode cX0_isNothing 12 = .ok (.aload_n 0, 1) := by decide +kernel
theorem dX0_isNothing_13 : decode cX0_isNothing 13 = .ok (.getfield 443, 3) := by decide +kernel
theorem dX0_isNothing_16 : decode cX0_isNothing 16 = .ok (.iload_n 3, 1) := by decide +kernel
theorem dX0_isNothing_17 : decode cX0_isNothing 17 = .ok (.aaload, 1) := by decide +kernel
theorem dX0_isNothing_18 : decode cX0_isNothing 18 = .ok (.iload_n 2, 1) := by decide +kernel
theorem dX0_isNothing_19 : decode cX0_isNothing 19 = .ok (.invokevirtual 765, 3) := by decide +kernel
theorem dX0_isNothing_22 : decode cX0_isNothing 22 = .ok (.iastore, 1) := by decide +kernel
theorem dX0_isNothing_23 : decode cX0_isNothing 23 = .ok (.aload_n 0, 1) := by decide +kernel
theorem dX0_isNothing_24 : decode cX0_isNothing 24 = .ok (.getfield 452, 3) := by decide +kernel
theorem dX0_isNothing_27 : decode cX0_isNothing 27 = .ok (.iload_n 3, 1) := by decide +kernel
theorem dX0_isNothing_28 : decode cX0_isNothing 28 = .ok (.aload_n 0, 1) := by decide +kernel
theorem dX0_isNothing_29 : decode cX0_isNothing 29 = .ok (.getfield 446, 3) := by decide +kernel
theorem dX0_isNothing_32 : decode cX0_isNothing 32 = .ok (.iload_n 3, 1) := by decide +kernel
theorem dX0_isNothing_33 : decode cX0_isNothing 33 = .ok (.aaload, 1) := by decide +kernel
theorem dX0_isNothing_34 : decode cX0_isNothing 34 = .ok (.iload_n 2, 1) := by decide +kernel
theorem dX0_isNothing_35 : decode cX0_isNothing 35 = .ok (.invokevirtual 765, 3) := by decide +kernel
theorem dX0_isNothing_38 : decode cX0_isNothing 38 = .ok (.iastore, 1) := by decide +kernel
theorem dX0_isNothing_39 : decode cX0_isNothing 39 = .ok (.iinc 3 1, 3) := by decide +kernel
theorem dX0_isNothing_42 : decode cX0_isNothing 42 = .ok (.goto (-40), 3) := by decide +kernel
theorem dX0_isNothing_45 : decode cX0_isNothing 45 = .ok (.iconst 0, 1) := by decide +kernel
theorem dX0_isNothing_46 : decode cX0_isNothing 46 = .ok (.istore_n 3, 1) := by decide +kernel
theorem dX0_isNothing_47 : decode cX0_isNothing 47 = .ok (.iconst 1, 1) := by decide +kernel
theorem dX0_isNothing_48 : decode cX0_isNothing 48 = .ok (.istore 4, 2) := by decide +kernel
theorem dX0_isNothing_50 : decode cX0_isNothing 50 = .ok (.iconst 0, 1) := by decide +kernel
theorem dX0_isNothing_51 : decode cX0_isNothing 51 = .ok (.istore 5, 2) := by decide +kernel
theorem dX0_isNothing_53 : decode cX0_isNothing 53 = .ok (.iload 5, 2) := by decide +kernel
theorem dX0_isNothing_55 : decode cX0_isNothing 55 = .ok (.iload_n 1, 1) := by decide +kernel
theorem dX0_isNothing_56 : decode cX0_isNothing 56 = .ok (.if_icmp .ge 50, 3) := by decide +kernel
theorem dX0_isNothing_59 : decode cX0_isNothing 59 = .ok (.iload_n 3, 1) := by decide +kernel
theorem dX0_isNothing_60 : decode cX0_isNothing 60 = .ok (.aload_n 0, 1) := by decide +kernel
theorem dX0_isNothing_61 : decode cX0_isNothing 61 = .ok (.getfield 452, 3) := by decide +kernel
theorem dX0_isNothing_64 : decode cX0_isNothing 64 = .ok (.iload 5, 2) := by decide +kernel
theorem dX0_isNothing_66 : decode cX0_isNothing 66 = .ok (.iaload, 1) := by decide +kernel
theorem dX0_isNothing_67 : decode cX0_isNothing 67 = .ok (.invokestatic 6, 3) := by decide +kernel
theorem dX0_isNothing_70 : decode cX0_isNothing 70 = .ok (.aload_n 0, 1) := by decide +kernel
theorem dX0_isNothing_71 : decode cX0_isNothing 71 = .ok (.getfield 449, 3) := by decide +kernel
theorem dX0_isNothing_74 : decode cX0_isNothing 74 = .ok (.iload 5, 2) := by decide +kernel
theorem dX0_isNothing_76 : decode cX0_isNothing 76 = .ok (.iaload, 1) := by decide +kernel
theorem dX0_isNothing_77 : decode cX0_isNothing 77 = .ok (.iload 4, 2) := by decide +kernel
theorem dX0_isNothing_79 : decode cX0_isNothing 79 = .ok (.invokestatic 6, 3) := by decide +kernel
theorem dX0_isNothing_82 : decode cX0_isNothing 82 = .ok (.invokestatic 598, 3) := by decide +kernel
theorem dX0_isNothing_85 : decode cX0_isNothing 85 = .ok (.istore_n 3, 1) := by decide +kernel
theorem dX0_isNothing_86 : decode cX0_isNothing 86 = .ok (.iload 4, 2) := by decide +kernel
theorem dX0_isNothing_88 : decode cX0_isNothing 88 = .ok (.aload_n 0, 1) := by decide +kernel
theorem dX0_isNothing_89 : decode cX0_isNothing 89 = .ok (.getfield 452, 3) := by decide +kernel
theorem dX0_isNothing_92 : decode cX0_isNothing 92 = .ok (.iload 5, 2) := by decide +kernel
theorem dX0_isNothing_94 : decode cX0_isNothing 94 = .ok (.iaload, 1) := by decide +kernel
theorem dX0_isNothing_95 : decode cX0_isNothing 95 = .ok (.invokestatic 6, 3) := by decide +kernel
theorem dX0_isNothing_98 : decode cX0_isNothing 98 = .ok (.istore 4, 2) := by decide +kernel
theorem dX0_isNothing_100 : decode cX0_isNothing 100 = .ok (.iinc 5 1, 3) := by decide +kernel
theorem dX0_isNothing_103 : decode cX0_isNothing 103 = .ok (.goto (-50), 3) := by decide +kernel
theorem dX0_isNothing_106 : decode cX0_isNothing 106 = .ok (.iload_n 3, 1) := by decide +kernel
theorem dX0_isNothing_107 : decode cX0_isNothing 107 = .ok (.ifCond .ne 7, 3) := by decide +kernel
theorem dX0_isNothing_110 : decode cX0_isNothing 110 = .ok (.iconst 1, 1) := by decide +kernel
theorem dX0_isNothing_111 : decode cX0_isNothing 111 = .ok (.goto 4, 3) := by decide +kernel
theorem dX0_isNothing_114 : decode cX0_isNothing 114 = .ok (.iconst 0, 1) := by decide +kernel
theorem dX0_isNothing_115 : decode cX0_isNothing 115 = .ok (.ireturn, 1) := by decide +kernel
theorem dX0_poke_0 : decode cX0_poke 0 = .ok (.iload_n 1, 1) := by decide +kernel
theorem dX0_poke_1 : decode cX0_poke 1 = .ok (.invokestatic 519, 3) := by decide +kernel
theorem dX0_poke_4 : decode cX0_poke 4 = .ok (.ifCond .ne 5, 3) := by decide +kernel
theorem dX0_poke_7 : decode cX0_poke 7 = .ok (.iconst (-1), 1) := by decide +kernel
theorem dX0_poke_8 : decode cX0_poke 8 = .ok (.ireturn, 1) := by decide +kernel
theorem dX0_poke_9 : decode cX0_poke 9 = .ok (.aload_n 0, 1) := by decide +kernel
theorem dX0_poke_10 : decode cX0_poke 10 = .ok (.getfield 326, 3) := by decide +kernel
theorem dX0_poke_13 : decode cX0_poke 13 = .ok (.iload_n 1, 1) := by decide +kernel
theorem dX0_poke_14 : decode cX0_poke 14 = .ok (.aaload, 1) := by decide +kernel
theorem dX0_poke_15 : decode cX0_poke 15 = .ok (.astore 6, 2) := by decide +kernel
theorem dX0_poke_17 : decode cX0_poke 17 = .ok (.aload 6, 2) := by decide +kernel
theorem dX0_poke_19 : decode cX0_poke 19 = .ok (.getfield 509, 3) := by decide +kernel
theorem dX0_poke_22 : decode cX0_poke 22 = .ok (.iconst 3, 1) := by decide +kernel
theorem dX0_poke_23 : decode cX0_poke 23 = .ok (.if_icmp .eq 6, 3) := by decide +kernel
theorem dX0_poke_26 : decode cX0_poke 26 = .ok (.bipush (-3), 2) := by decide +kernel
theorem dX0_poke_28 : decode cX0_poke 28 = .ok (.ireturn, 1) := by decide +kernel
theorem dX0_poke_29 : decode cX0_poke 29 = .ok (.iload_n 2, 1) := by decide +kernel
theorem dX0_poke_30 : decode cX0_poke 30 = .ok (.iconst (-1), 1) := by decide +kernel
theorem dX0_poke_31 : decode cX0_poke 31 = .ok (.aload 6, 2) := by decide +kernel
theorem dX0_poke_33 : decode cX0_poke 33 = .ok (.getfield 575, 3) := by decide +kernel
theorem dX0_poke_36 : decode cX0_poke 36 = .ok (.invokestatic 173, 3) := by decide +kernel
theorem dX0_poke_39 : decode cX0_poke 39 = .ok (.ifCond .eq 32, 3) := by decide +kernel
theorem dX0_poke_42 : decode cX0_poke 42 = .ok (.iload_n 3, 1) := by decide +kernel
theorem dX0_poke_43 : decode cX0_poke 43 = .ok (.iconst 0, 1) := by decide +kernel
theorem dX0_poke_44 : decode cX0_poke 44 = .ok (.bipush 24, 2) := by decide +kernel
theorem dX0_poke_46 : decode cX0_poke 46 = .ok (.invokestatic 173, 3) := by decide +kernel
theorem dX0_poke_49 : decode cX0_poke 49 = .ok (.ifCond .eq 22, 3) := by decide +kernel
theorem dX0_poke_52 : decode cX0_poke 52 = .ok (.iload 4, 2) := by decide +kernel
theorem dX0_poke_54 : decode cX0_poke 54 = .ok (.iconst 0, 1) := by decide +kernel
theorem dX0_poke_55 : decode cX0_poke 55 = .ok (.iload_n 2, 1) := by decide +kernel
theorem dX0_poke_56 : decode cX0_poke 56 = .ok (.ifCond .ge 8, 3) := by decide +kernel
theorem dX0_poke_59 : decode cX0_poke 59 = .ok (.bipush 12, 2) := by decide +kernel
theorem dX0_poke_61 : decode cX0_poke 61 = .ok (.goto 4, 3) := by decide +kernel
theorem dX0_poke_64 : decode cX0_poke 64 = .ok (.iconst 0, 1) := by decide +kernel
theorem dX0_poke_65 : decode cX0_poke 65 = .ok (.invokestatic 173, 3) := by decide +kernel
theorem dX0_poke_68 : decode cX0_poke 68 = .ok (.ifCond .ne 5, 3) := by decide +kernel
theorem dX0_poke_71 : decode cX0_poke 71 = .ok (.iconst (-1), 1) := by decide +kernel
theorem dX0_poke_72 : decode cX0_poke 72 = .ok (.ireturn, 1) := by decide +kernel
theorem dX0_poke_73 : decode cX0_poke 73 = .ok (.iload_n 2, 1) := by decide +kernel
theorem dX0_poke_74 : decode cX0_poke 74 = .ok (.ifCond .lt 35, 3) := by decide +kernel
theorem dX0_poke_77 : decode cX0_poke 77 = .ok (.aload 6, 2) := by decide +kernel
theorem dX0_poke_79 : decode cX0_poke 79 = .ok (.getfield 578, 3) := by decide +kernel
theorem dX0_poke_82 : decode cX0_poke 82 = .ok (.iload_n 2, 1) := by decide +kernel
theorem dX0_poke_83 : decode cX0_poke 83 = .ok (.aaload, 1) := by decide +kernel
theorem dX0_poke_84 : decode cX0_poke 84 = .ok (.iload_n 3, 1) := by decide +kernel
theorem dX0_poke_85 : decode cX0_poke 85 = .ok (.invokevirtual 580, 3) := by decide +kernel
theorem dX0_poke_88 : decode cX0_poke 88 = .ok (.istore 7, 2) := by decide +kernel
theorem dX0_poke_90 : decode cX0_poke 90 = .ok (.aload 6, 2) := by decide +kernel
theorem dX0_poke_92 : decode cX0_poke 92 = .ok (.getfield 578, 3) := by decide +kernel
theorem dX0_poke_95 : decode cX0_poke 95 = .ok (.iload_n 2, 1) := by decide +kernel
theorem dX0_poke_96 : decode cX0_poke 96 = .ok (.aaload, 1) := by decide +kernel
theorem dX0_poke_97 : decode cX0_poke 97 = .ok (.iload_n 3, 1) := by decide +kernel
theorem dX0_poke_98 : decode cX0_poke 98 = .ok (.iload 5, 2) := by decide +kernel
theorem dX0_poke_100 : decode cX0_poke 100 = .ok (.invokestatic 543, 3) := by decide +kernel
theorem dX0_poke_103 : decode cX0_poke 103 = .ok (.invokevirtual 774, 3) := by decide +kernel
theorem dX0_poke_106 : decode cX0_poke 106 = .ok (.iload 7, 2) := by decide +kernel
theorem dX0_poke_108 : decode cX0_poke 108 = .ok (.ireturn, 1) := by decide +kernel
theorem dX0_poke_109 : decode cX0_poke 109 = .ok (.aload 6, 2) := by decide +kernel
theorem dX0_poke_111 : decode cX0_poke 111 = .ok (.getfield 512, 3) := by decide +kernel
theorem dX0_poke_114 : decode cX0_poke 114 = .ok (.getfield 110, 3) := by decide +kernel
theorem dX0_poke_117 : decode cX0_poke 117 = .ok (.astore 7, 2) := by decide +kernel
theorem dX0_poke_119 : decode cX0_poke 119 = .ok (.aload 7, 2) := by decide +kernel
theorem dX0_poke_121 : decode cX0_poke 121 = .ok (.getfield 89, 3) := by decide +kernel
theorem dX0_poke_124 : decode cX0_poke 124 = .ok (.iload_n 3, 1) := by decide +kernel
theorem dX0_poke_125 : decode cX0_poke 125 = .ok (.iload 4, 2) := by decide +kernel
theorem dX0_poke_127 : decode cX0_poke 127 = .ok (.invokevirtual 183, 3) := by decide +kernel
theorem dX0_poke_130 : decode cX0_poke 130 = .ok (.istore 8, 2) := by decide +kernel
theorem dX0_poke_132 : decode cX0_poke 132 = .ok (.aload_n 0, 1) := by decide +kernel
theorem dX0_poke_133 : decode cX0_poke 133 = .ok (.getfield 31, 3) := by decide +kernel
theorem dX0_poke_136 : decode cX0_poke 136 = .ok (.aload 7, 2) := by decide +kernel
theorem dX0_poke_138 : decode cX0_poke 138 = .ok (.getfield 89, 3) := by decide +kernel
theorem dX0_poke_141 : decode cX0_poke 141 = .ok (.invokevirtual 66, 3) := by decide +kernel
theorem dX0_poke_144 : decode cX0_poke 144 = .ok (.aload_n 0, 1) := by decide +kernel
theorem dX0_poke_145 : decode cX0_poke 145 = .ok (.getfield 31, 3) := by decide +kernel
theorem dX0_poke_148 : decode cX0_poke 148 = .ok (.iload_n 3, 1) := by decide +kernel
theorem dX0_poke_149 : decode cX0_poke 149 = .ok (.iconst 1, 1) := by decide +kernel
theorem dX0_poke_150 : decode cX0_poke 150 = .ok (.iadd, 1) := by decide +kernel
theorem dX0_poke_151 : decode cX0_poke 151 = .ok (.iload 4, 2) := by decide +kernel
theorem dX0_poke_153 : decode cX0_poke 153 = .ok (.iconst 1, 1) := by decide +kernel
theorem dX0_poke_154 : decode cX0_poke 154 = .ok (.iadd, 1) := by decide +kernel
theorem dX0_poke_155 : decode cX0_poke 155 = .ok (.invokevirtual 777, 3) := by decide +kernel
theorem dX0_poke_158 : decode cX0_poke 158 = .ok (.aload_n 0, 1) := by decide +kernel
theorem dX0_poke_159 : decode cX0_poke 159 = .ok (.getfield 31, 3) := by decide +kernel
theorem dX0_poke_162 : decode cX0_poke 162 = .ok (.getfield 288, 3) := by decide +kernel
theorem dX0_poke_165 : decode cX0_poke 165 = .ok (.iload 4, 2) := by decide +kernel
theorem dX0_poke_167 : decode cX0_poke 167 = .ok (.aload_n 0, 1) := by decide +kernel
theorem dX0_poke_168 : decode cX0_poke 168 = .ok (.getfield 31, 3) := by decide +kernel
theorem dX0_poke_171 : decode cX0_poke 171 = .ok (.getfield 608, 3) := by decide +kernel
theorem dX0_poke_174 : decode cX0_poke 174 = .ok (.imul, 1) := by decide +kernel
theorem dX0_poke_175 : decode cX0_poke 175 = .ok (.iload_n 3, 1) := by decide +kernel
theorem dX0_poke_176 : decode cX0_poke 176 = .ok (.iadd, 1) := by decide +kernel
theorem dX0_poke_177 : decode cX0_poke 177 = .ok (.iload 5, 2) := by decide +kernel
theorem dX0_poke_179 : decode cX0_poke 179 = .ok (.invokestatic 543, 3) := by decide +kernel
theorem dX0_poke_182 : decode cX0_poke 182 = .ok (.iastore, 1) := by decide +kernel
theorem dX0_poke_183 : decode cX0_poke 183 = .ok (.aload_n 0, 1) := by decide +kernel
theorem dX0_poke_184 : decode cX0_poke 184 = .ok (.getfield 31, 3) := by decide +kernel
theorem dX0_poke_187 : decode cX0_poke 187 = .ok (.invokevirtual 611, 3) := by decide +kernel
theorem dX0_poke_190 : decode cX0_poke 190 = .ok (.aload_n 0, 1) := by decide +kernel
theorem dX0_poke_191 : decode cX0_poke 191 = .ok (.getfield 39, 3) := by decide +kernel
theorem dX0_poke_194 : decode cX0_poke 194 = .ok (.aload 7, 2) := by decide +kernel
theorem dX0_poke_196 : decode cX0_poke 196 = .ok (.getfield 94, 3) := by decide +kernel
theorem dX0_poke_199 : decode cX0_poke 199 = .ok (.invokevirtual 66, 3) := by decide +kernel
theorem dX0_poke_202 : decode cX0_poke 202 = .ok (.aload_n 0, 1) := by decide +kernel
theorem dX0_poke_203 : decode cX0_poke 203 = .ok (.aload 7, 2) := by decide +kernel
theorem dX0_poke_205 : decode cX0_poke 205 = .ok (.invokevirtual 106, 3) := by decide +kernel
theorem dX0_poke_208 : decode cX0_poke 208 = .ok (.istore 9, 2) := by decide +kernel
theorem dX0_poke_210 : decode cX0_poke 210 = .ok (.iload 8, 2) := by decide +kernel
theorem dX0_poke_212 : decode cX0_poke 212 = .ok (.ireturn, 1) := by decide +kernel
theorem dX0_holds_0 : decode cX0_holds 0 = .ok (.iload_n 1, 1) := by decide +kernel
theorem dX0_holds_1 : decode cX0_holds 1 = .ok (.invokestatic 519, 3) := by decide +kernel
theorem dX0_holds_4 : decode cX0_holds 4 = .ok (.ifCond .eq 10, 3) := by decide +kernel
theorem dX0_holds_7 : decode cX0_holds 7 = .ok (.iload_n 2, 1) := by decide +kernel
theorem dX0_holds_8 : decode cX0_holds 8 = .ok (.invokestatic 519, 3) := by decide +kernel
theorem dX0_holds_11 : decode cX0_holds 11 = .ok (.ifCond .ne 5, 3) := by decide +kernel
theorem dX0_holds_14 : decode cX0_holds 14 = .ok (.iconst (-1), 1) := by decide +kernel
theorem dX0_holds_15 : decode cX0_holds 15 = .ok (.ireturn, 1) := by decide +kernel
theorem dX0_holds_16 : decode cX0_holds 16 = .ok (.aload_n 0, 1) := by decide +kernel
theorem dX0_holds_17 : decode cX0_holds 17 = .ok (.getfield 326, 3) := by decide +kernel
theorem dX0_holds_20 : decode cX0_holds 20 = .ok (.iload_n 1, 1) := by decide +kernel
theorem dX0_holds_21 : decode cX0_holds 21 = .ok (.aaload, 1) := by decide +kernel
theorem dX0_holds_22 : decode cX0_holds 22 = .ok (.getfield 509, 3) := by decide +kernel
theorem dX0_holds_25 : decode cX0_holds 25 = .ok (.iconst 3, 1) := by decide +kernel
theorem dX0_holds_26 : decode cX0_holds 26 = .ok (.if_icmp .ne 11, 3) := by decide +kernel
theorem dX0_holds_29 : decode cX0_holds 29 = .ok (.aload_n 0, 1) := by decide +kernel
theorem dX0_holds_30 : decode cX0_holds 30 = .ok (.iload_n 2, 1) := by decide +kernel
theorem dX0_holds_31 : decode cX0_holds 31 = .ok (.invokevirtual 546, 3) := by decide +kernel
theorem dX0_holds_34 : decode cX0_holds 34 = .ok (.ifCond .ne 6, 3) := by decide +kernel
theorem dX0_holds_37 : decode cX0_holds 37 = .ok (.bipush (-3), 2) := by decide +kernel
theorem dX0_holds_39 : decode cX0_holds 39 = .ok (.ireturn, 1) := by decide +kernel
theorem dX0_holds_40 : decode cX0_holds 40 = .ok (.aload_n 0, 1) := by decide +kernel
theorem dX0_holds_41 : decode cX0_holds 41 = .ok (.getfield 326, 3) := by decide +kernel
theorem dX0_holds_44 : decode cX0_holds 44 = .ok (.iload_n 1, 1) := by decide +kernel
theorem dX0_holds_45 : decode cX0_holds 45 = .ok (.aaload, 1) := by decide +kernel
theorem dX0_holds_46 : decode cX0_holds 46 = .ok (.astore 6, 2) := by decide +kernel
theorem dX0_holds_48 : decode cX0_holds 48 = .ok (.aload_n 0, 1) := by decide +kernel
theorem dX0_holds_49 : decode cX0_holds 49 = .ok (.getfield 326, 3) := by decide +kernel
theorem dX0_holds_52 : decode cX0_holds 52 = .ok (.iload_n 2, 1) := by decide +kernel
theorem dX0_holds_53 : decode cX0_holds 53 = .ok (.aaload, 1) := by decide +kernel
theorem dX0_holds_54 : decode cX0_holds 54 = .ok (.getfield 512, 3) := by decide +kernel
theorem dX0_holds_57 : decode cX0_holds 57 = .ok (.astore 7, 2) := by decide +kernel
theorem dX0_holds_59 : decode cX0_holds 59 = .ok (.iload_n 3, 1) := by decide +kernel
theorem dX0_holds_60 : decode cX0_holds 60 = .ok (.iload 4, 2) := by decide +kernel
theorem dX0_holds_62 : decode cX0_holds 62 = .ok (.iload 5, 2) := by decide +kernel
theorem dX0_holds_64 : decode cX0_holds 64 = .ok (.invokestatic 601, 3) := by decide +kernel
theorem dX0_holds_67 : decode cX0_holds 67 = .ok (.ifCond .eq 26, 3) := by decide +kernel
theorem dX0_holds_70 : decode cX0_holds 70 = .ok (.iload_n 3, 1) := by decide +kernel
theorem dX0_holds_71 : decode cX0_holds 71 = .ok (.aload 6, 2) := by decide +kernel
theorem dX0_holds_73 : decode cX0_holds 73 = .ok (.getfield 575, 3) := by decide +kernel
theorem dX0_holds_76 : decode cX0_holds 76 = .ok (.iadd, 1) := by decide +kernel
theorem dX0_holds_77 : decode cX0_holds 77 = .ok (.sipush 500, 3) := by decide +kernel
theorem dX0_holds_80 : decode cX0_holds 80 = .ok (.if_icmp .gt 13, 3) := by decide +kernel
theorem dX0_holds_83 : decode cX0_holds 83 = .ok (.iload 5, 2) := by decide +kernel
theorem dX0_holds_85 : decode cX0_holds 85 = .ok (.iconst 1, 1) := by decide +kernel
theorem dX0_holds_86 : decode cX0_holds 86 = .ok (.iadd, 1) := by decide +kernel
theorem dX0_holds_87 : decode cX0_holds 87 = .ok (.sipush 500, 3) := by decide +kernel
theorem dX0_holds_90 : decode cX0_holds 90 = .ok (.if_icmp .le 5, 3) := by decide +kernel
theorem dX0_holds_93 : decode cX0_holds 93 = .ok (.iconst (-1), 1) := by decide +kernel
theorem dX0_holds_94 : decode cX0_holds 94 = .ok (.ireturn, 1) := by decide +kernel
theorem dX0_holds_95 : decode cX0_holds 95 = .ok (.iconst 0, 1) := by decide +kernel
theorem dX0_holds_96 : decode cX0_holds 96 = .ok (.istore 8, 2) := by decide +kernel
theorem dX0_holds_98 : decode cX0_holds 98 = .ok (.iconst 0, 1) := by decide +kernel
theorem dX0_holds_99 : decode cX0_holds 99 = .ok (.istore 9, 2) := by decide +kernel
theorem dX0_holds_101 : decode cX0_holds 101 = .ok (.iload 9, 2) := by decide +kernel
theorem dX0_holds_103 : decode cX0_holds 103 = .ok (.aload 6, 2) := by decide +kernel
theorem dX0_holds_105 : decode cX0_holds 105 = .ok (.getfield 575, 3) := by decide +kernel
theorem dX0_holds_108 : decode cX0_holds 108 = .ok (.if_icmp .gt 57, 3) := by decide +kernel
theorem dX0_holds_111 : decode cX0_holds 111 = .ok (.aload_n 0, 1) := by decide +kernel
theorem dX0_holds_112 : decode cX0_holds 112 = .ok (.aload 7, 2) := by decide +kernel
theorem dX0_holds_114 : decode cX0_holds 114 = .ok (.iload_n 3, 1) := by decide +kernel
theorem dX0_holds_115 : decode cX0_holds 115 = .ok (.iload 9, 2) := by decide +kernel
theorem dX0_holds_117 : decode cX0_holds 117 = .ok (.iadd, 1) := by decide +kernel
theorem dX0_holds_118 : decode cX0_holds 118 = .ok (.iload 4, 2) := by decide +kernel
theorem dX0_holds_120 : decode cX0_holds 120 = .ok (.iload 5, 2) := by decide +kernel
theorem dX0_holds_122 : decode cX0_holds 122 = .ok (.invokevirtual 604, 3) := by decide +kernel
theorem dX0_holds_125 : decode cX0_holds 125 = .ok (.istore 10, 2) := by decide +kernel
theorem dX0_holds_127 : decode cX0_holds 127 = .ok (.iload 10, 2) := by decide +kernel
theorem dX0_holds_129 : decode cX0_holds 129 = .ok (.iconst (-1), 1) := by decide +kernel
theorem dX0_holds_130 : decode cX0_holds 130 = .ok (.if_icmp .ne 5, 3) := by decide +kernel
theorem dX0_holds_133 : decode cX0_holds 133 = .ok (.iconst (-1), 1) := by decide +kernel
theorem dX0_holds_134 : decode cX0_holds 134 = .ok (.ireturn, 1) := by decide +kernel
theorem dX0_holds_135 : decode cX0_holds 135 = .ok (.iload 8, 2) := by decide +kernel
theorem dX0_holds_137 : decode cX0_holds 137 = .ok (.aload 6, 2) := by decide +kernel
theorem dX0_holds_139 : decode cX0_holds 139 = .ok (.getfield 578, 3) := by decide +kernel
theorem dX0_holds_142 : decode cX0_holds 142 = .ok (.iload 9, 2) := by decide +kernel
theorem dX0_holds_144 : decode cX0_holds 144 = .ok (.aaload, 1) := by decide +kernel
theorem dX0_holds_145 : decode cX0_holds 145 = .ok (.iload_n 3, 1) := by decide +kernel
theorem dX0_holds_146 : decode cX0_holds 146 = .ok (.invokevirtual 765, 3) := by decide +kernel
theorem dX0_holds_149 : decode cX0_holds 149 = .ok (.iload 10, 2) := by decide +kernel
theorem dX0_holds_151 : decode cX0_holds 151 = .ok (.invokestatic 6, 3) := by decide +kernel
theorem dX0_holds_154 : decode cX0_holds 154 = .ok (.invokestatic 598, 3) := by decide +kernel
theorem dX0_holds_157 : decode cX0_holds 157 = .ok (.istore 8, 2) := by decide +kernel
theorem dX0_holds_159 : decode cX0_holds 159 = .ok (.iinc 9 1, 3) := by decide +kernel
theorem dX0_holds_162 : decode cX0_holds 162 = .ok (.goto (-61), 3) := by decide +kernel
theorem dX0_holds_165 : decode cX0_holds 165 = .ok (.aload_n 0, 1) := by decide +kernel
theorem dX0_holds_166 : decode cX0_holds 166 = .ok (.aload 6, 2) := by decide +kernel
theorem dX0_holds_168 : decode cX0_holds 168 = .ok (.aload 7, 2) := by decide +kernel
theorem dX0_holds_170 : decode cX0_holds 170 = .ok (.iload_n 3, 1) := by decide +kernel
theorem dX0_holds_171 : decode cX0_holds 171 = .ok (.iload 5, 2) := by decide +kernel
theorem dX0_holds_173 : decode cX0_holds 173 = .ok (.iconst 1, 1) := by decide +kernel
theorem dX0_holds_174 : decode cX0_holds 174 = .ok (.iadd, 1) := by decide +kernel
theorem dX0_holds_175 : decode cX0_holds 175 = .ok (.invokevirtual 780, 3) := by decide +kernel
theorem dX0_holds_178 : decode cX0_holds 178 = .ok (.istore 9, 2) := by decide +kernel
theorem dX0_holds_180 : decode cX0_holds 180 = .ok (.aload_n 0, 1) := by decide +kernel
theorem dX0_holds_181 : decode cX0_holds 181 = .ok (.aload 6, 2) := by decide +kernel
theorem dX0_holds_183 : decode cX0_holds 183 = .ok (.aload 7, 2) := by decide +kernel
theorem dX0_holds_185 : decode cX0_holds 185 = .ok (.iload_n 3, 1) := by decide +kernel
theorem dX0_holds_186 : decode cX0_holds 186 = .ok (.iload 4, 2) := by decide +kernel
theorem dX0_holds_188 : decode cX0_holds 188 = .ok (.invokevirtual 780, 3) := by decide +kernel
theorem dX0_holds_191 : decode cX0_holds 191 = .ok (.istore 10, 2) := by decide +kernel
theorem dX0_holds_193 : decode cX0_holds 193 = .ok (.iload 9, 2) := by decide +kernel
theorem dX0_holds_195 : decode cX0_holds 195 = .ok (.iconst (-1), 1) := by decide +kernel
theorem dX0_holds_196 : decode cX0_holds 196 = .ok (.if_icmp .eq 9, 3) := by decide +kernel
theorem dX0_holds_199 : decode cX0_holds 199 = .ok (.iload 10, 2) := by decide +kernel
theorem dX0_holds_201 : decode cX0_holds 201 = .ok (.iconst (-1), 1) := by decide +kernel
theorem dX0_holds_202 : decode cX0_holds 202 = .ok (.if_icmp .ne 7, 3) := by decide +kernel
theorem dX0_holds_205 : decode cX0_holds 205 = .ok (.iconst (-1), 1) := by decide +kernel
theorem dX0_holds_206 : decode cX0_holds 206 = .ok (.goto 20, 3) := by decide +kernel
theorem dX0_holds_209 : decode cX0_holds 209 = .ok (.iload 8, 2) := by decide +kernel
theorem dX0_holds_211 : decode cX0_holds 211 = .ok (.iload 9, 2) := by decide +kernel
theorem dX0_holds_213 : decode cX0_holds 213 = .ok (.iload 10, 2) := by decide +kernel
theorem dX0_holds_215 : decode cX0_holds 215 = .ok (.invokestatic 784, 3) := by decide +kernel
theorem dX0_holds_218 : decode cX0_holds 218 = .ok (.if_icmp .ne 7, 3) := by decide +kernel
theorem dX0_holds_221 : decode cX0_holds 221 = .ok (.iconst 1, 1) := by decide +kernel
theorem dX0_holds_222 : decode cX0_holds 222 = .ok (.goto 4, 3) := by decide +kernel
theorem dX0_holds_225 : decode cX0_holds 225 = .ok (.iconst 0, 1) := by decide +kernel
theorem dX0_holds_226 : decode cX0_holds 226 = .ok (.ireturn, 1) := by decide +kernel
theorem dX0_certified_0 : decode cX0_certified 0 = .ok (.aload_n 1, 1) := by decide +kernel
theorem dX0_certified_1 : decode cX0_certified 1 = .ok (.getfield 512, 3) := by decide +kernel
theorem dX0_certified_4 : decode cX0_certified 4 = .ok (.getfield 110, 3) := by decide +kernel
theorem dX0_certified_7 : decode cX0_certified 7 = .ok (.iload_n 3, 1) := by decide +kernel
theorem dX0_certified_8 : decode cX0_certified 8 = .ok (.iload 4, 2) := by decide +kernel
theorem dX0_certified_10 : decode cX0_certified 10 = .ok (.invokestatic 588, 3) := by decide +kernel
theorem dX0_certified_13 : decode cX0_certified 13 = .ok (.istore 5, 2) := by decide +kernel
theorem dX0_certified_15 : decode cX0_certified 15 = .ok (.aload_n 0, 1) := by decide +kernel
theorem dX0_certified_16 : decode cX0_certified 16 = .ok (.aload_n 2, 1) := by decide +kernel
theorem dX0_certified_17 : decode cX0_certified 17 = .ok (.iload_n 3, 1) := by decide +kernel
theorem dX0_certified_18 : decode cX0_certified 18 = .ok (.iload 4, 2) := by decide +kernel
theorem dX0_certified_20 : decode cX0_certified 20 = .ok (.invokevirtual 595, 3) := by decide +kernel
theorem dX0_certified_23 : decode cX0_certified 23 = .ok (.istore 6, 2) := by decide +kernel
theorem dX0_certified_25 : decode cX0_certified 25 = .ok (.iload 5, 2) := by decide +kernel
theorem dX0_certified_27 : decode cX0_certified 27 = .ok (.iconst (-1), 1) := by decide +kernel
theorem dX0_certified_28 : decode cX0_certified 28 = .ok (.if_icmp .eq 9, 3) := by decide +kernel
theorem dX0_certified_31 : decode cX0_certified 31 = .ok (.iload 6, 2) := by decide +kernel
theorem dX0_certified_33 : decode cX0_certified 33 = .ok (.iconst (-1), 1) := by decide +kernel
theorem dX0_certified_34 : decode cX0_certified 34 = .ok (.if_icmp .ne 7, 3) := by decide +kernel
theorem dX0_certified_37 : decode cX0_certified 37 = .ok (.iconst (-1), 1) := by decide +kernel
theorem dX0_certified_38 : decode cX0_certified 38 = .ok (.goto 10, 3) := by decide +kernel
theorem dX0_certified_41 : decode cX0_certified 41 = .ok (.iload 5, 2) := by decide +kernel
theorem dX0_certified_43 : decode cX0_certified 43 = .ok (.iload 6, 2) := by decide +kernel
theorem dX0_certified_45 : decode cX0_certified 45 = .ok (.invokestatic 6, 3) := by decide +kernel
theorem dX0_certified_48 : decode cX0_certified 48 = .ok (.ireturn, 1) := by decide +kernel
theorem dX0_row_0 : decode cX0_row 0 = .ok (.iload_n 1, 1) := by decide +kernel
theorem dX0_row_1 : decode cX0_row 1 = .ok (.invokestatic 519, 3) := by decide +kernel
theorem dX0_row_4 : decode cX0_row 4 = .ok (.ifCond .eq 10, 3) := by decide +kernel
theorem dX0_row_7 : decode cX0_row 7 = .ok (.iload_n 2, 1) := by decide +kernel
theorem dX0_row_8 : decode cX0_row 8 = .ok (.invokestatic 519, 3) := by decide +kernel
theorem dX0_row_11 : decode cX0_row 11 = .ok (.ifCond .ne 5, 3) := by decide +kernel
theorem dX0_row_14 : decode cX0_row 14 = .ok (.iconst (-1), 1) := by decide +kernel
theorem dX0_row_15 : decode cX0_row 15 = .ok (.ireturn, 1) := by decide +kernel
theorem dX0_row_16 : decode cX0_row 16 = .ok (.aload_n 0, 1) := by decide +kernel
theorem dX0_row_17 : decode cX0_row 17 = .ok (.getfield 326, 3) := by decide +kernel
theorem dX0_row_20 : decode cX0_row 20 = .ok (.iload_n 1, 1) := by decide +kernel
theorem dX0_row_21 : decode cX0_row 21 = .ok (.aaload, 1) := by decide +kernel
theorem dX0_row_22 : decode cX0_row 22 = .ok (.astore_n 3, 1) := by decide +kernel
theorem dX0_row_23 : decode cX0_row 23 = .ok (.aload_n 3, 1) := by decide +kernel
theorem dX0_row_24 : decode cX0_row 24 = .ok (.getfield 509, 3) := by decide +kernel
theorem dX0_row_27 : decode cX0_row 27 = .ok (.iconst 3, 1) := by decide +kernel
theorem dX0_row_28 : decode cX0_row 28 = .ok (.if_icmp .eq 6, 3) := by decide +kernel
theorem dX0_row_31 : decode cX0_row 31 = .ok (.bipush (-3), 2) := by decide +kernel
theorem dX0_row_33 : decode cX0_row 33 = .ok (.ireturn, 1) := by decide +kernel
theorem dX0_row_34 : decode cX0_row 34 = .ok (.aload_n 3, 1) := by decide +kernel
theorem dX0_row_35 : decode cX0_row 35 = .ok (.getfield 575, 3) := by decide +kernel
theorem dX0_row_38 : decode cX0_row 38 = .ok (.ifCond .eq 18, 3) := by decide +kernel
theorem dX0_row_41 : decode cX0_row 41 = .ok (.aload_n 3, 1) := by decide +kernel
theorem dX0_row_42 : decode cX0_row 42 = .ok (.getfield 578, 3) := by decide +kernel
theorem dX0_row_45 : decode cX0_row 45 = .ok (.aload_n 3, 1) := by decide +kernel
theorem dX0_row_46 : decode cX0_row 46 = .ok (.getfield 575, 3) := by decide +kernel
theorem dX0_row_49 : decode cX0_row 49 = .ok (.aaload, 1) := by decide +kernel
theorem dX0_row_50 : decode cX0_row 50 = .ok (.invokevirtual 692, 3) := by decide +kernel
theorem dX0_row_53 : decode cX0_row 53 = .ok (.ifCond .eq 5, 3) := by decide +kernel
theorem dX0_row_56 : decode cX0_row 56 = .ok (.iconst (-1), 1) := by decide +kernel
theorem dX0_row_57 : decode cX0_row 57 = .ok (.ireturn, 1) := by decide +kernel
theorem dX0_row_58 : decode cX0_row 58 = .ok (.aload_n 0, 1) := by decide +kernel
theorem dX0_row_59 : decode cX0_row 59 = .ok (.aload_n 3, 1) := by decide +kernel
theorem dX0_row_60 : decode cX0_row 60 = .ok (.getfield 575, 3) := by decide +kernel
theorem dX0_row_63 : decode cX0_row 63 = .ok (.putfield 787, 3) := by decide +kernel
theorem dX0_row_66 : decode cX0_row 66 = .ok (.iconst 0, 1) := by decide +kernel
theorem dX0_row_67 : decode cX0_row 67 = .ok (.istore 4, 2) := by decide +kernel
theorem dX0_row_69 : decode cX0_row 69 = .ok (.iload 4, 2) := by decide +kernel
theorem dX0_row_71 : decode cX0_row 71 = .ok (.aload_n 3, 1) := by decide +kernel
theorem dX0_row_72 : decode cX0_row 72 = .ok (.getfield 575, 3) := by decide +kernel
theorem dX0_row_75 : decode cX0_row 75 = .ok (.if_icmp .gt 26, 3) := by decide +kernel
theorem dX0_row_78 : decode cX0_row 78 = .ok (.aload_n 0, 1) := by decide +kernel
theorem dX0_row_79 : decode cX0_row 79 = .ok (.getfield 455, 3) := by decide +kernel
theorem dX0_row_82 : decode cX0_row 82 = .ok (.iload 4, 2) := by decide +kernel
theorem dX0_row_84 : decode cX0_row 84 = .ok (.aaload, 1) := by decide +kernel
theorem dX0_row_85 : decode cX0_row 85 = .ok (.aload_n 3, 1) := by decide +kernel
theorem dX0_row_86 : decode cX0_row 86 = .ok (.getfield 578, 3) := by decide +kernel
theorem dX0_row_89 : decode cX0_row 89 = .ok (.iload 4, 2) := by decide +kernel
theorem dX0_row_91 : decode cX0_row 91 = .ok (.aaload, 1) := by decide +kernel
theorem dX0_row_92 : decode cX0_row 92 = .ok (.invokevirtual 686, 3) := by decide +kernel
theorem dX0_row_95 : decode cX0_row 95 = .ok (.iinc 4 1, 3) := by decide +kernel
theorem dX0_row_98 : decode cX0_row 98 = .ok (.goto (-29), 3) := by decide +kernel
theorem dX0_row_101 : decode cX0_row 101 = .ok (.aload_n 0, 1) := by decide +kernel
theorem dX0_row_102 : decode cX0_row 102 = .ok (.aload_n 0, 1) := by decide +kernel
theorem dX0_row_103 : decode cX0_row 103 = .ok (.getfield 455, 3) := by decide +kernel
theorem dX0_row_106 : decode cX0_row 106 = .ok (.aload_n 0, 1) := by decide +kernel
theorem dX0_row_107 : decode cX0_row 107 = .ok (.getfield 787, 3) := by decide +kernel
theorem dX0_row_110 : decode cX0_row 110 = .ok (.invokevirtual 800, 3) := by decide +kernel
theorem dX0_row_113 : decode cX0_row 113 = .ok (.aload_n 0, 1) := by decide +kernel
theorem dX0_row_114 : decode cX0_row 114 = .ok (.iload_n 2, 1) := by decide +kernel
theorem dX0_row_115 : decode cX0_row 115 = .ok (.iconst 0, 1) := by decide +kernel
theorem dX0_row_116 : decode cX0_row 116 = .ok (.invokevirtual 804, 3) := by decide +kernel
theorem dX0_row_119 : decode cX0_row 119 = .ok (.istore 4, 2) := by decide +kernel
theorem dX0_row_121 : decode cX0_row 121 = .ok (.iload 4, 2) := by decide +kernel
theorem dX0_row_123 : decode cX0_row 123 = .ok (.ifCond .ge 8, 3) := by decide +kernel
theorem dX0_row_126 : decode cX0_row 126 = .ok (.iload 4, 2) := by decide +kernel
theorem dX0_row_128 : decode cX0_row 128 = .ok (.goto 12, 3) := by decide +kernel
theorem dX0_row_131 : decode cX0_row 131 = .ok (.aload_n 0, 1) := by decide +kernel
theorem dX0_row_132 : decode cX0_row 132 = .ok (.getfield 326, 3) := by decide +kernel
theorem dX0_row_135 : decode cX0_row 135 = .ok (.iload_n 2, 1) := by decide +kernel
theorem dX0_row_136 : decode cX0_row 136 = .ok (.aaload, 1) := by decide +kernel
theorem dX0_row_137 : decode cX0_row 137 = .ok (.getfield 582, 3) := by decide +kernel
theorem dX0_row_140 : decode cX0_row 140 = .ok (.ireturn, 1) := by decide +kernel
theorem dX0_tidy_0 : decode cX0_tidy 0 = .ok (.aload_n 0, 1) := by decide +kernel
theorem dX0_tidy_1 : decode cX0_tidy 1 = .ok (.getfield 406, 3) := by decide +kernel
theorem dX0_tidy_4 : decode cX0_tidy 4 = .ok (.invokevirtual 709, 3) := by decide +kernel
theorem dX0_tidy_7 : decode cX0_tidy 7 = .ok (.iconst 0, 1) := by decide +kernel
theorem dX0_tidy_8 : decode cX0_tidy 8 = .ok (.istore_n 3, 1) := by decide +kernel
theorem dX0_tidy_9 : decode cX0_tidy 9 = .ok (.iload_n 3, 1) := by decide +kernel
theorem dX0_tidy_10 : decode cX0_tidy 10 = .ok (.iload_n 2, 1) := by decide +kernel
theorem dX0_tidy_11 : decode cX0_tidy 11 = .ok (.if_icmp .gt 30, 3) := by decide +kernel
theorem dX0_tidy_14 : decode cX0_tidy 14 = .ok (.aload_n 0, 1) := by decide +kernel
theorem dX0_tidy_15 : decode cX0_tidy 15 = .ok (.getfield 46, 3) := by decide +kernel
theorem dX0_tidy_18 : decode cX0_tidy 18 = .ok (.getfield 642, 3) := by decide +kernel
theorem dX0_tidy_21 : decode cX0_tidy 21 = .ok (.aload_n 0, 1) := by decide +kernel
theorem dX0_tidy_22 : decode cX0_tidy 22 = .ok (.getfield 406, 3) := by decide +kernel
theorem dX0_tidy_25 : decode cX0_tidy 25 = .ok (.aload_n 1, 1) := by decide +kernel
theorem dX0_tidy_26 : decode cX0_tidy 26 = .ok (.iload_n 3, 1) := by decide +kernel
theorem dX0_tidy_27 : decode cX0_tidy 27 = .ok (.aaload, 1) := by decide +kernel
theorem dX0_tidy_28 : decode cX0_tidy 28 = .ok (.aload_n 0, 1) := by decide +kernel
theorem dX0_tidy_29 : decode cX0_tidy 29 = .ok (.getfield 406, 3) := by decide +kernel
theorem dX0_tidy_32 : decode cX0_tidy 32 = .ok (.invokevirtual 646, 3) := by decide +kernel
theorem dX0_tidy_35 : decode cX0_tidy 35 = .ok (.iinc 3 1, 3) := by decide +kernel
theorem dX0_tidy_38 : decode cX0_tidy 38 = .ok (.goto (-29), 3) := by decide +kernel
theorem dX0_tidy_41 : decode cX0_tidy 41 = .ok (.iconst 0, 1) := by decide +kernel
theorem dX0_tidy_42 : decode cX0_tidy 42 = .ok (.istore_n 3, 1) := by decide +kernel
theorem dX0_tidy_43 : decode cX0_tidy 43 = .ok (.iload_n 3, 1) := by decide +kernel
theorem dX0_tidy_44 : decode cX0_tidy 44 = .ok (.iload_n 2, 1) := by decide +kernel
theorem dX0_tidy_45 : decode cX0_tidy 45 = .ok (.if_icmp .gt 26, 3) := by decide +kernel
theorem dX0_tidy_48 : decode cX0_tidy 48 = .ok (.aload_n 0, 1) := by decide +kernel
theorem dX0_tidy_49 : decode cX0_tidy 49 = .ok (.getfield 46, 3) := by decide +kernel
theorem dX0_tidy_52 : decode cX0_tidy 52 = .ok (.getfield 642, 3) := by decide +kernel
theorem dX0_tidy_55 : decode cX0_tidy 55 = .ok (.aload_n 1, 1) := by decide +kernel
theorem dX0_tidy_56 : decode cX0_tidy 56 = .ok (.iload_n 3, 1) := by decide +kernel
theorem dX0_tidy_57 : decode cX0_tidy 57 = .ok (.aaload, 1) := by decide +kernel
theorem dX0_tidy_58 : decode cX0_tidy 58 = .ok (.aload_n 0, 1) := by decide +kernel
theorem dX0_tidy_59 : decode cX0_tidy 59 = .ok (.getfield 406, 3) := by decide +kernel
theorem dX0_tidy_62 : decode cX0_tidy 62 = .ok (.invokevirtual 718, 3) := by decide +kernel
theorem dX0_tidy_65 : decode cX0_tidy 65 = .ok (.iinc 3 1, 3) := by decide +kernel
theorem dX0_tidy_68 : decode cX0_tidy 68 = .ok (.goto (-25), 3) := by decide +kernel
theorem dX0_tidy_71 : decode cX0_tidy 71 = .ok (.aload_n 1, 1) := by decide +kernel
theorem dX0_tidy_72 : decode cX0_tidy 72 = .ok (.iload_n 2, 1) := by decide +kernel
theorem dX0_tidy_73 : decode cX0_tidy 73 = .ok (.aaload, 1) := by decide +kernel
theorem dX0_tidy_74 : decode cX0_tidy 74 = .ok (.invokevirtual 693, 3) := by decide +kernel
theorem dX0_tidy_77 : decode cX0_tidy 77 = .ok (.invokestatic 74, 3) := by decide +kernel
theorem dX0_tidy_80 : decode cX0_tidy 80 = .ok (.istore_n 3, 1) := by decide +kernel
theorem dX0_tidy_81 : decode cX0_tidy 81 = .ok (.iconst 0, 1) := by decide +kernel
theorem dX0_tidy_82 : decode cX0_tidy 82 = .ok (.istore 4, 2) := by decide +kernel
theorem dX0_tidy_84 : decode cX0_tidy 84 = .ok (.iload 4, 2) := by decide +kernel
theorem dX0_tidy_86 : decode cX0_tidy 86 = .ok (.iload_n 2, 1) := by decide +kernel
theorem dX0_tidy_87 : decode cX0_tidy 87 = .ok (.if_icmp .gt 17, 3) := by decide +kernel
theorem dX0_tidy_90 : decode cX0_tidy 90 = .ok (.aload_n 1, 1) := by decide +kernel
theorem dX0_tidy_91 : decode cX0_tidy 91 = .ok (.iload 4, 2) := by decide +kernel
theorem dX0_tidy_93 : decode cX0_tidy 93 = .ok (.aaload, 1) := by decide +kernel
theorem dX0_tidy_94 : decode cX0_tidy 94 = .ok (.iload_n 3, 1) := by decide +kernel
theorem dX0_tidy_95 : decode cX0_tidy 95 = .ok (.invokevirtual 697, 3) := by decide +kernel
theorem dX0_tidy_98 : decode cX0_tidy 98 = .ok (.iinc 4 1, 3) := by decide +kernel
theorem dX0_tidy_101 : decode cX0_tidy 101 = .ok (.goto (-17), 3) := by decide +kernel
theorem dX0_tidy_104 : decode cX0_tidy 104 = .ok (.return_, 1) := by decide +kernel
theorem dX0_keepRow_0 : decode cX0_keepRow 0 = .ok (.iload_n 2, 1) := by decide +kernel
theorem dX0_keepRow_1 : decode cX0_keepRow 1 = .ok (.aload_n 0, 1) := by decide +kernel
theorem dX0_keepRow_2 : decode cX0_keepRow 2 = .ok (.getfield 455, 3) := by decide +kernel
theorem dX0_keepRow_5 : decode cX0_keepRow 5 = .ok (.aload_n 0, 1) := by decide +kernel
theorem dX0_keepRow_6 : decode cX0_keepRow 6 = .ok (.getfield 787, 3) := by decide +kernel
theorem dX0_keepRow_9 : decode cX0_keepRow 9 = .ok (.invokestatic 790, 3) := by decide +kernel
theorem dX0_keepRow_12 : decode cX0_keepRow 12 = .ok (.invokestatic 679, 3) := by decide +kernel
theorem dX0_keepRow_15 : decode cX0_keepRow 15 = .ok (.istore_n 3, 1) := by decide +kernel
theorem dX0_keepRow_16 : decode cX0_keepRow 16 = .ok (.iload_n 3, 1) := by decide +kernel
theorem dX0_keepRow_17 : decode cX0_keepRow 17 = .ok (.bipush 60, 2) := by decide +kernel
theorem dX0_keepRow_19 : decode cX0_keepRow 19 = .ok (.if_icmp .gt 16, 3) := by decide +kernel
theorem dX0_keepRow_22 : decode cX0_keepRow 22 = .ok (.aload_n 0, 1) := by decide +kernel
theorem dX0_keepRow_23 : decode cX0_keepRow 23 = .ok (.getfield 787, 3) := by decide +kernel
theorem dX0_keepRow_26 : decode cX0_keepRow 26 = .ok (.bipush 6, 2) := by decide +kernel
theorem dX0_keepRow_28 : decode cX0_keepRow 28 = .ok (.if_icmp .gt 7, 3) := by decide +kernel
theorem dX0_keepRow_31 : decode cX0_keepRow 31 = .ok (.iconst 1, 1) := by decide +kernel
theorem dX0_keepRow_32 : decode cX0_keepRow 32 = .ok (.goto 4, 3) := by decide +kernel
theorem dX0_keepRow_35 : decode cX0_keepRow 35 = .ok (.iconst 0, 1) := by decide +kernel
theorem dX0_keepRow_36 : decode cX0_keepRow 36 = .ok (.istore 4, 2) := by decide +kernel
theorem dX0_keepRow_38 : decode cX0_keepRow 38 = .ok (.iconst 0, 1) := by decide +kernel
theorem dX0_keepRow_39 : decode cX0_keepRow 39 = .ok (.istore 5, 2) := by decide +kernel
theorem dX0_keepRow_41 : decode cX0_keepRow 41 = .ok (.iload 5, 2) := by decide +kernel
theorem dX0_keepRow_43 : decode cX0_keepRow 43 = .ok (.aload_n 0, 1) := by decide +kernel
theorem dX0_keepRow_44 : decode cX0_keepRow 44 = .ok (.getfield 787, 3) := by decide +kernel
theorem dX0_keepRow_47 : decode cX0_keepRow 47 = .ok (.if_icmp .gt 36, 3) := by decide +kernel
theorem dX0_keepRow_50 : decode cX0_keepRow 50 = .ok (.iload 4, 2) := by decide +kernel
theorem dX0_keepRow_52 : decode cX0_keepRow 52 = .ok (.ifCond .eq 22, 3) := by decide +kernel
theorem dX0_keepRow_55 : decode cX0_keepRow 55 = .ok (.aload_n 0, 1) := by decide +kernel
theorem dX0_keepRow_56 : decode cX0_keepRow 56 = .ok (.getfield 455, 3) := by decide +kernel
theorem dX0_keepRow_59 : decode cX0_keepRow 59 = .ok (.iload 5, 2) := by decide +kernel
theorem dX0_keepRow_61 : decode cX0_keepRow 61 = .ok (.aaload, 1) := by decide +kernel
theorem dX0_keepRow_62 : decode cX0_keepRow 62 = .ok (.getfield 636, 3) := by decide +kernel
theorem dX0_keepRow_65 : decode cX0_keepRow 65 = .ok (.bipush 25, 2) := by decide +kernel
theorem dX0_keepRow_67 : decode cX0_keepRow 67 = .ok (.if_icmp .gt 7, 3) := by decide +kernel
theorem dX0_keepRow_70 : decode cX0_keepRow 70 = .ok (.iconst 1, 1) := by decide +kernel
theorem dX0_keepRow_71 : decode cX0_keepRow 71 = .ok (.goto 4, 3) := by decide +kernel
theorem dX0_keepRow_74 : decode cX0_keepRow 74 = .ok (.iconst 0, 1) := by decide +kernel
theorem dX0_keepRow_75 : decode cX0_keepRow 75 = .ok (.istore 4, 2) := by decide +kernel
theorem dX0_keepRow_77 : decode cX0_keepRow 77 = .ok (.iinc 5 1, 3) := by decide +kernel
theorem dX0_keepRow_80 : decode cX0_keepRow 80 = .ok (.goto (-39), 3) := by decide +kernel
theorem dX0_keepRow_83 : decode cX0_keepRow 83 = .ok (.iload 4, 2) := by decide +kernel
theorem dX0_keepRow_85 : decode cX0_keepRow 85 = .ok (.ifCond .ne 6, 3) := by decide +kernel
theorem dX0_keepRow_88 : decode cX0_keepRow 88 = .ok (.bipush (-2), 2) := by decide +kernel
theorem dX0_keepRow_90 : decode cX0_keepRow 90 = .ok (.ireturn, 1) := by decide +kernel
theorem dX0_keepRow_91 : decode cX0_keepRow 91 = .ok (.aload_n 0, 1) := by decide +kernel
theorem dX0_keepRow_92 : decode cX0_keepRow 92 = .ok (.getfield 326, 3) := by decide +kernel
theorem dX0_keepRow_95 : decode cX0_keepRow 95 = .ok (.iload_n 1, 1) := by decide +kernel
theorem dX0_keepRow_96 : decode cX0_keepRow 96 = .ok (.aaload, 1) := by decide +kernel
theorem dX0_keepRow_97 : decode cX0_keepRow 97 = .ok (.astore 5, 2) := by decide +kernel
theorem dX0_keepRow_99 : decode cX0_keepRow 99 = .ok (.aload 5, 2) := by decide +kernel
theorem dX0_keepRow_101 : decode cX0_keepRow 101 = .ok (.iconst 4, 1) := by decide +kernel
theorem dX0_keepRow_102 : decode cX0_keepRow 102 = .ok (.putfield 509, 3) := by decide +kernel
theorem dX0_keepRow_105 : decode cX0_keepRow 105 = .ok (.aload 5, 2) := by decide +kernel
theorem dX0_keepRow_107 : decode cX0_keepRow 107 = .ok (.aload_n 0, 1) := by decide +kernel
theorem dX0_keepRow_108 : decode cX0_keepRow 108 = .ok (.getfield 787, 3) := by decide +kernel
theorem dX0_keepRow_111 : decode cX0_keepRow 111 = .ok (.putfield 575, 3) := by decide +kernel
theorem dX0_keepRow_114 : decode cX0_keepRow 114 = .ok (.iconst 0, 1) := by decide +kernel
theorem dX0_keepRow_115 : decode cX0_keepRow 115 = .ok (.istore 6, 2) := by decide +kernel
theorem dX0_keepRow_117 : decode cX0_keepRow 117 = .ok (.iload 6, 2) := by decide +kernel
theorem dX0_keepRow_119 : decode cX0_keepRow 119 = .ok (.aload_n 0, 1) := by decide +kernel
theorem dX0_keepRow_120 : decode cX0_keepRow 120 = .ok (.getfield 787, 3) := by decide +kernel
theorem dX0_keepRow_123 : decode cX0_keepRow 123 = .ok (.if_icmp .gt 27, 3) := by decide +kernel
theorem dX0_keepRow_126 : decode cX0_keepRow 126 = .ok (.aload 5, 2) := by decide +kernel
theorem dX0_keepRow_128 : decode cX0_keepRow 128 = .ok (.getfield 578, 3) := by decide +kernel
theorem dX0_keepRow_131 : decode cX0_keepRow 131 = .ok (.iload 6, 2) := by decide +kernel
theorem dX0_keepRow_133 : decode cX0_keepRow 133 = .ok (.aaload, 1) := by decide +kernel
theorem dX0_keepRow_134 : decode cX0_keepRow 134 = .ok (.aload_n 0, 1) := by decide +kernel
theorem dX0_keepRow_135 : decode cX0_keepRow 135 = .ok (.getfield 455, 3) := by decide +kernel
theorem dX0_keepRow_138 : decode cX0_keepRow 138 = .ok (.iload 6, 2) := by decide +kernel
theorem dX0_keepRow_140 : decode cX0_keepRow 140 = .ok (.aaload, 1) := by decide +kernel
theorem dX0_keepRow_141 : decode cX0_keepRow 141 = .ok (.invokevirtual 686, 3) := by decide +kernel
theorem dX0_keepRow_144 : decode cX0_keepRow 144 = .ok (.iinc 6 1, 3) := by decide +kernel
theorem dX0_keepRow_147 : decode cX0_keepRow 147 = .ok (.goto (-30), 3) := by decide +kernel
theorem dX0_keepRow_150 : decode cX0_keepRow 150 = .ok (.aload 5, 2) := by decide +kernel
theorem dX0_keepRow_152 : decode cX0_keepRow 152 = .ok (.iload_n 3, 1) := by decide +kernel
theorem dX0_keepRow_153 : decode cX0_keepRow 153 = .ok (.putfield 582, 3) := by decide +kernel
theorem dX0_keepRow_156 : decode cX0_keepRow 156 = .ok (.aload 5, 2) := by decide +kernel
theorem dX0_keepRow_158 : decode cX0_keepRow 158 = .ok (.iconst 0, 1) := by decide +kernel
theorem dX0_keepRow_159 : decode cX0_keepRow 159 = .ok (.putfield 794, 3) := by decide +kernel
theorem dX0_keepRow_162 : decode cX0_keepRow 162 = .ok (.aload 5, 2) := by decide +kernel
theorem dX0_keepRow_164 : decode cX0_keepRow 164 = .ok (.iconst 0, 1) := by decide +kernel
theorem dX0_keepRow_165 : decode cX0_keepRow 165 = .ok (.putfield 797, 3) := by decide +kernel
theorem dX0_keepRow_168 : decode cX0_keepRow 168 = .ok (.aload_n 0, 1) := by decide +kernel
theorem dX0_keepRow_169 : decode cX0_keepRow 169 = .ok (.getfield 787, 3) := by decide +kernel
theorem dX0_keepRow_172 : decode cX0_keepRow 172 = .ok (.ireturn, 1) := by decide +kernel
theorem dX0_needsOf_0 : decode cX0_needsOf 0 = .ok (.iload_n 1, 1) := by decide +kernel
theorem dX0_needsOf_1 : decode cX0_needsOf 1 = .ok (.istore_n 2, 1) := by decide +kernel
theorem dX0_needsOf_2 : decode cX0_needsOf 2 = .ok (.iconst 0, 1) := by decide +kernel
theorem dX0_needsOf_3 : decode cX0_needsOf 3 = .ok (.istore_n 3, 1) := by decide +kernel
theorem dX0_needsOf_4 : decode cX0_needsOf 4 = .ok (.iload_n 3, 1) := by decide +kernel
theorem dX0_needsOf_5 : decode cX0_needsOf 5 = .ok (.sipush 300, 3) := by decide +kernel
theorem dX0_needsOf_8 : decode cX0_needsOf 8 = .ok (.if_icmp .gt 29, 3) := by decide +kernel
theorem dX0_needsOf_11 : decode cX0_needsOf 11 = .ok (.aload_n 0, 1) := by decide +kernel
theorem dX0_needsOf_12 : decode cX0_needsOf 12 = .ok (.iload_n 1, 1) := by decide +kernel
theorem dX0_needsOf_13 : decode cX0_needsOf 13 = .ok (.aaload, 1) := by decide +kernel
theorem dX0_needsOf_14 : decode cX0_needsOf 14 = .ok (.iload_n 3, 1) := by decide +kernel
theorem dX0_needsOf_15 : decode cX0_needsOf 15 = .ok (.invokevirtual 765, 3) := by decide +kernel
theorem dX0_needsOf_18 : decode cX0_needsOf 18 = .ok (.ifCond .ne 11, 3) := by decide +kernel
theorem dX0_needsOf_21 : decode cX0_needsOf 21 = .ok (.iload_n 1, 1) := by decide +kernel
theorem dX0_needsOf_22 : decode cX0_needsOf 22 = .ok (.iconst 1, 1) := by decide +kernel
theorem dX0_needsOf_23 : decode cX0_needsOf 23 = .ok (.iadd, 1) := by decide +kernel
theorem dX0_needsOf_24 : decode cX0_needsOf 24 = .ok (.iload_n 3, 1) := by decide +kernel
theorem dX0_needsOf_25 : decode cX0_needsOf 25 = .ok (.iadd, 1) := by decide +kernel
theorem dX0_needsOf_26 : decode cX0_needsOf 26 = .ok (.goto 4, 3) := by decide +kernel
theorem dX0_needsOf_29 : decode cX0_needsOf 29 = .ok (.iload_n 2, 1) := by decide +kernel
theorem dX0_needsOf_30 : decode cX0_needsOf 30 = .ok (.istore_n 2, 1) := by decide +kernel
theorem dX0_needsOf_31 : decode cX0_needsOf 31 = .ok (.iinc 3 1, 3) := by decide +kernel
theorem dX0_needsOf_34 : decode cX0_needsOf 34 = .ok (.goto (-30), 3) := by decide +kernel
theorem dX0_needsOf_37 : decode cX0_needsOf 37 = .ok (.iload_n 2, 1) := by decide +kernel
theorem dX0_needsOf_38 : decode cX0_needsOf 38 = .ok (.ireturn, 1) := by decide +kernel
theorem dX0_first_0 : decode cX0_first 0 = .ok (.iload_n 1, 1) := by decide +kernel
theorem dX0_first_1 : decode cX0_first 1 = .ok (.invokestatic 519, 3) := by decide +kernel
theorem dX0_first_4 : decode cX0_first 4 = .ok (.ifCond .ne 5, 3) := by decide +kernel
theorem dX0_first_7 : decode cX0_first 7 = .ok (.iconst (-1), 1) := by decide +kernel
theorem dX0_first_8 : decode cX0_first 8 = .ok (.ireturn, 1) := by decide +kernel
theorem dX0_first_9 : decode cX0_first 9 = .ok (.aload_n 0, 1) := by decide +kernel
theorem dX0_first_10 : decode cX0_first 10 = .ok (.getfield 326, 3) := by decide +kernel
theorem dX0_first_13 : decode cX0_first 13 = .ok (.iload_n 1, 1) := by decide +kernel
theorem dX0_first_14 : decode cX0_first 14 = .ok (.aaload, 1) := by decide +kernel
theorem dX0_first_15 : decode cX0_first 15 = .ok (.astore_n 3, 1) := by decide +kernel
theorem dX0_first_16 : decode cX0_first 16 = .ok (.aload_n 3, 1) := by decide +kernel
theorem dX0_first_17 : decode cX0_first 17 = .ok (.getfield 509, 3) := by decide +kernel
theorem dX0_first_20 : decode cX0_first 20 = .ok (.iconst 4, 1) := by decide +kernel
theorem dX0_first_21 : decode cX0_first 21 = .ok (.if_icmp .eq 6, 3) := by decide +kernel
theorem dX0_first_24 : decode cX0_first 24 = .ok (.bipush (-3), 2) := by decide +kernel
theorem dX0_first_26 : decode cX0_first 26 = .ok (.ireturn, 1) := by decide +kernel
theorem dX0_first_27 : decode cX0_first 27 = .ok (.aload_n 3, 1) := by decide +kernel
theorem dX0_first_28 : decode cX0_first 28 = .ok (.getfield 794, 3) := by decide +kernel
theorem dX0_first_31 : decode cX0_first 31 = .ok (.aload_n 3, 1) := by decide +kernel
theorem dX0_first_32 : decode cX0_first 32 = .ok (.getfield 582, 3) := by decide +kernel
theorem dX0_first_35 : decode cX0_first 35 = .ok (.if_icmp .ne 5, 3) := by decide +kernel
theorem dX0_first_38 : decode cX0_first 38 = .ok (.iconst (-1), 1) := by decide +kernel
theorem dX0_first_39 : decode cX0_first 39 = .ok (.ireturn, 1) := by decide +kernel
theorem dX0_first_40 : decode cX0_first 40 = .ok (.aload_n 3, 1) := by decide +kernel
theorem dX0_first_41 : decode cX0_first 41 = .ok (.getfield 807, 3) := by decide +kernel
theorem dX0_first_44 : decode cX0_first 44 = .ok (.aload_n 3, 1) := by decide +kernel
theorem dX0_first_45 : decode cX0_first 45 = .ok (.dup, 1) := by decide +kernel
theorem dX0_first_46 : decode cX0_first 46 = .ok (.getfield 794, 3) := by decide +kernel
theorem dX0_first_49 : decode cX0_first 49 = .ok (.dup_x1, 1) := by decide +kernel
theorem dX0_first_50 : decode cX0_first 50 = .ok (.iconst 1, 1) := by decide +kernel
theorem dX0_first_51 : decode cX0_first 51 = .ok (.iadd, 1) := by decide +kernel
theorem dX0_first_52 : decode cX0_first 52 = .ok (.putfield 794, 3) := by decide +kernel
theorem dX0_first_55 : decode cX0_first 55 = .ok (.iload_n 2, 1) := by decide +kernel
theorem dX0_first_56 : decode cX0_first 56 = .ok (.invokestatic 543, 3) := by decide +kernel
theorem dX0_first_59 : decode cX0_first 59 = .ok (.iastore, 1) := by decide +kernel
theorem dX0_first_60 : decode cX0_first 60 = .ok (.aload_n 3, 1) := by decide +kernel
theorem dX0_first_61 : decode cX0_first 61 = .ok (.aload_n 3, 1) := by decide +kernel
theorem dX0_first_62 : decode cX0_first 62 = .ok (.getfield 794, 3) := by decide +kernel
theorem dX0_first_65 : decode cX0_first 65 = .ok (.putfield 797, 3) := by decide +kernel
theorem dX0_first_68 : decode cX0_first 68 = .ok (.aload_n 3, 1) := by decide +kernel
theorem dX0_first_69 : decode cX0_first 69 = .ok (.getfield 794, 3) := by decide +kernel
theorem dX0_first_72 : decode cX0_first 72 = .ok (.ireturn, 1) := by decide +kernel
theorem dX0_at_0 : decode cX0_at 0 = .ok (.iload_n 1, 1) := by decide +kernel
theorem dX0_at_1 : decode cX0_at 1 = .ok (.invokestatic 519, 3) := by decide +kernel
theorem dX0_at_4 : decode cX0_at 4 = .ok (.ifCond .ne 5, 3) := by decide +kernel
theorem dX0_at_7 : decode cX0_at 7 = .ok (.iconst (-1), 1) := by decide +kernel
theorem dX0_at_8 : decode cX0_at 8 = .ok (.ireturn, 1) := by decide +kernel
theorem dX0_at_9 : decode cX0_at 9 = .ok (.aload_n 0, 1) := by decide +kernel
theorem dX0_at_10 : decode cX0_at 10 = .ok (.getfield 326, 3) := by decide +kernel
theorem dX0_at_13 : decode cX0_at 13 = .ok (.iload_n 1, 1) := by decide +kernel
theorem dX0_at_14 : decode cX0_at 14 = .ok (.aaload, 1) := by decide +kernel
theorem dX0_at_15 : decode cX0_at 15 = .ok (.astore_n 3, 1) := by decide +kernel
theorem dX0_at_16 : decode cX0_at 16 = .ok (.aload_n 3, 1) := by decide +kernel
theorem dX0_at_17 : decode cX0_at 17 = .ok (.getfield 509, 3) := by decide +kernel
theorem dX0_at_20 : decode cX0_at 20 = .ok (.iconst 4, 1) := by decide +kernel
theorem dX0_at_21 : decode cX0_at 21 = .ok (.if_icmp .eq 6, 3) := by decide +kernel
theorem dX0_at_24 : decode cX0_at 24 = .ok (.bipush (-3), 2) := by decide +kernel
theorem dX0_at_26 : decode cX0_at 26 = .ok (.ireturn, 1) := by decide +kernel
theorem dX0_at_27 : decode cX0_at 27 = .ok (.aload_n 3, 1) := by decide +kernel
theorem dX0_at_28 : decode cX0_at 28 = .ok (.invokestatic 810, 3) := by decide +kernel
theorem dX0_at_31 : decode cX0_at 31 = .ok (.ifCond .eq 23, 3) := by decide +kernel
theorem dX0_at_34 : decode cX0_at 34 = .ok (.iload_n 2, 1) := by decide +kernel
theorem dX0_at_35 : decode cX0_at 35 = .ok (.iconst 0, 1) := by decide +kernel
theorem dX0_at_36 : decode cX0_at 36 = .ok (.sipush 300, 3) := by decide +kernel
theorem dX0_at_39 : decode cX0_at 39 = .ok (.invokestatic 173, 3) := by decide +kernel
theorem dX0_at_42 : decode cX0_at 42 = .ok (.ifCond .eq 12, 3) := by decide +kernel
theorem dX0_at_45 : decode cX0_at 45 = .ok (.aload_n 0, 1) := by decide +kernel
theorem dX0_at_46 : decode cX0_at 46 = .ok (.aload_n 3, 1) := by decide +kernel
theorem dX0_at_47 : decode cX0_at 47 = .ok (.iload_n 2, 1) := by decide +kernel
theorem dX0_at_48 : decode cX0_at 48 = .ok (.invokevirtual 814, 3) := by decide +kernel
theorem dX0_at_51 : decode cX0_at 51 = .ok (.goto 4, 3) := by decide +kernel
theorem dX0_at_54 : decode cX0_at 54 = .ok (.iconst (-1), 1) := by decide +kernel
theorem dX0_at_55 : decode cX0_at 55 = .ok (.ireturn, 1) := by decide +kernel
theorem dX0_isWhole_0 : decode cX0_isWhole 0 = .ok (.aload_n 0, 1) := by decide +kernel
theorem dX0_isWhole_1 : decode cX0_isWhole 1 = .ok (.getfield 509, 3) := by decide +kernel
theorem dX0_isWhole_4 : decode cX0_isWhole 4 = .ok (.iconst 4, 1) := by decide +kernel
theorem dX0_isWhole_5 : decode cX0_isWhole 5 = .ok (.if_icmp .ne 18, 3) := by decide +kernel
theorem dX0_isWhole_8 : decode cX0_isWhole 8 = .ok (.aload_n 0, 1) := by decide +kernel
theorem dX0_isWhole_9 : decode cX0_isWhole 9 = .ok (.getfield 794, 3) := by decide +kernel
theorem dX0_isWhole_12 : decode cX0_isWhole 12 = .ok (.aload_n 0, 1) := by decide +kernel
theorem dX0_isWhole_13 : decode cX0_isWhole 13 = .ok (.getfield 582, 3) := by decide +kernel
theorem dX0_isWhole_16 : decode cX0_isWhole 16 = .ok (.if_icmp .ne 7, 3) := by decide +kernel
theorem dX0_isWhole_19 : decode cX0_isWhole 19 = .ok (.iconst 1, 1) := by decide +kernel
theorem dX0_isWhole_20 : decode cX0_isWhole 20 = .ok (.goto 4, 3) := by decide +kernel
theorem dX0_isWhole_23 : decode cX0_isWhole 23 = .ok (.iconst 0, 1) := by decide +kernel
theorem dX0_isWhole_24 : decode cX0_isWhole 24 = .ok (.ireturn, 1) := by decide +kernel
theorem dX0_numberAt_0 : decode cX0_numberAt 0 = .ok (.aload_n 1, 1) := by decide +kernel
theorem dX0_numberAt_1 : decode cX0_numberAt 1 = .ok (.getfield 797, 3) := by decide +kernel
theorem dX0_numberAt_4 : decode cX0_numberAt 4 = .ok (.iload_n 2, 1) := by decide +kernel
theorem dX0_numberAt_5 : decode cX0_numberAt 5 = .ok (.if_icmp .gt 111, 3) := by decide +kernel
theorem dX0_numberAt_8 : decode cX0_numberAt 8 = .ok (.aload_n 1, 1) := by decide +kernel
theorem dX0_numberAt_9 : decode cX0_numberAt 9 = .ok (.getfield 797, 3) := by decide +kernel
theorem dX0_numberAt_12 : decode cX0_numberAt 12 = .ok (.aload_n 1, 1) := by decide +kernel
theorem dX0_numberAt_13 : decode cX0_numberAt 13 = .ok (.getfield 575, 3) := by decide +kernel
theorem dX0_numberAt_16 : decode cX0_numberAt 16 = .ok (.isub, 1) := by decide +kernel
theorem dX0_numberAt_17 : decode cX0_numberAt 17 = .ok (.istore_n 3, 1) := by decide +kernel
theorem dX0_numberAt_18 : decode cX0_numberAt 18 = .ok (.iconst 0, 1) := by decide +kernel
theorem dX0_numberAt_19 : decode cX0_numberAt 19 = .ok (.istore 4, 2) := by decide +kernel
theorem dX0_numberAt_21 : decode cX0_numberAt 21 = .ok (.iconst 0, 1) := by decide +kernel
theorem dX0_numberAt_22 : decode cX0_numberAt 22 = .ok (.istore 5, 2) := by decide +kernel
theorem dX0_numberAt_24 : decode cX0_numberAt 24 = .ok (.iload 5, 2) := by decide +kernel
theorem dX0_numberAt_26 : decode cX0_numberAt 26 = .ok (.aload_n 1, 1) := by decide +kernel
theorem dX0_numberAt_27 : decode cX0_numberAt 27 = .ok (.getfield 575, 3) := by decide +kernel
theorem dX0_numberAt_30 : decode cX0_numberAt 30 = .ok (.if_icmp .ge 39, 3) := by decide +kernel
theorem dX0_numberAt_33 : decode cX0_numberAt 33 = .ok (.iload 4, 2) := by decide +kernel
theorem dX0_numberAt_35 : decode cX0_numberAt 35 = .ok (.aload_n 1, 1) := by decide +kernel
theorem dX0_numberAt_36 : decode cX0_numberAt 36 = .ok (.getfield 578, 3) := by decide +kernel
theorem dX0_numberAt_39 : decode cX0_numberAt 39 = .ok (.iload 5, 2) := by decide +kernel
theorem dX0_numberAt_41 : decode cX0_numberAt 41 = .ok (.aaload, 1) := by decide +kernel
theorem dX0_numberAt_42 : decode cX0_numberAt 42 = .ok (.iload_n 3, 1) := by decide +kernel
theorem dX0_numberAt_43 : decode cX0_numberAt 43 = .ok (.invokevirtual 765, 3) := by decide +kernel
theorem dX0_numberAt_46 : decode cX0_numberAt 46 = .ok (.aload_n 1, 1) := by decide +kernel
theorem dX0_numberAt_47 : decode cX0_numberAt 47 = .ok (.getfield 807, 3) := by decide +kernel
theorem dX0_numberAt_50 : decode cX0_numberAt 50 = .ok (.iload_n 3, 1) := by decide +kernel
theorem dX0_numberAt_51 : decode cX0_numberAt 51 = .ok (.iload 5, 2) := by decide +kernel
theorem dX0_numberAt_53 : decode cX0_numberAt 53 = .ok (.iadd, 1) := by decide +kernel
theorem dX0_numberAt_54 : decode cX0_numberAt 54 = .ok (.iaload, 1) := by decide +kernel
theorem dX0_numberAt_55 : decode cX0_numberAt 55 = .ok (.invokestatic 6, 3) := by decide +kernel
theorem dX0_numberAt_58 : decode cX0_numberAt 58 = .ok (.invokestatic 598, 3) := by decide +kernel
theorem dX0_numberAt_61 : decode cX0_numberAt 61 = .ok (.istore 4, 2) := by decide +kernel
theorem dX0_numberAt_63 : decode cX0_numberAt 63 = .ok (.iinc 5 1, 3) := by decide +kernel
theorem dX0_numberAt_66 : decode cX0_numberAt 66 = .ok (.goto (-42), 3) := by decide +kernel
theorem dX0_numberAt_69 : decode cX0_numberAt 69 = .ok (.aload_n 1, 1) := by decide +kernel
theorem dX0_numberAt_70 : decode cX0_numberAt 70 = .ok (.getfield 807, 3) := by decide +kernel
theorem dX0_numberAt_73 : decode cX0_numberAt 73 = .ok (.aload_n 1, 1) := by decide +kernel
theorem dX0_numberAt_74 : decode cX0_numberAt 74 = .ok (.getfield 797, 3) := by decide +kernel
theorem dX0_numberAt_77 : decode cX0_numberAt 77 = .ok (.iconst 0, 1) := by decide +kernel
theorem dX0_numberAt_78 : decode cX0_numberAt 78 = .ok (.iload 4, 2) := by decide +kernel
theorem dX0_numberAt_80 : decode cX0_numberAt 80 = .ok (.aload_n 1, 1) := by decide +kernel
theorem dX0_numberAt_81 : decode cX0_numberAt 81 = .ok (.getfield 578, 3) := by decide +kernel
theorem dX0_numberAt_84 : decode cX0_numberAt 84 = .ok (.aload_n 1, 1) := by decide +kernel
theorem dX0_numberAt_85 : decode cX0_numberAt 85 = .ok (.getfield 575, 3) := by decide +kernel
theorem dX0_numberAt_88 : decode cX0_numberAt 88 = .ok (.aaload, 1) := by decide +kernel
theorem dX0_numberAt_89 : decode cX0_numberAt 89 = .ok (.iload_n 3, 1) := by decide +kernel
theorem dX0_numberAt_90 : decode cX0_numberAt 90 = .ok (.invokevirtual 765, 3) := by decide +kernel
theorem dX0_numberAt_93 : decode cX0_numberAt 93 = .ok (.invokestatic 74, 3) := by decide +kernel
theorem dX0_numberAt_96 : decode cX0_numberAt 96 = .ok (.invokestatic 6, 3) := by decide +kernel
theorem dX0_numberAt_99 : decode cX0_numberAt 99 = .ok (.invokestatic 784, 3) := by decide +kernel
theorem dX0_numberAt_102 : decode cX0_numberAt 102 = .ok (.iastore, 1) := by decide +kernel
theorem dX0_numberAt_103 : decode cX0_numberAt 103 = .ok (.aload_n 1, 1) := by decide +kernel
theorem dX0_numberAt_104 : decode cX0_numberAt 104 = .ok (.dup, 1) := by decide +kernel
theorem dX0_numberAt_105 : decode cX0_numberAt 105 = .ok (.getfield 797, 3) := by decide +kernel
theorem dX0_numberAt_108 : decode cX0_numberAt 108 = .ok (.iconst 1, 1) := by decide +kernel
theorem dX0_numberAt_109 : decode cX0_numberAt 109 = .ok (.iadd, 1) := by decide +kernel
theorem dX0_numberAt_110 : decode cX0_numberAt 110 = .ok (.putfield 797, 3) := by decide +kernel
theorem dX0_numberAt_113 : decode cX0_numberAt 113 = .ok (.goto (-113), 3) := by decide +kernel
theorem dX0_numberAt_116 : decode cX0_numberAt 116 = .ok (.aload_n 1, 1) := by decide +kernel
theorem dX0_numberAt_117 : decode cX0_numberAt 117 = .ok (.getfield 807, 3) := by decide +kernel
theorem dX0_numberAt_120 : decode cX0_numberAt 120 = .ok (.iload_n 2, 1) := by decide +kernel
theorem dX0_numberAt_121 : decode cX0_numberAt 121 = .ok (.iaload, 1) := by decide +kernel
theorem dX0_numberAt_122 : decode cX0_numberAt 122 = .ok (.ireturn, 1) := by decide +kernel
theorem dX0_join_0 : decode cX0_join 0 = .ok (.iload_n 1, 1) := by decide +kernel
theorem dX0_join_1 : decode cX0_join 1 = .ok (.iconst 0, 1) := by decide +kernel
theorem dX0_join_2 : decode cX0_join 2 = .ok (.iconst 2, 1) := by decide +kernel
theorem dX0_join_3 : decode cX0_join 3 = .ok (.invokestatic 173, 3) := by decide +kernel
theorem dX0_join_6 : decode cX0_join 6 = .ok (.ifCond .ne 8, 3) := by decide +kernel
theorem dX0_join_9 : decode cX0_join 9 = .ok (.iload_n 1, 1) := by decide +kernel
theorem dX0_join_10 : decode cX0_join 10 = .ok (.iconst 5, 1) := by decide +kernel
theorem dX0_join_11 : decode cX0_join 11 = .ok (.if_icmp .ne 7, 3) := by decide +kernel
theorem dX0_join_14 : decode cX0_join 14 = .ok (.iconst 1, 1) := by decide +kernel
theorem dX0_join_15 : decode cX0_join 15 = .ok (.goto 4, 3) := by decide +kernel
theorem dX0_join_18 : decode cX0_join 18 = .ok (.iconst 0, 1) := by decide +kernel
theorem dX0_join_19 : decode cX0_join 19 = .ok (.istore 5, 2) := by decide +kernel
theorem dX0_join_21 : decode cX0_join 21 = .ok (.iload_n 2, 1) := by decide +kernel
theorem dX0_join_22 : decode cX0_join 22 = .ok (.invokestatic 519, 3) := by decide +kernel
theorem dX0_join_25 : decode cX0_join 25 = .ok (.ifCond .eq 23, 3) := by decide +kernel
theorem dX0_join_28 : decode cX0_join 28 = .ok (.iload 5, 2) := by decide +kernel
theorem dX0_join_30 : decode cX0_join 30 = .ok (.ifCond .eq 10, 3) := by decide +kernel
theorem dX0_join_33 : decode cX0_join 33 = .ok (.iload_n 3, 1) := by decide +kernel
theorem dX0_join_34 : decode cX0_join 34 = .ok (.invokestatic 519, 3) := by decide +kernel
theorem dX0_join_37 : decode cX0_join 37 = .ok (.ifCond .eq 11, 3) := by decide +kernel
theorem dX0_join_40 : decode cX0_join 40 = .ok (.iload 4, 2) := by decide +kernel
theorem dX0_join_42 : decode cX0_join 42 = .ok (.invokestatic 519, 3) := by decide +kernel
theorem dX0_join_45 : decode cX0_join 45 = .ok (.ifCond .ne 5, 3) := by decide +kernel
theorem dX0_join_48 : decode cX0_join 48 = .ok (.iconst (-1), 1) := by decide +kernel
theorem dX0_join_49 : decode cX0_join 49 = .ok (.ireturn, 1) := by decide +kernel
theorem dX0_join_50 : decode cX0_join 50 = .ok (.aload_n 0, 1) := by decide +kernel
theorem dX0_join_51 : decode cX0_join 51 = .ok (.getfield 326, 3) := by decide +kernel
theorem dX0_join_54 : decode cX0_join 54 = .ok (.iload_n 2, 1) := by decide +kernel
theorem dX0_join_55 : decode cX0_join 55 = .ok (.aaload, 1) := by decide +kernel
theorem dX0_join_56 : decode cX0_join 56 = .ok (.astore 6, 2) := by decide +kernel
theorem dX0_join_58 : decode cX0_join 58 = .ok (.iload 5, 2) := by decide +kernel
theorem dX0_join_60 : decode cX0_join 60 = .ok (.ifCond .eq 12, 3) := by decide +kernel
theorem dX0_join_63 : decode cX0_join 63 = .ok (.aload_n 0, 1) := by decide +kernel
theorem dX0_join_64 : decode cX0_join 64 = .ok (.getfield 326, 3) := by decide +kernel
theorem dX0_join_67 : decode cX0_join 67 = .ok (.iload_n 3, 1) := by decide +kernel
theorem dX0_join_68 : decode cX0_join 68 = .ok (.aaload, 1) := by decide +kernel
theorem dX0_join_69 : decode cX0_join 69 = .ok (.goto 5, 3) := by decide +kernel
theorem dX0_join_72 : decode cX0_join 72 = .ok (.aload 6, 2) := by decide +kernel
theorem dX0_join_74 : decode cX0_join 74 = .ok (.astore 7, 2) := by decide +kernel
theorem dX0_join_76 : decode cX0_join 76 = .ok (.aload 6, 2) := by decide +kernel
theorem dX0_join_78 : decode cX0_join 78 = .ok (.getfield 509, 3) := by decide +kernel
theorem dX0_join_81 : decode cX0_join 81 = .ok (.iconst 4, 1) := by decide +kernel
theorem dX0_join_82 : decode cX0_join 82 = .ok (.if_icmp .ne 31, 3) := by decide +kernel
theorem dX0_join_85 : decode cX0_join 85 = .ok (.iload_n 1, 1) := by decide +kernel
theorem dX0_join_86 : decode cX0_join 86 = .ok (.iconst 5, 1) := by decide +kernel
theorem dX0_join_87 : decode cX0_join 87 = .ok (.if_icmp .eq 12, 3) := by decide +kernel
theorem dX0_join_90 : decode cX0_join 90 = .ok (.aload 7, 2) := by decide +kernel
theorem dX0_join_92 : decode cX0_join 92 = .ok (.getfield 509, 3) := by decide +kernel
theorem dX0_join_95 : decode cX0_join 95 = .ok (.iconst 4, 1) := by decide +kernel
theorem dX0_join_96 : decode cX0_join 96 = .ok (.if_icmp .ne 17, 3) := by decide +kernel
theorem dX0_join_99 : decode cX0_join 99 = .ok (.iload_n 1, 1) := by decide +kernel
theorem dX0_join_100 : decode cX0_join 100 = .ok (.iconst 5, 1) := by decide +kernel
theorem dX0_join_101 : decode cX0_join 101 = .ok (.if_icmp .ne 15, 3) := by decide +kernel
theorem dX0_join_104 : decode cX0_join 104 = .ok (.aload_n 0, 1) := by decide +kernel
theorem dX0_join_105 : decode cX0_join 105 = .ok (.aload 7, 2) := by decide +kernel
theorem dX0_join_107 : decode cX0_join 107 = .ok (.invokevirtual 829, 3) := by decide +kernel
theorem dX0_join_110 : decode cX0_join 110 = .ok (.ifCond .ne 6, 3) := by decide +kernel
theorem dX0_join_113 : decode cX0_join 113 = .ok (.bipush (-3), 2) := by decide +kernel
theorem dX0_join_115 : decode cX0_join 115 = .ok (.ireturn, 1) := by decide +kernel
theorem dX0_join_116 : decode cX0_join 116 = .ok (.iload_n 1, 1) := by decide +kernel
theorem dX0_join_117 : decode cX0_join 117 = .ok (.iconst 0, 1) := by decide +kernel
theorem dX0_join_118 : decode cX0_join 118 = .ok (.iconst 5, 1) := by decide +kernel
theorem dX0_join_119 : decode cX0_join 119 = .ok (.invokestatic 173, 3) := by decide +kernel
theorem dX0_join_122 : decode cX0_join 122 = .ok (.ifCond .eq 24, 3) := by decide +kernel
theorem dX0_join_125 : decode cX0_join 125 = .ok (.aload 6, 2) := by decide +kernel
theorem dX0_join_127 : decode cX0_join 127 = .ok (.invokestatic 810, 3) := by decide +kernel
theorem dX0_join_130 : decode cX0_join 130 = .ok (.ifCond .eq 16, 3) := by decide +kernel
theorem dX0_join_133 : decode cX0_join 133 = .ok (.iload_n 1, 1) := by decide +kernel
theorem dX0_join_134 : decode cX0_join 134 = .ok (.iconst 5, 1) := by decide +kernel
theorem dX0_join_135 : decode cX0_join 135 = .ok (.if_icmp .eq 13, 3) := by decide +kernel
theorem dX0_join_138 : decode cX0_join 138 = .ok (.aload 7, 2) := by decide +kernel
theorem dX0_join_140 : decode cX0_join 140 = .ok (.invokestatic 810, 3) := by decide +kernel
theorem dX0_join_143 : decode cX0_join 143 = .ok (.ifCond .ne 5, 3) := by decide +kernel
theorem dX0_join_146 : decode cX0_join 146 = .ok (.iconst (-1), 1) := by decide +kernel
theorem dX0_join_147 : decode cX0_join 147 = .ok (.ireturn, 1) := by decide +kernel
theorem dX0_join_148 : decode cX0_join 148 = .ok (.aload 6, 2) := by decide +kernel
theorem dX0_join_150 : decode cX0_join 150 = .ok (.getfield 582, 3) := by decide +kernel
theorem dX0_join_153 : decode cX0_join 153 = .ok (.istore 8, 2) := by decide +kernel
theorem dX0_join_155 : decode cX0_join 155 = .ok (.aload_n 0, 1) := by decide +kernel
theorem dX0_join_156 : decode cX0_join 156 = .ok (.getfield 476, 3) := by decide +kernel
theorem dX0_join_159 : decode cX0_join 159 = .ok (.invokevirtual 709, 3) := by decide +kernel
theorem dX0_join_162 : decode cX0_join 162 = .ok (.iload_n 1, 1) := by decide +kernel
theorem dX0_join_163 : decode cX0_join 163 = .ok (.iconst 5, 1) := by decide +kernel
theorem dX0_join_164 : decode cX0_join 164 = .ok (.if_icmp .ne 25, 3) := by decide +kernel
theorem dX0_join_167 : decode cX0_join 167 = .ok (.aload 7, 2) := by decide +kernel
theorem dX0_join_169 : decode cX0_join 169 = .ok (.getfield 512, 3) := by decide +kernel
theorem dX0_join_172 : decode cX0_join 172 = .ok (.getfield 110, 3) := by decide +kernel
theorem dX0_join_175 : decode cX0_join 175 = .ok (.getfield 89, 3) := by decide +kernel
theorem dX0_join_178 : decode cX0_join 178 = .ok (.iconst 0, 1) := by decide +kernel
theorem dX0_join_179 : decode cX0_join 179 = .ok (.aload_n 0, 1) := by decide +kernel
theorem dX0_join_180 : decode cX0_join 180 = .ok (.getfield 476, 3) := by decide +kernel
theorem dX0_join_183 : decode cX0_join 183 = .ok (.invokevirtual 661, 3) := by decide +kernel
theorem dX0_join_186 : decode cX0_join 186 = .ok (.goto 15, 3) := by decide +kernel
theorem dX0_join_189 : decode cX0_join 189 = .ok (.iload 8, 2) := by decide +kernel
theorem dX0_join_191 : decode cX0_join 191 = .ok (.aload 7, 2) := by decide +kernel
theorem dX0_join_193 : decode cX0_join 193 = .ok (.getfield 582, 3) := by decide +kernel
theorem dX0_join_196 : decode cX0_join 196 = .ok (.invokestatic 679, 3) := by decide +kernel
theorem dX0_join_199 : decode cX0_join 199 = .ok (.istore 8, 2) := by decide +kernel
theorem dX0_join_201 : decode cX0_join 201 = .ok (.iload_n 1, 1) := by decide +kernel
theorem dX0_join_202 : decode cX0_join 202 = .ok (.iconst 3, 1) := by decide +kernel
theorem dX0_join_203 : decode cX0_join 203 = .ok (.if_icmp .eq 8, 3) := by decide +kernel
theorem dX0_join_206 : decode cX0_join 206 = .ok (.iload_n 1, 1) := by decide +kernel
theorem dX0_join_207 : decode cX0_join 207 = .ok (.iconst 4, 1) := by decide +kernel
theorem dX0_join_208 : decode cX0_join 208 = .ok (.if_icmp .ne 22, 3) := by decide +kernel
theorem dX0_join_211 : decode cX0_join 211 = .ok (.aload_n 0, 1) := by decide +kernel
theorem dX0_join_212 : decode cX0_join 212 = .ok (.aload 6, 2) := by decide +kernel
theorem dX0_join_214 : decode cX0_join 214 = .ok (.iload_n 1, 1) := by decide +kernel
theorem dX0_join_215 : decode cX0_join 215 = .ok (.iconst 3, 1) := by decide +kernel
theorem dX0_join_216 : decode cX0_join 216 = .ok (.if_icmp .ne 7, 3) := by decide +kernel
theorem dX0_join_219 : decode cX0_join 219 = .ok (.iconst 1, 1) := by decide +kernel
theorem dX0_join_220 : decode cX0_join 220 = .ok (.goto 4, 3) := by decide +kernel
theorem dX0_join_223 : decode cX0_join 223 = .ok (.iconst 0, 1) := by decide +kernel
theorem dX0_join_224 : decode cX0_join 224 = .ok (.invokevirtual 832, 3) := by decide +kernel
theorem dX0_join_227 : decode cX0_join 227 = .ok (.goto 129, 3) := by decide +kernel
theorem dX0_join_230 : decode cX0_join 230 = .ok (.aload 6, 2) := by decide +kernel
theorem dX0_join_232 : decode cX0_join 232 = .ok (.invokestatic 836, 3) := by decide +kernel
theorem dX0_join_235 : decode cX0_join 235 = .ok (.ifCond .eq 35, 3) := by decide +kernel
theorem dX0_join_238 : decode cX0_join 238 = .ok (.iload_n 1, 1) := by decide +kernel
theorem dX0_join_239 : decode cX0_join 239 = .ok (.iconst 5, 1) := by decide +kernel
theorem dX0_join_240 : decode cX0_join 240 = .ok (.if_icmp .ne 18, 3) := by decide +kernel
theorem dX0_join_243 : decode cX0_join 243 = .ok (.aload_n 0, 1) := by decide +kernel
theorem dX0_join_244 : decode cX0_join 244 = .ok (.getfield 476, 3) := by decide +kernel
theorem dX0_join_247 : decode cX0_join 247 = .ok (.invokevirtual 826, 3) := by decide +kernel
theorem dX0_join_250 : decode cX0_join 250 = .ok (.bipush 6, 2) := by decide +kernel
theorem dX0_join_252 : decode cX0_join 252 = .ok (.if_icmp .gt 18, 3) := by decide +kernel
theorem dX0_join_255 : decode cX0_join 255 = .ok (.goto 11, 3) := by decide +kernel
theorem dX0_join_258 : decode cX0_join 258 = .ok (.aload 7, 2) := by decide +kernel
theorem dX0_join_260 : decode cX0_join 260 = .ok (.invokestatic 836, 3) := by decide +kernel
theorem dX0_join_263 : decode cX0_join 263 = .ok (.ifCond .eq 7, 3) := by decide +kernel
theorem dX0_join_266 : decode cX0_join 266 = .ok (.iconst 1, 1) := by decide +kernel
theorem dX0_join_267 : decode cX0_join 267 = .ok (.goto 4, 3) := by decide +kernel
theorem dX0_join_270 : decode cX0_join 270 = .ok (.iconst 0, 1) := by decide +kernel
theorem dX0_join_271 : decode cX0_join 271 = .ok (.istore 9, 2) := by decide +kernel
theorem dX0_join_273 : decode cX0_join 273 = .ok (.iload_n 1, 1) := by decide +kernel
theorem dX0_join_274 : decode cX0_join 274 = .ok (.iconst 5, 1) := by decide +kernel
theorem dX0_join_275 : decode cX0_join 275 = .ok (.if_icmp .ne 11, 3) := by decide +kernel
theorem dX0_join_278 : decode cX0_join 278 = .ok (.aload 6, 2) := by decide +kernel
theorem dX0_join_280 : decode cX0_join 280 = .ok (.getfield 575, 3) := by decide +kernel
theorem dX0_join_283 : decode cX0_join 283 = .ok (.goto 33, 3) := by decide +kernel
theorem dX0_join_286 : decode cX0_join 286 = .ok (.iload_n 1, 1) := by decide +kernel
theorem dX0_join_287 : decode cX0_join 287 = .ok (.iconst 2, 1) := by decide +kernel
theorem dX0_join_288 : decode cX0_join 288 = .ok (.if_icmp .ne 17, 3) := by decide +kernel
theorem dX0_join_291 : decode cX0_join 291 = .ok (.aload 6, 2) := by decide +kernel
theorem dX0_join_293 : decode cX0_join 293 = .ok (.getfield 575, 3) := by decide +kernel
theorem dX0_join_296 : decode cX0_join 296 = .ok (.aload 7, 2) := by decide +kernel
theorem dX0_join_298 : decode cX0_join 298 = .ok (.getfield 575, 3) := by decide +kernel
theorem dX0_join_301 : decode cX0_join 301 = .ok (.imul, 1) := by decide +kernel
theorem dX0_join_302 : decode cX0_join 302 = .ok (.goto 14, 3) := by decide +kernel
theorem dX0_join_305 : decode cX0_join 305 = .ok (.aload 6, 2) := by decide +kernel
theorem dX0_join_307 : decode cX0_join 307 = .ok (.getfield 575, 3) := by decide +kernel
theorem dX0_join_310 : decode cX0_join 310 = .ok (.aload 7, 2) := by decide +kernel
theorem dX0_join_312 : decode cX0_join 312 = .ok (.getfield 575, 3) := by decide +kernel
theorem dX0_join_315 : decode cX0_join 315 = .ok (.iadd, 1) := by decide +kernel
theorem dX0_join_316 : decode cX0_join 316 = .ok (.istore 10, 2) := by decide +kernel
theorem dX0_join_318 : decode cX0_join 318 = .ok (.iload 9, 2) := by decide +kernel
theorem dX0_join_320 : decode cX0_join 320 = .ok (.ifCond .eq 10, 3) := by decide +kernel
theorem dX0_join_323 : decode cX0_join 323 = .ok (.iload 10, 2) := by decide +kernel
theorem dX0_join_325 : decode cX0_join 325 = .ok (.bipush 6, 2) := by decide +kernel
theorem dX0_join_327 : decode cX0_join 327 = .ok (.if_icmp .le 6, 3) := by decide +kernel
theorem dX0_join_330 : decode cX0_join 330 = .ok (.bipush (-2), 2) := by decide +kernel
theorem dX0_join_332 : decode cX0_join 332 = .ok (.ireturn, 1) := by decide +kernel
theorem dX0_join_333 : decode cX0_join 333 = .ok (.aload_n 0, 1) := by decide +kernel
theorem dX0_join_334 : decode cX0_join 334 = .ok (.iload_n 1, 1) := by decide +kernel
theorem dX0_join_335 : decode cX0_join 335 = .ok (.aload 6, 2) := by decide +kernel
theorem dX0_join_337 : decode cX0_join 337 = .ok (.aload 7, 2) := by decide +kernel
theorem dX0_join_339 : decode cX0_join 339 = .ok (.aload_n 0, 1) := by decide +kernel
theorem dX0_join_340 : decode cX0_join 340 = .ok (.getfield 476, 3) := by decide +kernel
theorem dX0_join_343 : decode cX0_join 343 = .ok (.invokevirtual 839, 3) := by decide +kernel
theorem dX0_join_346 : decode cX0_join 346 = .ok (.aload_n 0, 1) := by decide +kernel
theorem dX0_join_347 : decode cX0_join 347 = .ok (.invokevirtual 843, 3) := by decide +kernel
theorem dX0_join_350 : decode cX0_join 350 = .ok (.ifCond .ne 6, 3) := by decide +kernel
theorem dX0_join_353 : decode cX0_join 353 = .ok (.bipush (-2), 2) := by decide +kernel
theorem dX0_join_355 : decode cX0_join 355 = .ok (.ireturn, 1) := by decide +kernel
theorem dX0_join_356 : decode cX0_join 356 = .ok (.aload_n 0, 1) := by decide +kernel
theorem dX0_join_357 : decode cX0_join 357 = .ok (.aload_n 0, 1) := by decide +kernel
theorem dX0_join_358 : decode cX0_join 358 = .ok (.getfield 455, 3) := by decide +kernel
theorem dX0_join_361 : decode cX0_join 361 = .ok (.aload_n 0, 1) := by decide +kernel
theorem dX0_join_362 : decode cX0_join 362 = .ok (.getfield 787, 3) := by decide +kernel
theorem dX0_join_365 : decode cX0_join 365 = .ok (.invokevirtual 800, 3) := by decide +kernel
theorem dX0_join_368 : decode cX0_join 368 = .ok (.aload_n 0, 1) := by decide +kernel
theorem dX0_join_369 : decode cX0_join 369 = .ok (.iload_n 1, 1) := by decide +kernel
theorem dX0_join_370 : decode cX0_join 370 = .ok (.aload 6, 2) := by decide +kernel
theorem dX0_join_372 : decode cX0_join 372 = .ok (.aload 7, 2) := by decide +kernel
theorem dX0_join_374 : decode cX0_join 374 = .ok (.iload 4, 2) := by decide +kernel
theorem dX0_join_376 : decode cX0_join 376 = .ok (.iload 8, 2) := by decide +kernel
theorem dX0_join_378 : decode cX0_join 378 = .ok (.aload_n 0, 1) := by decide +kernel
theorem dX0_join_379 : decode cX0_join 379 = .ok (.getfield 787, 3) := by decide +kernel
theorem dX0_join_382 : decode cX0_join 382 = .ok (.iadd, 1) := by decide +kernel
theorem dX0_join_383 : decode cX0_join 383 = .ok (.invokevirtual 846, 3) := by decide +kernel
theorem dX0_join_386 : decode cX0_join 386 = .ok (.ireturn, 1) := by decide +kernel
theorem dX0_isPolynomialInN_0 : decode cX0_isPolynomialInN 0 = .ok (.aload_n 1, 1) := by decide +kernel
theorem dX0_isPolynomialInN_1 : decode cX0_isPolynomialInN 1 = .ok (.getfield 512, 3) := by decide +kernel
theorem dX0_isPolynomialInN_4 : decode cX0_isPolynomialInN 4 = .ok (.getfield 110, 3) := by decide +kernel
theorem dX0_isPolynomialInN_7 : decode cX0_isPolynomialInN 7 = .ok (.astore_n 2, 1) := by decide +kernel
theorem dX0_isPolynomialInN_8 : decode cX0_isPolynomialInN 8 = .ok (.aload_n 1, 1) := by decide +kernel
theorem dX0_isPolynomialInN_9 : decode cX0_isPolynomialInN 9 = .ok (.getfield 509, 3) := by decide +kernel
theorem dX0_isPolynomialInN_12 : decode cX0_isPolynomialInN 12 = .ok (.iconst 1, 1) := by decide +kernel
theorem dX0_isPolynomialInN_13 : decode cX0_isPolynomialInN 13 = .ok (.if_icmp .ne 25, 3) := by decide +kernel
theorem dX0_isPolynomialInN_16 : decode cX0_isPolynomialInN 16 = .ok (.aload_n 2, 1) := by decide +kernel
theorem dX0_isPolynomialInN_17 : decode cX0_isPolynomialInN 17 = .ok (.invokevirtual 180, 3) := by decide +kernel
theorem dX0_isPolynomialInN_20 : decode cX0_isPolynomialInN 20 = .ok (.ifCond .eq 18, 3) := by decide +kernel
theorem dX0_isPolynomialInN_23 : decode cX0_isPolynomialInN 23 = .ok (.aload_n 2, 1) := by decide +kernel
theorem dX0_isPolynomialInN_24 : decode cX0_isPolynomialInN 24 = .ok (.getfield 89, 3) := by decide +kernel
theorem dX0_isPolynomialInN_27 : decode cX0_isPolynomialInN 27 = .ok (.getfield 28, 3) := by decide +kernel
theorem dX0_isPolynomialInN_30 : decode cX0_isPolynomialInN 30 = .ok (.iconst 1, 1) := by decide +kernel
theorem dX0_isPolynomialInN_31 : decode cX0_isPolynomialInN 31 = .ok (.if_icmp .ne 7, 3) := by decide +kernel
theorem dX0_isPolynomialInN_34 : decode cX0_isPolynomialInN 34 = .ok (.iconst 1, 1) := by decide +kernel
theorem dX0_isPolynomialInN_35 : decode cX0_isPolynomialInN 35 = .ok (.goto 4, 3) := by decide +kernel
theorem dX0_isPolynomialInN_38 : decode cX0_isPolynomialInN 38 = .ok (.iconst 0, 1) := by decide +kernel
theorem dX0_isPolynomialInN_39 : decode cX0_isPolynomialInN 39 = .ok (.ireturn, 1) := by decide +kernel
theorem dX0_findMoved_0 : decode cX0_findMoved 0 = .ok (.aload_n 0, 1) := by decide +kernel
theorem dX0_findMoved_1 : decode cX0_findMoved 1 = .ok (.aload_n 1, 1) := by decide +kernel
theorem dX0_findMoved_2 : decode cX0_findMoved 2 = .ok (.getfield 575, 3) := by decide +kernel
theorem dX0_findMoved_5 : decode cX0_findMoved 5 = .ok (.iload_n 2, 1) := by decide +kernel
theorem dX0_findMoved_6 : decode cX0_findMoved 6 = .ok (.ifCond .eq 7, 3) := by decide +kernel
theorem dX0_findMoved_9 : decode cX0_findMoved 9 = .ok (.iconst 1, 1) := by decide +kernel
theorem dX0_findMoved_10 : decode cX0_findMoved 10 = .ok (.goto 4, 3) := by decide +kernel
theorem dX0_findMoved_13 : decode cX0_findMoved 13 = .ok (.iconst 0, 1) := by decide +kernel
theorem dX0_findMoved_14 : decode cX0_findMoved 14 = .ok (.iadd, 1) := by decide +kernel
theorem dX0_findMoved_15 : decode cX0_findMoved 15 = .ok (.putfield 787, 3) := by decide +kernel
theorem dX0_findMoved_18 : decode cX0_findMoved 18 = .ok (.iconst 0, 1) := by decide +kernel
theorem dX0_findMoved_19 : decode cX0_findMoved 19 = .ok (.istore_n 3, 1) := by decide +kernel
theorem dX0_findMoved_20 : decode cX0_findMoved 20 = .ok (.iload_n 3, 1) := by decide +kernel
theorem dX0_findMoved_21 : decode cX0_findMoved 21 = .ok (.aload_n 0, 1) := by decide +kernel
theorem dX0_findMoved_22 : decode cX0_findMoved 22 = .ok (.getfield 787, 3) := by decide +kernel
theorem dX0_findMoved_25 : decode cX0_findMoved 25 = .ok (.if_icmp .gt 117, 3) := by decide +kernel
theorem dX0_findMoved_28 : decode cX0_findMoved 28 = .ok (.aload_n 0, 1) := by decide +kernel
theorem dX0_findMoved_29 : decode cX0_findMoved 29 = .ok (.getfield 455, 3) := by decide +kernel
theorem dX0_findMoved_32 : decode cX0_findMoved 32 = .ok (.iload_n 3, 1) := by decide +kernel
theorem dX0_findMoved_33 : decode cX0_findMoved 33 = .ok (.aaload, 1) := by decide +kernel
theorem dX0_findMoved_34 : decode cX0_findMoved 34 = .ok (.invokevirtual 709, 3) := by decide +kernel
theorem dX0_findMoved_37 : decode cX0_findMoved 37 = .ok (.iload_n 3, 1) := by decide +kernel
theorem dX0_findMoved_38 : decode cX0_findMoved 38 = .ok (.aload_n 1, 1) := by decide +kernel
theorem dX0_findMoved_39 : decode cX0_findMoved 39 = .ok (.getfield 575, 3) := by decide +kernel
theorem dX0_findMoved_42 : decode cX0_findMoved 42 = .ok (.if_icmp .gt 48, 3) := by decide +kernel
theorem dX0_findMoved_45 : decode cX0_findMoved 45 = .ok (.aload_n 0, 1) := by decide +kernel
theorem dX0_findMoved_46 : decode cX0_findMoved 46 = .ok (.getfield 361, 3) := by decide +kernel
theorem dX0_findMoved_49 : decode cX0_findMoved 49 = .ok (.aload_n 1, 1) := by decide +kernel
theorem dX0_findMoved_50 : decode cX0_findMoved 50 = .ok (.getfield 578, 3) := by decide +kernel
theorem dX0_findMoved_53 : decode cX0_findMoved 53 = .ok (.iload_n 3, 1) := by decide +kernel
theorem dX0_findMoved_54 : decode cX0_findMoved 54 = .ok (.aaload, 1) := by decide +kernel
theorem dX0_findMoved_55 : decode cX0_findMoved 55 = .ok (.invokevirtual 686, 3) := by decide +kernel
theorem dX0_findMoved_58 : decode cX0_findMoved 58 = .ok (.aload_n 0, 1) := by decide +kernel
theorem dX0_findMoved_59 : decode cX0_findMoved 59 = .ok (.getfield 361, 3) := by decide +kernel
theorem dX0_findMoved_62 : decode cX0_findMoved 62 = .ok (.iconst 1, 1) := by decide +kernel
theorem dX0_findMoved_63 : decode cX0_findMoved 63 = .ok (.invokevirtual 639, 3) := by decide +kernel
theorem dX0_findMoved_66 : decode cX0_findMoved 66 = .ok (.aload_n 0, 1) := by decide +kernel
theorem dX0_findMoved_67 : decode cX0_findMoved 67 = .ok (.getfield 455, 3) := by decide +kernel
theorem dX0_findMoved_70 : decode cX0_findMoved 70 = .ok (.iload_n 3, 1) := by decide +kernel
theorem dX0_findMoved_71 : decode cX0_findMoved 71 = .ok (.aaload, 1) := by decide +kernel
theorem dX0_findMoved_72 : decode cX0_findMoved 72 = .ok (.aload_n 0, 1) := by decide +kernel
theorem dX0_findMoved_73 : decode cX0_findMoved 73 = .ok (.getfield 361, 3) := by decide +kernel
theorem dX0_findMoved_76 : decode cX0_findMoved 76 = .ok (.iload_n 2, 1) := by decide +kernel
theorem dX0_findMoved_77 : decode cX0_findMoved 77 = .ok (.ifCond .eq 8, 3) := by decide +kernel
theorem dX0_findMoved_80 : decode cX0_findMoved 80 = .ok (.ldc 101, 2) := by decide +kernel
theorem dX0_findMoved_82 : decode cX0_findMoved 82 = .ok (.goto 4, 3) := by decide +kernel
theorem dX0_findMoved_85 : decode cX0_findMoved 85 = .ok (.iconst 1, 1) := by decide +kernel
theorem dX0_findMoved_86 : decode cX0_findMoved 86 = .ok (.iconst 0, 1) := by decide +kernel
theorem dX0_findMoved_87 : decode cX0_findMoved 87 = .ok (.invokevirtual 689, 3) := by decide +kernel
theorem dX0_findMoved_90 : decode cX0_findMoved 90 = .ok (.iload_n 2, 1) := by decide +kernel
theorem dX0_findMoved_91 : decode cX0_findMoved 91 = .ok (.ifCond .eq 45, 3) := by decide +kernel
theorem dX0_findMoved_94 : decode cX0_findMoved 94 = .ok (.iload_n 3, 1) := by decide +kernel
theorem dX0_findMoved_95 : decode cX0_findMoved 95 = .ok (.ifCond .le 41, 3) := by decide +kernel
theorem dX0_findMoved_98 : decode cX0_findMoved 98 = .ok (.aload_n 0, 1) := by decide +kernel
theorem dX0_findMoved_99 : decode cX0_findMoved 99 = .ok (.getfield 361, 3) := by decide +kernel
theorem dX0_findMoved_102 : decode cX0_findMoved 102 = .ok (.aload_n 1, 1) := by decide +kernel
theorem dX0_findMoved_103 : decode cX0_findMoved 103 = .ok (.getfield 578, 3) := by decide +kernel
theorem dX0_findMoved_106 : decode cX0_findMoved 106 = .ok (.iload_n 3, 1) := by decide +kernel
theorem dX0_findMoved_107 : decode cX0_findMoved 107 = .ok (.iconst 1, 1) := by decide +kernel
theorem dX0_findMoved_108 : decode cX0_findMoved 108 = .ok (.isub, 1) := by decide +kernel
theorem dX0_findMoved_109 : decode cX0_findMoved 109 = .ok (.aaload, 1) := by decide +kernel
theorem dX0_findMoved_110 : decode cX0_findMoved 110 = .ok (.invokevirtual 686, 3) := by decide +kernel
theorem dX0_findMoved_113 : decode cX0_findMoved 113 = .ok (.aload_n 0, 1) := by decide +kernel
theorem dX0_findMoved_114 : decode cX0_findMoved 114 = .ok (.getfield 361, 3) := by decide +kernel
theorem dX0_findMoved_117 : decode cX0_findMoved 117 = .ok (.iconst 1, 1) := by decide +kernel
theorem dX0_findMoved_118 : decode cX0_findMoved 118 = .ok (.invokevirtual 639, 3) := by decide +kernel
theorem dX0_findMoved_121 : decode cX0_findMoved 121 = .ok (.aload_n 0, 1) := by decide +kernel
theorem dX0_findMoved_122 : decode cX0_findMoved 122 = .ok (.getfield 455, 3) := by decide +kernel
theorem dX0_findMoved_125 : decode cX0_findMoved 125 = .ok (.iload_n 3, 1) := by decide +kernel
theorem dX0_findMoved_126 : decode cX0_findMoved 126 = .ok (.aaload, 1) := by decide +kernel
theorem dX0_findMoved_127 : decode cX0_findMoved 127 = .ok (.aload_n 0, 1) := by decide +kernel
theorem dX0_findMoved_128 : decode cX0_findMoved 128 = .ok (.getfield 361, 3) := by decide +kernel
theorem dX0_findMoved_131 : decode cX0_findMoved 131 = .ok (.iconst 1, 1) := by decide +kernel
theorem dX0_findMoved_132 : decode cX0_findMoved 132 = .ok (.iconst 0, 1) := by decide +kernel
theorem dX0_findMoved_133 : decode cX0_findMoved 133 = .ok (.invokevirtual 689, 3) := by decide +kernel
theorem dX0_findMoved_136 : decode cX0_findMoved 136 = .ok (.iinc 3 1, 3) := by decide +kernel
theorem dX0_findMoved_139 : decode cX0_findMoved 139 = .ok (.goto (-119), 3) := by decide +kernel
theorem dX0_findMoved_142 : decode cX0_findMoved 142 = .ok (.return_, 1) := by decide +kernel
theorem dX0_areLow_0 : decode cX0_areLow 0 = .ok (.iconst 1, 1) := by decide +kernel
theorem dX0_areLow_1 : decode cX0_areLow 1 = .ok (.istore_n 1, 1) := by decide +kernel
theorem dX0_areLow_2 : decode cX0_areLow 2 = .ok (.iconst 0, 1) := by decide +kernel
theorem dX0_areLow_3 : decode cX0_areLow 3 = .ok (.istore_n 2, 1) := by decide +kernel
theorem dX0_areLow_4 : decode cX0_areLow 4 = .ok (.iload_n 2, 1) := by decide +kernel
theorem dX0_areLow_5 : decode cX0_areLow 5 = .ok (.aload_n 0, 1) := by decide +kernel
theorem dX0_areLow_6 : decode cX0_areLow 6 = .ok (.getfield 575, 3) := by decide +kernel
theorem dX0_areLow_9 : decode cX0_areLow 9 = .ok (.if_icmp .gt 33, 3) := by decide +kernel
theorem dX0_areLow_12 : decode cX0_areLow 12 = .ok (.iload_n 1, 1) := by decide +kernel
theorem dX0_areLow_13 : decode cX0_areLow 13 = .ok (.ifCond .eq 21, 3) := by decide +kernel
theorem dX0_areLow_16 : decode cX0_areLow 16 = .ok (.aload_n 0, 1) := by decide +kernel
theorem dX0_areLow_17 : decode cX0_areLow 17 = .ok (.getfield 578, 3) := by decide +kernel
theorem dX0_areLow_20 : decode cX0_areLow 20 = .ok (.iload_n 2, 1) := by decide +kernel
theorem dX0_areLow_21 : decode cX0_areLow 21 = .ok (.aaload, 1) := by decide +kernel
theorem dX0_areLow_22 : decode cX0_areLow 22 = .ok (.invokevirtual 826, 3) := by decide +kernel
theorem dX0_areLow_25 : decode cX0_areLow 25 = .ok (.bipush 6, 2) := by decide +kernel
theorem dX0_areLow_27 : decode cX0_areLow 27 = .ok (.if_icmp .gt 7, 3) := by decide +kernel
theorem dX0_areLow_30 : decode cX0_areLow 30 = .ok (.iconst 1, 1) := by decide +kernel
theorem dX0_areLow_31 : decode cX0_areLow 31 = .ok (.goto 4, 3) := by decide +kernel
theorem dX0_areLow_34 : decode cX0_areLow 34 = .ok (.iconst 0, 1) := by decide +kernel
theorem dX0_areLow_35 : decode cX0_areLow 35 = .ok (.istore_n 1, 1) := by decide +kernel
theorem dX0_areLow_36 : decode cX0_areLow 36 = .ok (.iinc 2 1, 3) := by decide +kernel
theorem dX0_areLow_39 : decode cX0_areLow 39 = .ok (.goto (-35), 3) := by decide +kernel
theorem dX0_areLow_42 : decode cX0_areLow 42 = .ok (.iload_n 1, 1) := by decide +kernel
theorem dX0_areLow_43 : decode cX0_areLow 43 = .ok (.ireturn, 1) := by decide +kernel
theorem dX0_layJoined_0 : decode cX0_layJoined 0 = .ok (.aload_n 0, 1) := by decide +kernel
theorem dX0_layJoined_1 : decode cX0_layJoined 1 = .ok (.getfield 463, 3) := by decide +kernel
theorem dX0_layJoined_4 : decode cX0_layJoined 4 = .ok (.aload_n 2, 1) := by decide +kernel
theorem dX0_layJoined_5 : decode cX0_layJoined 5 = .ok (.invokevirtual 818, 3) := by decide +kernel
theorem dX0_layJoined_8 : decode cX0_layJoined 8 = .ok (.iload_n 1, 1) := by decide +kernel
theorem dX0_layJoined_9 : decode cX0_layJoined 9 = .ok (.iconst 3, 1) := by decide +kernel
theorem dX0_layJoined_10 : decode cX0_layJoined 10 = .ok (.if_icmp .ge 11, 3) := by decide +kernel
theorem dX0_layJoined_13 : decode cX0_layJoined 13 = .ok (.aload_n 0, 1) := by decide +kernel
theorem dX0_layJoined_14 : decode cX0_layJoined 14 = .ok (.getfield 467, 3) := by decide +kernel
theorem dX0_layJoined_17 : decode cX0_layJoined 17 = .ok (.aload_n 3, 1) := by decide +kernel
theorem dX0_layJoined_18 : decode cX0_layJoined 18 = .ok (.invokevirtual 818, 3) := by decide +kernel
theorem dX0_layJoined_21 : decode cX0_layJoined 21 = .ok (.iload_n 1, 1) := by decide +kernel
theorem dX0_layJoined_22 : decode cX0_layJoined 22 = .ok (.iconst 2, 1) := by decide +kernel
theorem dX0_layJoined_23 : decode cX0_layJoined 23 = .ok (.if_icmp .ge 15, 3) := by decide +kernel
theorem dX0_layJoined_26 : decode cX0_layJoined 26 = .ok (.aload_n 2, 1) := by decide +kernel
theorem dX0_layJoined_27 : decode cX0_layJoined 27 = .ok (.getfield 575, 3) := by decide +kernel
theorem dX0_layJoined_30 : decode cX0_layJoined 30 = .ok (.aload_n 3, 1) := by decide +kernel
theorem dX0_layJoined_31 : decode cX0_layJoined 31 = .ok (.getfield 575, 3) := by decide +kernel
theorem dX0_layJoined_34 : decode cX0_layJoined 34 = .ok (.iadd, 1) := by decide +kernel
theorem dX0_layJoined_35 : decode cX0_layJoined 35 = .ok (.goto 24, 3) := by decide +kernel
theorem dX0_layJoined_38 : decode cX0_layJoined 38 = .ok (.iload_n 1, 1) := by decide +kernel
theorem dX0_layJoined_39 : decode cX0_layJoined 39 = .ok (.iconst 2, 1) := by decide +kernel
theorem dX0_layJoined_40 : decode cX0_layJoined 40 = .ok (.if_icmp .ne 15, 3) := by decide +kernel
theorem dX0_layJoined_43 : decode cX0_layJoined 43 = .ok (.aload_n 2, 1) := by decide +kernel
theorem dX0_layJoined_44 : decode cX0_layJoined 44 = .ok (.getfield 575, 3) := by decide +kernel
theorem dX0_layJoined_47 : decode cX0_layJoined 47 = .ok (.aload_n 3, 1) := by decide +kernel
theorem dX0_layJoined_48 : decode cX0_layJoined 48 = .ok (.getfield 575, 3) := by decide +kernel
theorem dX0_layJoined_51 : decode cX0_layJoined 51 = .ok (.imul, 1) := by decide +kernel
theorem dX0_layJoined_52 : decode cX0_layJoined 52 = .ok (.goto 7, 3) := by decide +kernel
theorem dX0_layJoined_55 : decode cX0_layJoined 55 = .ok (.aload_n 2, 1) := by decide +kernel
theorem dX0_layJoined_56 : decode cX0_layJoined 56 = .ok (.getfield 575, 3) := by decide +kernel
theorem dX0_layJoined_59 : decode cX0_layJoined 59 = .ok (.istore 5, 2) := by decide +kernel
theorem dX0_layJoined_61 : decode cX0_layJoined 61 = .ok (.aload_n 0, 1) := by decide +kernel
theorem dX0_layJoined_62 : decode cX0_layJoined 62 = .ok (.getfield 382, 3) := by decide +kernel
theorem dX0_layJoined_65 : decode cX0_layJoined 65 = .ok (.iload 5, 2) := by decide +kernel
theorem dX0_layJoined_67 : decode cX0_layJoined 67 = .ok (.bipush 7, 2) := by decide +kernel
theorem dX0_layJoined_69 : decode cX0_layJoined 69 = .ok (.invokevirtual 698, 3) := by decide +kernel
theorem dX0_layJoined_72 : decode cX0_layJoined 72 = .ok (.iconst 0, 1) := by decide +kernel
theorem dX0_layJoined_73 : decode cX0_layJoined 73 = .ok (.istore 6, 2) := by decide +kernel
theorem dX0_layJoined_75 : decode cX0_layJoined 75 = .ok (.iload 6, 2) := by decide +kernel
theorem dX0_layJoined_77 : decode cX0_layJoined 77 = .ok (.bipush 6, 2) := by decide +kernel
theorem dX0_layJoined_79 : decode cX0_layJoined 79 = .ok (.if_icmp .gt 328, 3) := by decide +kernel
theorem dX0_layJoined_82 : decode cX0_layJoined 82 = .ok (.aload_n 0, 1) := by decide +kernel
theorem dX0_layJoined_83 : decode cX0_layJoined 83 = .ok (.getfield 470, 3) := by decide +kernel
theorem dX0_layJoined_86 : decode cX0_layJoined 86 = .ok (.iload 6, 2) := by decide +kernel
theorem dX0_layJoined_88 : decode cX0_layJoined 88 = .ok (.aaload, 1) := by decide +kernel
theorem dX0_layJoined_89 : decode cX0_layJoined 89 = .ok (.aload_n 0, 1) := by decide +kernel
theorem dX0_layJoined_90 : decode cX0_layJoined 90 = .ok (.getfield 463, 3) := by decide +kernel
theorem dX0_layJoined_93 : decode cX0_layJoined 93 = .ok (.getfield 822, 3) := by decide +kernel
theorem dX0_layJoined_96 : decode cX0_layJoined 96 = .ok (.iload 6, 2) := by decide +kernel
theorem dX0_layJoined_98 : decode cX0_layJoined 98 = .ok (.aaload, 1) := by decide +kernel
theorem dX0_layJoined_99 : decode cX0_layJoined 99 = .ok (.invokevirtual 686, 3) := by decide +kernel
theorem dX0_layJoined_102 : decode cX0_layJoined 102 = .ok (.iload_n 1, 1) := by decide +kernel
theorem dX0_layJoined_103 : decode cX0_layJoined 103 = .ok (.iconst 3, 1) := by decide +kernel
theorem dX0_layJoined_104 : decode cX0_layJoined 104 = .ok (.if_icmp .ge 36, 3) := by decide +kernel
theorem dX0_layJoined_107 : decode cX0_layJoined 107 = .ok (.aload_n 0, 1) := by decide +kernel
theorem dX0_layJoined_108 : decode cX0_layJoined 108 = .ok (.getfield 470, 3) := by decide +kernel
theorem dX0_layJoined_111 : decode cX0_layJoined 111 = .ok (.iload 6, 2) := by decide +kernel
theorem dX0_layJoined_113 : decode cX0_layJoined 113 = .ok (.aaload, 1) := by decide +kernel
theorem dX0_layJoined_114 : decode cX0_layJoined 114 = .ok (.aload_n 0, 1) := by decide +kernel
theorem dX0_layJoined_115 : decode cX0_layJoined 115 = .ok (.getfield 463, 3) := by decide +kernel
theorem dX0_layJoined_118 : decode cX0_layJoined 118 = .ok (.getfield 822, 3) := by decide +kernel
theorem dX0_layJoined_121 : decode cX0_layJoined 121 = .ok (.iload 6, 2) := by decide +kernel
theorem dX0_layJoined_123 : decode cX0_layJoined 123 = .ok (.aaload, 1) := by decide +kernel
theorem dX0_layJoined_124 : decode cX0_layJoined 124 = .ok (.aload_n 0, 1) := by decide +kernel
theorem dX0_layJoined_125 : decode cX0_layJoined 125 = .ok (.getfield 467, 3) := by decide +kernel
theorem dX0_layJoined_128 : decode cX0_layJoined 128 = .ok (.getfield 822, 3) := by decide +kernel
theorem dX0_layJoined_131 : decode cX0_layJoined 131 = .ok (.iload 6, 2) := by decide +kernel
theorem dX0_layJoined_133 : decode cX0_layJoined 133 = .ok (.aaload, 1) := by decide +kernel
theorem dX0_layJoined_134 : decode cX0_layJoined 134 = .ok (.invokevirtual 739, 3) := by decide +kernel
theorem dX0_layJoined_137 : decode cX0_layJoined 137 = .ok (.goto 21, 3) := by decide +kernel
theorem dX0_layJoined_140 : decode cX0_layJoined 140 = .ok (.aload_n 0, 1) := by decide +kernel
theorem dX0_layJoined_141 : decode cX0_layJoined 141 = .ok (.getfield 365, 3) := by decide +kernel
theorem dX0_layJoined_144 : decode cX0_layJoined 144 = .ok (.aload 4, 2) := by decide +kernel
theorem dX0_layJoined_146 : decode cX0_layJoined 146 = .ok (.invokevirtual 686, 3) := by decide +kernel
theorem dX0_layJoined_149 : decode cX0_layJoined 149 = .ok (.aload_n 0, 1) := by decide +kernel
theorem dX0_layJoined_150 : decode cX0_layJoined 150 = .ok (.getfield 365, 3) := by decide +kernel
theorem dX0_layJoined_153 : decode cX0_layJoined 153 = .ok (.iload 6, 2) := by decide +kernel
theorem dX0_layJoined_155 : decode cX0_layJoined 155 = .ok (.invokevirtual 639, 3) := by decide +kernel
theorem dX0_layJoined_158 : decode cX0_layJoined 158 = .ok (.iconst 0, 1) := by decide +kernel
theorem dX0_layJoined_159 : decode cX0_layJoined 159 = .ok (.istore 7, 2) := by decide +kernel
theorem dX0_layJoined_161 : decode cX0_layJoined 161 = .ok (.iload 7, 2) := by decide +kernel
theorem dX0_layJoined_163 : decode cX0_layJoined 163 = .ok (.aload_n 2, 1) := by decide +kernel
theorem dX0_layJoined_164 : decode cX0_layJoined 164 = .ok (.getfield 575, 3) := by decide +kernel
theorem dX0_layJoined_167 : decode cX0_layJoined 167 = .ok (.if_icmp .ge 136, 3) := by decide +kernel
theorem dX0_layJoined_170 : decode cX0_layJoined 170 = .ok (.iload_n 1, 1) := by decide +kernel
theorem dX0_layJoined_171 : decode cX0_layJoined 171 = .ok (.iconst 2, 1) := by decide +kernel
theorem dX0_layJoined_172 : decode cX0_layJoined 172 = .ok (.if_icmp .ne 74, 3) := by decide +kernel
theorem dX0_layJoined_175 : decode cX0_layJoined 175 = .ok (.iconst 0, 1) := by decide +kernel
theorem dX0_layJoined_176 : decode cX0_layJoined 176 = .ok (.istore 8, 2) := by decide +kernel
theorem dX0_layJoined_178 : decode cX0_layJoined 178 = .ok (.iload 8, 2) := by decide +kernel
theorem dX0_layJoined_180 : decode cX0_layJoined 180 = .ok (.aload_n 3, 1) := by decide +kernel
theorem dX0_layJoined_181 : decode cX0_layJoined 181 = .ok (.getfield 575, 3) := by decide +kernel
theorem dX0_layJoined_184 : decode cX0_layJoined 184 = .ok (.if_icmp .ge 59, 3) := by decide +kernel
theorem dX0_layJoined_187 : decode cX0_layJoined 187 = .ok (.aload_n 0, 1) := by decide +kernel
theorem dX0_layJoined_188 : decode cX0_layJoined 188 = .ok (.getfield 382, 3) := by decide +kernel
theorem dX0_layJoined_191 : decode cX0_layJoined 191 = .ok (.getfield 694, 3) := by decide +kernel
theorem dX0_layJoined_194 : decode cX0_layJoined 194 = .ok (.iload 7, 2) := by decide +kernel
theorem dX0_layJoined_196 : decode cX0_layJoined 196 = .ok (.aload_n 3, 1) := by decide +kernel
theorem dX0_layJoined_197 : decode cX0_layJoined 197 = .ok (.getfield 575, 3) := by decide +kernel
theorem dX0_layJoined_200 : decode cX0_layJoined 200 = .ok (.imul, 1) := by decide +kernel
theorem dX0_layJoined_201 : decode cX0_layJoined 201 = .ok (.iload 8, 2) := by decide +kernel
theorem dX0_layJoined_203 : decode cX0_layJoined 203 = .ok (.iadd, 1) := by decide +kernel
theorem dX0_layJoined_204 : decode cX0_layJoined 204 = .ok (.aaload, 1) := by decide +kernel
theorem dX0_layJoined_205 : decode cX0_layJoined 205 = .ok (.iload 6, 2) := by decide +kernel
theorem dX0_layJoined_207 : decode cX0_layJoined 207 = .ok (.aaload, 1) := by decide +kernel
theorem dX0_layJoined_208 : decode cX0_layJoined 208 = .ok (.aload_n 0, 1) := by decide +kernel
theorem dX0_layJoined_209 : decode cX0_layJoined 209 = .ok (.getfield 463, 3) := by decide +kernel
theorem dX0_layJoined_212 : decode cX0_layJoined 212 = .ok (.getfield 824, 3) := by decide +kernel
theorem dX0_layJoined_215 : decode cX0_layJoined 215 = .ok (.iload 6, 2) := by decide +kernel
theorem dX0_layJoined_217 : decode cX0_layJoined 217 = .ok (.aaload, 1) := by decide +kernel
theorem dX0_layJoined_218 : decode cX0_layJoined 218 = .ok (.iload 7, 2) := by decide +kernel
theorem dX0_layJoined_220 : decode cX0_layJoined 220 = .ok (.aaload, 1) := by decide +kernel
theorem dX0_layJoined_221 : decode cX0_layJoined 221 = .ok (.aload_n 0, 1) := by decide +kernel
theorem dX0_layJoined_222 : decode cX0_layJoined 222 = .ok (.getfield 467, 3) := by decide +kernel
theorem dX0_layJoined_225 : decode cX0_layJoined 225 = .ok (.getfield 824, 3) := by decide +kernel
theorem dX0_layJoined_228 : decode cX0_layJoined 228 = .ok (.iload 6, 2) := by decide +kernel
theorem dX0_layJoined_230 : decode cX0_layJoined 230 = .ok (.aaload, 1) := by decide +kernel
theorem dX0_layJoined_231 : decode cX0_layJoined 231 = .ok (.iload 8, 2) := by decide +kernel
theorem dX0_layJoined_233 : decode cX0_layJoined 233 = .ok (.aaload, 1) := by decide +kernel
theorem dX0_layJoined_234 : decode cX0_layJoined 234 = .ok (.invokevirtual 739, 3) := by decide +kernel
theorem dX0_layJoined_237 : decode cX0_layJoined 237 = .ok (.iinc 8 1, 3) := by decide +kernel
theorem dX0_layJoined_240 : decode cX0_layJoined 240 = .ok (.goto (-62), 3) := by decide +kernel
theorem dX0_layJoined_243 : decode cX0_layJoined 243 = .ok (.goto 54, 3) := by decide +kernel
theorem dX0_layJoined_246 : decode cX0_layJoined 246 = .ok (.aload_n 0, 1) := by decide +kernel
theorem dX0_layJoined_247 : decode cX0_layJoined 247 = .ok (.getfield 382, 3) := by decide +kernel
theorem dX0_layJoined_250 : decode cX0_layJoined 250 = .ok (.getfield 694, 3) := by decide +kernel
theorem dX0_layJoined_253 : decode cX0_layJoined 253 = .ok (.iload 7, 2) := by decide +kernel
theorem dX0_layJoined_255 : decode cX0_layJoined 255 = .ok (.aaload, 1) := by decide +kernel
theorem dX0_layJoined_256 : decode cX0_layJoined 256 = .ok (.iload 6, 2) := by decide +kernel
theorem dX0_layJoined_258 : decode cX0_layJoined 258 = .ok (.aaload, 1) := by decide +kernel
theorem dX0_layJoined_259 : decode cX0_layJoined 259 = .ok (.aload_n 0, 1) := by decide +kernel
theorem dX0_layJoined_260 : decode cX0_layJoined 260 = .ok (.getfield 463, 3) := by decide +kernel
theorem dX0_layJoined_263 : decode cX0_layJoined 263 = .ok (.getfield 824, 3) := by decide +kernel
theorem dX0_layJoined_266 : decode cX0_layJoined 266 = .ok (.iload 6, 2) := by decide +kernel
theorem dX0_layJoined_268 : decode cX0_layJoined 268 = .ok (.aaload, 1) := by decide +kernel
theorem dX0_layJoined_269 : decode cX0_layJoined 269 = .ok (.iload 7, 2) := by decide +kernel
theorem dX0_layJoined_271 : decode cX0_layJoined 271 = .ok (.aaload, 1) := by decide +kernel
theorem dX0_layJoined_272 : decode cX0_layJoined 272 = .ok (.iload_n 1, 1) := by decide +kernel
theorem dX0_layJoined_273 : decode cX0_layJoined 273 = .ok (.iconst 2, 1) := by decide +kernel
theorem dX0_layJoined_274 : decode cX0_layJoined 274 = .ok (.if_icmp .ge 16, 3) := by decide +kernel
theorem dX0_layJoined_277 : decode cX0_layJoined 277 = .ok (.aload_n 0, 1) := by decide +kernel
theorem dX0_layJoined_278 : decode cX0_layJoined 278 = .ok (.getfield 467, 3) := by decide +kernel
theorem dX0_layJoined_281 : decode cX0_layJoined 281 = .ok (.getfield 822, 3) := by decide +kernel
theorem dX0_layJoined_284 : decode cX0_layJoined 284 = .ok (.iload 6, 2) := by decide +kernel
theorem dX0_layJoined_286 : decode cX0_layJoined 286 = .ok (.aaload, 1) := by decide +kernel
theorem dX0_layJoined_287 : decode cX0_layJoined 287 = .ok (.goto 7, 3) := by decide +kernel
theorem dX0_layJoined_290 : decode cX0_layJoined 290 = .ok (.aload_n 0, 1) := by decide +kernel
theorem dX0_layJoined_291 : decode cX0_layJoined 291 = .ok (.getfield 365, 3) := by decide +kernel
theorem dX0_layJoined_294 : decode cX0_layJoined 294 = .ok (.invokevirtual 739, 3) := by decide +kernel
theorem dX0_layJoined_297 : decode cX0_layJoined 297 = .ok (.iinc 7 1, 3) := by decide +kernel
theorem dX0_layJoined_300 : decode cX0_layJoined 300 = .ok (.goto (-139), 3) := by decide +kernel
theorem dX0_layJoined_303 : decode cX0_layJoined 303 = .ok (.iconst 0, 1) := by decide +kernel
theorem dX0_layJoined_304 : decode cX0_layJoined 304 = .ok (.istore 7, 2) := by decide +kernel
theorem dX0_layJoined_306 : decode cX0_layJoined 306 = .ok (.iload_n 1, 1) := by decide +kernel
theorem dX0_layJoined_307 : decode cX0_layJoined 307 = .ok (.iconst 2, 1) := by decide +kernel
theorem dX0_layJoined_308 : decode cX0_layJoined 308 = .ok (.if_icmp .ge 93, 3) := by decide +kernel
theorem dX0_layJoined_311 : decode cX0_layJoined 311 = .ok (.iload 7, 2) := by decide +kernel
theorem dX0_layJoined_313 : decode cX0_layJoined 313 = .ok (.aload_n 3, 1) := by decide +kernel
theorem dX0_layJoined_314 : decode cX0_layJoined 314 = .ok (.getfield 575, 3) := by decide +kernel
theorem dX0_layJoined_317 : decode cX0_layJoined 317 = .ok (.if_icmp .ge 84, 3) := by decide +kernel
theorem dX0_layJoined_320 : decode cX0_layJoined 320 = .ok (.aload_n 0, 1) := by decide +kernel
theorem dX0_layJoined_321 : decode cX0_layJoined 321 = .ok (.getfield 382, 3) := by decide +kernel
theorem dX0_layJoined_324 : decode cX0_layJoined 324 = .ok (.getfield 694, 3) := by decide +kernel
theorem dX0_layJoined_327 : decode cX0_layJoined 327 = .ok (.aload_n 2, 1) := by decide +kernel
theorem dX0_layJoined_328 : decode cX0_layJoined 328 = .ok (.getfield 575, 3) := by decide +kernel
theorem dX0_layJoined_331 : decode cX0_layJoined 331 = .ok (.iload 7, 2) := by decide +kernel
theorem dX0_layJoined_333 : decode cX0_layJoined 333 = .ok (.iadd, 1) := by decide +kernel
theorem dX0_layJoined_334 : decode cX0_layJoined 334 = .ok (.aaload, 1) := by decide +kernel
theorem dX0_layJoined_335 : decode cX0_layJoined 335 = .ok (.iload 6, 2) := by decide +kernel
theorem dX0_layJoined_337 : decode cX0_layJoined 337 = .ok (.aaload, 1) := by decide +kernel
theorem dX0_layJoined_338 : decode cX0_layJoined 338 = .ok (.aload_n 0, 1) := by decide +kernel
theorem dX0_layJoined_339 : decode cX0_layJoined 339 = .ok (.getfield 467, 3) := by decide +kernel
theorem dX0_layJoined_342 : decode cX0_layJoined 342 = .ok (.getfield 824, 3) := by decide +kernel
theorem dX0_layJoined_345 : decode cX0_layJoined 345 = .ok (.iload 6, 2) := by decide +kernel
theorem dX0_layJoined_347 : decode cX0_layJoined 347 = .ok (.aaload, 1) := by decide +kernel
theorem dX0_layJoined_348 : decode cX0_layJoined 348 = .ok (.iload 7, 2) := by decide +kernel
theorem dX0_layJoined_350 : decode cX0_layJoined 350 = .ok (.aaload, 1) := by decide +kernel
theorem dX0_layJoined_351 : decode cX0_layJoined 351 = .ok (.aload_n 0, 1) := by decide +kernel
theorem dX0_layJoined_352 : decode cX0_layJoined 352 = .ok (.getfield 463, 3) := by decide +kernel
theorem dX0_layJoined_355 : decode cX0_layJoined 355 = .ok (.getfield 822, 3) := by decide +kernel
theorem dX0_layJoined_358 : decode cX0_layJoined 358 = .ok (.iload 6, 2) := by decide +kernel
theorem dX0_layJoined_360 : decode cX0_layJoined 360 = .ok (.aaload, 1) := by decide +kernel
theorem dX0_layJoined_361 : decode cX0_layJoined 361 = .ok (.invokevirtual 739, 3) := by decide +kernel
theorem dX0_layJoined_364 : decode cX0_layJoined 364 = .ok (.aload_n 0, 1) := by decide +kernel
theorem dX0_layJoined_365 : decode cX0_layJoined 365 = .ok (.getfield 382, 3) := by decide +kernel
theorem dX0_layJoined_368 : decode cX0_layJoined 368 = .ok (.getfield 694, 3) := by decide +kernel
theorem dX0_layJoined_371 : decode cX0_layJoined 371 = .ok (.aload_n 2, 1) := by decide +kernel
theorem dX0_layJoined_372 : decode cX0_layJoined 372 = .ok (.getfield 575, 3) := by decide +kernel
theorem dX0_layJoined_375 : decode cX0_layJoined 375 = .ok (.iload 7, 2) := by decide +kernel
theorem dX0_layJoined_377 : decode cX0_layJoined 377 = .ok (.iadd, 1) := by decide +kernel
theorem dX0_layJoined_378 : decode cX0_layJoined 378 = .ok (.aaload, 1) := by decide +kernel
theorem dX0_layJoined_379 : decode cX0_layJoined 379 = .ok (.iload 6, 2) := by decide +kernel
theorem dX0_layJoined_381 : decode cX0_layJoined 381 = .ok (.aaload, 1) := by decide +kernel
theorem dX0_layJoined_382 : decode cX0_layJoined 382 = .ok (.iload_n 1, 1) := by decide +kernel
theorem dX0_layJoined_383 : decode cX0_layJoined 383 = .ok (.ifCond .ne 7, 3) := by decide +kernel
theorem dX0_layJoined_386 : decode cX0_layJoined 386 = .ok (.iconst 1, 1) := by decide +kernel
theorem dX0_layJoined_387 : decode cX0_layJoined 387 = .ok (.goto 5, 3) := by decide +kernel
theorem dX0_layJoined_390 : decode cX0_layJoined 390 = .ok (.ldc 101, 2) := by decide +kernel
theorem dX0_layJoined_392 : decode cX0_layJoined 392 = .ok (.invokevirtual 697, 3) := by decide +kernel
theorem dX0_layJoined_395 : decode cX0_layJoined 395 = .ok (.iinc 7 1, 3) := by decide +kernel
theorem dX0_layJoined_398 : decode cX0_layJoined 398 = .ok (.goto (-92), 3) := by decide +kernel
theorem dX0_layJoined_401 : decode cX0_layJoined 401 = .ok (.iinc 6 1, 3) := by decide +kernel
theorem dX0_layJoined_404 : decode cX0_layJoined 404 = .ok (.goto (-329), 3) := by decide +kernel
theorem dX0_layJoined_407 : decode cX0_layJoined 407 = .ok (.return_, 1) := by decide +kernel
theorem dX0_findJoined_0 : decode cX0_findJoined 0 = .ok (.aload_n 0, 1) := by decide +kernel
theorem dX0_findJoined_1 : decode cX0_findJoined 1 = .ok (.getfield 382, 3) := by decide +kernel
theorem dX0_findJoined_4 : decode cX0_findJoined 4 = .ok (.iconst 1, 1) := by decide +kernel
theorem dX0_findJoined_5 : decode cX0_findJoined 5 = .ok (.invokevirtual 703, 3) := by decide +kernel
theorem dX0_findJoined_8 : decode cX0_findJoined 8 = .ok (.istore_n 1, 1) := by decide +kernel
theorem dX0_findJoined_9 : decode cX0_findJoined 9 = .ok (.iload_n 1, 1) := by decide +kernel
theorem dX0_findJoined_10 : decode cX0_findJoined 10 = .ok (.ifCond .ge 5, 3) := by decide +kernel
theorem dX0_findJoined_13 : decode cX0_findJoined 13 = .ok (.iconst 0, 1) := by decide +kernel
theorem dX0_findJoined_14 : decode cX0_findJoined 14 = .ok (.ireturn, 1) := by decide +kernel
theorem dX0_findJoined_15 : decode cX0_findJoined 15 = .ok (.iconst 0, 1) := by decide +kernel
theorem dX0_findJoined_16 : decode cX0_findJoined 16 = .ok (.istore_n 2, 1) := by decide +kernel
theorem dX0_findJoined_17 : decode cX0_findJoined 17 = .ok (.iload_n 2, 1) := by decide +kernel
theorem dX0_findJoined_18 : decode cX0_findJoined 18 = .ok (.iload_n 1, 1) := by decide +kernel
theorem dX0_findJoined_19 : decode cX0_findJoined 19 = .ok (.if_icmp .gt 41, 3) := by decide +kernel
theorem dX0_findJoined_22 : decode cX0_findJoined 22 = .ok (.aload_n 0, 1) := by decide +kernel
theorem dX0_findJoined_23 : decode cX0_findJoined 23 = .ok (.getfield 382, 3) := by decide +kernel
theorem dX0_findJoined_26 : decode cX0_findJoined 26 = .ok (.iload_n 2, 1) := by decide +kernel
theorem dX0_findJoined_27 : decode cX0_findJoined 27 = .ok (.iload_n 1, 1) := by decide +kernel
theorem dX0_findJoined_28 : decode cX0_findJoined 28 = .ok (.aload_n 0, 1) := by decide +kernel
theorem dX0_findJoined_29 : decode cX0_findJoined 29 = .ok (.getfield 411, 3) := by decide +kernel
theorem dX0_findJoined_32 : decode cX0_findJoined 32 = .ok (.invokevirtual 711, 3) := by decide +kernel
theorem dX0_findJoined_35 : decode cX0_findJoined 35 = .ok (.aload_n 0, 1) := by decide +kernel
theorem dX0_findJoined_36 : decode cX0_findJoined 36 = .ok (.getfield 455, 3) := by decide +kernel
theorem dX0_findJoined_39 : decode cX0_findJoined 39 = .ok (.iload_n 2, 1) := by decide +kernel
theorem dX0_findJoined_40 : decode cX0_findJoined 40 = .ok (.aaload, 1) := by decide +kernel
theorem dX0_findJoined_41 : decode cX0_findJoined 41 = .ok (.aload_n 0, 1) := by decide +kernel
theorem dX0_findJoined_42 : decode cX0_findJoined 42 = .ok (.getfield 411, 3) := by decide +kernel
theorem dX0_findJoined_45 : decode cX0_findJoined 45 = .ok (.aload_n 0, 1) := by decide +kernel
theorem dX0_findJoined_46 : decode cX0_findJoined 46 = .ok (.getfield 470, 3) := by decide +kernel
theorem dX0_findJoined_49 : decode cX0_findJoined 49 = .ok (.iload_n 2, 1) := by decide +kernel
theorem dX0_findJoined_50 : decode cX0_findJoined 50 = .ok (.aaload, 1) := by decide +kernel
theorem dX0_findJoined_51 : decode cX0_findJoined 51 = .ok (.invokevirtual 739, 3) := by decide +kernel
theorem dX0_findJoined_54 : decode cX0_findJoined 54 = .ok (.iinc 2 1, 3) := by decide +kernel
theorem dX0_findJoined_57 : decode cX0_findJoined 57 = .ok (.goto (-40), 3) := by decide +kernel
theorem dX0_findJoined_60 : decode cX0_findJoined 60 = .ok (.aload_n 0, 1) := by decide +kernel
theorem dX0_findJoined_61 : decode cX0_findJoined 61 = .ok (.iload_n 1, 1) := by decide +kernel
theorem dX0_findJoined_62 : decode cX0_findJoined 62 = .ok (.putfield 787, 3) := by decide +kernel
theorem dX0_findJoined_65 : decode cX0_findJoined 65 = .ok (.iconst 1, 1) := by decide +kernel
theorem dX0_findJoined_66 : decode cX0_findJoined 66 = .ok (.ireturn, 1) := by decide +kernel
theorem dX0_keepJoined_0 : decode cX0_keepJoined 0 = .ok (.iload 5, 2) := by decide +kernel
theorem dX0_keepJoined_2 : decode cX0_keepJoined 2 = .ok (.aload_n 0, 1) := by decide +kernel
theorem dX0_keepJoined_3 : decode cX0_keepJoined 3 = .ok (.getfield 455, 3) := by decide +kernel
theorem dX0_keepJoined_6 : decode cX0_keepJoined 6 = .ok (.aload_n 0, 1) := by decide +kernel
theorem dX0_keepJoined_7 : decode cX0_keepJoined 7 = .ok (.getfield 787, 3) := by decide +kernel
theorem dX0_keepJoined_10 : decode cX0_keepJoined 10 = .ok (.invokestatic 790, 3) := by decide +kernel
theorem dX0_keepJoined_13 : decode cX0_keepJoined 13 = .ok (.invokestatic 679, 3) := by decide +kernel
theorem dX0_keepJoined_16 : decode cX0_keepJoined 16 = .ok (.istore 6, 2) := by decide +kernel
theorem dX0_keepJoined_18 : decode cX0_keepJoined 18 = .ok (.iload 6, 2) := by decide +kernel
theorem dX0_keepJoined_20 : decode cX0_keepJoined 20 = .ok (.bipush 60, 2) := by decide +kernel
theorem dX0_keepJoined_22 : decode cX0_keepJoined 22 = .ok (.if_icmp .le 6, 3) := by decide +kernel
theorem dX0_keepJoined_25 : decode cX0_keepJoined 25 = .ok (.bipush (-2), 2) := by decide +kernel
theorem dX0_keepJoined_27 : decode cX0_keepJoined 27 = .ok (.ireturn, 1) := by decide +kernel
theorem dX0_keepJoined_28 : decode cX0_keepJoined 28 = .ok (.iconst 0, 1) := by decide +kernel
theorem dX0_keepJoined_29 : decode cX0_keepJoined 29 = .ok (.istore 7, 2) := by decide +kernel
theorem dX0_keepJoined_31 : decode cX0_keepJoined 31 = .ok (.iload 7, 2) := by decide +kernel
theorem dX0_keepJoined_33 : decode cX0_keepJoined 33 = .ok (.iload 6, 2) := by decide +kernel
theorem dX0_keepJoined_35 : decode cX0_keepJoined 35 = .ok (.if_icmp .ge 29, 3) := by decide +kernel
theorem dX0_keepJoined_38 : decode cX0_keepJoined 38 = .ok (.aload_n 0, 1) := by decide +kernel
theorem dX0_keepJoined_39 : decode cX0_keepJoined 39 = .ok (.getfield 473, 3) := by decide +kernel
theorem dX0_keepJoined_42 : decode cX0_keepJoined 42 = .ok (.iload 7, 2) := by decide +kernel
theorem dX0_keepJoined_44 : decode cX0_keepJoined 44 = .ok (.aload_n 0, 1) := by decide +kernel
theorem dX0_keepJoined_45 : decode cX0_keepJoined 45 = .ok (.iload_n 1, 1) := by decide +kernel
theorem dX0_keepJoined_46 : decode cX0_keepJoined 46 = .ok (.aload_n 2, 1) := by decide +kernel
theorem dX0_keepJoined_47 : decode cX0_keepJoined 47 = .ok (.aload_n 3, 1) := by decide +kernel
theorem dX0_keepJoined_48 : decode cX0_keepJoined 48 = .ok (.aload_n 0, 1) := by decide +kernel
theorem dX0_keepJoined_49 : decode cX0_keepJoined 49 = .ok (.getfield 476, 3) := by decide +kernel
theorem dX0_keepJoined_52 : decode cX0_keepJoined 52 = .ok (.iload 7, 2) := by decide +kernel
theorem dX0_keepJoined_54 : decode cX0_keepJoined 54 = .ok (.invokevirtual 850, 3) := by decide +kernel
theorem dX0_keepJoined_57 : decode cX0_keepJoined 57 = .ok (.iastore, 1) := by decide +kernel
theorem dX0_keepJoined_58 : decode cX0_keepJoined 58 = .ok (.iinc 7 1, 3) := by decide +kernel
theorem dX0_keepJoined_61 : decode cX0_keepJoined 61 = .ok (.goto (-30), 3) := by decide +kernel
theorem dX0_keepJoined_64 : decode cX0_keepJoined 64 = .ok (.aload_n 0, 1) := by decide +kernel
theorem dX0_keepJoined_65 : decode cX0_keepJoined 65 = .ok (.iload 4, 2) := by decide +kernel
theorem dX0_keepJoined_67 : decode cX0_keepJoined 67 = .ok (.iload 5, 2) := by decide +kernel
theorem dX0_keepJoined_69 : decode cX0_keepJoined 69 = .ok (.invokevirtual 804, 3) := by decide +kernel
theorem dX0_keepJoined_72 : decode cX0_keepJoined 72 = .ok (.istore 7, 2) := by decide +kernel
theorem dX0_keepJoined_74 : decode cX0_keepJoined 74 = .ok (.iconst 0, 1) := by decide +kernel
theorem dX0_keepJoined_75 : decode cX0_keepJoined 75 = .ok (.istore 8, 2) := by decide +kernel
theorem dX0_keepJoined_77 : decode cX0_keepJoined 77 = .ok (.iload 8, 2) := by decide +kernel
theorem dX0_keepJoined_79 : decode cX0_keepJoined 79 = .ok (.iload 6, 2) := by decide +kernel
theorem dX0_keepJoined_81 : decode cX0_keepJoined 81 = .ok (.if_icmp .ge 34, 3) := by decide +kernel
theorem dX0_keepJoined_84 : decode cX0_keepJoined 84 = .ok (.iload 7, 2) := by decide +kernel
theorem dX0_keepJoined_86 : decode cX0_keepJoined 86 = .ok (.ifCond .le 29, 3) := by decide +kernel
theorem dX0_keepJoined_89 : decode cX0_keepJoined 89 = .ok (.aload_n 0, 1) := by decide +kernel
theorem dX0_keepJoined_90 : decode cX0_keepJoined 90 = .ok (.getfield 326, 3) := by decide +kernel
theorem dX0_keepJoined_93 : decode cX0_keepJoined 93 = .ok (.iload 4, 2) := by decide +kernel
theorem dX0_keepJoined_95 : decode cX0_keepJoined 95 = .ok (.aaload, 1) := by decide +kernel
theorem dX0_keepJoined_96 : decode cX0_keepJoined 96 = .ok (.getfield 807, 3) := by decide +kernel
theorem dX0_keepJoined_99 : decode cX0_keepJoined 99 = .ok (.iload 8, 2) := by decide +kernel
theorem dX0_keepJoined_101 : decode cX0_keepJoined 101 = .ok (.aload_n 0, 1) := by decide +kernel
theorem dX0_keepJoined_102 : decode cX0_keepJoined 102 = .ok (.getfield 473, 3) := by decide +kernel
theorem dX0_keepJoined_105 : decode cX0_keepJoined 105 = .ok (.iload 8, 2) := by decide +kernel
theorem dX0_keepJoined_107 : decode cX0_keepJoined 107 = .ok (.iaload, 1) := by decide +kernel
theorem dX0_keepJoined_108 : decode cX0_keepJoined 108 = .ok (.iastore, 1) := by decide +kernel
theorem dX0_keepJoined_109 : decode cX0_keepJoined 109 = .ok (.iinc 8 1, 3) := by decide +kernel
theorem dX0_keepJoined_112 : decode cX0_keepJoined 112 = .ok (.goto (-35), 3) := by decide +kernel
theorem dX0_keepJoined_115 : decode cX0_keepJoined 115 = .ok (.iload 7, 2) := by decide +kernel
theorem dX0_keepJoined_117 : decode cX0_keepJoined 117 = .ok (.ifCond .le 27, 3) := by decide +kernel
theorem dX0_keepJoined_120 : decode cX0_keepJoined 120 = .ok (.aload_n 0, 1) := by decide +kernel
theorem dX0_keepJoined_121 : decode cX0_keepJoined 121 = .ok (.getfield 326, 3) := by decide +kernel
theorem dX0_keepJoined_124 : decode cX0_keepJoined 124 = .ok (.iload 4, 2) := by decide +kernel
theorem dX0_keepJoined_126 : decode cX0_keepJoined 126 = .ok (.aaload, 1) := by decide +kernel
theorem dX0_keepJoined_127 : decode cX0_keepJoined 127 = .ok (.iload 6, 2) := by decide +kernel
theorem dX0_keepJoined_129 : decode cX0_keepJoined 129 = .ok (.putfield 794, 3) := by decide +kernel
theorem dX0_keepJoined_132 : decode cX0_keepJoined 132 = .ok (.aload_n 0, 1) := by decide +kernel
theorem dX0_keepJoined_133 : decode cX0_keepJoined 133 = .ok (.getfield 326, 3) := by decide +kernel
theorem dX0_keepJoined_136 : decode cX0_keepJoined 136 = .ok (.iload 4, 2) := by decide +kernel
theorem dX0_keepJoined_138 : decode cX0_keepJoined 138 = .ok (.aaload, 1) := by decide +kernel
theorem dX0_keepJoined_139 : decode cX0_keepJoined 139 = .ok (.iload 6, 2) := by decide +kernel
theorem dX0_keepJoined_141 : decode cX0_keepJoined 141 = .ok (.putfield 797, 3) := by decide +kernel
theorem dX0_keepJoined_144 : decode cX0_keepJoined 144 = .ok (.iload 7, 2) := by decide +kernel
theorem dX0_keepJoined_146 : decode cX0_keepJoined 146 = .ok (.ireturn, 1) := by decide +kernel
theorem dX0_joinedAt_0 : decode cX0_joinedAt 0 = .ok (.aload_n 0, 1) := by decide +kernel
theorem dX0_joinedAt_1 : decode cX0_joinedAt 1 = .ok (.aload_n 2, 1) := by decide +kernel
theorem dX0_joinedAt_2 : decode cX0_joinedAt 2 = .ok (.iload_n 1, 1) := by decide +kernel
theorem dX0_joinedAt_3 : decode cX0_joinedAt 3 = .ok (.iconst 4, 1) := by decide +kernel
theorem dX0_joinedAt_4 : decode cX0_joinedAt 4 = .ok (.if_icmp .ne 10, 3) := by decide +kernel
theorem dX0_joinedAt_7 : decode cX0_joinedAt 7 = .ok (.iload 5, 2) := by decide +kernel
theorem dX0_joinedAt_9 : decode cX0_joinedAt 9 = .ok (.iconst 1, 1) := by decide +kernel
theorem dX0_joinedAt_10 : decode cX0_joinedAt 10 = .ok (.iadd, 1) := by decide +kernel
theorem dX0_joinedAt_11 : decode cX0_joinedAt 11 = .ok (.goto 5, 3) := by decide +kernel
theorem dX0_joinedAt_14 : decode cX0_joinedAt 14 = .ok (.iload 5, 2) := by decide +kernel
theorem dX0_joinedAt_16 : decode cX0_joinedAt 16 = .ok (.invokevirtual 814, 3) := by decide +kernel
theorem dX0_joinedAt_19 : decode cX0_joinedAt 19 = .ok (.istore 6, 2) := by decide +kernel
theorem dX0_joinedAt_21 : decode cX0_joinedAt 21 = .ok (.iload_n 1, 1) := by decide +kernel
theorem dX0_joinedAt_22 : decode cX0_joinedAt 22 = .ok (.tableswitch 101 0 4 #[34, 47, 60, 73, 98], 34) := by decide +kernel
theorem dX0_joinedAt_56 : decode cX0_joinedAt 56 = .ok (.iload 6, 2) := by decide +kernel
theorem dX0_joinedAt_58 : decode cX0_joinedAt 58 = .ok (.aload_n 0, 1) := by decide +kernel
theorem dX0_joinedAt_59 : decode cX0_joinedAt 59 = .ok (.aload_n 3, 1) := by decide +kernel
theorem dX0_joinedAt_60 : decode cX0_joinedAt 60 = .ok (.iload 5, 2) := by decide +kernel
theorem dX0_joinedAt_62 : decode cX0_joinedAt 62 = .ok (.invokevirtual 814, 3) := by decide +kernel
theorem dX0_joinedAt_65 : decode cX0_joinedAt 65 = .ok (.invokestatic 598, 3) := by decide +kernel
theorem dX0_joinedAt_68 : decode cX0_joinedAt 68 = .ok (.ireturn, 1) := by decide +kernel
theorem dX0_joinedAt_69 : decode cX0_joinedAt 69 = .ok (.iload 6, 2) := by decide +kernel
theorem dX0_joinedAt_71 : decode cX0_joinedAt 71 = .ok (.aload_n 0, 1) := by decide +kernel
theorem dX0_joinedAt_72 : decode cX0_joinedAt 72 = .ok (.aload_n 3, 1) := by decide +kernel
theorem dX0_joinedAt_73 : decode cX0_joinedAt 73 = .ok (.iload 5, 2) := by decide +kernel
theorem dX0_joinedAt_75 : decode cX0_joinedAt 75 = .ok (.invokevirtual 814, 3) := by decide +kernel
theorem dX0_joinedAt_78 : decode cX0_joinedAt 78 = .ok (.invokestatic 784, 3) := by decide +kernel
theorem dX0_joinedAt_81 : decode cX0_joinedAt 81 = .ok (.ireturn, 1) := by decide +kernel
theorem dX0_joinedAt_82 : decode cX0_joinedAt 82 = .ok (.iload 6, 2) := by decide +kernel
theorem dX0_joinedAt_84 : decode cX0_joinedAt 84 = .ok (.aload_n 0, 1) := by decide +kernel
theorem dX0_joinedAt_85 : decode cX0_joinedAt 85 = .ok (.aload_n 3, 1) := by decide +kernel
theorem dX0_joinedAt_86 : decode cX0_joinedAt 86 = .ok (.iload 5, 2) := by decide +kernel
theorem dX0_joinedAt_88 : decode cX0_joinedAt 88 = .ok (.invokevirtual 814, 3) := by decide +kernel
theorem dX0_joinedAt_91 : decode cX0_joinedAt 91 = .ok (.invokestatic 6, 3) := by decide +kernel
theorem dX0_joinedAt_94 : decode cX0_joinedAt 94 = .ok (.ireturn, 1) := by decide +kernel
theorem dX0_joinedAt_95 : decode cX0_joinedAt 95 = .ok (.iload 5, 2) := by decide +kernel
theorem dX0_joinedAt_97 : decode cX0_joinedAt 97 = .ok (.ifCond .ne 8, 3) := by decide +kernel
theorem dX0_joinedAt_100 : decode cX0_joinedAt 100 = .ok (.iload 6, 2) := by decide +kernel
theorem dX0_joinedAt_102 : decode cX0_joinedAt 102 = .ok (.goto 17, 3) := by decide +kernel
theorem dX0_joinedAt_105 : decode cX0_joinedAt 105 = .ok (.aload_n 0, 1) := by decide +kernel
theorem dX0_joinedAt_106 : decode cX0_joinedAt 106 = .ok (.getfield 473, 3) := by decide +kernel
theorem dX0_joinedAt_109 : decode cX0_joinedAt 109 = .ok (.iload 5, 2) := by decide +kernel
theorem dX0_joinedAt_111 : decode cX0_joinedAt 111 = .ok (.iconst 1, 1) := by decide +kernel
theorem dX0_joinedAt_112 : decode cX0_joinedAt 112 = .ok (.isub, 1) := by decide +kernel
theorem dX0_joinedAt_113 : decode cX0_joinedAt 113 = .ok (.iaload, 1) := by decide +kernel
theorem dX0_joinedAt_114 : decode cX0_joinedAt 114 = .ok (.iload 6, 2) := by decide +kernel
theorem dX0_joinedAt_116 : decode cX0_joinedAt 116 = .ok (.invokestatic 598, 3) := by decide +kernel
theorem dX0_joinedAt_119 : decode cX0_joinedAt 119 = .ok (.ireturn, 1) := by decide +kernel
theorem dX0_joinedAt_120 : decode cX0_joinedAt 120 = .ok (.iload 6, 2) := by decide +kernel
theorem dX0_joinedAt_122 : decode cX0_joinedAt 122 = .ok (.ireturn, 1) := by decide +kernel
theorem dX0_joinedAt_123 : decode cX0_joinedAt 123 = .ok (.iload 6, 2) := by decide +kernel
theorem dX0_joinedAt_125 : decode cX0_joinedAt 125 = .ok (.aload 4, 2) := by decide +kernel
theorem dX0_joinedAt_127 : decode cX0_joinedAt 127 = .ok (.iload 5, 2) := by decide +kernel
theorem dX0_joinedAt_129 : decode cX0_joinedAt 129 = .ok (.invokevirtual 765, 3) := by decide +kernel
theorem dX0_joinedAt_132 : decode cX0_joinedAt 132 = .ok (.invokestatic 6, 3) := by decide +kernel
theorem dX0_joinedAt_135 : decode cX0_joinedAt 135 = .ok (.ireturn, 1) := by decide +kernel
theorem dX0_feed_0 : decode cX0_feed 0 = .ok (.aload_n 0, 1) := by decide +kernel
theorem dX0_feed_1 : decode cX0_feed 1 = .ok (.getfield 854, 3) := by decide +kernel
theorem dX0_feed_4 : decode cX0_feed 4 = .ok (.bipush 60, 2) := by decide +kernel
theorem dX0_feed_6 : decode cX0_feed 6 = .ok (.if_icmp .ne 6, 3) := by decide +kernel
theorem dX0_feed_9 : decode cX0_feed 9 = .ok (.bipush (-2), 2) := by decide +kernel
theorem dX0_feed_11 : decode cX0_feed 11 = .ok (.ireturn, 1) := by decide +kernel
theorem dX0_feed_12 : decode cX0_feed 12 = .ok (.aload_n 0, 1) := by decide +kernel
theorem dX0_feed_13 : decode cX0_feed 13 = .ok (.getfield 479, 3) := by decide +kernel
theorem dX0_feed_16 : decode cX0_feed 16 = .ok (.aload_n 0, 1) := by decide +kernel
theorem dX0_feed_17 : decode cX0_feed 17 = .ok (.dup, 1) := by decide +kernel
theorem dX0_feed_18 : decode cX0_feed 18 = .ok (.getfield 854, 3) := by decide +kernel
theorem dX0_feed_21 : decode cX0_feed 21 = .ok (.dup_x1, 1) := by decide +kernel
theorem dX0_feed_22 : decode cX0_feed 22 = .ok (.iconst 1, 1) := by decide +kernel
theorem dX0_feed_23 : decode cX0_feed 23 = .ok (.iadd, 1) := by decide +kernel
theorem dX0_feed_24 : decode cX0_feed 24 = .ok (.putfield 854, 3) := by decide +kernel
theorem dX0_feed_27 : decode cX0_feed 27 = .ok (.iload_n 1, 1) := by decide +kernel
theorem dX0_feed_28 : decode cX0_feed 28 = .ok (.invokestatic 543, 3) := by decide +kernel
theorem dX0_feed_31 : decode cX0_feed 31 = .ok (.iastore, 1) := by decide +kernel
theorem dX0_feed_32 : decode cX0_feed 32 = .ok (.aload_n 0, 1) := by decide +kernel
theorem dX0_feed_33 : decode cX0_feed 33 = .ok (.getfield 854, 3) := by decide +kernel
theorem dX0_feed_36 : decode cX0_feed 36 = .ok (.ireturn, 1) := by decide +kernel
theorem dX0_clear_0 : decode cX0_clear 0 = .ok (.aload_n 0, 1) := by decide +kernel
theorem dX0_clear_1 : decode cX0_clear 1 = .ok (.getfield 854, 3) := by decide +kernel
theorem dX0_clear_4 : decode cX0_clear 4 = .ok (.istore_n 1, 1) := by decide +kernel
theorem dX0_clear_5 : decode cX0_clear 5 = .ok (.aload_n 0, 1) := by decide +kernel
theorem dX0_clear_6 : decode cX0_clear 6 = .ok (.iconst 0, 1) := by decide +kernel
theorem dX0_clear_7 : decode cX0_clear 7 = .ok (.putfield 854, 3) := by decide +kernel
theorem dX0_clear_10 : decode cX0_clear 10 = .ok (.iload_n 1, 1) := by decide +kernel
theorem dX0_clear_11 : decode cX0_clear 11 = .ok (.ireturn, 1) := by decide +kernel
theorem dX0_guess_0 : decode cX0_guess 0 = .ok (.iload_n 1, 1) := by decide +kernel
theorem dX0_guess_1 : decode cX0_guess 1 = .ok (.invokestatic 519, 3) := by decide +kernel
theorem dX0_guess_4 : decode cX0_guess 4 = .ok (.ifCond .ne 5, 3) := by decide +kernel
theorem dX0_guess_7 : decode cX0_guess 7 = .ok (.iconst (-1), 1) := by decide +kernel
theorem dX0_guess_8 : decode cX0_guess 8 = .ok (.ireturn, 1) := by decide +kernel
theorem dX0_guess_9 : decode cX0_guess 9 = .ok (.iconst 1, 1) := by decide +kernel
theorem dX0_guess_10 : decode cX0_guess 10 = .ok (.istore_n 2, 1) := by decide +kernel
theorem dX0_guess_11 : decode cX0_guess 11 = .ok (.iload_n 2, 1) := by decide +kernel
theorem dX0_guess_12 : decode cX0_guess 12 = .ok (.iconst 4, 1) := by decide +kernel
theorem dX0_guess_13 : decode cX0_guess 13 = .ok (.if_icmp .gt 64, 3) := by decide +kernel
theorem dX0_guess_16 : decode cX0_guess 16 = .ok (.iconst 0, 1) := by decide +kernel
theorem dX0_guess_17 : decode cX0_guess 17 = .ok (.istore_n 3, 1) := by decide +kernel
theorem dX0_guess_18 : decode cX0_guess 18 = .ok (.iload_n 3, 1) := by decide +kernel
theorem dX0_guess_19 : decode cX0_guess 19 = .ok (.bipush 8, 2) := by decide +kernel
theorem dX0_guess_21 : decode cX0_guess 21 = .ok (.if_icmp .gt 50, 3) := by decide +kernel
theorem dX0_guess_24 : decode cX0_guess 24 = .ok (.iload_n 2, 1) := by decide +kernel
theorem dX0_guess_25 : decode cX0_guess 25 = .ok (.iconst 1, 1) := by decide +kernel
theorem dX0_guess_26 : decode cX0_guess 26 = .ok (.iadd, 1) := by decide +kernel
theorem dX0_guess_27 : decode cX0_guess 27 = .ok (.iload_n 3, 1) := by decide +kernel
theorem dX0_guess_28 : decode cX0_guess 28 = .ok (.iconst 1, 1) := by decide +kernel
theorem dX0_guess_29 : decode cX0_guess 29 = .ok (.iadd, 1) := by decide +kernel
theorem dX0_guess_30 : decode cX0_guess 30 = .ok (.imul, 1) := by decide +kernel
theorem dX0_guess_31 : decode cX0_guess 31 = .ok (.iconst 4, 1) := by decide +kernel
theorem dX0_guess_32 : decode cX0_guess 32 = .ok (.iadd, 1) := by decide +kernel
theorem dX0_guess_33 : decode cX0_guess 33 = .ok (.aload_n 0, 1) := by decide +kernel
theorem dX0_guess_34 : decode cX0_guess 34 = .ok (.getfield 854, 3) := by decide +kernel
theorem dX0_guess_37 : decode cX0_guess 37 = .ok (.iload_n 2, 1) := by decide +kernel
theorem dX0_guess_38 : decode cX0_guess 38 = .ok (.isub, 1) := by decide +kernel
theorem dX0_guess_39 : decode cX0_guess 39 = .ok (.if_icmp .gt 32, 3) := by decide +kernel
theorem dX0_guess_42 : decode cX0_guess 42 = .ok (.aload_n 0, 1) := by decide +kernel
theorem dX0_guess_43 : decode cX0_guess 43 = .ok (.iload_n 2, 1) := by decide +kernel
theorem dX0_guess_44 : decode cX0_guess 44 = .ok (.iload_n 3, 1) := by decide +kernel
theorem dX0_guess_45 : decode cX0_guess 45 = .ok (.invokevirtual 860, 3) := by decide +kernel
theorem dX0_guess_48 : decode cX0_guess 48 = .ok (.istore 4, 2) := by decide +kernel
theorem dX0_guess_50 : decode cX0_guess 50 = .ok (.iload 4, 2) := by decide +kernel
theorem dX0_guess_52 : decode cX0_guess 52 = .ok (.ifCond .lt 13, 3) := by decide +kernel
theorem dX0_guess_55 : decode cX0_guess 55 = .ok (.aload_n 0, 1) := by decide +kernel
theorem dX0_guess_56 : decode cX0_guess 56 = .ok (.iload_n 2, 1) := by decide +kernel
theorem dX0_guess_57 : decode cX0_guess 57 = .ok (.iload_n 3, 1) := by decide +kernel
theorem dX0_guess_58 : decode cX0_guess 58 = .ok (.iload 4, 2) := by decide +kernel
theorem dX0_guess_60 : decode cX0_guess 60 = .ok (.iload_n 1, 1) := by decide +kernel
theorem dX0_guess_61 : decode cX0_guess 61 = .ok (.invokevirtual 863, 3) := by decide +kernel
theorem dX0_guess_64 : decode cX0_guess 64 = .ok (.ireturn, 1) := by decide +kernel
theorem dX0_guess_65 : decode cX0_guess 65 = .ok (.iinc 3 1, 3) := by decide +kernel
theorem dX0_guess_68 : decode cX0_guess 68 = .ok (.goto (-50), 3) := by decide +kernel
theorem dX0_guess_71 : decode cX0_guess 71 = .ok (.iinc 2 1, 3) := by decide +kernel
theorem dX0_guess_74 : decode cX0_guess 74 = .ok (.goto (-63), 3) := by decide +kernel
theorem dX0_guess_77 : decode cX0_guess 77 = .ok (.iconst (-1), 1) := by decide +kernel
theorem dX0_guess_78 : decode cX0_guess 78 = .ok (.ireturn, 1) := by decide +kernel
theorem dX0_clearColumn_0 : decode cX0_clearColumn 0 = .ok (.aload_n 0, 1) := by decide +kernel
theorem dX0_clearColumn_1 : decode cX0_clearColumn 1 = .ok (.getfield 484, 3) := by decide +kernel
theorem dX0_clearColumn_4 : decode cX0_clearColumn 4 = .ok (.iload_n 1, 1) := by decide +kernel
theorem dX0_clearColumn_5 : decode cX0_clearColumn 5 = .ok (.aaload, 1) := by decide +kernel
theorem dX0_clearColumn_6 : decode cX0_clearColumn 6 = .ok (.iload_n 2, 1) := by decide +kernel
theorem dX0_clearColumn_7 : decode cX0_clearColumn 7 = .ok (.iaload, 1) := by decide +kernel
theorem dX0_clearColumn_8 : decode cX0_clearColumn 8 = .ok (.invokestatic 74, 3) := by decide +kernel
theorem dX0_clearColumn_11 : decode cX0_clearColumn 11 = .ok (.istore 5, 2) := by decide +kernel
theorem dX0_clearColumn_13 : decode cX0_clearColumn 13 = .ok (.iload_n 2, 1) := by decide +kernel
theorem dX0_clearColumn_14 : decode cX0_clearColumn 14 = .ok (.istore 6, 2) := by decide +kernel
theorem dX0_clearColumn_16 : decode cX0_clearColumn 16 = .ok (.iload 6, 2) := by decide +kernel
theorem dX0_clearColumn_18 : decode cX0_clearColumn 18 = .ok (.iload 4, 2) := by decide +kernel
theorem dX0_clearColumn_20 : decode cX0_clearColumn 20 = .ok (.if_icmp .ge 32, 3) := by decide +kernel
theorem dX0_clearColumn_23 : decode cX0_clearColumn 23 = .ok (.aload_n 0, 1) := by decide +kernel
theorem dX0_clearColumn_24 : decode cX0_clearColumn 24 = .ok (.getfield 484, 3) := by decide +kernel
theorem dX0_clearColumn_27 : decode cX0_clearColumn 27 = .ok (.iload_n 1, 1) := by decide +kernel
theorem dX0_clearColumn_28 : decode cX0_clearColumn 28 = .ok (.aaload, 1) := by decide +kernel
theorem dX0_clearColumn_29 : decode cX0_clearColumn 29 = .ok (.iload 6, 2) := by decide +kernel
theorem dX0_clearColumn_31 : decode cX0_clearColumn 31 = .ok (.aload_n 0, 1) := by decide +kernel
theorem dX0_clearColumn_32 : decode cX0_clearColumn 32 = .ok (.getfield 484, 3) := by decide +kernel
theorem dX0_clearColumn_35 : decode cX0_clearColumn 35 = .ok (.iload_n 1, 1) := by decide +kernel
theorem dX0_clearColumn_36 : decode cX0_clearColumn 36 = .ok (.aaload, 1) := by decide +kernel
theorem dX0_clearColumn_37 : decode cX0_clearColumn 37 = .ok (.iload 6, 2) := by decide +kernel
theorem dX0_clearColumn_39 : decode cX0_clearColumn 39 = .ok (.iaload, 1) := by decide +kernel
theorem dX0_clearColumn_40 : decode cX0_clearColumn 40 = .ok (.iload 5, 2) := by decide +kernel
theorem dX0_clearColumn_42 : decode cX0_clearColumn 42 = .ok (.invokestatic 6, 3) := by decide +kernel
theorem dX0_clearColumn_45 : decode cX0_clearColumn 45 = .ok (.iastore, 1) := by decide +kernel
theorem dX0_clearColumn_46 : decode cX0_clearColumn 46 = .ok (.iinc 6 1, 3) := by decide +kernel
theorem dX0_clearColumn_49 : decode cX0_clearColumn 49 = .ok (.goto (-33), 3) := by decide +kernel
theorem dX0_clearColumn_52 : decode cX0_clearColumn 52 = .ok (.iconst 0, 1) := by decide +kernel
theorem dX0_clearColumn_53 : decode cX0_clearColumn 53 = .ok (.istore 6, 2) := by decide +kernel
theorem dX0_clearColumn_55 : decode cX0_clearColumn 55 = .ok (.iload 6, 2) := by decide +kernel
theorem dX0_clearColumn_57 : decode cX0_clearColumn 57 = .ok (.iload_n 3, 1) := by decide +kernel
theorem dX0_clearColumn_58 : decode cX0_clearColumn 58 = .ok (.if_icmp .ge 84, 3) := by decide +kernel
theorem dX0_clearColumn_61 : decode cX0_clearColumn 61 = .ok (.aload_n 0, 1) := by decide +kernel
theorem dX0_clearColumn_62 : decode cX0_clearColumn 62 = .ok (.getfield 484, 3) := by decide +kernel
theorem dX0_clearColumn_65 : decode cX0_clearColumn 65 = .ok (.iload 6, 2) := by decide +kernel
theorem dX0_clearColumn_67 : decode cX0_clearColumn 67 = .ok (.aaload, 1) := by decide +kernel
theorem dX0_clearColumn_68 : decode cX0_clearColumn 68 = .ok (.iload_n 2, 1) := by decide +kernel
theorem dX0_clearColumn_69 : decode cX0_clearColumn 69 = .ok (.iaload, 1) := by decide +kernel
theorem dX0_clearColumn_70 : decode cX0_clearColumn 70 = .ok (.istore 7, 2) := by decide +kernel
theorem dX0_clearColumn_72 : decode cX0_clearColumn 72 = .ok (.iload_n 2, 1) := by decide +kernel
theorem dX0_clearColumn_73 : decode cX0_clearColumn 73 = .ok (.istore 8, 2) := by decide +kernel
theorem dX0_clearColumn_75 : decode cX0_clearColumn 75 = .ok (.iload 8, 2) := by decide +kernel
theorem dX0_clearColumn_77 : decode cX0_clearColumn 77 = .ok (.iload 4, 2) := by decide +kernel
theorem dX0_clearColumn_79 : decode cX0_clearColumn 79 = .ok (.if_icmp .ge 57, 3) := by decide +kernel
theorem dX0_clearColumn_82 : decode cX0_clearColumn 82 = .ok (.iload 6, 2) := by decide +kernel
theorem dX0_clearColumn_84 : decode cX0_clearColumn 84 = .ok (.iload_n 1, 1) := by decide +kernel
theorem dX0_clearColumn_85 : decode cX0_clearColumn 85 = .ok (.if_icmp .eq 51, 3) := by decide +kernel
theorem dX0_clearColumn_88 : decode cX0_clearColumn 88 = .ok (.iload 7, 2) := by decide +kernel
theorem dX0_clearColumn_90 : decode cX0_clearColumn 90 = .ok (.ifCond .eq 46, 3) := by decide +kernel
theorem dX0_clearColumn_93 : decode cX0_clearColumn 93 = .ok (.aload_n 0, 1) := by decide +kernel
theorem dX0_clearColumn_94 : decode cX0_clearColumn 94 = .ok (.getfield 484, 3) := by decide +kernel
theorem dX0_clearColumn_97 : decode cX0_clearColumn 97 = .ok (.iload 6, 2) := by decide +kernel
theorem dX0_clearColumn_99 : decode cX0_clearColumn 99 = .ok (.aaload, 1) := by decide +kernel
theorem dX0_clearColumn_100 : decode cX0_clearColumn 100 = .ok (.iload 8, 2) := by decide +kernel
theorem dX0_clearColumn_102 : decode cX0_clearColumn 102 = .ok (.aload_n 0, 1) := by decide +kernel
theorem dX0_clearColumn_103 : decode cX0_clearColumn 103 = .ok (.getfield 484, 3) := by decide +kernel
theorem dX0_clearColumn_106 : decode cX0_clearColumn 106 = .ok (.iload 6, 2) := by decide +kernel
theorem dX0_clearColumn_108 : decode cX0_clearColumn 108 = .ok (.aaload, 1) := by decide +kernel
theorem dX0_clearColumn_109 : decode cX0_clearColumn 109 = .ok (.iload 8, 2) := by decide +kernel
theorem dX0_clearColumn_111 : decode cX0_clearColumn 111 = .ok (.iaload, 1) := by decide +kernel
theorem dX0_clearColumn_112 : decode cX0_clearColumn 112 = .ok (.iload 7, 2) := by decide +kernel
theorem dX0_clearColumn_114 : decode cX0_clearColumn 114 = .ok (.aload_n 0, 1) := by decide +kernel
theorem dX0_clearColumn_115 : decode cX0_clearColumn 115 = .ok (.getfield 484, 3) := by decide +kernel
theorem dX0_clearColumn_118 : decode cX0_clearColumn 118 = .ok (.iload_n 1, 1) := by decide +kernel
theorem dX0_clearColumn_119 : decode cX0_clearColumn 119 = .ok (.aaload, 1) := by decide +kernel
theorem dX0_clearColumn_120 : decode cX0_clearColumn 120 = .ok (.iload 8, 2) := by decide +kernel
theorem dX0_clearColumn_122 : decode cX0_clearColumn 122 = .ok (.iaload, 1) := by decide +kernel
theorem dX0_clearColumn_123 : decode cX0_clearColumn 123 = .ok (.invokestatic 6, 3) := by decide +kernel
theorem dX0_clearColumn_126 : decode cX0_clearColumn 126 = .ok (.invokestatic 784, 3) := by decide +kernel
theorem dX0_clearColumn_129 : decode cX0_clearColumn 129 = .ok (.iastore, 1) := by decide +kernel
theorem dX0_clearColumn_130 : decode cX0_clearColumn 130 = .ok (.iinc 8 1, 3) := by decide +kernel
theorem dX0_clearColumn_133 : decode cX0_clearColumn 133 = .ok (.goto (-58), 3) := by decide +kernel
theorem dX0_clearColumn_136 : decode cX0_clearColumn 136 = .ok (.iinc 6 1, 3) := by decide +kernel
theorem dX0_clearColumn_139 : decode cX0_clearColumn 139 = .ok (.goto (-84), 3) := by decide +kernel
theorem dX0_clearColumn_142 : decode cX0_clearColumn 142 = .ok (.return_, 1) := by decide +kernel
theorem dX0_keepGuess_0 : decode cX0_keepGuess 0 = .ok (.iconst 0, 1) := by decide +kernel
theorem dX0_keepGuess_1 : decode cX0_keepGuess 1 = .ok (.istore 5, 2) := by decide +kernel
theorem dX0_keepGuess_3 : decode cX0_keepGuess 3 = .ok (.iload 5, 2) := by decide +kernel
theorem dX0_keepGuess_5 : decode cX0_keepGuess 5 = .ok (.iload_n 1, 1) := by decide +kernel
theorem dX0_keepGuess_6 : decode cX0_keepGuess 6 = .ok (.if_icmp .gt 19, 3) := by decide +kernel
theorem dX0_keepGuess_9 : decode cX0_keepGuess 9 = .ok (.aload_n 0, 1) := by decide +kernel
theorem dX0_keepGuess_10 : decode cX0_keepGuess 10 = .ok (.getfield 455, 3) := by decide +kernel
theorem dX0_keepGuess_13 : decode cX0_keepGuess 13 = .ok (.iload 5, 2) := by decide +kernel
theorem dX0_keepGuess_15 : decode cX0_keepGuess 15 = .ok (.aaload, 1) := by decide +kernel
theorem dX0_keepGuess_16 : decode cX0_keepGuess 16 = .ok (.invokevirtual 709, 3) := by decide +kernel
theorem dX0_keepGuess_19 : decode cX0_keepGuess 19 = .ok (.iinc 5 1, 3) := by decide +kernel
theorem dX0_keepGuess_22 : decode cX0_keepGuess 22 = .ok (.goto (-19), 3) := by decide +kernel
theorem dX0_keepGuess_25 : decode cX0_keepGuess 25 = .ok (.iconst 0, 1) := by decide +kernel
theorem dX0_keepGuess_26 : decode cX0_keepGuess 26 = .ok (.istore 5, 2) := by decide +kernel
theorem dX0_keepGuess_28 : decode cX0_keepGuess 28 = .ok (.iload 5, 2) := by decide +kernel
theorem dX0_keepGuess_30 : decode cX0_keepGuess 30 = .ok (.iload_n 3, 1) := by decide +kernel
theorem dX0_keepGuess_31 : decode cX0_keepGuess 31 = .ok (.if_icmp .gt 66, 3) := by decide +kernel
theorem dX0_keepGuess_34 : decode cX0_keepGuess 34 = .ok (.iload 5, 2) := by decide +kernel
theorem dX0_keepGuess_36 : decode cX0_keepGuess 36 = .ok (.iload_n 3, 1) := by decide +kernel
theorem dX0_keepGuess_37 : decode cX0_keepGuess 37 = .ok (.if_icmp .ne 7, 3) := by decide +kernel
theorem dX0_keepGuess_40 : decode cX0_keepGuess 40 = .ok (.iconst 1, 1) := by decide +kernel
theorem dX0_keepGuess_41 : decode cX0_keepGuess 41 = .ok (.goto 21, 3) := by decide +kernel
theorem dX0_keepGuess_44 : decode cX0_keepGuess 44 = .ok (.iconst 0, 1) := by decide +kernel
theorem dX0_keepGuess_45 : decode cX0_keepGuess 45 = .ok (.aload_n 0, 1) := by decide +kernel
theorem dX0_keepGuess_46 : decode cX0_keepGuess 46 = .ok (.getfield 484, 3) := by decide +kernel
theorem dX0_keepGuess_49 : decode cX0_keepGuess 49 = .ok (.aload_n 0, 1) := by decide +kernel
theorem dX0_keepGuess_50 : decode cX0_keepGuess 50 = .ok (.getfield 487, 3) := by decide +kernel
theorem dX0_keepGuess_53 : decode cX0_keepGuess 53 = .ok (.iload 5, 2) := by decide +kernel
theorem dX0_keepGuess_55 : decode cX0_keepGuess 55 = .ok (.iaload, 1) := by decide +kernel
theorem dX0_keepGuess_56 : decode cX0_keepGuess 56 = .ok (.aaload, 1) := by decide +kernel
theorem dX0_keepGuess_57 : decode cX0_keepGuess 57 = .ok (.iload_n 3, 1) := by decide +kernel
theorem dX0_keepGuess_58 : decode cX0_keepGuess 58 = .ok (.iaload, 1) := by decide +kernel
theorem dX0_keepGuess_59 : decode cX0_keepGuess 59 = .ok (.invokestatic 784, 3) := by decide +kernel
theorem dX0_keepGuess_62 : decode cX0_keepGuess 62 = .ok (.istore 6, 2) := by decide +kernel
theorem dX0_keepGuess_64 : decode cX0_keepGuess 64 = .ok (.iload 6, 2) := by decide +kernel
theorem dX0_keepGuess_66 : decode cX0_keepGuess 66 = .ok (.ifCond .eq 25, 3) := by decide +kernel
theorem dX0_keepGuess_69 : decode cX0_keepGuess 69 = .ok (.aload_n 0, 1) := by decide +kernel
theorem dX0_keepGuess_70 : decode cX0_keepGuess 70 = .ok (.getfield 455, 3) := by decide +kernel
theorem dX0_keepGuess_73 : decode cX0_keepGuess 73 = .ok (.iload 5, 2) := by decide +kernel
theorem dX0_keepGuess_75 : decode cX0_keepGuess 75 = .ok (.iload_n 2, 1) := by decide +kernel
theorem dX0_keepGuess_76 : decode cX0_keepGuess 76 = .ok (.iconst 1, 1) := by decide +kernel
theorem dX0_keepGuess_77 : decode cX0_keepGuess 77 = .ok (.iadd, 1) := by decide +kernel
theorem dX0_keepGuess_78 : decode cX0_keepGuess 78 = .ok (.idiv, 1) := by decide +kernel
theorem dX0_keepGuess_79 : decode cX0_keepGuess 79 = .ok (.aaload, 1) := by decide +kernel
theorem dX0_keepGuess_80 : decode cX0_keepGuess 80 = .ok (.iload 5, 2) := by decide +kernel
theorem dX0_keepGuess_82 : decode cX0_keepGuess 82 = .ok (.iload_n 2, 1) := by decide +kernel
theorem dX0_keepGuess_83 : decode cX0_keepGuess 83 = .ok (.iconst 1, 1) := by decide +kernel
theorem dX0_keepGuess_84 : decode cX0_keepGuess 84 = .ok (.iadd, 1) := by decide +kernel
theorem dX0_keepGuess_85 : decode cX0_keepGuess 85 = .ok (.irem, 1) := by decide +kernel
theorem dX0_keepGuess_86 : decode cX0_keepGuess 86 = .ok (.iload 6, 2) := by decide +kernel
theorem dX0_keepGuess_88 : decode cX0_keepGuess 88 = .ok (.invokevirtual 774, 3) := by decide +kernel
theorem dX0_keepGuess_91 : decode cX0_keepGuess 91 = .ok (.iinc 5 1, 3) := by decide +kernel
theorem dX0_keepGuess_94 : decode cX0_keepGuess 94 = .ok (.goto (-66), 3) := by decide +kernel
theorem dX0_keepGuess_97 : decode cX0_keepGuess 97 = .ok (.aload_n 0, 1) := by decide +kernel
theorem dX0_keepGuess_98 : decode cX0_keepGuess 98 = .ok (.getfield 455, 3) := by decide +kernel
theorem dX0_keepGuess_101 : decode cX0_keepGuess 101 = .ok (.iload_n 1, 1) := by decide +kernel
theorem dX0_keepGuess_102 : decode cX0_keepGuess 102 = .ok (.aaload, 1) := by decide +kernel
theorem dX0_keepGuess_103 : decode cX0_keepGuess 103 = .ok (.invokevirtual 692, 3) := by decide +kernel
theorem dX0_keepGuess_106 : decode cX0_keepGuess 106 = .ok (.ifCond .eq 5, 3) := by decide +kernel
theorem dX0_keepGuess_109 : decode cX0_keepGuess 109 = .ok (.iconst (-1), 1) := by decide +kernel
theorem dX0_keepGuess_110 : decode cX0_keepGuess 110 = .ok (.ireturn, 1) := by decide +kernel
theorem dX0_keepGuess_111 : decode cX0_keepGuess 111 = .ok (.aload_n 0, 1) := by decide +kernel
theorem dX0_keepGuess_112 : decode cX0_keepGuess 112 = .ok (.iload_n 1, 1) := by decide +kernel
theorem dX0_keepGuess_113 : decode cX0_keepGuess 113 = .ok (.putfield 787, 3) := by decide +kernel
theorem dX0_keepGuess_116 : decode cX0_keepGuess 116 = .ok (.aload_n 0, 1) := by decide +kernel
theorem dX0_keepGuess_117 : decode cX0_keepGuess 117 = .ok (.aload_n 0, 1) := by decide +kernel
theorem dX0_keepGuess_118 : decode cX0_keepGuess 118 = .ok (.getfield 455, 3) := by decide +kernel
theorem dX0_keepGuess_121 : decode cX0_keepGuess 121 = .ok (.iload_n 1, 1) := by decide +kernel
theorem dX0_keepGuess_122 : decode cX0_keepGuess 122 = .ok (.invokevirtual 800, 3) := by decide +kernel
theorem dX0_keepGuess_125 : decode cX0_keepGuess 125 = .ok (.aload_n 0, 1) := by decide +kernel
theorem dX0_keepGuess_126 : decode cX0_keepGuess 126 = .ok (.getfield 455, 3) := by decide +kernel
theorem dX0_keepGuess_129 : decode cX0_keepGuess 129 = .ok (.iload_n 1, 1) := by decide +kernel
theorem dX0_keepGuess_130 : decode cX0_keepGuess 130 = .ok (.invokestatic 790, 3) := by decide +kernel
theorem dX0_keepGuess_133 : decode cX0_keepGuess 133 = .ok (.istore 5, 2) := by decide +kernel
theorem dX0_keepGuess_135 : decode cX0_keepGuess 135 = .ok (.iload 5, 2) := by decide +kernel
theorem dX0_keepGuess_137 : decode cX0_keepGuess 137 = .ok (.aload_n 0, 1) := by decide +kernel
theorem dX0_keepGuess_138 : decode cX0_keepGuess 138 = .ok (.getfield 854, 3) := by decide +kernel
theorem dX0_keepGuess_141 : decode cX0_keepGuess 141 = .ok (.if_icmp .le 5, 3) := by decide +kernel
theorem dX0_keepGuess_144 : decode cX0_keepGuess 144 = .ok (.iconst (-1), 1) := by decide +kernel
theorem dX0_keepGuess_145 : decode cX0_keepGuess 145 = .ok (.ireturn, 1) := by decide +kernel
theorem dX0_keepGuess_146 : decode cX0_keepGuess 146 = .ok (.aload_n 0, 1) := by decide +kernel
theorem dX0_keepGuess_147 : decode cX0_keepGuess 147 = .ok (.iload 4, 2) := by decide +kernel
theorem dX0_keepGuess_149 : decode cX0_keepGuess 149 = .ok (.iconst 0, 1) := by decide +kernel
theorem dX0_keepGuess_150 : decode cX0_keepGuess 150 = .ok (.invokevirtual 804, 3) := by decide +kernel
theorem dX0_keepGuess_153 : decode cX0_keepGuess 153 = .ok (.istore 6, 2) := by decide +kernel
theorem dX0_keepGuess_155 : decode cX0_keepGuess 155 = .ok (.aload_n 0, 1) := by decide +kernel
theorem dX0_keepGuess_156 : decode cX0_keepGuess 156 = .ok (.getfield 326, 3) := by decide +kernel
theorem dX0_keepGuess_159 : decode cX0_keepGuess 159 = .ok (.iload 4, 2) := by decide +kernel
theorem dX0_keepGuess_161 : decode cX0_keepGuess 161 = .ok (.aaload, 1) := by decide +kernel
theorem dX0_keepGuess_162 : decode cX0_keepGuess 162 = .ok (.astore 7, 2) := by decide +kernel
theorem dX0_keepGuess_164 : decode cX0_keepGuess 164 = .ok (.aload_n 0, 1) := by decide +kernel
theorem dX0_keepGuess_165 : decode cX0_keepGuess 165 = .ok (.getfield 479, 3) := by decide +kernel
theorem dX0_keepGuess_168 : decode cX0_keepGuess 168 = .ok (.iconst 0, 1) := by decide +kernel
theorem dX0_keepGuess_169 : decode cX0_keepGuess 169 = .ok (.aload 7, 2) := by decide +kernel
theorem dX0_keepGuess_171 : decode cX0_keepGuess 171 = .ok (.getfield 807, 3) := by decide +kernel
theorem dX0_keepGuess_174 : decode cX0_keepGuess 174 = .ok (.iconst 0, 1) := by decide +kernel
theorem dX0_keepGuess_175 : decode cX0_keepGuess 175 = .ok (.iload 5, 2) := by decide +kernel
theorem dX0_keepGuess_177 : decode cX0_keepGuess 177 = .ok (.invokestatic 560, 3) := by decide +kernel
theorem dX0_keepGuess_180 : decode cX0_keepGuess 180 = .ok (.aload 7, 2) := by decide +kernel
theorem dX0_keepGuess_182 : decode cX0_keepGuess 182 = .ok (.iload 5, 2) := by decide +kernel
theorem dX0_keepGuess_184 : decode cX0_keepGuess 184 = .ok (.putfield 794, 3) := by decide +kernel
theorem dX0_keepGuess_187 : decode cX0_keepGuess 187 = .ok (.aload 7, 2) := by decide +kernel
theorem dX0_keepGuess_189 : decode cX0_keepGuess 189 = .ok (.iload 5, 2) := by decide +kernel
theorem dX0_keepGuess_191 : decode cX0_keepGuess 191 = .ok (.putfield 797, 3) := by decide +kernel
theorem dX0_keepGuess_194 : decode cX0_keepGuess 194 = .ok (.iload 6, 2) := by decide +kernel
theorem dX0_keepGuess_196 : decode cX0_keepGuess 196 = .ok (.ireturn, 1) := by decide +kernel
theorem dX0_roots_0 : decode cX0_roots 0 = .ok (.iload_n 1, 1) := by decide +kernel
theorem dX0_roots_1 : decode cX0_roots 1 = .ok (.invokestatic 519, 3) := by decide +kernel
theorem dX0_roots_4 : decode cX0_roots 4 = .ok (.ifCond .ne 5, 3) := by decide +kernel
theorem dX0_roots_7 : decode cX0_roots 7 = .ok (.iconst (-1), 1) := by decide +kernel
theorem dX0_roots_8 : decode cX0_roots 8 = .ok (.ireturn, 1) := by decide +kernel
theorem dX0_roots_9 : decode cX0_roots 9 = .ok (.aload_n 0, 1) := by decide +kernel
theorem dX0_roots_10 : decode cX0_roots 10 = .ok (.aload_n 0, 1) := by decide +kernel
theorem dX0_roots_11 : decode cX0_roots 11 = .ok (.getfield 326, 3) := by decide +kernel
theorem dX0_roots_14 : decode cX0_roots 14 = .ok (.iload_n 1, 1) := by decide +kernel
theorem dX0_roots_15 : decode cX0_roots 15 = .ok (.aaload, 1) := by decide +kernel
theorem dX0_roots_16 : decode cX0_roots 16 = .ok (.invokevirtual 829, 3) := by decide +kernel
theorem dX0_roots_19 : decode cX0_roots 19 = .ok (.ifCond .ne 6, 3) := by decide +kernel
theorem dX0_roots_22 : decode cX0_roots 22 = .ok (.bipush (-3), 2) := by decide +kernel
theorem dX0_roots_24 : decode cX0_roots 24 = .ok (.ireturn, 1) := by decide +kernel
theorem dX0_roots_25 : decode cX0_roots 25 = .ok (.aload_n 0, 1) := by decide +kernel
theorem dX0_roots_26 : decode cX0_roots 26 = .ok (.getfield 326, 3) := by decide +kernel
theorem dX0_roots_29 : decode cX0_roots 29 = .ok (.iload_n 1, 1) := by decide +kernel
theorem dX0_roots_30 : decode cX0_roots 30 = .ok (.aaload, 1) := by decide +kernel
theorem dX0_roots_31 : decode cX0_roots 31 = .ok (.getfield 512, 3) := by decide +kernel
theorem dX0_roots_34 : decode cX0_roots 34 = .ok (.getfield 110, 3) := by decide +kernel
theorem dX0_roots_37 : decode cX0_roots 37 = .ok (.getfield 89, 3) := by decide +kernel
theorem dX0_roots_40 : decode cX0_roots 40 = .ok (.iconst 0, 1) := by decide +kernel
theorem dX0_roots_41 : decode cX0_roots 41 = .ok (.aload_n 0, 1) := by decide +kernel
theorem dX0_roots_42 : decode cX0_roots 42 = .ok (.getfield 493, 3) := by decide +kernel
theorem dX0_roots_45 : decode cX0_roots 45 = .ok (.invokevirtual 661, 3) := by decide +kernel
theorem dX0_roots_48 : decode cX0_roots 48 = .ok (.aload_n 0, 1) := by decide +kernel
theorem dX0_roots_49 : decode cX0_roots 49 = .ok (.getfield 493, 3) := by decide +kernel
theorem dX0_roots_52 : decode cX0_roots 52 = .ok (.invokevirtual 870, 3) := by decide +kernel
theorem dX0_roots_55 : decode cX0_roots 55 = .ok (.aload_n 0, 1) := by decide +kernel
theorem dX0_roots_56 : decode cX0_roots 56 = .ok (.iconst 0, 1) := by decide +kernel
theorem dX0_roots_57 : decode cX0_roots 57 = .ok (.putfield 873, 3) := by decide +kernel
theorem dX0_roots_60 : decode cX0_roots 60 = .ok (.aload_n 0, 1) := by decide +kernel
theorem dX0_roots_61 : decode cX0_roots 61 = .ok (.iconst 0, 1) := by decide +kernel
theorem dX0_roots_62 : decode cX0_roots 62 = .ok (.putfield 876, 3) := by decide +kernel
theorem dX0_roots_65 : decode cX0_roots 65 = .ok (.aload_n 0, 1) := by decide +kernel
theorem dX0_roots_66 : decode cX0_roots 66 = .ok (.getfield 493, 3) := by decide +kernel
theorem dX0_roots_69 : decode cX0_roots 69 = .ok (.getfield 636, 3) := by decide +kernel
theorem dX0_roots_72 : decode cX0_roots 72 = .ok (.iconst 1, 1) := by decide +kernel
theorem dX0_roots_73 : decode cX0_roots 73 = .ok (.if_icmp .le 95, 3) := by decide +kernel
theorem dX0_roots_76 : decode cX0_roots 76 = .ok (.aload_n 0, 1) := by decide +kernel
theorem dX0_roots_77 : decode cX0_roots 77 = .ok (.iconst 0, 1) := by decide +kernel
theorem dX0_roots_78 : decode cX0_roots 78 = .ok (.ldc2_w 3, 3) := by decide +kernel
theorem dX0_roots_81 : decode cX0_roots 81 = .ok (.aload_n 0, 1) := by decide +kernel
theorem dX0_roots_82 : decode cX0_roots 82 = .ok (.getfield 493, 3) := by decide +kernel
theorem dX0_roots_85 : decode cX0_roots 85 = .ok (.aload_n 0, 1) := by decide +kernel
theorem dX0_roots_86 : decode cX0_roots 86 = .ok (.getfield 365, 3) := by decide +kernel
theorem dX0_roots_89 : decode cX0_roots 89 = .ok (.invokevirtual 879, 3) := by decide +kernel
theorem dX0_roots_92 : decode cX0_roots 92 = .ok (.aload_n 0, 1) := by decide +kernel
theorem dX0_roots_93 : decode cX0_roots 93 = .ok (.getfield 411, 3) := by decide +kernel
theorem dX0_roots_96 : decode cX0_roots 96 = .ok (.invokevirtual 709, 3) := by decide +kernel
theorem dX0_roots_99 : decode cX0_roots 99 = .ok (.aload_n 0, 1) := by decide +kernel
theorem dX0_roots_100 : decode cX0_roots 100 = .ok (.getfield 411, 3) := by decide +kernel
theorem dX0_roots_103 : decode cX0_roots 103 = .ok (.iconst 1, 1) := by decide +kernel
theorem dX0_roots_104 : decode cX0_roots 104 = .ok (.ldc 101, 2) := by decide +kernel
theorem dX0_roots_106 : decode cX0_roots 106 = .ok (.invokevirtual 774, 3) := by decide +kernel
theorem dX0_roots_109 : decode cX0_roots 109 = .ok (.aload_n 0, 1) := by decide +kernel
theorem dX0_roots_110 : decode cX0_roots 110 = .ok (.getfield 411, 3) := by decide +kernel
theorem dX0_roots_113 : decode cX0_roots 113 = .ok (.aload_n 0, 1) := by decide +kernel
theorem dX0_roots_114 : decode cX0_roots 114 = .ok (.getfield 365, 3) := by decide +kernel
theorem dX0_roots_117 : decode cX0_roots 117 = .ok (.iconst 1, 1) := by decide +kernel
theorem dX0_roots_118 : decode cX0_roots 118 = .ok (.iconst 0, 1) := by decide +kernel
theorem dX0_roots_119 : decode cX0_roots 119 = .ok (.invokevirtual 689, 3) := by decide +kernel
theorem dX0_roots_122 : decode cX0_roots 122 = .ok (.aload_n 0, 1) := by decide +kernel
theorem dX0_roots_123 : decode cX0_roots 123 = .ok (.getfield 46, 3) := by decide +kernel
theorem dX0_roots_126 : decode cX0_roots 126 = .ok (.getfield 642, 3) := by decide +kernel
theorem dX0_roots_129 : decode cX0_roots 129 = .ok (.aload_n 0, 1) := by decide +kernel
theorem dX0_roots_130 : decode cX0_roots 130 = .ok (.getfield 493, 3) := by decide +kernel
theorem dX0_roots_133 : decode cX0_roots 133 = .ok (.aload_n 0, 1) := by decide +kernel
theorem dX0_roots_134 : decode cX0_roots 134 = .ok (.getfield 411, 3) := by decide +kernel
theorem dX0_roots_137 : decode cX0_roots 137 = .ok (.aload_n 0, 1) := by decide +kernel
theorem dX0_roots_138 : decode cX0_roots 138 = .ok (.getfield 499, 3) := by decide +kernel
theorem dX0_roots_141 : decode cX0_roots 141 = .ok (.iconst 0, 1) := by decide +kernel
theorem dX0_roots_142 : decode cX0_roots 142 = .ok (.aaload, 1) := by decide +kernel
theorem dX0_roots_143 : decode cX0_roots 143 = .ok (.invokevirtual 646, 3) := by decide +kernel
theorem dX0_roots_146 : decode cX0_roots 146 = .ok (.aload_n 0, 1) := by decide +kernel
theorem dX0_roots_147 : decode cX0_roots 147 = .ok (.aload_n 0, 1) := by decide +kernel
theorem dX0_roots_148 : decode cX0_roots 148 = .ok (.getfield 499, 3) := by decide +kernel
theorem dX0_roots_151 : decode cX0_roots 151 = .ok (.iconst 0, 1) := by decide +kernel
theorem dX0_roots_152 : decode cX0_roots 152 = .ok (.aaload, 1) := by decide +kernel
theorem dX0_roots_153 : decode cX0_roots 153 = .ok (.getfield 636, 3) := by decide +kernel
theorem dX0_roots_156 : decode cX0_roots 156 = .ok (.iconst 1, 1) := by decide +kernel
theorem dX0_roots_157 : decode cX0_roots 157 = .ok (.if_icmp .le 7, 3) := by decide +kernel
theorem dX0_roots_160 : decode cX0_roots 160 = .ok (.iconst 1, 1) := by decide +kernel
theorem dX0_roots_161 : decode cX0_roots 161 = .ok (.goto 4, 3) := by decide +kernel
theorem dX0_roots_164 : decode cX0_roots 164 = .ok (.iconst 0, 1) := by decide +kernel
theorem dX0_roots_165 : decode cX0_roots 165 = .ok (.putfield 876, 3) := by decide +kernel
theorem dX0_roots_168 : decode cX0_roots 168 = .ok (.aload_n 0, 1) := by decide +kernel
theorem dX0_roots_169 : decode cX0_roots 169 = .ok (.getfield 876, 3) := by decide +kernel
theorem dX0_roots_172 : decode cX0_roots 172 = .ok (.ifCond .le 29, 3) := by decide +kernel
theorem dX0_roots_175 : decode cX0_roots 175 = .ok (.aload_n 0, 1) := by decide +kernel
theorem dX0_roots_176 : decode cX0_roots 176 = .ok (.dup, 1) := by decide +kernel
theorem dX0_roots_177 : decode cX0_roots 177 = .ok (.getfield 876, 3) := by decide +kernel
theorem dX0_roots_180 : decode cX0_roots 180 = .ok (.iconst 1, 1) := by decide +kernel
theorem dX0_roots_181 : decode cX0_roots 181 = .ok (.isub, 1) := by decide +kernel
theorem dX0_roots_182 : decode cX0_roots 182 = .ok (.putfield 876, 3) := by decide +kernel
theorem dX0_roots_185 : decode cX0_roots 185 = .ok (.aload_n 0, 1) := by decide +kernel
theorem dX0_roots_186 : decode cX0_roots 186 = .ok (.aload_n 0, 1) := by decide +kernel
theorem dX0_roots_187 : decode cX0_roots 187 = .ok (.getfield 499, 3) := by decide +kernel
theorem dX0_roots_190 : decode cX0_roots 190 = .ok (.aload_n 0, 1) := by decide +kernel
theorem dX0_roots_191 : decode cX0_roots 191 = .ok (.getfield 876, 3) := by decide +kernel
theorem dX0_roots_194 : decode cX0_roots 194 = .ok (.aaload, 1) := by decide +kernel
theorem dX0_roots_195 : decode cX0_roots 195 = .ok (.invokevirtual 883, 3) := by decide +kernel
theorem dX0_roots_198 : decode cX0_roots 198 = .ok (.goto (-30), 3) := by decide +kernel
theorem dX0_roots_201 : decode cX0_roots 201 = .ok (.aload_n 0, 1) := by decide +kernel
theorem dX0_roots_202 : decode cX0_roots 202 = .ok (.invokevirtual 886, 3) := by decide +kernel
theorem dX0_roots_205 : decode cX0_roots 205 = .ok (.aload_n 0, 1) := by decide +kernel
theorem dX0_roots_206 : decode cX0_roots 206 = .ok (.getfield 873, 3) := by decide +kernel
theorem dX0_roots_209 : decode cX0_roots 209 = .ok (.ireturn, 1) := by decide +kernel
theorem dX0_powerBy_0 : decode cX0_powerBy 0 = .ok (.aload 5, 2) := by decide +kernel
theorem dX0_powerBy_2 : decode cX0_powerBy 2 = .ok (.iconst 1, 1) := by decide +kernel
theorem dX0_powerBy_3 : decode cX0_powerBy 3 = .ok (.invokevirtual 734, 3) := by decide +kernel
theorem dX0_powerBy_6 : decode cX0_powerBy 6 = .ok (.aload_n 0, 1) := by decide +kernel
theorem dX0_powerBy_7 : decode cX0_powerBy 7 = .ok (.getfield 361, 3) := by decide +kernel
theorem dX0_powerBy_10 : decode cX0_powerBy 10 = .ok (.iload_n 1, 1) := by decide +kernel
theorem dX0_powerBy_11 : decode cX0_powerBy 11 = .ok (.invokevirtual 734, 3) := by decide +kernel
theorem dX0_powerBy_14 : decode cX0_powerBy 14 = .ok (.aload_n 0, 1) := by decide +kernel
theorem dX0_powerBy_15 : decode cX0_powerBy 15 = .ok (.getfield 361, 3) := by decide +kernel
theorem dX0_powerBy_18 : decode cX0_powerBy 18 = .ok (.iconst 1, 1) := by decide +kernel
theorem dX0_powerBy_19 : decode cX0_powerBy 19 = .ok (.iconst 1, 1) := by decide +kernel
theorem dX0_powerBy_20 : decode cX0_powerBy 20 = .ok (.invokevirtual 774, 3) := by decide +kernel
theorem dX0_powerBy_23 : decode cX0_powerBy 23 = .ok (.aload_n 0, 1) := by decide +kernel
theorem dX0_powerBy_24 : decode cX0_powerBy 24 = .ok (.getfield 361, 3) := by decide +kernel
theorem dX0_powerBy_27 : decode cX0_powerBy 27 = .ok (.aload 4, 2) := by decide +kernel
theorem dX0_powerBy_29 : decode cX0_powerBy 29 = .ok (.aconst_null, 1) := by decide +kernel
theorem dX0_powerBy_30 : decode cX0_powerBy 30 = .ok (.invokevirtual 867, 3) := by decide +kernel
theorem dX0_powerBy_33 : decode cX0_powerBy 33 = .ok (.lload_n 2, 1) := by decide +kernel
theorem dX0_powerBy_34 : decode cX0_powerBy 34 = .ok (.lstore 6, 2) := by decide +kernel
theorem dX0_powerBy_36 : decode cX0_powerBy 36 = .ok (.lload 6, 2) := by decide +kernel
theorem dX0_powerBy_38 : decode cX0_powerBy 38 = .ok (.lconst 0, 1) := by decide +kernel
theorem dX0_powerBy_39 : decode cX0_powerBy 39 = .ok (.lcmp, 1) := by decide +kernel
theorem dX0_powerBy_40 : decode cX0_powerBy 40 = .ok (.ifCond .le 89, 3) := by decide +kernel
theorem dX0_powerBy_43 : decode cX0_powerBy 43 = .ok (.lload 6, 2) := by decide +kernel
theorem dX0_powerBy_45 : decode cX0_powerBy 45 = .ok (.lconst 1, 1) := by decide +kernel
theorem dX0_powerBy_46 : decode cX0_powerBy 46 = .ok (.land, 1) := by decide +kernel
theorem dX0_powerBy_47 : decode cX0_powerBy 47 = .ok (.lconst 1, 1) := by decide +kernel
theorem dX0_powerBy_48 : decode cX0_powerBy 48 = .ok (.lcmp, 1) := by decide +kernel
theorem dX0_powerBy_49 : decode cX0_powerBy 49 = .ok (.ifCond .ne 35, 3) := by decide +kernel
theorem dX0_powerBy_52 : decode cX0_powerBy 52 = .ok (.aload_n 0, 1) := by decide +kernel
theorem dX0_powerBy_53 : decode cX0_powerBy 53 = .ok (.getfield 496, 3) := by decide +kernel
theorem dX0_powerBy_56 : decode cX0_powerBy 56 = .ok (.aload 5, 2) := by decide +kernel
theorem dX0_powerBy_58 : decode cX0_powerBy 58 = .ok (.aload_n 0, 1) := by decide +kernel
theorem dX0_powerBy_59 : decode cX0_powerBy 59 = .ok (.getfield 361, 3) := by decide +kernel
theorem dX0_powerBy_62 : decode cX0_powerBy 62 = .ok (.invokevirtual 739, 3) := by decide +kernel
theorem dX0_powerBy_65 : decode cX0_powerBy 65 = .ok (.aload_n 0, 1) := by decide +kernel
theorem dX0_powerBy_66 : decode cX0_powerBy 66 = .ok (.getfield 496, 3) := by decide +kernel
theorem dX0_powerBy_69 : decode cX0_powerBy 69 = .ok (.aload 4, 2) := by decide +kernel
theorem dX0_powerBy_71 : decode cX0_powerBy 71 = .ok (.aconst_null, 1) := by decide +kernel
theorem dX0_powerBy_72 : decode cX0_powerBy 72 = .ok (.invokevirtual 867, 3) := by decide +kernel
theorem dX0_powerBy_75 : decode cX0_powerBy 75 = .ok (.aload 5, 2) := by decide +kernel
theorem dX0_powerBy_77 : decode cX0_powerBy 77 = .ok (.aload_n 0, 1) := by decide +kernel
theorem dX0_powerBy_78 : decode cX0_powerBy 78 = .ok (.getfield 496, 3) := by decide +kernel
theorem dX0_powerBy_81 : decode cX0_powerBy 81 = .ok (.invokevirtual 686, 3) := by decide +kernel
theorem dX0_powerBy_84 : decode cX0_powerBy 84 = .ok (.aload_n 0, 1) := by decide +kernel
theorem dX0_powerBy_85 : decode cX0_powerBy 85 = .ok (.getfield 496, 3) := by decide +kernel
theorem dX0_powerBy_88 : decode cX0_powerBy 88 = .ok (.aload_n 0, 1) := by decide +kernel
theorem dX0_powerBy_89 : decode cX0_powerBy 89 = .ok (.getfield 361, 3) := by decide +kernel
theorem dX0_powerBy_92 : decode cX0_powerBy 92 = .ok (.aload_n 0, 1) := by decide +kernel
theorem dX0_powerBy_93 : decode cX0_powerBy 93 = .ok (.getfield 361, 3) := by decide +kernel
theorem dX0_powerBy_96 : decode cX0_powerBy 96 = .ok (.invokevirtual 739, 3) := by decide +kernel
theorem dX0_powerBy_99 : decode cX0_powerBy 99 = .ok (.aload_n 0, 1) := by decide +kernel
theorem dX0_powerBy_100 : decode cX0_powerBy 100 = .ok (.getfield 496, 3) := by decide +kernel
theorem dX0_powerBy_103 : decode cX0_powerBy 103 = .ok (.aload 4, 2) := by decide +kernel
theorem dX0_powerBy_105 : decode cX0_powerBy 105 = .ok (.aconst_null, 1) := by decide +kernel
theorem dX0_powerBy_106 : decode cX0_powerBy 106 = .ok (.invokevirtual 867, 3) := by decide +kernel
theorem dX0_powerBy_109 : decode cX0_powerBy 109 = .ok (.aload_n 0, 1) := by decide +kernel
theorem dX0_powerBy_110 : decode cX0_powerBy 110 = .ok (.getfield 361, 3) := by decide +kernel
theorem dX0_powerBy_113 : decode cX0_powerBy 113 = .ok (.aload_n 0, 1) := by decide +kernel
theorem dX0_powerBy_114 : decode cX0_powerBy 114 = .ok (.getfield 496, 3) := by decide +kernel
theorem dX0_powerBy_117 : decode cX0_powerBy 117 = .ok (.invokevirtual 686, 3) := by decide +kernel
theorem dX0_powerBy_120 : decode cX0_powerBy 120 = .ok (.lload 6, 2) := by decide +kernel
theorem dX0_powerBy_122 : decode cX0_powerBy 122 = .ok (.iconst 1, 1) := by decide +kernel
theorem dX0_powerBy_123 : decode cX0_powerBy 123 = .ok (.lshr, 1) := by decide +kernel
theorem dX0_powerBy_124 : decode cX0_powerBy 124 = .ok (.lstore 6, 2) := by decide +kernel
theorem dX0_powerBy_126 : decode cX0_powerBy 126 = .ok (.goto (-90), 3) := by decide +kernel
theorem dX0_powerBy_129 : decode cX0_powerBy 129 = .ok (.return_, 1) := by decide +kernel
theorem dX0_split_0 : decode cX0_split 0 = .ok (.aload_n 1, 1) := by decide +kernel
theorem dX0_split_1 : decode cX0_split 1 = .ok (.getfield 636, 3) := by decide +kernel
theorem dX0_split_4 : decode cX0_split 4 = .ok (.iconst 2, 1) := by decide +kernel
theorem dX0_split_5 : decode cX0_split 5 = .ok (.if_icmp .ne 30, 3) := by decide +kernel
theorem dX0_split_8 : decode cX0_split 8 = .ok (.aload_n 0, 1) := by decide +kernel
theorem dX0_split_9 : decode cX0_split 9 = .ok (.iconst 0, 1) := by decide +kernel
theorem dX0_split_10 : decode cX0_split 10 = .ok (.aload_n 1, 1) := by decide +kernel
theorem dX0_split_11 : decode cX0_split 11 = .ok (.getfield 889, 3) := by decide +kernel
theorem dX0_split_14 : decode cX0_split 14 = .ok (.iconst 0, 1) := by decide +kernel
theorem dX0_split_15 : decode cX0_split 15 = .ok (.iaload, 1) := by decide +kernel
theorem dX0_split_16 : decode cX0_split 16 = .ok (.aload_n 1, 1) := by decide +kernel
theorem dX0_split_17 : decode cX0_split 17 = .ok (.getfield 889, 3) := by decide +kernel
theorem dX0_split_20 : decode cX0_split 20 = .ok (.iconst 1, 1) := by decide +kernel
theorem dX0_split_21 : decode cX0_split 21 = .ok (.iaload, 1) := by decide +kernel
theorem dX0_split_22 : decode cX0_split 22 = .ok (.invokestatic 74, 3) := by decide +kernel
theorem dX0_split_25 : decode cX0_split 25 = .ok (.invokestatic 6, 3) := by decide +kernel
theorem dX0_split_28 : decode cX0_split 28 = .ok (.invokestatic 784, 3) := by decide +kernel
theorem dX0_split_31 : decode cX0_split 31 = .ok (.invokevirtual 890, 3) := by decide +kernel
theorem dX0_split_34 : decode cX0_split 34 = .ok (.return_, 1) := by decide +kernel
theorem dX0_split_35 : decode cX0_split 35 = .ok (.aload_n 0, 1) := by decide +kernel
theorem dX0_split_36 : decode cX0_split 36 = .ok (.getfield 408, 3) := by decide +kernel
theorem dX0_split_39 : decode cX0_split 39 = .ok (.aload_n 1, 1) := by decide +kernel
theorem dX0_split_40 : decode cX0_split 40 = .ok (.invokevirtual 686, 3) := by decide +kernel
theorem dX0_split_43 : decode cX0_split 43 = .ok (.iconst 0, 1) := by decide +kernel
theorem dX0_split_44 : decode cX0_split 44 = .ok (.istore_n 2, 1) := by decide +kernel
theorem dX0_split_45 : decode cX0_split 45 = .ok (.iconst 0, 1) := by decide +kernel
theorem dX0_split_46 : decode cX0_split 46 = .ok (.istore_n 3, 1) := by decide +kernel
theorem dX0_split_47 : decode cX0_split 47 = .ok (.iload_n 3, 1) := by decide +kernel
theorem dX0_split_48 : decode cX0_split 48 = .ok (.ifCond .ne 103, 3) := by decide +kernel
theorem dX0_split_51 : decode cX0_split 51 = .ok (.aload_n 0, 1) := by decide +kernel
theorem dX0_split_52 : decode cX0_split 52 = .ok (.iload_n 2, 1) := by decide +kernel
theorem dX0_split_53 : decode cX0_split 53 = .ok (.ldc2_w 893, 3) := by decide +kernel
theorem dX0_split_56 : decode cX0_split 56 = .ok (.aload_n 0, 1) := by decide +kernel
theorem dX0_split_57 : decode cX0_split 57 = .ok (.getfield 408, 3) := by decide +kernel
theorem dX0_split_60 : decode cX0_split 60 = .ok (.aload_n 0, 1) := by decide +kernel
theorem dX0_split_61 : decode cX0_split 61 = .ok (.getfield 365, 3) := by decide +kernel
theorem dX0_split_64 : decode cX0_split 64 = .ok (.invokevirtual 879, 3) := by decide +kernel
theorem dX0_split_67 : decode cX0_split 67 = .ok (.aload_n 0, 1) := by decide +kernel
theorem dX0_split_68 : decode cX0_split 68 = .ok (.getfield 411, 3) := by decide +kernel
theorem dX0_split_71 : decode cX0_split 71 = .ok (.ldc 101, 2) := by decide +kernel
theorem dX0_split_73 : decode cX0_split 73 = .ok (.invokevirtual 734, 3) := by decide +kernel
theorem dX0_split_76 : decode cX0_split 76 = .ok (.aload_n 0, 1) := by decide +kernel
theorem dX0_split_77 : decode cX0_split 77 = .ok (.getfield 411, 3) := by decide +kernel
theorem dX0_split_80 : decode cX0_split 80 = .ok (.aload_n 0, 1) := by decide +kernel
theorem dX0_split_81 : decode cX0_split 81 = .ok (.getfield 365, 3) := by decide +kernel
theorem dX0_split_84 : decode cX0_split 84 = .ok (.iconst 1, 1) := by decide +kernel
theorem dX0_split_85 : decode cX0_split 85 = .ok (.iconst 0, 1) := by decide +kernel
theorem dX0_split_86 : decode cX0_split 86 = .ok (.invokevirtual 689, 3) := by decide +kernel
theorem dX0_split_89 : decode cX0_split 89 = .ok (.aload_n 0, 1) := by decide +kernel
theorem dX0_split_90 : decode cX0_split 90 = .ok (.getfield 46, 3) := by decide +kernel
theorem dX0_split_93 : decode cX0_split 93 = .ok (.getfield 642, 3) := by decide +kernel
theorem dX0_split_96 : decode cX0_split 96 = .ok (.aload_n 0, 1) := by decide +kernel
theorem dX0_split_97 : decode cX0_split 97 = .ok (.getfield 408, 3) := by decide +kernel
theorem dX0_split_100 : decode cX0_split 100 = .ok (.aload_n 0, 1) := by decide +kernel
theorem dX0_split_101 : decode cX0_split 101 = .ok (.getfield 411, 3) := by decide +kernel
theorem dX0_split_104 : decode cX0_split 104 = .ok (.aload_n 0, 1) := by decide +kernel
theorem dX0_split_105 : decode cX0_split 105 = .ok (.getfield 406, 3) := by decide +kernel
theorem dX0_split_108 : decode cX0_split 108 = .ok (.invokevirtual 646, 3) := by decide +kernel
theorem dX0_split_111 : decode cX0_split 111 = .ok (.aload_n 0, 1) := by decide +kernel
theorem dX0_split_112 : decode cX0_split 112 = .ok (.getfield 406, 3) := by decide +kernel
theorem dX0_split_115 : decode cX0_split 115 = .ok (.getfield 636, 3) := by decide +kernel
theorem dX0_split_118 : decode cX0_split 118 = .ok (.iconst 1, 1) := by decide +kernel
theorem dX0_split_119 : decode cX0_split 119 = .ok (.if_icmp .le 24, 3) := by decide +kernel
theorem dX0_split_122 : decode cX0_split 122 = .ok (.aload_n 0, 1) := by decide +kernel
theorem dX0_split_123 : decode cX0_split 123 = .ok (.getfield 406, 3) := by decide +kernel
theorem dX0_split_126 : decode cX0_split 126 = .ok (.getfield 636, 3) := by decide +kernel
theorem dX0_split_129 : decode cX0_split 129 = .ok (.aload_n 0, 1) := by decide +kernel
theorem dX0_split_130 : decode cX0_split 130 = .ok (.getfield 408, 3) := by decide +kernel
theorem dX0_split_133 : decode cX0_split 133 = .ok (.getfield 636, 3) := by decide +kernel
theorem dX0_split_136 : decode cX0_split 136 = .ok (.if_icmp .ge 7, 3) := by decide +kernel
theorem dX0_split_139 : decode cX0_split 139 = .ok (.iconst 1, 1) := by decide +kernel
theorem dX0_split_140 : decode cX0_split 140 = .ok (.goto 4, 3) := by decide +kernel
theorem dX0_split_143 : decode cX0_split 143 = .ok (.iconst 0, 1) := by decide +kernel
theorem dX0_split_144 : decode cX0_split 144 = .ok (.istore_n 3, 1) := by decide +kernel
theorem dX0_split_145 : decode cX0_split 145 = .ok (.iinc 2 1, 3) := by decide +kernel
theorem dX0_split_148 : decode cX0_split 148 = .ok (.goto (-101), 3) := by decide +kernel
theorem dX0_split_151 : decode cX0_split 151 = .ok (.aload_n 0, 1) := by decide +kernel
theorem dX0_split_152 : decode cX0_split 152 = .ok (.getfield 499, 3) := by decide +kernel
theorem dX0_split_155 : decode cX0_split 155 = .ok (.aload_n 0, 1) := by decide +kernel
theorem dX0_split_156 : decode cX0_split 156 = .ok (.getfield 876, 3) := by decide +kernel
theorem dX0_split_159 : decode cX0_split 159 = .ok (.aaload, 1) := by decide +kernel
theorem dX0_split_160 : decode cX0_split 160 = .ok (.aload_n 0, 1) := by decide +kernel
theorem dX0_split_161 : decode cX0_split 161 = .ok (.getfield 406, 3) := by decide +kernel
theorem dX0_split_164 : decode cX0_split 164 = .ok (.invokevirtual 686, 3) := by decide +kernel
theorem dX0_split_167 : decode cX0_split 167 = .ok (.aload_n 0, 1) := by decide +kernel
theorem dX0_split_168 : decode cX0_split 168 = .ok (.getfield 46, 3) := by decide +kernel
theorem dX0_split_171 : decode cX0_split 171 = .ok (.getfield 642, 3) := by decide +kernel
theorem dX0_split_174 : decode cX0_split 174 = .ok (.aload_n 0, 1) := by decide +kernel
theorem dX0_split_175 : decode cX0_split 175 = .ok (.getfield 408, 3) := by decide +kernel
theorem dX0_split_178 : decode cX0_split 178 = .ok (.aload_n 0, 1) := by decide +kernel
theorem dX0_split_179 : decode cX0_split 179 = .ok (.getfield 406, 3) := by decide +kernel
theorem dX0_split_182 : decode cX0_split 182 = .ok (.invokevirtual 718, 3) := by decide +kernel
theorem dX0_split_185 : decode cX0_split 185 = .ok (.aload_n 0, 1) := by decide +kernel
theorem dX0_split_186 : decode cX0_split 186 = .ok (.getfield 499, 3) := by decide +kernel
theorem dX0_split_189 : decode cX0_split 189 = .ok (.aload_n 0, 1) := by decide +kernel
theorem dX0_split_190 : decode cX0_split 190 = .ok (.getfield 876, 3) := by decide +kernel
theorem dX0_split_193 : decode cX0_split 193 = .ok (.iconst 1, 1) := by decide +kernel
theorem dX0_split_194 : decode cX0_split 194 = .ok (.iadd, 1) := by decide +kernel
theorem dX0_split_195 : decode cX0_split 195 = .ok (.aaload, 1) := by decide +kernel
theorem dX0_split_196 : decode cX0_split 196 = .ok (.aload_n 0, 1) := by decide +kernel
theorem dX0_split_197 : decode cX0_split 197 = .ok (.getfield 408, 3) := by decide +kernel
theorem dX0_split_200 : decode cX0_split 200 = .ok (.invokevirtual 686, 3) := by decide +kernel
theorem dX0_split_203 : decode cX0_split 203 = .ok (.aload_n 0, 1) := by decide +kernel
theorem dX0_split_204 : decode cX0_split 204 = .ok (.dup, 1) := by decide +kernel
theorem dX0_split_205 : decode cX0_split 205 = .ok (.getfield 876, 3) := by decide +kernel
theorem dX0_split_208 : decode cX0_split 208 = .ok (.iconst 2, 1) := by decide +kernel
theorem dX0_split_209 : decode cX0_split 209 = .ok (.iadd, 1) := by decide +kernel
theorem dX0_split_210 : decode cX0_split 210 = .ok (.putfield 876, 3) := by decide +kernel
theorem dX0_split_213 : decode cX0_split 213 = .ok (.return_, 1) := by decide +kernel
abbrev W_X0_part (g : GX) (d : Nat) (av : List Value) (Q : QT) (n : Nat) (pc : Nat) (ls : LV) (stk : List Value) (h : Hp) : Prop := RJ g m_X0_part (d + 1) 0 0 av Q pc ls stk n h 0 0
theorem s_X0_part_0 {g : GX} {d : Nat} {av : List Value} {Q : QT} {n : Nat} {h : Hp} {x1 : Int32} {x2 : Int32} {x3 : Int32} (hp : g.2.2.2.2 = true)  (H : CallI g m_X0_isSlot d [.int x1] n h (fun v1 h1 => (((v1 = (0 : Int32)) → (Q (some (.int (-1 : Int32))) n h1)) ∧ ((¬ v1 = (0 : Int32)) → (CallI g m_X0_isSlot d [.int x3] n h1 (fun v2 h2 => (((¬ v2 = (0 : Int32)) → (vp_in x1 12 ∧ ∀ r3, r3 = 1185 + 27 * (x1).toNatClampNeg → ((((3 : Int32) ≤ (ri h2 r3 0)) → (((¬ (ri h2 r3 0) = (3 : Int32)) → (W_X0_part g d av Q n 51 [some (.ref 0), none, some (.int x2), some (.int x3), some (.ref r3)] [.int (0 : Int32), .int x2] h2)) ∧ (((ri h2 r3 0) = (3 : Int32)) → (W_X0_part g d av Q n 51 [some (.ref 0), none, some (.int x2), some (.int x3), some (.ref r3)] [.int (-1 : Int32), .int x2] h2)))) ∧ ((¬ (3 : Int32) ≤ (ri h2 r3 0)) → (Q (some (.int (-3 : Int32))) n h2))))) ∧ ((v2 = (0 : Int32)) → (Q (some (.int (-1 : Int32))) n h2))))))))) : W_X0_part g d av Q n 0 [some (.ref 0), some (.int x1), some (.int x2), some (.int x3), none] [] h := by
  refine r_iload_n dX0_part_0 rfl rfl ?_
  refine k_SI (As := [.int x1]) (stk := []) cs_X0_519 dX0_part_1 rfl (Nat.le_of_ble_eq_true rfl) (H.mono (fun v1 h1 H => ?_)) ⟨Nat.le_refl _, Nat.le_refl _⟩
  refine r_if_eq (tgt := 14) dX0_part_4 rfl (fun cH => ?_) (fun cH => ?_)
  · replace H := H.1 cH
    refine r_iconst (v := (-1 : Int32)) dX0_part_14 rfl ?_
    exact r_zret dX0_part_15 rfl rfl (Nat.le_refl _) (Nat.le_refl _) H
  · replace H := H.2 cH
    refine r_iload_n dX0_part_7 rfl rfl ?_
    refine k_SI (As := [.int x3]) (stk := []) cs_X0_519 dX0_part_8 rfl (Nat.le_of_ble_eq_true rfl) (H.mono (fun v2 h2 H => ?_)) ⟨Nat.le_refl _, Nat.le_refl _⟩
    refine r_if_ne (tgt := 16) dX0_part_11 rfl (fun cH => ?_) (fun cH => ?_)
    · replace H := H.1 cH
      refine r_aload_n dX0_part_16 rfl rfl ?_
      refine m_getF (x := 79) hp fw_X0_326 dX0_part_17 rfl ly_0 (ff_0_20 ly_0) ?_
      refine r_iload_n dX0_part_20 rfl rfl ?_
      obtain ⟨r3, er3⟩ : ∃ y, y = 1185 + 27 * (x1).toNatClampNeg := ⟨_, rfl⟩
      have hir3 := H.1
      replace H := H.2 r3 er3
      have tLr3 := la_79 hir3 er3
      refine m_aalF (x := r3) hp dX0_part_21 (lf_0_20 ly_0) rfl rfl (lu_0_20 ly_0) hir3 (fa_79 hir3 er3) ?_
      refine r_astore (ls2 := [some (.ref 0), some (.int x1), some (.int x2), some (.int x3), some (.ref r3)]) dX0_part_22 (by decide) rfl ?_
      refine r_aload dX0_part_24 rfl ?_
      refine m_getI hp fw_X0_509 dX0_part_26 rfl tLr3 ?_
      refine r_iconst (v := (3 : Int32)) dX0_part_29 rfl ?_
      refine r_icmp_ge (tgt := 36) dX0_part_30 rfl (fun cH => ?_) (fun cH => ?_)
      · replace H := H.1 cH
        refine r_iload_n dX0_part_36 rfl rfl ?_
        refine r_aload dX0_part_37 rfl ?_
        refine m_getI hp fw_X0_509 dX0_part_39 rfl tLr3 ?_
        refine r_iconst (v := (3 : Int32)) dX0_part_42 rfl ?_
        refine r_icmp_ne (tgt := 50) dX0_part_43 rfl (fun cH => ?_) (fun cH => ?_)
        · replace H := H.1 cH
          refine r_iconst (v := (0 : Int32)) dX0_part_50 rfl ?_
          refine r_prune [true, false, true, true, true] (ls2 := [some (.ref 0), none, some (.int x2), some (.int x3), some (.ref r3)]) rfl ?_
          exact H
        · replace H := H.2 cH
          refine r_iconst (v := (-1 : Int32)) dX0_part_46 rfl ?_
          refine r_goto (tgt := 51) dX0_part_47 rfl ?_
          refine r_prune [true, false, true, true, true] (ls2 := [some (.ref 0), none, some (.int x2), some (.int x3), some (.ref r3)]) rfl ?_
          exact H
      · replace H := H.2 cH
        refine r_bipush (v := (-3 : Int32)) dX0_part_33 rfl ?_
        exact r_zret dX0_part_35 rfl rfl (Nat.le_refl _) (Nat.le_refl _) H
    · replace H := H.2 cH
      refine r_iconst (v := (-1 : Int32)) dX0_part_14 rfl ?_
      exact r_zret dX0_part_15 rfl rfl (Nat.le_refl _) (Nat.le_refl _) H
theorem s_X0_part_51 {g : GX} {d : Nat} {av : List Value} {Q : QT} {n : Nat} {h : Hp} {x2 : Int32} {x3 : Int32} {a4 : Nat} {xs0 : Int32} {xs1 : Int32} (hp : g.2.2.2.2 = true) (t4 : lay a4 = (0, 9, 8)) (H : CallI g m_X0_within d [.int xs1, .int xs0, .int (ri h a4 3)] n h (fun v1 h1 => (((¬ v1 = (0 : Int32)) → (CallV g m_X5_plain d [.ref 80] n h1 (fun h2 => ((((0 : Int32) ≤ x2) → (CallV g m_X4_set d [.ref 84, .int (1 : Int32)] n h2 (fun h3 => (vp_in x2 7 ∧ ∀ r4, r4 = (a4 + 13) + 2 * (x2).toNatClampNeg → (CallV g m_X4_open d [.ref 82, .int (ri h3 r4 1), .int (1 : Int32)] n h3 (fun h5 => (vp_in x2 7 ∧ ∀ r6, r6 = (a4 + 13) + 2 * (x2).toNatClampNeg → (CallV g m_X4_putRow d [.ref 82, .int (0 : Int32), .ref r6] n h5 (fun h7 => (CallV g m_X4_trim d [.ref 82] n h7 (fun h8 => (W_X0_part g d av Q n 168 [some (.ref 0), none, none, some (.int x3), none] [] h8)))))))))))) ∧ ((¬ (0 : Int32) ≤ x2) → (CallV g m_X6_copy d [.ref 81, .ref (a4 + 2)] n h2 (fun h9 => (W_X0_part g d av Q n 168 [some (.ref 0), none, none, some (.int x3), none] [] h9)))))))) ∧ ((v1 = (0 : Int32)) → (Q (some (.int (-1 : Int32))) n h1))))) : W_X0_part g d av Q n 51 [some (.ref 0), none, some (.int x2), some (.int x3), some (.ref a4)] [.int xs0, .int xs1] h := by
  refine r_aload dX0_part_51 rfl ?_
  refine m_getI hp fw_X0_575 dX0_part_53 rfl t4 ?_
  refine k_SI (As := [.int xs1, .int xs0, .int (ri h a4 3)]) (stk := []) cs_X0_173 dX0_part_56 rfl (Nat.le_of_ble_eq_true rfl) (H.mono (fun v1 h1 H => ?_)) ⟨Nat.le_refl _, Nat.le_refl _⟩
  refine r_if_ne (tgt := 64) dX0_part_59 rfl (fun cH => ?_) (fun cH => ?_)
  · replace H := H.1 cH
    refine r_aload_n dX0_part_64 rfl rfl ?_
    refine m_getF (x := 80) hp fw_X0_330 dX0_part_65 rfl ly_0 (ff_0_21 ly_0) ?_
    refine k_VV (As := []) (stk := []) hp cv_X0_301 dX0_part_68 rfl (Nat.le_of_ble_eq_true rfl) (lf_0_21 ly_0) (H.mono (fun h2 H => ?_)) ⟨Nat.le_refl _, Nat.le_refl _⟩
    refine r_iload_n dX0_part_71 rfl rfl ?_
    refine r_if_ge (tgt := 96) dX0_part_72 rfl (fun cH => ?_) (fun cH => ?_)
    · replace H := H.1 cH
      refine r_aload_n dX0_part_96 rfl rfl ?_
      refine m_getF (x := 80) hp fw_X0_330 dX0_part_97 rfl ly_0 (ff_0_21 ly_0) ?_
      refine m_getF (x := 81) hp fw_X0_110 dX0_part_100 rfl (lf_0_21 ly_0) (ff_5_0 (lf_0_21 ly_0)) ?_
      refine m_getF (x := 84) hp fw_X0_94 dX0_part_103 rfl (lf_5_0 (lf_0_21 ly_0)) (ff_6_1 (lf_5_0 (lf_0_21 ly_0))) ?_
      refine r_iconst (v := (1 : Int32)) dX0_part_106 rfl ?_
      refine k_VV (As := [.int (1 : Int32)]) (stk := []) hp cv_X0_42 dX0_part_107 rfl (Nat.le_of_ble_eq_true rfl) (lf_6_1 (lf_5_0 (lf_0_21 ly_0))) (H.mono (fun h3 H => ?_)) ⟨Nat.le_refl _, Nat.le_refl _⟩
      refine r_aload_n dX0_part_110 rfl rfl ?_
      refine m_getF (x := 80) hp fw_X0_330 dX0_part_111 rfl ly_0 (ff_0_21 ly_0) ?_
      refine m_getF (x := 81) hp fw_X0_110 dX0_part_114 rfl (lf_0_21 ly_0) (ff_5_0 (lf_0_21 ly_0)) ?_
      refine m_getF (x := 82) hp fw_X0_89 dX0_part_117 rfl (lf_5_0 (lf_0_21 ly_0)) (ff_6_0 (lf_5_0 (lf_0_21 ly_0))) ?_
      refine r_aload dX0_part_120 rfl ?_
      refine m_getF (x := (a4 + 11)) hp fw_X0_578 dX0_part_122 rfl t4 (ff_9_2 t4) ?_
      refine r_iload_n dX0_part_125 rfl rfl ?_
      obtain ⟨r4, er4⟩ : ∃ y, y = (a4 + 13) + 2 * (x2).toNatClampNeg := ⟨_, rfl⟩
      have hir4 := H.1
      replace H := H.2 r4 er4
      have tLr4 := le_9 t4 hir4 er4
      refine m_aalF (x := r4) hp dX0_part_126 (lf_9_2 t4) rfl rfl (lu_9_2 t4) hir4 (fe_9 t4 hir4 er4) ?_
      refine m_getI hp fw_X0_636 dX0_part_127 rfl tLr4 ?_
      refine r_iconst (v := (1 : Int32)) dX0_part_130 rfl ?_
      refine k_VV (As := [.int (ri h3 r4 1), .int (1 : Int32)]) (stk := []) hp cv_X0_304 dX0_part_131 rfl (Nat.le_of_ble_eq_true rfl) (lf_6_0 (lf_5_0 (lf_0_21 ly_0))) (H.mono (fun h5 H => ?_)) ⟨Nat.le_refl _, Nat.le_refl _⟩
      refine r_aload_n dX0_part_134 rfl rfl ?_
      refine m_getF (x := 80) hp fw_X0_330 dX0_part_135 rfl ly_0 (ff_0_21 ly_0) ?_
      refine m_getF (x := 81) hp fw_X0_110 dX0_part_138 rfl (lf_0_21 ly_0) (ff_5_0 (lf_0_21 ly_0)) ?_
      refine m_getF (x := 82) hp fw_X0_89 dX0_part_141 rfl (lf_5_0 (lf_0_21 ly_0)) (ff_6_0 (lf_5_0 (lf_0_21 ly_0))) ?_
      refine r_iconst (v := (0 : Int32)) dX0_part_144 rfl ?_
      refine r_aload dX0_part_145 rfl ?_
      refine m_getF (x := (a4 + 11)) hp fw_X0_578 dX0_part_147 rfl t4 (ff_9_2 t4) ?_
      refine r_iload_n dX0_part_150 rfl rfl ?_
      obtain ⟨r6, er6⟩ : ∃ y, y = (a4 + 13) + 2 * (x2).toNatClampNeg := ⟨_, rfl⟩
      have hir6 := H.1
      replace H := H.2 r6 er6
      have tLr6 := le_9 t4 hir6 er6
      refine m_aalF (x := r6) hp dX0_part_151 (lf_9_2 t4) rfl rfl (lu_9_2 t4) hir6 (fe_9 t4 hir6 er6) ?_
      refine k_VV (As := [.int (0 : Int32), .ref r6]) (stk := []) hp cv_X0_664 dX0_part_152 rfl (Nat.le_of_ble_eq_true rfl) (lf_6_0 (lf_5_0 (lf_0_21 ly_0))) (H.mono (fun h7 H => ?_)) ⟨Nat.le_refl _, Nat.le_refl _⟩
      refine r_aload_n dX0_part_155 rfl rfl ?_
      refine m_getF (x := 80) hp fw_X0_330 dX0_part_156 rfl ly_0 (ff_0_21 ly_0) ?_
      refine m_getF (x := 81) hp fw_X0_110 dX0_part_159 rfl (lf_0_21 ly_0) (ff_5_0 (lf_0_21 ly_0)) ?_
      refine m_getF (x := 82) hp fw_X0_89 dX0_part_162 rfl (lf_5_0 (lf_0_21 ly_0)) (ff_6_0 (lf_5_0 (lf_0_21 ly_0))) ?_
      refine k_VV (As := []) (stk := []) hp cv_X0_611 dX0_part_165 rfl (Nat.le_of_ble_eq_true rfl) (lf_6_0 (lf_5_0 (lf_0_21 ly_0))) (H.mono (fun h8 H => ?_)) ⟨Nat.le_refl _, Nat.le_refl _⟩
      refine r_prune [true, false, false, true, false] (ls2 := [some (.ref 0), none, none, some (.int x3), none]) rfl ?_
      exact H
    · replace H := H.2 cH
      refine r_aload_n dX0_part_75 rfl rfl ?_
      refine m_getF (x := 80) hp fw_X0_330 dX0_part_76 rfl ly_0 (ff_0_21 ly_0) ?_
      refine m_getF (x := 81) hp fw_X0_110 dX0_part_79 rfl (lf_0_21 ly_0) (ff_5_0 (lf_0_21 ly_0)) ?_
      refine r_aload dX0_part_82 rfl ?_
      refine m_getF (x := (a4 + 1)) hp fw_X0_512 dX0_part_84 rfl t4 (ff_9_1 t4) ?_
      refine m_getF (x := (a4 + 2)) hp fw_X0_110 dX0_part_87 rfl (lf_9_1 t4) (ff_5_0 (lf_9_1 t4)) ?_
      refine k_VV (As := [.ref (a4 + 2)]) (stk := []) hp cv_X0_760 dX0_part_90 rfl (Nat.le_of_ble_eq_true rfl) (lf_5_0 (lf_0_21 ly_0)) (H.mono (fun h9 H => ?_)) ⟨Nat.le_refl _, Nat.le_refl _⟩
      refine r_goto (tgt := 168) dX0_part_93 rfl ?_
      refine r_prune [true, false, false, true, false] (ls2 := [some (.ref 0), none, none, some (.int x3), none]) rfl ?_
      exact H
  · replace H := H.2 cH
    refine r_iconst (v := (-1 : Int32)) dX0_part_62 rfl ?_
    exact r_zret dX0_part_63 rfl rfl (Nat.le_refl _) (Nat.le_refl _) H
theorem s_X0_part_168 {g : GX} {d : Nat} {av : List Value} {Q : QT} {n : Nat} {h : Hp} {x3 : Int32} (hp : g.2.2.2.2 = true)  (H : CallI g m_X0_keep d [.ref 0, .ref 80, .int x3] n h (fun v1 h1 => (((v1 ≤ (0 : Int32)) → (Q (some (.int (0 : Int32))) n h1)) ∧ ((¬ v1 ≤ (0 : Int32)) → (Q (some (.int (1 : Int32))) n h1))))) : W_X0_part g d av Q n 168 [some (.ref 0), none, none, some (.int x3), none] [] h := by
  refine r_aload_n dX0_part_168 rfl rfl ?_
  refine r_aload_n dX0_part_169 rfl rfl ?_
  refine m_getF (x := 80) hp fw_X0_330 dX0_part_170 rfl ly_0 (ff_0_21 ly_0) ?_
  refine r_iload_n dX0_part_173 rfl rfl ?_
  refine k_VI (As := [.ref 80, .int x3]) (stk := []) hp cv_X0_515 dX0_part_174 rfl (Nat.le_of_ble_eq_true rfl) ly_0 (H.mono (fun v1 h1 H => ?_)) ⟨Nat.le_refl _, Nat.le_refl _⟩
  refine r_if_le (tgt := 184) dX0_part_177 rfl (fun cH => ?_) (fun cH => ?_)
  · replace H := H.1 cH
    refine r_iconst (v := (0 : Int32)) dX0_part_184 rfl ?_
    exact r_zret dX0_part_185 rfl rfl (Nat.le_refl _) (Nat.le_refl _) H
  · replace H := H.2 cH
    refine r_iconst (v := (1 : Int32)) dX0_part_180 rfl ?_
    refine r_goto (tgt := 185) dX0_part_181 rfl ?_
    exact r_zret dX0_part_185 rfl rfl (Nat.le_refl _) (Nat.le_refl _) H
abbrev W_X0_check (g : GX) (d : Nat) (av : List Value) (Q : QT) (n : Nat) (pc : Nat) (ls : LV) (stk : List Value) (h : Hp) : Prop := RJ g m_X0_check (d + 1) 0 0 av Q pc ls stk n h 0 0
theorem s_X0_check_0 {g : GX} {d : Nat} {av : List Value} {Q : QT} {n : Nat} {h : Hp} {x1 : Int32} {x2 : Int32} (hp : g.2.2.2.2 = true)  (H : CallI g m_X0_isSlot d [.int x1] n h (fun v1 h1 => (((v1 = (0 : Int32)) → (Q (some (.int (-1 : Int32))) n h1)) ∧ ((¬ v1 = (0 : Int32)) → (CallI g m_X0_isSlot d [.int x2] n h1 (fun v2 h2 => (((¬ v2 = (0 : Int32)) → (vp_in x1 12 ∧ ∀ r3, r3 = 1185 + 27 * (x1).toNatClampNeg → (((¬ (ri h2 r3 0) = (3 : Int32)) → (Q (some (.int (-3 : Int32))) n h2)) ∧ (((ri h2 r3 0) = (3 : Int32)) → (CallI g m_X0_hasItem d [.ref 0, .int x2] n h2 (fun v4 h4 => (((¬ v4 = (0 : Int32)) → (vp_in x1 12 ∧ ∀ r5, r5 = 1185 + 27 * (x1).toNatClampNeg → (vp_in x2 12 ∧ ∀ r6, r6 = 1185 + 27 * (x2).toNatClampNeg → (CallI g m_X6_isZero d [.ref (r6 + 2)] n h4 (fun v7 h7 => (((v7 = (0 : Int32)) → (CallI g m_X0_findSteps d [.ref 0, .ref (r6 + 1), .int (ri h7 r5 3)] n h7 (fun v8 h8 => (((¬ v8 = (0 : Int32)) → (W_X0_check g d av Q n 90 [some (.ref 0), none, none, some (.ref r5), none, some (.int (0 : Int32))] [] h8)) ∧ ((v8 = (0 : Int32)) → (Q (some (.int (-2 : Int32))) n h8)))))) ∧ ((¬ v7 = (0 : Int32)) → (Q (some (.int (-1 : Int32))) n h7)))))))) ∧ ((v4 = (0 : Int32)) → (Q (some (.int (-3 : Int32))) n h4))))))))) ∧ ((v2 = (0 : Int32)) → (Q (some (.int (-1 : Int32))) n h2))))))))) : W_X0_check g d av Q n 0 [some (.ref 0), some (.int x1), some (.int x2), none, none, none] [] h := by
  refine r_iload_n dX0_check_0 rfl rfl ?_
  refine k_SI (As := [.int x1]) (stk := []) cs_X0_519 dX0_check_1 rfl (Nat.le_of_ble_eq_true rfl) (H.mono (fun v1 h1 H => ?_)) ⟨Nat.le_refl _, Nat.le_refl _⟩
  refine r_if_eq (tgt := 14) dX0_check_4 rfl (fun cH => ?_) (fun cH => ?_)
  · replace H := H.1 cH
    refine r_iconst (v := (-1 : Int32)) dX0_check_14 rfl ?_
    exact r_zret dX0_check_15 rfl rfl (Nat.le_refl _) (Nat.le_refl _) H
  · replace H := H.2 cH
    refine r_iload_n dX0_check_7 rfl rfl ?_
    refine k_SI (As := [.int x2]) (stk := []) cs_X0_519 dX0_check_8 rfl (Nat.le_of_ble_eq_true rfl) (H.mono (fun v2 h2 H => ?_)) ⟨Nat.le_refl _, Nat.le_refl _⟩
    refine r_if_ne (tgt := 16) dX0_check_11 rfl (fun cH => ?_) (fun cH => ?_)
    · replace H := H.1 cH
      refine r_aload_n dX0_check_16 rfl rfl ?_
      refine m_getF (x := 79) hp fw_X0_326 dX0_check_17 rfl ly_0 (ff_0_20 ly_0) ?_
      refine r_iload_n dX0_check_20 rfl rfl ?_
      obtain ⟨r3, er3⟩ : ∃ y, y = 1185 + 27 * (x1).toNatClampNeg := ⟨_, rfl⟩
      have hir3 := H.1
      replace H := H.2 r3 er3
      have tLr3 := la_79 hir3 er3
      refine m_aalF (x := r3) hp dX0_check_21 (lf_0_20 ly_0) rfl rfl (lu_0_20 ly_0) hir3 (fa_79 hir3 er3) ?_
      refine m_getI hp fw_X0_509 dX0_check_22 rfl tLr3 ?_
      refine r_iconst (v := (3 : Int32)) dX0_check_25 rfl ?_
      refine r_icmp_ne (tgt := 37) dX0_check_26 rfl (fun cH => ?_) (fun cH => ?_)
      · replace H := H.1 cH
        refine r_bipush (v := (-3 : Int32)) dX0_check_37 rfl ?_
        exact r_zret dX0_check_39 rfl rfl (Nat.le_refl _) (Nat.le_refl _) H
      · replace H := H.2 cH
        refine r_aload_n dX0_check_29 rfl rfl ?_
        refine r_iload_n dX0_check_30 rfl rfl ?_
        refine k_VI (As := [.int x2]) (stk := []) hp cv_X0_546 dX0_check_31 rfl (Nat.le_of_ble_eq_true rfl) ly_0 (H.mono (fun v4 h4 H => ?_)) ⟨Nat.le_refl _, Nat.le_refl _⟩
        refine r_if_ne (tgt := 40) dX0_check_34 rfl (fun cH => ?_) (fun cH => ?_)
        · replace H := H.1 cH
          refine r_aload_n dX0_check_40 rfl rfl ?_
          refine m_getF (x := 79) hp fw_X0_326 dX0_check_41 rfl ly_0 (ff_0_20 ly_0) ?_
          refine r_iload_n dX0_check_44 rfl rfl ?_
          obtain ⟨r5, er5⟩ : ∃ y, y = 1185 + 27 * (x1).toNatClampNeg := ⟨_, rfl⟩
          have hir5 := H.1
          replace H := H.2 r5 er5
          have tLr5 := la_79 hir5 er5
          refine m_aalF (x := r5) hp dX0_check_45 (lf_0_20 ly_0) rfl rfl (lu_0_20 ly_0) hir5 (fa_79 hir5 er5) ?_
          refine r_astore_n (ls2 := [some (.ref 0), some (.int x1), some (.int x2), some (.ref r5), none, none]) dX0_check_46 rfl (by decide) rfl ?_
          refine r_aload_n dX0_check_47 rfl rfl ?_
          refine m_getF (x := 79) hp fw_X0_326 dX0_check_48 rfl ly_0 (ff_0_20 ly_0) ?_
          refine r_iload_n dX0_check_51 rfl rfl ?_
          obtain ⟨r6, er6⟩ : ∃ y, y = 1185 + 27 * (x2).toNatClampNeg := ⟨_, rfl⟩
          have hir6 := H.1
          replace H := H.2 r6 er6
          have tLr6 := la_79 hir6 er6
          refine m_aalF (x := r6) hp dX0_check_52 (lf_0_20 ly_0) rfl rfl (lu_0_20 ly_0) hir6 (fa_79 hir6 er6) ?_
          refine m_getF (x := (r6 + 1)) hp fw_X0_512 dX0_check_53 rfl tLr6 (ff_9_1 tLr6) ?_
          refine r_astore (ls2 := [some (.ref 0), some (.int x1), some (.int x2), some (.ref r5), some (.ref (r6 + 1)), none]) dX0_check_56 (by decide) rfl ?_
          refine r_aload dX0_check_58 rfl ?_
          refine m_getF (x := (r6 + 2)) hp fw_X0_110 dX0_check_60 rfl (lf_9_1 tLr6) (ff_5_0 (lf_9_1 tLr6)) ?_
          refine k_VI (As := []) (stk := []) hp cv_X0_128 dX0_check_63 rfl (Nat.le_of_ble_eq_true rfl) (lf_5_0 (lf_9_1 tLr6)) (H.mono (fun v7 h7 H => ?_)) ⟨Nat.le_refl _, Nat.le_refl _⟩
          refine r_if_eq (tgt := 71) dX0_check_66 rfl (fun cH => ?_) (fun cH => ?_)
          · replace H := H.1 cH
            refine r_aload_n dX0_check_71 rfl rfl ?_
            refine r_aload dX0_check_72 rfl ?_
            refine r_aload_n dX0_check_74 rfl rfl ?_
            refine m_getI hp fw_X0_575 dX0_check_75 rfl tLr5 ?_
            refine k_VI (As := [.ref (r6 + 1), .int (ri h7 r5 3)]) (stk := []) hp cv_X0_750 dX0_check_78 rfl (Nat.le_of_ble_eq_true rfl) ly_0 (H.mono (fun v8 h8 H => ?_)) ⟨Nat.le_refl _, Nat.le_refl _⟩
            refine r_if_ne (tgt := 87) dX0_check_81 rfl (fun cH => ?_) (fun cH => ?_)
            · replace H := H.1 cH
              refine r_iconst (v := (0 : Int32)) dX0_check_87 rfl ?_
              refine r_istore (ls2 := [some (.ref 0), some (.int x1), some (.int x2), some (.ref r5), some (.ref (r6 + 1)), some (.int (0 : Int32))]) dX0_check_88 (by decide) rfl ?_
              refine r_prune [true, false, false, true, false, true] (ls2 := [some (.ref 0), none, none, some (.ref r5), none, some (.int (0 : Int32))]) rfl ?_
              exact H
            · replace H := H.2 cH
              refine r_bipush (v := (-2 : Int32)) dX0_check_84 rfl ?_
              exact r_zret dX0_check_86 rfl rfl (Nat.le_refl _) (Nat.le_refl _) H
          · replace H := H.2 cH
            refine r_iconst (v := (-1 : Int32)) dX0_check_69 rfl ?_
            exact r_zret dX0_check_70 rfl rfl (Nat.le_refl _) (Nat.le_refl _) H
        · replace H := H.2 cH
          refine r_bipush (v := (-3 : Int32)) dX0_check_37 rfl ?_
          exact r_zret dX0_check_39 rfl rfl (Nat.le_refl _) (Nat.le_refl _) H
    · replace H := H.2 cH
      refine r_iconst (v := (-1 : Int32)) dX0_check_14 rfl ?_
      exact r_zret dX0_check_15 rfl rfl (Nat.le_refl _) (Nat.le_refl _) H
theorem s_X0_check_90 {g : GX} {d : Nat} {av : List Value} {Q : QT} {n : Nat} {h : Hp} {a3 : Nat} {x5 : Int32} (hp : g.2.2.2.2 = true) (t3 : lay a3 = (0, 9, 8)) (H : (((ri h a3 3) < x5) → (CallV g m_X0_layFraction d [.ref 0, .int ((ri h a3 3) + (1 : Int32)), .ref (a3 + 3), .ref (a3 + 5)] n h (fun h1 => (CallV g m_X4_copy d [.ref 39, .ref (a3 + 3)] n h1 (fun h2 => (CallV g m_X4_shiftK d [.ref 39, .int (1 : Int32)] n h2 (fun h3 => (CallV g m_X4_copy d [.ref 41, .ref (a3 + 5)] n h3 (fun h4 => (CallV g m_X4_shiftK d [.ref 41, .int (1 : Int32)] n h4 (fun h5 => (CallV g m_X4_product d [.ref 45, .ref 39, .ref 840] n h5 (fun h6 => (CallV g m_X4_scale d [.ref 45, .int (2147483646 : Int32)] n h6 (fun h7 => (CallV g m_X4_product d [.ref 39, .ref 41, .ref 842] n h7 (fun h8 => (CallV g m_X0_layFraction d [.ref 0, .int ((ri h8 a3 3) + (2 : Int32)), .ref 45, .ref 39] n h8 (fun h9 => (CallI g m_X0_areNothing d [.ref 0, .int ((ri h9 a3 3) + (3 : Int32))] n h9 (fun v10 h10 => (((v10 = (0 : Int32)) → (Q (some (.int (0 : Int32))) n h10)) ∧ ((¬ v10 = (0 : Int32)) → (Q (some (.int (1 : Int32))) n h10)))))))))))))))))))))))) ∧ ((¬ (ri h a3 3) < x5) → (vp_in x5 4 ∧ ∀ r11, r11 = 2513 + 11 * (x5).toNatClampNeg → (CallV g m_X4_copy d [.ref 39, .ref (r11 + 1)] n h (fun h12 => (vp_in x5 7 ∧ ∀ r13, r13 = (a3 + 13) + 2 * (x5).toNatClampNeg → (CallV g m_X4_timesPoly d [.ref 39, .ref r13, .ref 45] n h12 (fun h14 => (vp_in x5 4 ∧ ∀ r15, r15 = 2513 + 11 * (x5).toNatClampNeg → (CallV g m_X0_layFraction d [.ref 0, .int x5, .ref 39, .ref (r15 + 3)] n h14 (fun h16 => (W_X0_check g d av Q n 90 [some (.ref 0), none, none, some (.ref a3), none, some (.int (x5 + (1 : Int32)))] [] h16)))))))))))) : W_X0_check g d av Q n 90 [some (.ref 0), none, none, some (.ref a3), none, some (.int x5)] [] h := by
  refine r_iload dX0_check_90 rfl ?_
  refine r_aload_n dX0_check_92 rfl rfl ?_
  refine m_getI hp fw_X0_575 dX0_check_93 rfl t3 ?_
  refine r_icmp_gt (tgt := 160) dX0_check_96 rfl (fun cH => ?_) (fun cH => ?_)
  · replace H := H.1 cH
    refine r_aload_n dX0_check_160 rfl rfl ?_
    refine m_getF (x := (a3 + 1)) hp fw_X0_512 dX0_check_161 rfl t3 (ff_9_1 t3) ?_
    refine m_getF (x := (a3 + 2)) hp fw_X0_110 dX0_check_164 rfl (lf_9_1 t3) (ff_5_0 (lf_9_1 t3)) ?_
    refine r_astore (ls2 := [some (.ref 0), none, none, some (.ref a3), none, some (.ref (a3 + 2))]) dX0_check_167 (by decide) rfl ?_
    refine r_aload_n dX0_check_169 rfl rfl ?_
    refine r_aload_n dX0_check_170 rfl rfl ?_
    refine m_getI hp fw_X0_575 dX0_check_171 rfl t3 ?_
    refine r_iconst (v := (1 : Int32)) dX0_check_174 rfl ?_
    refine r_iadd dX0_check_175 ?_
    refine r_aload dX0_check_176 rfl ?_
    refine m_getF (x := (a3 + 3)) hp fw_X0_89 dX0_check_178 rfl (lf_5_0 (lf_9_1 t3)) (ff_6_0 (lf_5_0 (lf_9_1 t3))) ?_
    refine r_aload dX0_check_181 rfl ?_
    refine m_getF (x := (a3 + 5)) hp fw_X0_94 dX0_check_183 rfl (lf_5_0 (lf_9_1 t3)) (ff_6_1 (lf_5_0 (lf_9_1 t3))) ?_
    refine k_VV (As := [.int ((ri h a3 3) + (1 : Int32)), .ref (a3 + 3), .ref (a3 + 5)]) (stk := []) hp cv_X0_767 dX0_check_186 rfl (Nat.le_of_ble_eq_true rfl) ly_0 (H.mono (fun h1 H => ?_)) ⟨Nat.le_refl _, Nat.le_refl _⟩
    refine r_aload_n dX0_check_189 rfl rfl ?_
    refine m_getF (x := 39) hp fw_X0_31 dX0_check_190 rfl ly_0 (ff_0_1 ly_0) ?_
    refine r_aload dX0_check_193 rfl ?_
    refine m_getF (x := (a3 + 3)) hp fw_X0_89 dX0_check_195 rfl (lf_5_0 (lf_9_1 t3)) (ff_6_0 (lf_5_0 (lf_9_1 t3))) ?_
    refine k_VV (As := [.ref (a3 + 3)]) (stk := []) hp cv_X0_66 dX0_check_198 rfl (Nat.le_of_ble_eq_true rfl) (lf_0_1 ly_0) (H.mono (fun h2 H => ?_)) ⟨Nat.le_refl _, Nat.le_refl _⟩
    refine r_aload_n dX0_check_201 rfl rfl ?_
    refine m_getF (x := 39) hp fw_X0_31 dX0_check_202 rfl ly_0 (ff_0_1 ly_0) ?_
    refine r_iconst (v := (1 : Int32)) dX0_check_205 rfl ?_
    refine k_VV (As := [.int (1 : Int32)]) (stk := []) hp cv_X0_617 dX0_check_206 rfl (Nat.le_of_ble_eq_true rfl) (lf_0_1 ly_0) (H.mono (fun h3 H => ?_)) ⟨Nat.le_refl _, Nat.le_refl _⟩
    refine r_aload_n dX0_check_209 rfl rfl ?_
    refine m_getF (x := 41) hp fw_X0_39 dX0_check_210 rfl ly_0 (ff_0_2 ly_0) ?_
    refine r_aload dX0_check_213 rfl ?_
    refine m_getF (x := (a3 + 5)) hp fw_X0_94 dX0_check_215 rfl (lf_5_0 (lf_9_1 t3)) (ff_6_1 (lf_5_0 (lf_9_1 t3))) ?_
    refine k_VV (As := [.ref (a3 + 5)]) (stk := []) hp cv_X0_66 dX0_check_218 rfl (Nat.le_of_ble_eq_true rfl) (lf_0_2 ly_0) (H.mono (fun h4 H => ?_)) ⟨Nat.le_refl _, Nat.le_refl _⟩
    refine r_aload_n dX0_check_221 rfl rfl ?_
    refine m_getF (x := 41) hp fw_X0_39 dX0_check_222 rfl ly_0 (ff_0_2 ly_0) ?_
    refine r_iconst (v := (1 : Int32)) dX0_check_225 rfl ?_
    refine k_VV (As := [.int (1 : Int32)]) (stk := []) hp cv_X0_617 dX0_check_226 rfl (Nat.le_of_ble_eq_true rfl) (lf_0_2 ly_0) (H.mono (fun h5 H => ?_)) ⟨Nat.le_refl _, Nat.le_refl _⟩
    refine r_aload_n dX0_check_229 rfl rfl ?_
    refine m_getF (x := 45) hp fw_X0_59 dX0_check_230 rfl ly_0 (ff_0_4 ly_0) ?_
    refine r_aload_n dX0_check_233 rfl rfl ?_
    refine m_getF (x := 39) hp fw_X0_31 dX0_check_234 rfl ly_0 (ff_0_1 ly_0) ?_
    refine r_aload_n dX0_check_237 rfl rfl ?_
    refine m_getF (x := 839) hp fw_X0_425 dX0_check_238 rfl ly_0 (ff_0_51 ly_0) ?_
    refine m_getF (x := 840) hp fw_X0_89 dX0_check_241 rfl (lf_0_51 ly_0) (ff_6_0 (lf_0_51 ly_0)) ?_
    refine k_VV (As := [.ref 39, .ref 840]) (stk := []) hp cv_X0_97 dX0_check_244 rfl (Nat.le_of_ble_eq_true rfl) (lf_0_4 ly_0) (H.mono (fun h6 H => ?_)) ⟨Nat.le_refl _, Nat.le_refl _⟩
    refine r_aload_n dX0_check_247 rfl rfl ?_
    refine m_getF (x := 45) hp fw_X0_59 dX0_check_248 rfl ly_0 (ff_0_4 ly_0) ?_
    refine r_ldc (own := "") (v := (2147483646 : Int32)) dX0_check_251 q1022 ?_
    refine k_VV (As := [.int (2147483646 : Int32)]) (stk := []) hp cv_X0_78 dX0_check_253 rfl (Nat.le_of_ble_eq_true rfl) (lf_0_4 ly_0) (H.mono (fun h7 H => ?_)) ⟨Nat.le_refl _, Nat.le_refl _⟩
    refine r_aload_n dX0_check_256 rfl rfl ?_
    refine m_getF (x := 39) hp fw_X0_31 dX0_check_257 rfl ly_0 (ff_0_1 ly_0) ?_
    refine r_aload_n dX0_check_260 rfl rfl ?_
    refine m_getF (x := 41) hp fw_X0_39 dX0_check_261 rfl ly_0 (ff_0_2 ly_0) ?_
    refine r_aload_n dX0_check_264 rfl rfl ?_
    refine m_getF (x := 839) hp fw_X0_425 dX0_check_265 rfl ly_0 (ff_0_51 ly_0) ?_
    refine m_getF (x := 842) hp fw_X0_94 dX0_check_268 rfl (lf_0_51 ly_0) (ff_6_1 (lf_0_51 ly_0)) ?_
    refine k_VV (As := [.ref 41, .ref 842]) (stk := []) hp cv_X0_97 dX0_check_271 rfl (Nat.le_of_ble_eq_true rfl) (lf_0_1 ly_0) (H.mono (fun h8 H => ?_)) ⟨Nat.le_refl _, Nat.le_refl _⟩
    refine r_aload_n dX0_check_274 rfl rfl ?_
    refine r_aload_n dX0_check_275 rfl rfl ?_
    refine m_getI hp fw_X0_575 dX0_check_276 rfl t3 ?_
    refine r_iconst (v := (2 : Int32)) dX0_check_279 rfl ?_
    refine r_iadd dX0_check_280 ?_
    refine r_aload_n dX0_check_281 rfl rfl ?_
    refine m_getF (x := 45) hp fw_X0_59 dX0_check_282 rfl ly_0 (ff_0_4 ly_0) ?_
    refine r_aload_n dX0_check_285 rfl rfl ?_
    refine m_getF (x := 39) hp fw_X0_31 dX0_check_286 rfl ly_0 (ff_0_1 ly_0) ?_
    refine k_VV (As := [.int ((ri h8 a3 3) + (2 : Int32)), .ref 45, .ref 39]) (stk := []) hp cv_X0_767 dX0_check_289 rfl (Nat.le_of_ble_eq_true rfl) ly_0 (H.mono (fun h9 H => ?_)) ⟨Nat.le_refl _, Nat.le_refl _⟩
    refine r_aload_n dX0_check_292 rfl rfl ?_
    refine r_aload_n dX0_check_293 rfl rfl ?_
    refine m_getI hp fw_X0_575 dX0_check_294 rfl t3 ?_
    refine r_iconst (v := (3 : Int32)) dX0_check_297 rfl ?_
    refine r_iadd dX0_check_298 ?_
    refine k_VI (As := [.int ((ri h9 a3 3) + (3 : Int32))]) (stk := []) hp cv_X0_771 dX0_check_299 rfl (Nat.le_of_ble_eq_true rfl) ly_0 (H.mono (fun v10 h10 H => ?_)) ⟨Nat.le_refl _, Nat.le_refl _⟩
    refine r_if_eq (tgt := 309) dX0_check_302 rfl (fun cH => ?_) (fun cH => ?_)
    · replace H := H.1 cH
      refine r_iconst (v := (0 : Int32)) dX0_check_309 rfl ?_
      exact r_zret dX0_check_310 rfl rfl (Nat.le_refl _) (Nat.le_refl _) H
    · replace H := H.2 cH
      refine r_iconst (v := (1 : Int32)) dX0_check_305 rfl ?_
      refine r_goto (tgt := 310) dX0_check_306 rfl ?_
      exact r_zret dX0_check_310 rfl rfl (Nat.le_refl _) (Nat.le_refl _) H
  · replace H := H.2 cH
    refine r_aload_n dX0_check_99 rfl rfl ?_
    refine m_getF (x := 39) hp fw_X0_31 dX0_check_100 rfl ly_0 (ff_0_1 ly_0) ?_
    refine r_aload_n dX0_check_103 rfl rfl ?_
    refine m_getF (x := 838) hp fw_X0_420 dX0_check_104 rfl ly_0 (ff_0_50 ly_0) ?_
    refine r_iload dX0_check_107 rfl ?_
    obtain ⟨r11, er11⟩ : ∃ y, y = 2513 + 11 * (x5).toNatClampNeg := ⟨_, rfl⟩
    have hir11 := H.1
    replace H := H.2 r11 er11
    have tLr11 := la_838 hir11 er11
    refine m_aalF (x := r11) hp dX0_check_109 (lf_0_50 ly_0) rfl rfl (lu_0_50 ly_0) hir11 (fa_838 hir11 er11) ?_
    refine m_getF (x := (r11 + 1)) hp fw_X0_89 dX0_check_110 rfl tLr11 (ff_6_0 tLr11) ?_
    refine k_VV (As := [.ref (r11 + 1)]) (stk := []) hp cv_X0_66 dX0_check_113 rfl (Nat.le_of_ble_eq_true rfl) (lf_0_1 ly_0) (H.mono (fun h12 H => ?_)) ⟨Nat.le_refl _, Nat.le_refl _⟩
    refine r_aload_n dX0_check_116 rfl rfl ?_
    refine m_getF (x := 39) hp fw_X0_31 dX0_check_117 rfl ly_0 (ff_0_1 ly_0) ?_
    refine r_aload_n dX0_check_120 rfl rfl ?_
    refine m_getF (x := (a3 + 11)) hp fw_X0_578 dX0_check_121 rfl t3 (ff_9_2 t3) ?_
    refine r_iload dX0_check_124 rfl ?_
    obtain ⟨r13, er13⟩ : ∃ y, y = (a3 + 13) + 2 * (x5).toNatClampNeg := ⟨_, rfl⟩
    have hir13 := H.1
    replace H := H.2 r13 er13
    have tLr13 := le_9 t3 hir13 er13
    refine m_aalF (x := r13) hp dX0_check_126 (lf_9_2 t3) rfl rfl (lu_9_2 t3) hir13 (fe_9 t3 hir13 er13) ?_
    refine r_aload_n dX0_check_127 rfl rfl ?_
    refine m_getF (x := 45) hp fw_X0_59 dX0_check_128 rfl ly_0 (ff_0_4 ly_0) ?_
    refine k_VV (As := [.ref r13, .ref 45]) (stk := []) hp cv_X0_723 dX0_check_131 rfl (Nat.le_of_ble_eq_true rfl) (lf_0_1 ly_0) (H.mono (fun h14 H => ?_)) ⟨Nat.le_refl _, Nat.le_refl _⟩
    refine r_aload_n dX0_check_134 rfl rfl ?_
    refine r_iload dX0_check_135 rfl ?_
    refine r_aload_n dX0_check_137 rfl rfl ?_
    refine m_getF (x := 39) hp fw_X0_31 dX0_check_138 rfl ly_0 (ff_0_1 ly_0) ?_
    refine r_aload_n dX0_check_141 rfl rfl ?_
    refine m_getF (x := 838) hp fw_X0_420 dX0_check_142 rfl ly_0 (ff_0_50 ly_0) ?_
    refine r_iload dX0_check_145 rfl ?_
    obtain ⟨r15, er15⟩ : ∃ y, y = 2513 + 11 * (x5).toNatClampNeg := ⟨_, rfl⟩
    have hir15 := H.1
    replace H := H.2 r15 er15
    have tLr15 := la_838 hir15 er15
    refine m_aalF (x := r15) hp dX0_check_147 (lf_0_50 ly_0) rfl rfl (lu_0_50 ly_0) hir15 (fa_838 hir15 er15) ?_
    refine m_getF (x := (r15 + 3)) hp fw_X0_94 dX0_check_148 rfl tLr15 (ff_6_1 tLr15) ?_
    refine k_VV (As := [.int x5, .ref 39, .ref (r15 + 3)]) (stk := []) hp cv_X0_767 dX0_check_151 rfl (Nat.le_of_ble_eq_true rfl) ly_0 (H.mono (fun h16 H => ?_)) ⟨Nat.le_refl _, Nat.le_refl _⟩
    refine r_iinc (v := (x5 + (1 : Int32))) (ls2 := [some (.ref 0), none, none, some (.ref a3), none, some (.int (x5 + (1 : Int32)))]) dX0_check_154 rfl rfl (by decide) rfl ?_
    refine r_goto (tgt := 90) dX0_check_157 rfl ?_
    exact H
abbrev W_X0_layFraction (g : GX) (d : Nat) (av : List Value) (Q : QT) (n : Nat) (pc : Nat) (ls : LV) (stk : List Value) (h : Hp) : Prop := RJ g m_X0_layFraction (d + 1) 0 0 av Q pc ls stk n h 0 0
theorem s_X0_layFraction_0 {g : GX} {d : Nat} {av : List Value} {Q : QT} {n : Nat} {h : Hp} {x1 : Int32} {a2 : Nat} {a3 : Nat} (hp : g.2.2.2.2 = true) (t2 : lay a2 = (0, 4, 4)) (t3 : lay a3 = (0, 4, 4)) (H : vp_in x1 6 ∧ ∀ r1, r1 = 2553 + 8 * (x1).toNatClampNeg → (CallV g m_X4_copy d [.ref r1, .ref a2] n h (fun h2 => (vp_in x1 6 ∧ ∀ r3, r3 = 2555 + 8 * (x1).toNatClampNeg → (CallV g m_X4_copy d [.ref r3, .ref a3] n h2 (fun h4 => (Q none n h4))))))) : W_X0_layFraction g d av Q n 0 [some (.ref 0), some (.int x1), some (.ref a2), some (.ref a3)] [] h := by
  refine r_aload_n dX0_layFraction_0 rfl rfl ?_
  refine m_getF (x := 849) hp fw_X0_437 dX0_layFraction_1 rfl ly_0 (ff_0_55 ly_0) ?_
  refine r_iload_n dX0_layFraction_4 rfl rfl ?_
  obtain ⟨r1, er1⟩ : ∃ y, y = 2553 + 8 * (x1).toNatClampNeg := ⟨_, rfl⟩
  have hir1 := H.1
  replace H := H.2 r1 er1
  have tLr1 := la_849 hir1 er1
  refine m_aalF (x := r1) hp dX0_layFraction_5 (lf_0_55 ly_0) rfl rfl (lu_0_55 ly_0) hir1 (fa_849 hir1 er1) ?_
  refine r_aload_n dX0_layFraction_6 rfl rfl ?_
  refine k_VV (As := [.ref a2]) (stk := []) hp cv_X0_66 dX0_layFraction_7 rfl (Nat.le_of_ble_eq_true rfl) tLr1 (H.mono (fun h2 H => ?_)) ⟨Nat.le_refl _, Nat.le_refl _⟩
  refine r_aload_n dX0_layFraction_10 rfl rfl ?_
  refine m_getF (x := 850) hp fw_X0_440 dX0_layFraction_11 rfl ly_0 (ff_0_56 ly_0) ?_
  refine r_iload_n dX0_layFraction_14 rfl rfl ?_
  obtain ⟨r3, er3⟩ : ∃ y, y = 2555 + 8 * (x1).toNatClampNeg := ⟨_, rfl⟩
  have hir3 := H.1
  replace H := H.2 r3 er3
  have tLr3 := la_850 hir3 er3
  refine m_aalF (x := r3) hp dX0_layFraction_15 (lf_0_56 ly_0) rfl rfl (lu_0_56 ly_0) hir3 (fa_850 hir3 er3) ?_
  refine r_aload_n dX0_layFraction_16 rfl rfl ?_
  refine k_VV (As := [.ref a3]) (stk := []) hp cv_X0_66 dX0_layFraction_17 rfl (Nat.le_of_ble_eq_true rfl) tLr3 (H.mono (fun h4 H => ?_)) ⟨Nat.le_refl _, Nat.le_refl _⟩
  exact r_vret dX0_layFraction_20 rfl (Nat.le_refl _) (Nat.le_refl _) H
abbrev W_X0_areNothing (g : GX) (d : Nat) (av : List Value) (Q : QT) (n : Nat) (pc : Nat) (ls : LV) (stk : List Value) (h : Hp) : Prop := RJ g m_X0_areNothing (d + 1) 0 0 av Q pc ls stk n h 0 0
theorem s_X0_areNothing_0 {g : GX} {d : Nat} {av : List Value} {Q : QT} {n : Nat} {h : Hp} {x1 : Int32} (hp : g.2.2.2.2 = true)  (H : W_X0_areNothing g d av Q n 13 [some (.ref 0), some (.int x1), some (.int (0 : Int32)), some (.int (0 : Int32)), some (.int (0 : Int32)), some (.int (0 : Int32)), some (.int (0 : Int32)), none] [] h) : W_X0_areNothing g d av Q n 0 [some (.ref 0), some (.int x1), none, none, none, none, none, none] [] h := by
  refine r_iconst (v := (0 : Int32)) dX0_areNothing_0 rfl ?_
  refine r_istore_n (ls2 := [some (.ref 0), some (.int x1), some (.int (0 : Int32)), none, none, none, none, none]) dX0_areNothing_1 rfl (by decide) rfl ?_
  refine r_iconst (v := (0 : Int32)) dX0_areNothing_2 rfl ?_
  refine r_istore_n (ls2 := [some (.ref 0), some (.int x1), some (.int (0 : Int32)), some (.int (0 : Int32)), none, none, none, none]) dX0_areNothing_3 rfl (by decide) rfl ?_
  refine r_iconst (v := (0 : Int32)) dX0_areNothing_4 rfl ?_
  refine r_istore (ls2 := [some (.ref 0), some (.int x1), some (.int (0 : Int32)), some (.int (0 : Int32)), some (.int (0 : Int32)), none, none, none]) dX0_areNothing_5 (by decide) rfl ?_
  refine r_iconst (v := (0 : Int32)) dX0_areNothing_7 rfl ?_
  refine r_istore (ls2 := [some (.ref 0), some (.int x1), some (.int (0 : Int32)), some (.int (0 : Int32)), some (.int (0 : Int32)), some (.int (0 : Int32)), none, none]) dX0_areNothing_8 (by decide) rfl ?_
  refine r_iconst (v := (0 : Int32)) dX0_areNothing_10 rfl ?_
  refine r_istore (ls2 := [some (.ref 0), some (.int x1), some (.int (0 : Int32)), some (.int (0 : Int32)), some (.int (0 : Int32)), some (.int (0 : Int32)), some (.int (0 : Int32)), none]) dX0_areNothing_11 (by decide) rfl ?_
  exact H
theorem s_X0_areNothing_13 {g : GX} {d : Nat} {av : List Value} {Q : QT} {n : Nat} {h : Hp} {x1 : Int32} {x2 : Int32} {x3 : Int32} {x4 : Int32} {x5 : Int32} {x6 : Int32} (hp : g.2.2.2.2 = true)  (H : ((x1 ≤ x6) → (W_X0_areNothing g d av Q n 88 [some (.ref 0), some (.int x1), some (.int x2), some (.int x3), some (.int x4), some (.int x5), some (.int (0 : Int32)), none] [] h)) ∧ ((¬ x1 ≤ x6) → (vp_in x6 6 ∧ ∀ r1, r1 = 2555 + 8 * (x6).toNatClampNeg → (CallI g m_X4_degreeN d [.ref r1] n h (fun v2 h2 => (vp_in x6 6 ∧ ∀ r3, r3 = 2555 + 8 * (x6).toNatClampNeg → (CallI g m_X4_degreeK d [.ref r3] n h2 (fun v4 h4 => (vp_in x6 6 ∧ ∀ r5, r5 = 2553 + 8 * (x6).toNatClampNeg → (CallI g m_X4_degreeN d [.ref r5] n h4 (fun v6 h6 => (CallI g m_J3_max d [.int x4, .int v6] n h6 (fun v7 h7 => (vp_in x6 6 ∧ ∀ r8, r8 = 2553 + 8 * (x6).toNatClampNeg → (CallI g m_X4_degreeK d [.ref r8] n h7 (fun v9 h9 => (CallI g m_J3_max d [.int x5, .int v9] n h9 (fun v10 h10 => (W_X0_areNothing g d av Q n 13 [some (.ref 0), some (.int x1), some (.int (x2 + v2)), some (.int (x3 + v4)), some (.int v7), some (.int v10), some (.int (x6 + (1 : Int32))), none] [] h10))))))))))))))))))) : W_X0_areNothing g d av Q n 13 [some (.ref 0), some (.int x1), some (.int x2), some (.int x3), some (.int x4), some (.int x5), some (.int x6), none] [] h := by
  refine r_iload dX0_areNothing_13 rfl ?_
  refine r_iload_n dX0_areNothing_15 rfl rfl ?_
  refine r_icmp_ge (tgt := 85) dX0_areNothing_16 rfl (fun cH => ?_) (fun cH => ?_)
  · replace H := H.1 cH
    refine r_iconst (v := (0 : Int32)) dX0_areNothing_85 rfl ?_
    refine r_istore (ls2 := [some (.ref 0), some (.int x1), some (.int x2), some (.int x3), some (.int x4), some (.int x5), some (.int (0 : Int32)), none]) dX0_areNothing_86 (by decide) rfl ?_
    exact H
  · replace H := H.2 cH
    refine r_iload_n dX0_areNothing_19 rfl rfl ?_
    refine r_aload_n dX0_areNothing_20 rfl rfl ?_
    refine m_getF (x := 850) hp fw_X0_440 dX0_areNothing_21 rfl ly_0 (ff_0_56 ly_0) ?_
    refine r_iload dX0_areNothing_24 rfl ?_
    obtain ⟨r1, er1⟩ : ∃ y, y = 2555 + 8 * (x6).toNatClampNeg := ⟨_, rfl⟩
    have hir1 := H.1
    replace H := H.2 r1 er1
    have tLr1 := la_850 hir1 er1
    refine m_aalF (x := r1) hp dX0_areNothing_26 (lf_0_56 ly_0) rfl rfl (lu_0_56 ly_0) hir1 (fa_850 hir1 er1) ?_
    refine k_VI (As := []) (stk := [.int x2]) hp cv_X0_569 dX0_areNothing_27 rfl (Nat.le_of_ble_eq_true rfl) tLr1 (H.mono (fun v2 h2 H => ?_)) ⟨Nat.le_refl _, Nat.le_refl _⟩
    refine r_iadd dX0_areNothing_30 ?_
    refine r_istore_n (ls2 := [some (.ref 0), some (.int x1), some (.int (x2 + v2)), some (.int x3), some (.int x4), some (.int x5), some (.int x6), none]) dX0_areNothing_31 rfl (by decide) rfl ?_
    refine r_iload_n dX0_areNothing_32 rfl rfl ?_
    refine r_aload_n dX0_areNothing_33 rfl rfl ?_
    refine m_getF (x := 850) hp fw_X0_440 dX0_areNothing_34 rfl ly_0 (ff_0_56 ly_0) ?_
    refine r_iload dX0_areNothing_37 rfl ?_
    obtain ⟨r3, er3⟩ : ∃ y, y = 2555 + 8 * (x6).toNatClampNeg := ⟨_, rfl⟩
    have hir3 := H.1
    replace H := H.2 r3 er3
    have tLr3 := la_850 hir3 er3
    refine m_aalF (x := r3) hp dX0_areNothing_39 (lf_0_56 ly_0) rfl rfl (lu_0_56 ly_0) hir3 (fa_850 hir3 er3) ?_
    refine k_VI (As := []) (stk := [.int x3]) hp cv_X0_572 dX0_areNothing_40 rfl (Nat.le_of_ble_eq_true rfl) tLr3 (H.mono (fun v4 h4 H => ?_)) ⟨Nat.le_refl _, Nat.le_refl _⟩
    refine r_iadd dX0_areNothing_43 ?_
    refine r_istore_n (ls2 := [some (.ref 0), some (.int x1), some (.int (x2 + v2)), some (.int (x3 + v4)), some (.int x4), some (.int x5), some (.int x6), none]) dX0_areNothing_44 rfl (by decide) rfl ?_
    refine r_iload dX0_areNothing_45 rfl ?_
    refine r_aload_n dX0_areNothing_47 rfl rfl ?_
    refine m_getF (x := 849) hp fw_X0_437 dX0_areNothing_48 rfl ly_0 (ff_0_55 ly_0) ?_
    refine r_iload dX0_areNothing_51 rfl ?_
    obtain ⟨r5, er5⟩ : ∃ y, y = 2553 + 8 * (x6).toNatClampNeg := ⟨_, rfl⟩
    have hir5 := H.1
    replace H := H.2 r5 er5
    have tLr5 := la_849 hir5 er5
    refine m_aalF (x := r5) hp dX0_areNothing_53 (lf_0_55 ly_0) rfl rfl (lu_0_55 ly_0) hir5 (fa_849 hir5 er5) ?_
    refine k_VI (As := []) (stk := [.int x4]) hp cv_X0_569 dX0_areNothing_54 rfl (Nat.le_of_ble_eq_true rfl) tLr5 (H.mono (fun v6 h6 H => ?_)) ⟨Nat.le_refl _, Nat.le_refl _⟩
    refine k_SI (As := [.int x4, .int v6]) (stk := []) cs_X0_679 dX0_areNothing_57 rfl (Nat.le_of_ble_eq_true rfl) (H.mono (fun v7 h7 H => ?_)) ⟨Nat.le_refl _, Nat.le_refl _⟩
    refine r_istore (ls2 := [some (.ref 0), some (.int x1), some (.int (x2 + v2)), some (.int (x3 + v4)), some (.int v7), some (.int x5), some (.int x6), none]) dX0_areNothing_60 (by decide) rfl ?_
    refine r_iload dX0_areNothing_62 rfl ?_
    refine r_aload_n dX0_areNothing_64 rfl rfl ?_
    refine m_getF (x := 849) hp fw_X0_437 dX0_areNothing_65 rfl ly_0 (ff_0_55 ly_0) ?_
    refine r_iload dX0_areNothing_68 rfl ?_
    obtain ⟨r8, er8⟩ : ∃ y, y = 2553 + 8 * (x6).toNatClampNeg := ⟨_, rfl⟩
    have hir8 := H.1
    replace H := H.2 r8 er8
    have tLr8 := la_849 hir8 er8
    refine m_aalF (x := r8) hp dX0_areNothing_70 (lf_0_55 ly_0) rfl rfl (lu_0_55 ly_0) hir8 (fa_849 hir8 er8) ?_
    refine k_VI (As := []) (stk := [.int x5]) hp cv_X0_572 dX0_areNothing_71 rfl (Nat.le_of_ble_eq_true rfl) tLr8 (H.mono (fun v9 h9 H => ?_)) ⟨Nat.le_refl _, Nat.le_refl _⟩
    refine k_SI (As := [.int x5, .int v9]) (stk := []) cs_X0_679 dX0_areNothing_74 rfl (Nat.le_of_ble_eq_true rfl) (H.mono (fun v10 h10 H => ?_)) ⟨Nat.le_refl _, Nat.le_refl _⟩
    refine r_istore (ls2 := [some (.ref 0), some (.int x1), some (.int (x2 + v2)), some (.int (x3 + v4)), some (.int v7), some (.int v10), some (.int x6), none]) dX0_areNothing_77 (by decide) rfl ?_
    refine r_iinc (v := (x6 + (1 : Int32))) (ls2 := [some (.ref 0), some (.int x1), some (.int (x2 + v2)), some (.int (x3 + v4)), some (.int v7), some (.int v10), some (.int (x6 + (1 : Int32))), none]) dX0_areNothing_79 rfl rfl (by decide) rfl ?_
    refine r_goto (tgt := 13) dX0_areNothing_82 rfl ?_
    exact H
theorem s_X0_areNothing_88 {g : GX} {d : Nat} {av : List Value} {Q : QT} {n : Nat} {h : Hp} {x1 : Int32} {x2 : Int32} {x3 : Int32} {x4 : Int32} {x5 : Int32} {x6 : Int32} (hp : g.2.2.2.2 = true)  (H : (((x2 + x4) < x6) → (Q (some (.int (1 : Int32))) n h)) ∧ ((¬ (x2 + x4) < x6) → (W_X0_areNothing g d av Q n 100 [some (.ref 0), some (.int x1), some (.int x2), some (.int x3), some (.int x4), some (.int x5), some (.int x6), some (.int (0 : Int32))] [] h))) : W_X0_areNothing g d av Q n 88 [some (.ref 0), some (.int x1), some (.int x2), some (.int x3), some (.int x4), some (.int x5), some (.int x6), none] [] h := by
  refine r_iload dX0_areNothing_88 rfl ?_
  refine r_iload_n dX0_areNothing_90 rfl rfl ?_
  refine r_iload dX0_areNothing_91 rfl ?_
  refine r_iadd dX0_areNothing_93 ?_
  refine r_icmp_gt (tgt := 186) dX0_areNothing_94 rfl (fun cH => ?_) (fun cH => ?_)
  · replace H := H.1 cH
    refine r_iconst (v := (1 : Int32)) dX0_areNothing_186 rfl ?_
    exact r_zret dX0_areNothing_187 rfl rfl (Nat.le_refl _) (Nat.le_refl _) H
  · replace H := H.2 cH
    refine r_iconst (v := (0 : Int32)) dX0_areNothing_97 rfl ?_
    refine r_istore (ls2 := [some (.ref 0), some (.int x1), some (.int x2), some (.int x3), some (.int x4), some (.int x5), some (.int x6), some (.int (0 : Int32))]) dX0_areNothing_98 (by decide) rfl ?_
    exact H
theorem s_X0_areNothing_100 {g : GX} {d : Nat} {av : List Value} {Q : QT} {n : Nat} {h : Hp} {x1 : Int32} {x2 : Int32} {x3 : Int32} {x4 : Int32} {x5 : Int32} {x6 : Int32} {x7 : Int32} (hp : g.2.2.2.2 = true)  (H : ((x1 ≤ x7) → (W_X0_areNothing g d av Q n 153 [some (.ref 0), some (.int x1), some (.int x2), some (.int x3), some (.int x4), some (.int x5), some (.int x6), some (.int (0 : Int32))] [] h)) ∧ ((¬ x1 ≤ x7) → (vp_in x7 6 ∧ ∀ r1, r1 = 2553 + 8 * (x7).toNatClampNeg → (vp_in x7 6 ∧ ∀ r2, r2 = 2557 + 8 * (x7).toNatClampNeg → (CallV g m_X4_atN d [.ref r1, .int x6, .ref r2] n h (fun h3 => (vp_in x7 6 ∧ ∀ r4, r4 = 2555 + 8 * (x7).toNatClampNeg → (vp_in x7 6 ∧ ∀ r5, r5 = 2559 + 8 * (x7).toNatClampNeg → (CallV g m_X4_atN d [.ref r4, .int x6, .ref r5] n h3 (fun h6 => (W_X0_areNothing g d av Q n 100 [some (.ref 0), some (.int x1), some (.int x2), some (.int x3), some (.int x4), some (.int x5), some (.int x6), some (.int (x7 + (1 : Int32)))] [] h6))))))))))) : W_X0_areNothing g d av Q n 100 [some (.ref 0), some (.int x1), some (.int x2), some (.int x3), some (.int x4), some (.int x5), some (.int x6), some (.int x7)] [] h := by
  refine r_iload dX0_areNothing_100 rfl ?_
  refine r_iload_n dX0_areNothing_102 rfl rfl ?_
  refine r_icmp_ge (tgt := 150) dX0_areNothing_103 rfl (fun cH => ?_) (fun cH => ?_)
  · replace H := H.1 cH
    refine r_iconst (v := (0 : Int32)) dX0_areNothing_150 rfl ?_
    refine r_istore (ls2 := [some (.ref 0), some (.int x1), some (.int x2), some (.int x3), some (.int x4), some (.int x5), some (.int x6), some (.int (0 : Int32))]) dX0_areNothing_151 (by decide) rfl ?_
    exact H
  · replace H := H.2 cH
    refine r_aload_n dX0_areNothing_106 rfl rfl ?_
    refine m_getF (x := 849) hp fw_X0_437 dX0_areNothing_107 rfl ly_0 (ff_0_55 ly_0) ?_
    refine r_iload dX0_areNothing_110 rfl ?_
    obtain ⟨r1, er1⟩ : ∃ y, y = 2553 + 8 * (x7).toNatClampNeg := ⟨_, rfl⟩
    have hir1 := H.1
    replace H := H.2 r1 er1
    have tLr1 := la_849 hir1 er1
    refine m_aalF (x := r1) hp dX0_areNothing_112 (lf_0_55 ly_0) rfl rfl (lu_0_55 ly_0) hir1 (fa_849 hir1 er1) ?_
    refine r_iload dX0_areNothing_113 rfl ?_
    refine r_aload_n dX0_areNothing_115 rfl rfl ?_
    refine m_getF (x := 851) hp fw_X0_443 dX0_areNothing_116 rfl ly_0 (ff_0_57 ly_0) ?_
    refine r_iload dX0_areNothing_119 rfl ?_
    obtain ⟨r2, er2⟩ : ∃ y, y = 2557 + 8 * (x7).toNatClampNeg := ⟨_, rfl⟩
    have hir2 := H.1
    replace H := H.2 r2 er2
    have tLr2 := la_851 hir2 er2
    refine m_aalF (x := r2) hp dX0_areNothing_121 (lf_0_57 ly_0) rfl rfl (lu_0_57 ly_0) hir2 (fa_851 hir2 er2) ?_
    refine k_VV (As := [.int x6, .ref r2]) (stk := []) hp cv_X0_632 dX0_areNothing_122 rfl (Nat.le_of_ble_eq_true rfl) tLr1 (H.mono (fun h3 H => ?_)) ⟨Nat.le_refl _, Nat.le_refl _⟩
    refine r_aload_n dX0_areNothing_125 rfl rfl ?_
    refine m_getF (x := 850) hp fw_X0_440 dX0_areNothing_126 rfl ly_0 (ff_0_56 ly_0) ?_
    refine r_iload dX0_areNothing_129 rfl ?_
    obtain ⟨r4, er4⟩ : ∃ y, y = 2555 + 8 * (x7).toNatClampNeg := ⟨_, rfl⟩
    have hir4 := H.1
    replace H := H.2 r4 er4
    have tLr4 := la_850 hir4 er4
    refine m_aalF (x := r4) hp dX0_areNothing_131 (lf_0_56 ly_0) rfl rfl (lu_0_56 ly_0) hir4 (fa_850 hir4 er4) ?_
    refine r_iload dX0_areNothing_132 rfl ?_
    refine r_aload_n dX0_areNothing_134 rfl rfl ?_
    refine m_getF (x := 852) hp fw_X0_446 dX0_areNothing_135 rfl ly_0 (ff_0_58 ly_0) ?_
    refine r_iload dX0_areNothing_138 rfl ?_
    obtain ⟨r5, er5⟩ : ∃ y, y = 2559 + 8 * (x7).toNatClampNeg := ⟨_, rfl⟩
    have hir5 := H.1
    replace H := H.2 r5 er5
    have tLr5 := la_852 hir5 er5
    refine m_aalF (x := r5) hp dX0_areNothing_140 (lf_0_58 ly_0) rfl rfl (lu_0_58 ly_0) hir5 (fa_852 hir5 er5) ?_
    refine k_VV (As := [.int x6, .ref r5]) (stk := []) hp cv_X0_632 dX0_areNothing_141 rfl (Nat.le_of_ble_eq_true rfl) tLr4 (H.mono (fun h6 H => ?_)) ⟨Nat.le_refl _, Nat.le_refl _⟩
    refine r_iinc (v := (x7 + (1 : Int32))) (ls2 := [some (.ref 0), some (.int x1), some (.int x2), some (.int x3), some (.int x4), some (.int x5), some (.int x6), some (.int (x7 + (1 : Int32)))]) dX0_areNothing_144 rfl rfl (by decide) rfl ?_
    refine r_goto (tgt := 100) dX0_areNothing_147 rfl ?_
    exact H
theorem s_X0_areNothing_153 {g : GX} {d : Nat} {av : List Value} {Q : QT} {n : Nat} {h : Hp} {x1 : Int32} {x2 : Int32} {x3 : Int32} {x4 : Int32} {x5 : Int32} {x6 : Int32} {x7 : Int32} (hp : g.2.2.2.2 = true)  (H : (((x3 + x5) < x7) → (W_X0_areNothing g d av Q n 88 [some (.ref 0), some (.int x1), some (.int x2), some (.int x3), some (.int x4), some (.int x5), some (.int (x6 + (1 : Int32))), none] [] h)) ∧ ((¬ (x3 + x5) < x7) → (CallI g m_X0_isNothing d [.ref 0, .int x1, .int x7] n h (fun v1 h1 => (((¬ v1 = (0 : Int32)) → (W_X0_areNothing g d av Q n 153 [some (.ref 0), some (.int x1), some (.int x2), some (.int x3), some (.int x4), some (.int x5), some (.int x6), some (.int (x7 + (1 : Int32)))] [] h1)) ∧ ((v1 = (0 : Int32)) → (Q (some (.int (0 : Int32))) n h1))))))) : W_X0_areNothing g d av Q n 153 [some (.ref 0), some (.int x1), some (.int x2), some (.int x3), some (.int x4), some (.int x5), some (.int x6), some (.int x7)] [] h := by
  refine r_iload dX0_areNothing_153 rfl ?_
  refine r_iload_n dX0_areNothing_155 rfl rfl ?_
  refine r_iload dX0_areNothing_156 rfl ?_
  refine r_iadd dX0_areNothing_158 ?_
  refine r_icmp_gt (tgt := 180) dX0_areNothing_159 rfl (fun cH => ?_) (fun cH => ?_)
  · replace H := H.1 cH
    refine r_iinc (v := (x6 + (1 : Int32))) (ls2 := [some (.ref 0), some (.int x1), some (.int x2), some (.int x3), some (.int x4), some (.int x5), some (.int (x6 + (1 : Int32))), some (.int x7)]) dX0_areNothing_180 rfl rfl (by decide) rfl ?_
    refine r_goto (tgt := 88) dX0_areNothing_183 rfl ?_
    refine r_prune [true, true, true, true, true, true, true, false] (ls2 := [some (.ref 0), some (.int x1), some (.int x2), some (.int x3), some (.int x4), some (.int x5), some (.int (x6 + (1 : Int32))), none]) rfl ?_
    exact H
  · replace H := H.2 cH
    refine r_aload_n dX0_areNothing_162 rfl rfl ?_
    refine r_iload_n dX0_areNothing_163 rfl rfl ?_
    refine r_iload dX0_areNothing_164 rfl ?_
    refine k_VI (As := [.int x1, .int x7]) (stk := []) hp cv_X0_762 dX0_areNothing_166 rfl (Nat.le_of_ble_eq_true rfl) ly_0 (H.mono (fun v1 h1 H => ?_)) ⟨Nat.le_refl _, Nat.le_refl _⟩
    refine r_if_ne (tgt := 174) dX0_areNothing_169 rfl (fun cH => ?_) (fun cH => ?_)
    · replace H := H.1 cH
      refine r_iinc (v := (x7 + (1 : Int32))) (ls2 := [some (.ref 0), some (.int x1), some (.int x2), some (.int x3), some (.int x4), some (.int x5), some (.int x6), some (.int (x7 + (1 : Int32)))]) dX0_areNothing_174 rfl rfl (by decide) rfl ?_
      refine r_goto (tgt := 153) dX0_areNothing_177 rfl ?_
      exact H
    · replace H := H.2 cH
      refine r_iconst (v := (0 : Int32)) dX0_areNothing_172 rfl ?_
      exact r_zret dX0_areNothing_173 rfl rfl (Nat.le_refl _) (Nat.le_refl _) H
abbrev W_X0_isNothing (g : GX) (d : Nat) (av : List Value) (Q : QT) (n : Nat) (pc : Nat) (ls : LV) (stk : List Value) (h : Hp) : Prop := RJ g m_X0_isNothing (d + 1) 0 0 av Q pc ls stk n h 0 0
theorem s_X0_isNothing_0 {g : GX} {d : Nat} {av : List Value} {Q : QT} {n : Nat} {h : Hp} {x1 : Int32} {x2 : Int32} (hp : g.2.2.2.2 = true)  (H : W_X0_isNothing g d av Q n 2 [some (.ref 0), some (.int x1), some (.int x2), some (.int (0 : Int32)), none, none] [] h) : W_X0_isNothing g d av Q n 0 [some (.ref 0), some (.int x1), some (.int x2), none, none, none] [] h := by
  refine r_iconst (v := (0 : Int32)) dX0_isNothing_0 rfl ?_
  refine r_istore_n (ls2 := [some (.ref 0), some (.int x1), some (.int x2), some (.int (0 : Int32)), none, none]) dX0_isNothing_1 rfl (by decide) rfl ?_
  exact H
theorem s_X0_isNothing_2 {g : GX} {d : Nat} {av : List Value} {Q : QT} {n : Nat} {h : Hp} {x1 : Int32} {x2 : Int32} {x3 : Int32} (hp : g.2.2.2.2 = true)  (H : ((x1 ≤ x3) → (W_X0_isNothing g d av Q n 53 [some (.ref 0), some (.int x1), none, some (.int (0 : Int32)), some (.int (1 : Int32)), some (.int (0 : Int32))] [] h)) ∧ ((¬ x1 ≤ x3) → (vp_in x3 6 ∧ ∀ r1, r1 = 2557 + 8 * (x3).toNatClampNeg → (CallI g m_X3_value d [.ref r1, .int x2] n h (fun v2 h2 => (vp_in x3 6 ∧ ∀ h3, h3 = wi h2 853 (x3).toNatClampNeg v2 → (vp_in x3 6 ∧ ∀ r4, r4 = 2559 + 8 * (x3).toNatClampNeg → (CallI g m_X3_value d [.ref r4, .int x2] n h3 (fun v5 h5 => (vp_in x3 6 ∧ ∀ h6, h6 = wi h5 854 (x3).toNatClampNeg v5 → (W_X0_isNothing g d av Q n 2 [some (.ref 0), some (.int x1), some (.int x2), some (.int (x3 + (1 : Int32))), none, none] [] h6))))))))))) : W_X0_isNothing g d av Q n 2 [some (.ref 0), some (.int x1), some (.int x2), some (.int x3), none, none] [] h := by
  refine r_iload_n dX0_isNothing_2 rfl rfl ?_
  refine r_iload_n dX0_isNothing_3 rfl rfl ?_
  refine r_icmp_ge (tgt := 45) dX0_isNothing_4 rfl (fun cH => ?_) (fun cH => ?_)
  · replace H := H.1 cH
    refine r_iconst (v := (0 : Int32)) dX0_isNothing_45 rfl ?_
    refine r_istore_n (ls2 := [some (.ref 0), some (.int x1), some (.int x2), some (.int (0 : Int32)), none, none]) dX0_isNothing_46 rfl (by decide) rfl ?_
    refine r_iconst (v := (1 : Int32)) dX0_isNothing_47 rfl ?_
    refine r_istore (ls2 := [some (.ref 0), some (.int x1), some (.int x2), some (.int (0 : Int32)), some (.int (1 : Int32)), none]) dX0_isNothing_48 (by decide) rfl ?_
    refine r_iconst (v := (0 : Int32)) dX0_isNothing_50 rfl ?_
    refine r_istore (ls2 := [some (.ref 0), some (.int x1), some (.int x2), some (.int (0 : Int32)), some (.int (1 : Int32)), some (.int (0 : Int32))]) dX0_isNothing_51 (by decide) rfl ?_
    refine r_prune [true, true, false, true, true, true] (ls2 := [some (.ref 0), some (.int x1), none, some (.int (0 : Int32)), some (.int (1 : Int32)), some (.int (0 : Int32))]) rfl ?_
    exact H
  · replace H := H.2 cH
    refine r_aload_n dX0_isNothing_7 rfl rfl ?_
    refine m_getF (x := 853) hp fw_X0_449 dX0_isNothing_8 rfl ly_0 (ff_0_59 ly_0) ?_
    refine r_iload_n dX0_isNothing_11 rfl rfl ?_
    refine r_aload_n dX0_isNothing_12 rfl rfl ?_
    refine m_getF (x := 851) hp fw_X0_443 dX0_isNothing_13 rfl ly_0 (ff_0_57 ly_0) ?_
    refine r_iload_n dX0_isNothing_16 rfl rfl ?_
    obtain ⟨r1, er1⟩ : ∃ y, y = 2557 + 8 * (x3).toNatClampNeg := ⟨_, rfl⟩
    have hir1 := H.1
    replace H := H.2 r1 er1
    have tLr1 := la_851 hir1 er1
    refine m_aalF (x := r1) hp dX0_isNothing_17 (lf_0_57 ly_0) rfl rfl (lu_0_57 ly_0) hir1 (fa_851 hir1 er1) ?_
    refine r_iload_n dX0_isNothing_18 rfl rfl ?_
    refine k_VI (As := [.int x2]) (stk := [.int x3, .ref 853]) hp cv_X0_765 dX0_isNothing_19 rfl (Nat.le_of_ble_eq_true rfl) tLr1 (H.mono (fun v2 h2 H => ?_)) ⟨Nat.le_refl _, Nat.le_refl _⟩
    refine m_iast hp dX0_isNothing_22 (lf_0_59 ly_0) H.1 (fun h3 eh3 => ?_)
    replace H := H.2 h3 eh3
    refine r_aload_n dX0_isNothing_23 rfl rfl ?_
    refine m_getF (x := 854) hp fw_X0_452 dX0_isNothing_24 rfl ly_0 (ff_0_60 ly_0) ?_
    refine r_iload_n dX0_isNothing_27 rfl rfl ?_
    refine r_aload_n dX0_isNothing_28 rfl rfl ?_
    refine m_getF (x := 852) hp fw_X0_446 dX0_isNothing_29 rfl ly_0 (ff_0_58 ly_0) ?_
    refine r_iload_n dX0_isNothing_32 rfl rfl ?_
    obtain ⟨r4, er4⟩ : ∃ y, y = 2559 + 8 * (x3).toNatClampNeg := ⟨_, rfl⟩
    have hir4 := H.1
    replace H := H.2 r4 er4
    have tLr4 := la_852 hir4 er4
    refine m_aalF (x := r4) hp dX0_isNothing_33 (lf_0_58 ly_0) rfl rfl (lu_0_58 ly_0) hir4 (fa_852 hir4 er4) ?_
    refine r_iload_n dX0_isNothing_34 rfl rfl ?_
    refine k_VI (As := [.int x2]) (stk := [.int x3, .ref 854]) hp cv_X0_765 dX0_isNothing_35 rfl (Nat.le_of_ble_eq_true rfl) tLr4 (H.mono (fun v5 h5 H => ?_)) ⟨Nat.le_refl _, Nat.le_refl _⟩
    refine m_iast hp dX0_isNothing_38 (lf_0_60 ly_0) H.1 (fun h6 eh6 => ?_)
    replace H := H.2 h6 eh6
    refine r_iinc (v := (x3 + (1 : Int32))) (ls2 := [some (.ref 0), some (.int x1), some (.int x2), some (.int (x3 + (1 : Int32))), none, none]) dX0_isNothing_39 rfl rfl (by decide) rfl ?_
    refine r_goto (tgt := 2) dX0_isNothing_42 rfl ?_
    exact H
theorem s_X0_isNothing_53 {g : GX} {d : Nat} {av : List Value} {Q : QT} {n : Nat} {h : Hp} {x1 : Int32} {x3 : Int32} {x4 : Int32} {x5 : Int32} (hp : g.2.2.2.2 = true)  (H : ((x1 ≤ x5) → (((¬ x3 = (0 : Int32)) → (Q (some (.int (0 : Int32))) n h)) ∧ ((x3 = (0 : Int32)) → (Q (some (.int (1 : Int32))) n h)))) ∧ ((¬ x1 ≤ x5) → (vp_in x5 6 ∧ (CallI g m_X0_times d [.int x3, .int (ri h 854 (x5).toNatClampNeg)] n h (fun v1 h1 => (vp_in x5 6 ∧ (CallI g m_X0_times d [.int (ri h1 853 (x5).toNatClampNeg), .int x4] n h1 (fun v2 h2 => (CallI g m_X0_sum d [.int v1, .int v2] n h2 (fun v3 h3 => (vp_in x5 6 ∧ (CallI g m_X0_times d [.int x4, .int (ri h3 854 (x5).toNatClampNeg)] n h3 (fun v4 h4 => (W_X0_isNothing g d av Q n 53 [some (.ref 0), some (.int x1), none, some (.int v3), some (.int v4), some (.int (x5 + (1 : Int32)))] [] h4)))))))))))))) : W_X0_isNothing g d av Q n 53 [some (.ref 0), some (.int x1), none, some (.int x3), some (.int x4), some (.int x5)] [] h := by
  refine r_iload dX0_isNothing_53 rfl ?_
  refine r_iload_n dX0_isNothing_55 rfl rfl ?_
  refine r_icmp_ge (tgt := 106) dX0_isNothing_56 rfl (fun cH => ?_) (fun cH => ?_)
  · replace H := H.1 cH
    refine r_iload_n dX0_isNothing_106 rfl rfl ?_
    refine r_if_ne (tgt := 114) dX0_isNothing_107 rfl (fun cH => ?_) (fun cH => ?_)
    · replace H := H.1 cH
      refine r_iconst (v := (0 : Int32)) dX0_isNothing_114 rfl ?_
      exact r_zret dX0_isNothing_115 rfl rfl (Nat.le_refl _) (Nat.le_refl _) H
    · replace H := H.2 cH
      refine r_iconst (v := (1 : Int32)) dX0_isNothing_110 rfl ?_
      refine r_goto (tgt := 115) dX0_isNothing_111 rfl ?_
      exact r_zret dX0_isNothing_115 rfl rfl (Nat.le_refl _) (Nat.le_refl _) H
  · replace H := H.2 cH
    refine r_iload_n dX0_isNothing_59 rfl rfl ?_
    refine r_aload_n dX0_isNothing_60 rfl rfl ?_
    refine m_getF (x := 854) hp fw_X0_452 dX0_isNothing_61 rfl ly_0 (ff_0_60 ly_0) ?_
    refine r_iload dX0_isNothing_64 rfl ?_
    refine m_iald hp dX0_isNothing_66 (lf_0_60 ly_0) H.1 ?_
    replace H := H.2
    refine k_SI (As := [.int x3, .int (ri h 854 (x5).toNatClampNeg)]) (stk := []) cs_X0_6 dX0_isNothing_67 rfl (Nat.le_of_ble_eq_true rfl) (H.mono (fun v1 h1 H => ?_)) ⟨Nat.le_refl _, Nat.le_refl _⟩
    refine r_aload_n dX0_isNothing_70 rfl rfl ?_
    refine m_getF (x := 853) hp fw_X0_449 dX0_isNothing_71 rfl ly_0 (ff_0_59 ly_0) ?_
    refine r_iload dX0_isNothing_74 rfl ?_
    refine m_iald hp dX0_isNothing_76 (lf_0_59 ly_0) H.1 ?_
    replace H := H.2
    refine r_iload dX0_isNothing_77 rfl ?_
    refine k_SI (As := [.int (ri h1 853 (x5).toNatClampNeg), .int x4]) (stk := [.int v1]) cs_X0_6 dX0_isNothing_79 rfl (Nat.le_of_ble_eq_true rfl) (H.mono (fun v2 h2 H => ?_)) ⟨Nat.le_refl _, Nat.le_refl _⟩
    refine k_SI (As := [.int v1, .int v2]) (stk := []) cs_X0_598 dX0_isNothing_82 rfl (Nat.le_of_ble_eq_true rfl) (H.mono (fun v3 h3 H => ?_)) ⟨Nat.le_refl _, Nat.le_refl _⟩
    refine r_istore_n (ls2 := [some (.ref 0), some (.int x1), none, some (.int v3), some (.int x4), some (.int x5)]) dX0_isNothing_85 rfl (by decide) rfl ?_
    refine r_iload dX0_isNothing_86 rfl ?_
    refine r_aload_n dX0_isNothing_88 rfl rfl ?_
    refine m_getF (x := 854) hp fw_X0_452 dX0_isNothing_89 rfl ly_0 (ff_0_60 ly_0) ?_
    refine r_iload dX0_isNothing_92 rfl ?_
    refine m_iald hp dX0_isNothing_94 (lf_0_60 ly_0) H.1 ?_
    replace H := H.2
    refine k_SI (As := [.int x4, .int (ri h3 854 (x5).toNatClampNeg)]) (stk := []) cs_X0_6 dX0_isNothing_95 rfl (Nat.le_of_ble_eq_true rfl) (H.mono (fun v4 h4 H => ?_)) ⟨Nat.le_refl _, Nat.le_refl _⟩
    refine r_istore (ls2 := [some (.ref 0), some (.int x1), none, some (.int v3), some (.int v4), some (.int x5)]) dX0_isNothing_98 (by decide) rfl ?_
    refine r_iinc (v := (x5 + (1 : Int32))) (ls2 := [some (.ref 0), some (.int x1), none, some (.int v3), some (.int v4), some (.int (x5 + (1 : Int32)))]) dX0_isNothing_100 rfl rfl (by decide) rfl ?_
    refine r_goto (tgt := 53) dX0_isNothing_103 rfl ?_
    exact H
abbrev W_X0_poke (g : GX) (d : Nat) (av : List Value) (Q : QT) (n : Nat) (pc : Nat) (ls : LV) (stk : List Value) (h : Hp) : Prop := RJ g m_X0_poke (d + 1) 0 0 av Q pc ls stk n h 0 0
theorem s_X0_poke_0 {g : GX} {d : Nat} {av : List Value} {Q : QT} {n : Nat} {h : Hp} {x1 : Int32} {x2 : Int32} {x3 : Int32} {x4 : Int32} {x5 : Int32} (hp : g.2.2.2.2 = true)  (H : CallI g m_X0_isSlot d [.int x1] n h (fun v1 h1 => (((¬ v1 = (0 : Int32)) → (vp_in x1 12 ∧ ∀ r2, r2 = 1185 + 27 * (x1).toNatClampNeg → ((((ri h1 r2 0) = (3 : Int32)) → (CallI g m_X0_within d [.int x2, .int (-1 : Int32), .int (ri h1 r2 3)] n h1 (fun v3 h3 => (((v3 = (0 : Int32)) → (Q (some (.int (-1 : Int32))) n h3)) ∧ ((¬ v3 = (0 : Int32)) → (CallI g m_X0_within d [.int x3, .int (0 : Int32), .int (24 : Int32)] n h3 (fun v4 h4 => (((v4 = (0 : Int32)) → (Q (some (.int (-1 : Int32))) n h4)) ∧ ((¬ v4 = (0 : Int32)) → ((((0 : Int32) ≤ x2) → (W_X0_poke g d av Q n 65 [some (.ref 0), none, some (.int x2), some (.int x3), some (.int x4), some (.int x5), some (.ref r2), none, none, none] [.int (0 : Int32), .int (0 : Int32), .int x4] h4)) ∧ ((¬ (0 : Int32) ≤ x2) → (W_X0_poke g d av Q n 65 [some (.ref 0), none, some (.int x2), some (.int x3), some (.int x4), some (.int x5), some (.ref r2), none, none, none] [.int (12 : Int32), .int (0 : Int32), .int x4] h4)))))))))))) ∧ ((¬ (ri h1 r2 0) = (3 : Int32)) → (Q (some (.int (-3 : Int32))) n h1))))) ∧ ((v1 = (0 : Int32)) → (Q (some (.int (-1 : Int32))) n h1))))) : W_X0_poke g d av Q n 0 [some (.ref 0), some (.int x1), some (.int x2), some (.int x3), some (.int x4), some (.int x5), none, none, none, none] [] h := by
  refine r_iload_n dX0_poke_0 rfl rfl ?_
  refine k_SI (As := [.int x1]) (stk := []) cs_X0_519 dX0_poke_1 rfl (Nat.le_of_ble_eq_true rfl) (H.mono (fun v1 h1 H => ?_)) ⟨Nat.le_refl _, Nat.le_refl _⟩
  refine r_if_ne (tgt := 9) dX0_poke_4 rfl (fun cH => ?_) (fun cH => ?_)
  · replace H := H.1 cH
    refine r_aload_n dX0_poke_9 rfl rfl ?_
    refine m_getF (x := 79) hp fw_X0_326 dX0_poke_10 rfl ly_0 (ff_0_20 ly_0) ?_
    refine r_iload_n dX0_poke_13 rfl rfl ?_
    obtain ⟨r2, er2⟩ : ∃ y, y = 1185 + 27 * (x1).toNatClampNeg := ⟨_, rfl⟩
    have hir2 := H.1
    replace H := H.2 r2 er2
    have tLr2 := la_79 hir2 er2
    refine m_aalF (x := r2) hp dX0_poke_14 (lf_0_20 ly_0) rfl rfl (lu_0_20 ly_0) hir2 (fa_79 hir2 er2) ?_
    refine r_astore (ls2 := [some (.ref 0), some (.int x1), some (.int x2), some (.int x3), some (.int x4), some (.int x5), some (.ref r2), none, none, none]) dX0_poke_15 (by decide) rfl ?_
    refine r_aload dX0_poke_17 rfl ?_
    refine m_getI hp fw_X0_509 dX0_poke_19 rfl tLr2 ?_
    refine r_iconst (v := (3 : Int32)) dX0_poke_22 rfl ?_
    refine r_icmp_eq (tgt := 29) dX0_poke_23 rfl (fun cH => ?_) (fun cH => ?_)
    · replace H := H.1 cH
      refine r_iload_n dX0_poke_29 rfl rfl ?_
      refine r_iconst (v := (-1 : Int32)) dX0_poke_30 rfl ?_
      refine r_aload dX0_poke_31 rfl ?_
      refine m_getI hp fw_X0_575 dX0_poke_33 rfl tLr2 ?_
      refine k_SI (As := [.int x2, .int (-1 : Int32), .int (ri h1 r2 3)]) (stk := []) cs_X0_173 dX0_poke_36 rfl (Nat.le_of_ble_eq_true rfl) (H.mono (fun v3 h3 H => ?_)) ⟨Nat.le_refl _, Nat.le_refl _⟩
      refine r_if_eq (tgt := 71) dX0_poke_39 rfl (fun cH => ?_) (fun cH => ?_)
      · replace H := H.1 cH
        refine r_iconst (v := (-1 : Int32)) dX0_poke_71 rfl ?_
        exact r_zret dX0_poke_72 rfl rfl (Nat.le_refl _) (Nat.le_refl _) H
      · replace H := H.2 cH
        refine r_iload_n dX0_poke_42 rfl rfl ?_
        refine r_iconst (v := (0 : Int32)) dX0_poke_43 rfl ?_
        refine r_bipush (v := (24 : Int32)) dX0_poke_44 rfl ?_
        refine k_SI (As := [.int x3, .int (0 : Int32), .int (24 : Int32)]) (stk := []) cs_X0_173 dX0_poke_46 rfl (Nat.le_of_ble_eq_true rfl) (H.mono (fun v4 h4 H => ?_)) ⟨Nat.le_refl _, Nat.le_refl _⟩
        refine r_if_eq (tgt := 71) dX0_poke_49 rfl (fun cH => ?_) (fun cH => ?_)
        · replace H := H.1 cH
          refine r_iconst (v := (-1 : Int32)) dX0_poke_71 rfl ?_
          exact r_zret dX0_poke_72 rfl rfl (Nat.le_refl _) (Nat.le_refl _) H
        · replace H := H.2 cH
          refine r_iload dX0_poke_52 rfl ?_
          refine r_iconst (v := (0 : Int32)) dX0_poke_54 rfl ?_
          refine r_iload_n dX0_poke_55 rfl rfl ?_
          refine r_if_ge (tgt := 64) dX0_poke_56 rfl (fun cH => ?_) (fun cH => ?_)
          · replace H := H.1 cH
            refine r_iconst (v := (0 : Int32)) dX0_poke_64 rfl ?_
            refine r_prune [true, false, true, true, true, true, true, false, false, false] (ls2 := [some (.ref 0), none, some (.int x2), some (.int x3), some (.int x4), some (.int x5), some (.ref r2), none, none, none]) rfl ?_
            exact H
          · replace H := H.2 cH
            refine r_bipush (v := (12 : Int32)) dX0_poke_59 rfl ?_
            refine r_goto (tgt := 65) dX0_poke_61 rfl ?_
            refine r_prune [true, false, true, true, true, true, true, false, false, false] (ls2 := [some (.ref 0), none, some (.int x2), some (.int x3), some (.int x4), some (.int x5), some (.ref r2), none, none, none]) rfl ?_
            exact H
    · replace H := H.2 cH
      refine r_bipush (v := (-3 : Int32)) dX0_poke_26 rfl ?_
      exact r_zret dX0_poke_28 rfl rfl (Nat.le_refl _) (Nat.le_refl _) H
  · replace H := H.2 cH
    refine r_iconst (v := (-1 : Int32)) dX0_poke_7 rfl ?_
    exact r_zret dX0_poke_8 rfl rfl (Nat.le_refl _) (Nat.le_refl _) H
theorem s_X0_poke_65 {g : GX} {d : Nat} {av : List Value} {Q : QT} {n : Nat} {h : Hp} {x2 : Int32} {x3 : Int32} {x4 : Int32} {x5 : Int32} {a6 : Nat} {xs0 : Int32} {xs1 : Int32} {xs2 : Int32} (hp : g.2.2.2.2 = true) (t6 : lay a6 = (0, 9, 8)) (H : CallI g m_X0_within d [.int xs2, .int xs1, .int xs0] n h (fun v1 h1 => (((¬ v1 = (0 : Int32)) → (((x2 < (0 : Int32)) → (CallI g m_X4_get d [.ref (a6 + 3), .int x3, .int x4] n h1 (fun v2 h2 => (CallV g m_X4_copy d [.ref 39, .ref (a6 + 3)] n h2 (fun h3 => (CallV g m_X4_grow d [.ref 39, .int (x3 + (1 : Int32)), .int (x4 + (1 : Int32))] n h3 (fun h4 => (CallI g m_X0_rest d [.int x5] n h4 (fun v5 h5 => (vp_in ((x4 * (ri h4 39 0)) + x3) (rm 40) ∧ ∀ h6, h6 = wi h5 40 (((x4 * (ri h4 39 0)) + x3)).toNatClampNeg v5 → (CallV g m_X4_trim d [.ref 39] n h6 (fun h7 => (CallV g m_X4_copy d [.ref 41, .ref (a6 + 5)] n h7 (fun h8 => (CallI g m_X0_give d [.ref 0, .ref (a6 + 2)] n h8 (fun v9 h9 => (Q (some (.int v2)) n h9))))))))))))))))) ∧ ((¬ x2 < (0 : Int32)) → (vp_in x2 7 ∧ ∀ r10, r10 = (a6 + 13) + 2 * (x2).toNatClampNeg → (CallI g m_X3_get d [.ref r10, .int x3] n h1 (fun v11 h11 => (vp_in x2 7 ∧ ∀ r12, r12 = (a6 + 13) + 2 * (x2).toNatClampNeg → (CallI g m_X0_rest d [.int x5] n h11 (fun v13 h13 => (CallV g m_X3_put d [.ref r12, .int x3, .int v13] n h13 (fun h14 => (Q (some (.int v11)) n h14)))))))))))) ∧ ((v1 = (0 : Int32)) → (Q (some (.int (-1 : Int32))) n h1))))) : W_X0_poke g d av Q n 65 [some (.ref 0), none, some (.int x2), some (.int x3), some (.int x4), some (.int x5), some (.ref a6), none, none, none] [.int xs0, .int xs1, .int xs2] h := by
  refine k_SI (As := [.int xs2, .int xs1, .int xs0]) (stk := []) cs_X0_173 dX0_poke_65 rfl (Nat.le_of_ble_eq_true rfl) (H.mono (fun v1 h1 H => ?_)) ⟨Nat.le_refl _, Nat.le_refl _⟩
  refine r_if_ne (tgt := 73) dX0_poke_68 rfl (fun cH => ?_) (fun cH => ?_)
  · replace H := H.1 cH
    refine r_iload_n dX0_poke_73 rfl rfl ?_
    refine r_if_lt (tgt := 109) dX0_poke_74 rfl (fun cH => ?_) (fun cH => ?_)
    · replace H := H.1 cH
      refine r_aload dX0_poke_109 rfl ?_
      refine m_getF (x := (a6 + 1)) hp fw_X0_512 dX0_poke_111 rfl t6 (ff_9_1 t6) ?_
      refine m_getF (x := (a6 + 2)) hp fw_X0_110 dX0_poke_114 rfl (lf_9_1 t6) (ff_5_0 (lf_9_1 t6)) ?_
      refine r_astore (ls2 := [some (.ref 0), none, some (.int x2), some (.int x3), some (.int x4), some (.int x5), some (.ref a6), some (.ref (a6 + 2)), none, none]) dX0_poke_117 (by decide) rfl ?_
      refine r_aload dX0_poke_119 rfl ?_
      refine m_getF (x := (a6 + 3)) hp fw_X0_89 dX0_poke_121 rfl (lf_5_0 (lf_9_1 t6)) (ff_6_0 (lf_5_0 (lf_9_1 t6))) ?_
      refine r_iload_n dX0_poke_124 rfl rfl ?_
      refine r_iload dX0_poke_125 rfl ?_
      refine k_VI (As := [.int x3, .int x4]) (stk := []) hp cv_X0_183 dX0_poke_127 rfl (Nat.le_of_ble_eq_true rfl) (lf_6_0 (lf_5_0 (lf_9_1 t6))) (H.mono (fun v2 h2 H => ?_)) ⟨Nat.le_refl _, Nat.le_refl _⟩
      refine r_istore (ls2 := [some (.ref 0), none, some (.int x2), some (.int x3), some (.int x4), some (.int x5), some (.ref a6), some (.ref (a6 + 2)), some (.int v2), none]) dX0_poke_130 (by decide) rfl ?_
      refine r_aload_n dX0_poke_132 rfl rfl ?_
      refine m_getF (x := 39) hp fw_X0_31 dX0_poke_133 rfl ly_0 (ff_0_1 ly_0) ?_
      refine r_aload dX0_poke_136 rfl ?_
      refine m_getF (x := (a6 + 3)) hp fw_X0_89 dX0_poke_138 rfl (lf_5_0 (lf_9_1 t6)) (ff_6_0 (lf_5_0 (lf_9_1 t6))) ?_
      refine k_VV (As := [.ref (a6 + 3)]) (stk := []) hp cv_X0_66 dX0_poke_141 rfl (Nat.le_of_ble_eq_true rfl) (lf_0_1 ly_0) (H.mono (fun h3 H => ?_)) ⟨Nat.le_refl _, Nat.le_refl _⟩
      refine r_aload_n dX0_poke_144 rfl rfl ?_
      refine m_getF (x := 39) hp fw_X0_31 dX0_poke_145 rfl ly_0 (ff_0_1 ly_0) ?_
      refine r_iload_n dX0_poke_148 rfl rfl ?_
      refine r_iconst (v := (1 : Int32)) dX0_poke_149 rfl ?_
      refine r_iadd dX0_poke_150 ?_
      refine r_iload dX0_poke_151 rfl ?_
      refine r_iconst (v := (1 : Int32)) dX0_poke_153 rfl ?_
      refine r_iadd dX0_poke_154 ?_
      refine k_VV (As := [.int (x3 + (1 : Int32)), .int (x4 + (1 : Int32))]) (stk := []) hp cv_X0_777 dX0_poke_155 rfl (Nat.le_of_ble_eq_true rfl) (lf_0_1 ly_0) (H.mono (fun h4 H => ?_)) ⟨Nat.le_refl _, Nat.le_refl _⟩
      refine r_aload_n dX0_poke_158 rfl rfl ?_
      refine m_getF (x := 39) hp fw_X0_31 dX0_poke_159 rfl ly_0 (ff_0_1 ly_0) ?_
      refine m_getF (x := 40) hp fw_X0_288 dX0_poke_162 rfl (lf_0_1 ly_0) (ff_4_1 (lf_0_1 ly_0)) ?_
      refine r_iload dX0_poke_165 rfl ?_
      refine r_aload_n dX0_poke_167 rfl rfl ?_
      refine m_getF (x := 39) hp fw_X0_31 dX0_poke_168 rfl ly_0 (ff_0_1 ly_0) ?_
      refine m_getI hp fw_X0_608 dX0_poke_171 rfl (lf_0_1 ly_0) ?_
      refine r_imul dX0_poke_174 ?_
      refine r_iload_n dX0_poke_175 rfl rfl ?_
      refine r_iadd dX0_poke_176 ?_
      refine r_iload dX0_poke_177 rfl ?_
      refine k_SI (As := [.int x5]) (stk := [.int ((x4 * (ri h4 39 0)) + x3), .ref 40]) cs_X0_543 dX0_poke_179 rfl (Nat.le_of_ble_eq_true rfl) (H.mono (fun v5 h5 H => ?_)) ⟨Nat.le_refl _, Nat.le_refl _⟩
      refine m_iast hp dX0_poke_182 (lf_4_1 (lf_0_1 ly_0)) H.1 (fun h6 eh6 => ?_)
      replace H := H.2 h6 eh6
      refine r_aload_n dX0_poke_183 rfl rfl ?_
      refine m_getF (x := 39) hp fw_X0_31 dX0_poke_184 rfl ly_0 (ff_0_1 ly_0) ?_
      refine k_VV (As := []) (stk := []) hp cv_X0_611 dX0_poke_187 rfl (Nat.le_of_ble_eq_true rfl) (lf_0_1 ly_0) (H.mono (fun h7 H => ?_)) ⟨Nat.le_refl _, Nat.le_refl _⟩
      refine r_aload_n dX0_poke_190 rfl rfl ?_
      refine m_getF (x := 41) hp fw_X0_39 dX0_poke_191 rfl ly_0 (ff_0_2 ly_0) ?_
      refine r_aload dX0_poke_194 rfl ?_
      refine m_getF (x := (a6 + 5)) hp fw_X0_94 dX0_poke_196 rfl (lf_5_0 (lf_9_1 t6)) (ff_6_1 (lf_5_0 (lf_9_1 t6))) ?_
      refine k_VV (As := [.ref (a6 + 5)]) (stk := []) hp cv_X0_66 dX0_poke_199 rfl (Nat.le_of_ble_eq_true rfl) (lf_0_2 ly_0) (H.mono (fun h8 H => ?_)) ⟨Nat.le_refl _, Nat.le_refl _⟩
      refine r_aload_n dX0_poke_202 rfl rfl ?_
      refine r_aload dX0_poke_203 rfl ?_
      refine k_VI (As := [.ref (a6 + 2)]) (stk := []) hp cv_X0_106 dX0_poke_205 rfl (Nat.le_of_ble_eq_true rfl) ly_0 (H.mono (fun v9 h9 H => ?_)) ⟨Nat.le_refl _, Nat.le_refl _⟩
      refine r_istore (ls2 := [some (.ref 0), none, some (.int x2), some (.int x3), some (.int x4), some (.int x5), some (.ref a6), some (.ref (a6 + 2)), some (.int v2), some (.int v9)]) dX0_poke_208 (by decide) rfl ?_
      refine r_iload dX0_poke_210 rfl ?_
      exact r_zret dX0_poke_212 rfl rfl (Nat.le_refl _) (Nat.le_refl _) H
    · replace H := H.2 cH
      refine r_aload dX0_poke_77 rfl ?_
      refine m_getF (x := (a6 + 11)) hp fw_X0_578 dX0_poke_79 rfl t6 (ff_9_2 t6) ?_
      refine r_iload_n dX0_poke_82 rfl rfl ?_
      obtain ⟨r10, er10⟩ : ∃ y, y = (a6 + 13) + 2 * (x2).toNatClampNeg := ⟨_, rfl⟩
      have hir10 := H.1
      replace H := H.2 r10 er10
      have tLr10 := le_9 t6 hir10 er10
      refine m_aalF (x := r10) hp dX0_poke_83 (lf_9_2 t6) rfl rfl (lu_9_2 t6) hir10 (fe_9 t6 hir10 er10) ?_
      refine r_iload_n dX0_poke_84 rfl rfl ?_
      refine k_VI (As := [.int x3]) (stk := []) hp cv_X0_580 dX0_poke_85 rfl (Nat.le_of_ble_eq_true rfl) tLr10 (H.mono (fun v11 h11 H => ?_)) ⟨Nat.le_refl _, Nat.le_refl _⟩
      refine r_istore (ls2 := [some (.ref 0), none, some (.int x2), some (.int x3), some (.int x4), some (.int x5), some (.ref a6), some (.int v11), none, none]) dX0_poke_88 (by decide) rfl ?_
      refine r_aload dX0_poke_90 rfl ?_
      refine m_getF (x := (a6 + 11)) hp fw_X0_578 dX0_poke_92 rfl t6 (ff_9_2 t6) ?_
      refine r_iload_n dX0_poke_95 rfl rfl ?_
      obtain ⟨r12, er12⟩ : ∃ y, y = (a6 + 13) + 2 * (x2).toNatClampNeg := ⟨_, rfl⟩
      have hir12 := H.1
      replace H := H.2 r12 er12
      have tLr12 := le_9 t6 hir12 er12
      refine m_aalF (x := r12) hp dX0_poke_96 (lf_9_2 t6) rfl rfl (lu_9_2 t6) hir12 (fe_9 t6 hir12 er12) ?_
      refine r_iload_n dX0_poke_97 rfl rfl ?_
      refine r_iload dX0_poke_98 rfl ?_
      refine k_SI (As := [.int x5]) (stk := [.int x3, .ref r12]) cs_X0_543 dX0_poke_100 rfl (Nat.le_of_ble_eq_true rfl) (H.mono (fun v13 h13 H => ?_)) ⟨Nat.le_refl _, Nat.le_refl _⟩
      refine k_VV (As := [.int x3, .int v13]) (stk := []) hp cv_X0_774 dX0_poke_103 rfl (Nat.le_of_ble_eq_true rfl) tLr12 (H.mono (fun h14 H => ?_)) ⟨Nat.le_refl _, Nat.le_refl _⟩
      refine r_iload dX0_poke_106 rfl ?_
      exact r_zret dX0_poke_108 rfl rfl (Nat.le_refl _) (Nat.le_refl _) H
  · replace H := H.2 cH
    refine r_iconst (v := (-1 : Int32)) dX0_poke_71 rfl ?_
    exact r_zret dX0_poke_72 rfl rfl (Nat.le_refl _) (Nat.le_refl _) H
abbrev W_X0_holds (g : GX) (d : Nat) (av : List Value) (Q : QT) (n : Nat) (pc : Nat) (ls : LV) (stk : List Value) (h : Hp) : Prop := RJ g m_X0_holds (d + 1) 0 0 av Q pc ls stk n h 0 0
theorem s_X0_holds_0 {g : GX} {d : Nat} {av : List Value} {Q : QT} {n : Nat} {h : Hp} {x1 : Int32} {x2 : Int32} {x3 : Int32} {x4 : Int32} {x5 : Int32} (hp : g.2.2.2.2 = true)  (H : CallI g m_X0_isSlot d [.int x1] n h (fun v1 h1 => (((v1 = (0 : Int32)) → (Q (some (.int (-1 : Int32))) n h1)) ∧ ((¬ v1 = (0 : Int32)) → (CallI g m_X0_isSlot d [.int x2] n h1 (fun v2 h2 => (((¬ v2 = (0 : Int32)) → (vp_in x1 12 ∧ ∀ r3, r3 = 1185 + 27 * (x1).toNatClampNeg → (((¬ (ri h2 r3 0) = (3 : Int32)) → (Q (some (.int (-3 : Int32))) n h2)) ∧ (((ri h2 r3 0) = (3 : Int32)) → (CallI g m_X0_hasItem d [.ref 0, .int x2] n h2 (fun v4 h4 => (((¬ v4 = (0 : Int32)) → (vp_in x1 12 ∧ ∀ r5, r5 = 1185 + 27 * (x1).toNatClampNeg → (vp_in x2 12 ∧ ∀ r6, r6 = 1185 + 27 * (x2).toNatClampNeg → (CallI g m_X0_arePlaces d [.int x3, .int x4, .int x5] n h4 (fun v7 h7 => (((v7 = (0 : Int32)) → (Q (some (.int (-1 : Int32))) n h7)) ∧ ((¬ v7 = (0 : Int32)) → ((((500 : Int32) < (x3 + (ri h7 r5 3))) → (Q (some (.int (-1 : Int32))) n h7)) ∧ ((¬ (500 : Int32) < (x3 + (ri h7 r5 3))) → ((((x5 + (1 : Int32)) ≤ (500 : Int32)) → (W_X0_holds g d av Q n 101 [some (.ref 0), none, none, some (.int x3), some (.int x4), some (.int x5), some (.ref r5), some (.ref (r6 + 1)), some (.int (0 : Int32)), some (.int (0 : Int32)), none] [] h7)) ∧ ((¬ (x5 + (1 : Int32)) ≤ (500 : Int32)) → (Q (some (.int (-1 : Int32))) n h7)))))))))))) ∧ ((v4 = (0 : Int32)) → (Q (some (.int (-3 : Int32))) n h4))))))))) ∧ ((v2 = (0 : Int32)) → (Q (some (.int (-1 : Int32))) n h2))))))))) : W_X0_holds g d av Q n 0 [some (.ref 0), some (.int x1), some (.int x2), some (.int x3), some (.int x4), some (.int x5), none, none, none, none, none] [] h := by
  refine r_iload_n dX0_holds_0 rfl rfl ?_
  refine k_SI (As := [.int x1]) (stk := []) cs_X0_519 dX0_holds_1 rfl (Nat.le_of_ble_eq_true rfl) (H.mono (fun v1 h1 H => ?_)) ⟨Nat.le_refl _, Nat.le_refl _⟩
  refine r_if_eq (tgt := 14) dX0_holds_4 rfl (fun cH => ?_) (fun cH => ?_)
  · replace H := H.1 cH
    refine r_iconst (v := (-1 : Int32)) dX0_holds_14 rfl ?_
    exact r_zret dX0_holds_15 rfl rfl (Nat.le_refl _) (Nat.le_refl _) H
  · replace H := H.2 cH
    refine r_iload_n dX0_holds_7 rfl rfl ?_
    refine k_SI (As := [.int x2]) (stk := []) cs_X0_519 dX0_holds_8 rfl (Nat.le_of_ble_eq_true rfl) (H.mono (fun v2 h2 H => ?_)) ⟨Nat.le_refl _, Nat.le_refl _⟩
    refine r_if_ne (tgt := 16) dX0_holds_11 rfl (fun cH => ?_) (fun cH => ?_)
    · replace H := H.1 cH
      refine r_aload_n dX0_holds_16 rfl rfl ?_
      refine m_getF (x := 79) hp fw_X0_326 dX0_holds_17 rfl ly_0 (ff_0_20 ly_0) ?_
      refine r_iload_n dX0_holds_20 rfl rfl ?_
      obtain ⟨r3, er3⟩ : ∃ y, y = 1185 + 27 * (x1).toNatClampNeg := ⟨_, rfl⟩
      have hir3 := H.1
      replace H := H.2 r3 er3
      have tLr3 := la_79 hir3 er3
      refine m_aalF (x := r3) hp dX0_holds_21 (lf_0_20 ly_0) rfl rfl (lu_0_20 ly_0) hir3 (fa_79 hir3 er3) ?_
      refine m_getI hp fw_X0_509 dX0_holds_22 rfl tLr3 ?_
      refine r_iconst (v := (3 : Int32)) dX0_holds_25 rfl ?_
      refine r_icmp_ne (tgt := 37) dX0_holds_26 rfl (fun cH => ?_) (fun cH => ?_)
      · replace H := H.1 cH
        refine r_bipush (v := (-3 : Int32)) dX0_holds_37 rfl ?_
        exact r_zret dX0_holds_39 rfl rfl (Nat.le_refl _) (Nat.le_refl _) H
      · replace H := H.2 cH
        refine r_aload_n dX0_holds_29 rfl rfl ?_
        refine r_iload_n dX0_holds_30 rfl rfl ?_
        refine k_VI (As := [.int x2]) (stk := []) hp cv_X0_546 dX0_holds_31 rfl (Nat.le_of_ble_eq_true rfl) ly_0 (H.mono (fun v4 h4 H => ?_)) ⟨Nat.le_refl _, Nat.le_refl _⟩
        refine r_if_ne (tgt := 40) dX0_holds_34 rfl (fun cH => ?_) (fun cH => ?_)
        · replace H := H.1 cH
          refine r_aload_n dX0_holds_40 rfl rfl ?_
          refine m_getF (x := 79) hp fw_X0_326 dX0_holds_41 rfl ly_0 (ff_0_20 ly_0) ?_
          refine r_iload_n dX0_holds_44 rfl rfl ?_
          obtain ⟨r5, er5⟩ : ∃ y, y = 1185 + 27 * (x1).toNatClampNeg := ⟨_, rfl⟩
          have hir5 := H.1
          replace H := H.2 r5 er5
          have tLr5 := la_79 hir5 er5
          refine m_aalF (x := r5) hp dX0_holds_45 (lf_0_20 ly_0) rfl rfl (lu_0_20 ly_0) hir5 (fa_79 hir5 er5) ?_
          refine r_astore (ls2 := [some (.ref 0), some (.int x1), some (.int x2), some (.int x3), some (.int x4), some (.int x5), some (.ref r5), none, none, none, none]) dX0_holds_46 (by decide) rfl ?_
          refine r_aload_n dX0_holds_48 rfl rfl ?_
          refine m_getF (x := 79) hp fw_X0_326 dX0_holds_49 rfl ly_0 (ff_0_20 ly_0) ?_
          refine r_iload_n dX0_holds_52 rfl rfl ?_
          obtain ⟨r6, er6⟩ : ∃ y, y = 1185 + 27 * (x2).toNatClampNeg := ⟨_, rfl⟩
          have hir6 := H.1
          replace H := H.2 r6 er6
          have tLr6 := la_79 hir6 er6
          refine m_aalF (x := r6) hp dX0_holds_53 (lf_0_20 ly_0) rfl rfl (lu_0_20 ly_0) hir6 (fa_79 hir6 er6) ?_
          refine m_getF (x := (r6 + 1)) hp fw_X0_512 dX0_holds_54 rfl tLr6 (ff_9_1 tLr6) ?_
          refine r_astore (ls2 := [some (.ref 0), some (.int x1), some (.int x2), some (.int x3), some (.int x4), some (.int x5), some (.ref r5), some (.ref (r6 + 1)), none, none, none]) dX0_holds_57 (by decide) rfl ?_
          refine r_iload_n dX0_holds_59 rfl rfl ?_
          refine r_iload dX0_holds_60 rfl ?_
          refine r_iload dX0_holds_62 rfl ?_
          refine k_SI (As := [.int x3, .int x4, .int x5]) (stk := []) cs_X0_601 dX0_holds_64 rfl (Nat.le_of_ble_eq_true rfl) (H.mono (fun v7 h7 H => ?_)) ⟨Nat.le_refl _, Nat.le_refl _⟩
          refine r_if_eq (tgt := 93) dX0_holds_67 rfl (fun cH => ?_) (fun cH => ?_)
          · replace H := H.1 cH
            refine r_iconst (v := (-1 : Int32)) dX0_holds_93 rfl ?_
            exact r_zret dX0_holds_94 rfl rfl (Nat.le_refl _) (Nat.le_refl _) H
          · replace H := H.2 cH
            refine r_iload_n dX0_holds_70 rfl rfl ?_
            refine r_aload dX0_holds_71 rfl ?_
            refine m_getI hp fw_X0_575 dX0_holds_73 rfl tLr5 ?_
            refine r_iadd dX0_holds_76 ?_
            refine r_sipush (v := (500 : Int32)) dX0_holds_77 rfl ?_
            refine r_icmp_gt (tgt := 93) dX0_holds_80 rfl (fun cH => ?_) (fun cH => ?_)
            · replace H := H.1 cH
              refine r_iconst (v := (-1 : Int32)) dX0_holds_93 rfl ?_
              exact r_zret dX0_holds_94 rfl rfl (Nat.le_refl _) (Nat.le_refl _) H
            · replace H := H.2 cH
              refine r_iload dX0_holds_83 rfl ?_
              refine r_iconst (v := (1 : Int32)) dX0_holds_85 rfl ?_
              refine r_iadd dX0_holds_86 ?_
              refine r_sipush (v := (500 : Int32)) dX0_holds_87 rfl ?_
              refine r_icmp_le (tgt := 95) dX0_holds_90 rfl (fun cH => ?_) (fun cH => ?_)
              · replace H := H.1 cH
                refine r_iconst (v := (0 : Int32)) dX0_holds_95 rfl ?_
                refine r_istore (ls2 := [some (.ref 0), some (.int x1), some (.int x2), some (.int x3), some (.int x4), some (.int x5), some (.ref r5), some (.ref (r6 + 1)), some (.int (0 : Int32)), none, none]) dX0_holds_96 (by decide) rfl ?_
                refine r_iconst (v := (0 : Int32)) dX0_holds_98 rfl ?_
                refine r_istore (ls2 := [some (.ref 0), some (.int x1), some (.int x2), some (.int x3), some (.int x4), some (.int x5), some (.ref r5), some (.ref (r6 + 1)), some (.int (0 : Int32)), some (.int (0 : Int32)), none]) dX0_holds_99 (by decide) rfl ?_
                refine r_prune [true, false, false, true, true, true, true, true, true, true, false] (ls2 := [some (.ref 0), none, none, some (.int x3), some (.int x4), some (.int x5), some (.ref r5), some (.ref (r6 + 1)), some (.int (0 : Int32)), some (.int (0 : Int32)), none]) rfl ?_
                exact H
              · replace H := H.2 cH
                refine r_iconst (v := (-1 : Int32)) dX0_holds_93 rfl ?_
                exact r_zret dX0_holds_94 rfl rfl (Nat.le_refl _) (Nat.le_refl _) H
        · replace H := H.2 cH
          refine r_bipush (v := (-3 : Int32)) dX0_holds_37 rfl ?_
          exact r_zret dX0_holds_39 rfl rfl (Nat.le_refl _) (Nat.le_refl _) H
    · replace H := H.2 cH
      refine r_iconst (v := (-1 : Int32)) dX0_holds_14 rfl ?_
      exact r_zret dX0_holds_15 rfl rfl (Nat.le_refl _) (Nat.le_refl _) H
theorem s_X0_holds_101 {g : GX} {d : Nat} {av : List Value} {Q : QT} {n : Nat} {h : Hp} {x3 : Int32} {x4 : Int32} {x5 : Int32} {a6 : Nat} {a7 : Nat} {x8 : Int32} {x9 : Int32} (hp : g.2.2.2.2 = true) (t6 : lay a6 = (0, 9, 8)) (t7 : lay a7 = (0, 5, 8)) (H : (((ri h a6 3) < x9) → (CallI g m_X0_certified d [.ref 0, .ref a6, .ref a7, .int x3, .int (x5 + (1 : Int32))] n h (fun v1 h1 => (CallI g m_X0_certified d [.ref 0, .ref a6, .ref a7, .int x3, .int x4] n h1 (fun v2 h2 => (((v1 = (-1 : Int32)) → (Q (some (.int (-1 : Int32))) n h2)) ∧ ((¬ v1 = (-1 : Int32)) → (((¬ v2 = (-1 : Int32)) → (CallI g m_X0_less d [.int v1, .int v2] n h2 (fun v3 h3 => (((¬ x8 = v3) → (Q (some (.int (0 : Int32))) n h3)) ∧ ((x8 = v3) → (Q (some (.int (1 : Int32))) n h3)))))) ∧ ((v2 = (-1 : Int32)) → (Q (some (.int (-1 : Int32))) n h2)))))))))) ∧ ((¬ (ri h a6 3) < x9) → (CallI g m_X0_sumOf d [.ref 0, .ref a7, .int (x3 + x9), .int x4, .int x5] n h (fun v4 h4 => (((¬ v4 = (-1 : Int32)) → (vp_in x9 7 ∧ ∀ r5, r5 = (a6 + 13) + 2 * (x9).toNatClampNeg → (CallI g m_X3_value d [.ref r5, .int x3] n h4 (fun v6 h6 => (CallI g m_X0_times d [.int v6, .int v4] n h6 (fun v7 h7 => (CallI g m_X0_sum d [.int x8, .int v7] n h7 (fun v8 h8 => (W_X0_holds g d av Q n 101 [some (.ref 0), none, none, some (.int x3), some (.int x4), some (.int x5), some (.ref a6), some (.ref a7), some (.int v8), some (.int (x9 + (1 : Int32))), none] [] h8))))))))) ∧ ((v4 = (-1 : Int32)) → (Q (some (.int (-1 : Int32))) n h4))))))) : W_X0_holds g d av Q n 101 [some (.ref 0), none, none, some (.int x3), some (.int x4), some (.int x5), some (.ref a6), some (.ref a7), some (.int x8), some (.int x9), none] [] h := by
  refine r_iload dX0_holds_101 rfl ?_
  refine r_aload dX0_holds_103 rfl ?_
  refine m_getI hp fw_X0_575 dX0_holds_105 rfl t6 ?_
  refine r_icmp_gt (tgt := 165) dX0_holds_108 rfl (fun cH => ?_) (fun cH => ?_)
  · replace H := H.1 cH
    refine r_aload_n dX0_holds_165 rfl rfl ?_
    refine r_aload dX0_holds_166 rfl ?_
    refine r_aload dX0_holds_168 rfl ?_
    refine r_iload_n dX0_holds_170 rfl rfl ?_
    refine r_iload dX0_holds_171 rfl ?_
    refine r_iconst (v := (1 : Int32)) dX0_holds_173 rfl ?_
    refine r_iadd dX0_holds_174 ?_
    refine k_VI (As := [.ref a6, .ref a7, .int x3, .int (x5 + (1 : Int32))]) (stk := []) hp cv_X0_780 dX0_holds_175 rfl (Nat.le_of_ble_eq_true rfl) ly_0 (H.mono (fun v1 h1 H => ?_)) ⟨Nat.le_refl _, Nat.le_refl _⟩
    refine r_istore (ls2 := [some (.ref 0), none, none, some (.int x3), some (.int x4), some (.int x5), some (.ref a6), some (.ref a7), some (.int x8), some (.int v1), none]) dX0_holds_178 (by decide) rfl ?_
    refine r_aload_n dX0_holds_180 rfl rfl ?_
    refine r_aload dX0_holds_181 rfl ?_
    refine r_aload dX0_holds_183 rfl ?_
    refine r_iload_n dX0_holds_185 rfl rfl ?_
    refine r_iload dX0_holds_186 rfl ?_
    refine k_VI (As := [.ref a6, .ref a7, .int x3, .int x4]) (stk := []) hp cv_X0_780 dX0_holds_188 rfl (Nat.le_of_ble_eq_true rfl) ly_0 (H.mono (fun v2 h2 H => ?_)) ⟨Nat.le_refl _, Nat.le_refl _⟩
    refine r_istore (ls2 := [some (.ref 0), none, none, some (.int x3), some (.int x4), some (.int x5), some (.ref a6), some (.ref a7), some (.int x8), some (.int v1), some (.int v2)]) dX0_holds_191 (by decide) rfl ?_
    refine r_iload dX0_holds_193 rfl ?_
    refine r_iconst (v := (-1 : Int32)) dX0_holds_195 rfl ?_
    refine r_icmp_eq (tgt := 205) dX0_holds_196 rfl (fun cH => ?_) (fun cH => ?_)
    · replace H := H.1 cH
      refine r_iconst (v := (-1 : Int32)) dX0_holds_205 rfl ?_
      refine r_goto (tgt := 226) dX0_holds_206 rfl ?_
      exact r_zret dX0_holds_226 rfl rfl (Nat.le_refl _) (Nat.le_refl _) H
    · replace H := H.2 cH
      refine r_iload dX0_holds_199 rfl ?_
      refine r_iconst (v := (-1 : Int32)) dX0_holds_201 rfl ?_
      refine r_icmp_ne (tgt := 209) dX0_holds_202 rfl (fun cH => ?_) (fun cH => ?_)
      · replace H := H.1 cH
        refine r_iload dX0_holds_209 rfl ?_
        refine r_iload dX0_holds_211 rfl ?_
        refine r_iload dX0_holds_213 rfl ?_
        refine k_SI (As := [.int v1, .int v2]) (stk := [.int x8]) cs_X0_784 dX0_holds_215 rfl (Nat.le_of_ble_eq_true rfl) (H.mono (fun v3 h3 H => ?_)) ⟨Nat.le_refl _, Nat.le_refl _⟩
        refine r_icmp_ne (tgt := 225) dX0_holds_218 rfl (fun cH => ?_) (fun cH => ?_)
        · replace H := H.1 cH
          refine r_iconst (v := (0 : Int32)) dX0_holds_225 rfl ?_
          exact r_zret dX0_holds_226 rfl rfl (Nat.le_refl _) (Nat.le_refl _) H
        · replace H := H.2 cH
          refine r_iconst (v := (1 : Int32)) dX0_holds_221 rfl ?_
          refine r_goto (tgt := 226) dX0_holds_222 rfl ?_
          exact r_zret dX0_holds_226 rfl rfl (Nat.le_refl _) (Nat.le_refl _) H
      · replace H := H.2 cH
        refine r_iconst (v := (-1 : Int32)) dX0_holds_205 rfl ?_
        refine r_goto (tgt := 226) dX0_holds_206 rfl ?_
        exact r_zret dX0_holds_226 rfl rfl (Nat.le_refl _) (Nat.le_refl _) H
  · replace H := H.2 cH
    refine r_aload_n dX0_holds_111 rfl rfl ?_
    refine r_aload dX0_holds_112 rfl ?_
    refine r_iload_n dX0_holds_114 rfl rfl ?_
    refine r_iload dX0_holds_115 rfl ?_
    refine r_iadd dX0_holds_117 ?_
    refine r_iload dX0_holds_118 rfl ?_
    refine r_iload dX0_holds_120 rfl ?_
    refine k_VI (As := [.ref a7, .int (x3 + x9), .int x4, .int x5]) (stk := []) hp cv_X0_604 dX0_holds_122 rfl (Nat.le_of_ble_eq_true rfl) ly_0 (H.mono (fun v4 h4 H => ?_)) ⟨Nat.le_refl _, Nat.le_refl _⟩
    refine r_istore (ls2 := [some (.ref 0), none, none, some (.int x3), some (.int x4), some (.int x5), some (.ref a6), some (.ref a7), some (.int x8), some (.int x9), some (.int v4)]) dX0_holds_125 (by decide) rfl ?_
    refine r_iload dX0_holds_127 rfl ?_
    refine r_iconst (v := (-1 : Int32)) dX0_holds_129 rfl ?_
    refine r_icmp_ne (tgt := 135) dX0_holds_130 rfl (fun cH => ?_) (fun cH => ?_)
    · replace H := H.1 cH
      refine r_iload dX0_holds_135 rfl ?_
      refine r_aload dX0_holds_137 rfl ?_
      refine m_getF (x := (a6 + 11)) hp fw_X0_578 dX0_holds_139 rfl t6 (ff_9_2 t6) ?_
      refine r_iload dX0_holds_142 rfl ?_
      obtain ⟨r5, er5⟩ : ∃ y, y = (a6 + 13) + 2 * (x9).toNatClampNeg := ⟨_, rfl⟩
      have hir5 := H.1
      replace H := H.2 r5 er5
      have tLr5 := le_9 t6 hir5 er5
      refine m_aalF (x := r5) hp dX0_holds_144 (lf_9_2 t6) rfl rfl (lu_9_2 t6) hir5 (fe_9 t6 hir5 er5) ?_
      refine r_iload_n dX0_holds_145 rfl rfl ?_
      refine k_VI (As := [.int x3]) (stk := [.int x8]) hp cv_X0_765 dX0_holds_146 rfl (Nat.le_of_ble_eq_true rfl) tLr5 (H.mono (fun v6 h6 H => ?_)) ⟨Nat.le_refl _, Nat.le_refl _⟩
      refine r_iload dX0_holds_149 rfl ?_
      refine k_SI (As := [.int v6, .int v4]) (stk := [.int x8]) cs_X0_6 dX0_holds_151 rfl (Nat.le_of_ble_eq_true rfl) (H.mono (fun v7 h7 H => ?_)) ⟨Nat.le_refl _, Nat.le_refl _⟩
      refine k_SI (As := [.int x8, .int v7]) (stk := []) cs_X0_598 dX0_holds_154 rfl (Nat.le_of_ble_eq_true rfl) (H.mono (fun v8 h8 H => ?_)) ⟨Nat.le_refl _, Nat.le_refl _⟩
      refine r_istore (ls2 := [some (.ref 0), none, none, some (.int x3), some (.int x4), some (.int x5), some (.ref a6), some (.ref a7), some (.int v8), some (.int x9), some (.int v4)]) dX0_holds_157 (by decide) rfl ?_
      refine r_iinc (v := (x9 + (1 : Int32))) (ls2 := [some (.ref 0), none, none, some (.int x3), some (.int x4), some (.int x5), some (.ref a6), some (.ref a7), some (.int v8), some (.int (x9 + (1 : Int32))), some (.int v4)]) dX0_holds_159 rfl rfl (by decide) rfl ?_
      refine r_goto (tgt := 101) dX0_holds_162 rfl ?_
      refine r_prune [true, false, false, true, true, true, true, true, true, true, false] (ls2 := [some (.ref 0), none, none, some (.int x3), some (.int x4), some (.int x5), some (.ref a6), some (.ref a7), some (.int v8), some (.int (x9 + (1 : Int32))), none]) rfl ?_
      exact H
    · replace H := H.2 cH
      refine r_iconst (v := (-1 : Int32)) dX0_holds_133 rfl ?_
      exact r_zret dX0_holds_134 rfl rfl (Nat.le_refl _) (Nat.le_refl _) H
abbrev W_X0_certified (g : GX) (d : Nat) (av : List Value) (Q : QT) (n : Nat) (pc : Nat) (ls : LV) (stk : List Value) (h : Hp) : Prop := RJ g m_X0_certified (d + 1) 0 0 av Q pc ls stk n h 0 0
theorem s_X0_certified_0 {g : GX} {d : Nat} {av : List Value} {Q : QT} {n : Nat} {h : Hp} {a1 : Nat} {a2 : Nat} {x3 : Int32} {x4 : Int32} (hp : g.2.2.2.2 = true) (t1 : lay a1 = (0, 9, 8)) (t2 : lay a2 = (0, 5, 8)) (H : CallI g m_X0_valueOf_2 d [.ref (a1 + 2), .int x3, .int x4] n h (fun v1 h1 => (CallI g m_X0_valueOf d [.ref 0, .ref a2, .int x3, .int x4] n h1 (fun v2 h2 => (((v1 = (-1 : Int32)) → (Q (some (.int (-1 : Int32))) n h2)) ∧ ((¬ v1 = (-1 : Int32)) → (((¬ v2 = (-1 : Int32)) → (CallI g m_X0_times d [.int v1, .int v2] n h2 (fun v3 h3 => (Q (some (.int v3)) n h3)))) ∧ ((v2 = (-1 : Int32)) → (Q (some (.int (-1 : Int32))) n h2))))))))) : W_X0_certified g d av Q n 0 [some (.ref 0), some (.ref a1), some (.ref a2), some (.int x3), some (.int x4), none, none] [] h := by
  refine r_aload_n dX0_certified_0 rfl rfl ?_
  refine m_getF (x := (a1 + 1)) hp fw_X0_512 dX0_certified_1 rfl t1 (ff_9_1 t1) ?_
  refine m_getF (x := (a1 + 2)) hp fw_X0_110 dX0_certified_4 rfl (lf_9_1 t1) (ff_5_0 (lf_9_1 t1)) ?_
  refine r_iload_n dX0_certified_7 rfl rfl ?_
  refine r_iload dX0_certified_8 rfl ?_
  refine k_SI (As := [.ref (a1 + 2), .int x3, .int x4]) (stk := []) cs_X0_588 dX0_certified_10 rfl (Nat.le_of_ble_eq_true rfl) (H.mono (fun v1 h1 H => ?_)) ⟨Nat.le_refl _, Nat.le_refl _⟩
  refine r_istore (ls2 := [some (.ref 0), some (.ref a1), some (.ref a2), some (.int x3), some (.int x4), some (.int v1), none]) dX0_certified_13 (by decide) rfl ?_
  refine r_aload_n dX0_certified_15 rfl rfl ?_
  refine r_aload_n dX0_certified_16 rfl rfl ?_
  refine r_iload_n dX0_certified_17 rfl rfl ?_
  refine r_iload dX0_certified_18 rfl ?_
  refine k_VI (As := [.ref a2, .int x3, .int x4]) (stk := []) hp cv_X0_595 dX0_certified_20 rfl (Nat.le_of_ble_eq_true rfl) ly_0 (H.mono (fun v2 h2 H => ?_)) ⟨Nat.le_refl _, Nat.le_refl _⟩
  refine r_istore (ls2 := [some (.ref 0), some (.ref a1), some (.ref a2), some (.int x3), some (.int x4), some (.int v1), some (.int v2)]) dX0_certified_23 (by decide) rfl ?_
  refine r_iload dX0_certified_25 rfl ?_
  refine r_iconst (v := (-1 : Int32)) dX0_certified_27 rfl ?_
  refine r_icmp_eq (tgt := 37) dX0_certified_28 rfl (fun cH => ?_) (fun cH => ?_)
  · replace H := H.1 cH
    refine r_iconst (v := (-1 : Int32)) dX0_certified_37 rfl ?_
    refine r_goto (tgt := 48) dX0_certified_38 rfl ?_
    exact r_zret dX0_certified_48 rfl rfl (Nat.le_refl _) (Nat.le_refl _) H
  · replace H := H.2 cH
    refine r_iload dX0_certified_31 rfl ?_
    refine r_iconst (v := (-1 : Int32)) dX0_certified_33 rfl ?_
    refine r_icmp_ne (tgt := 41) dX0_certified_34 rfl (fun cH => ?_) (fun cH => ?_)
    · replace H := H.1 cH
      refine r_iload dX0_certified_41 rfl ?_
      refine r_iload dX0_certified_43 rfl ?_
      refine k_SI (As := [.int v1, .int v2]) (stk := []) cs_X0_6 dX0_certified_45 rfl (Nat.le_of_ble_eq_true rfl) (H.mono (fun v3 h3 H => ?_)) ⟨Nat.le_refl _, Nat.le_refl _⟩
      exact r_zret dX0_certified_48 rfl rfl (Nat.le_refl _) (Nat.le_refl _) H
    · replace H := H.2 cH
      refine r_iconst (v := (-1 : Int32)) dX0_certified_37 rfl ?_
      refine r_goto (tgt := 48) dX0_certified_38 rfl ?_
      exact r_zret dX0_certified_48 rfl rfl (Nat.le_refl _) (Nat.le_refl _) H
abbrev W_X0_row (g : GX) (d : Nat) (av : List Value) (Q : QT) (n : Nat) (pc : Nat) (ls : LV) (stk : List Value) (h : Hp) : Prop := RJ g m_X0_row (d + 1) 0 0 av Q pc ls stk n h 0 0
theorem s_X0_row_0 {g : GX} {d : Nat} {av : List Value} {Q : QT} {n : Nat} {h : Hp} {x1 : Int32} {x2 : Int32} (hp : g.2.2.2.2 = true)  (H : CallI g m_X0_isSlot d [.int x1] n h (fun v1 h1 => (((v1 = (0 : Int32)) → (Q (some (.int (-1 : Int32))) n h1)) ∧ ((¬ v1 = (0 : Int32)) → (CallI g m_X0_isSlot d [.int x2] n h1 (fun v2 h2 => (((¬ v2 = (0 : Int32)) → (vp_in x1 12 ∧ ∀ r3, r3 = 1185 + 27 * (x1).toNatClampNeg → ((((ri h2 r3 0) = (3 : Int32)) → ((((ri h2 r3 3) = (0 : Int32)) → (Q (some (.int (-1 : Int32))) n h2)) ∧ ((¬ (ri h2 r3 3) = (0 : Int32)) → (vp_in (ri h2 r3 3) 7 ∧ ∀ r4, r4 = (r3 + 13) + 2 * ((ri h2 r3 3)).toNatClampNeg → (CallI g m_X3_isZero d [.ref r4] n h2 (fun v5 h5 => (((v5 = (0 : Int32)) → (∀ h6, h6 = wi h5 0 62 (ri h5 r3 3) → (W_X0_row g d av Q n 69 [some (.ref 0), none, some (.int x2), some (.ref r3), some (.int (0 : Int32))] [] h6))) ∧ ((¬ v5 = (0 : Int32)) → (Q (some (.int (-1 : Int32))) n h5))))))))) ∧ ((¬ (ri h2 r3 0) = (3 : Int32)) → (Q (some (.int (-3 : Int32))) n h2))))) ∧ ((v2 = (0 : Int32)) → (Q (some (.int (-1 : Int32))) n h2))))))))) : W_X0_row g d av Q n 0 [some (.ref 0), some (.int x1), some (.int x2), none, none] [] h := by
  refine r_iload_n dX0_row_0 rfl rfl ?_
  refine k_SI (As := [.int x1]) (stk := []) cs_X0_519 dX0_row_1 rfl (Nat.le_of_ble_eq_true rfl) (H.mono (fun v1 h1 H => ?_)) ⟨Nat.le_refl _, Nat.le_refl _⟩
  refine r_if_eq (tgt := 14) dX0_row_4 rfl (fun cH => ?_) (fun cH => ?_)
  · replace H := H.1 cH
    refine r_iconst (v := (-1 : Int32)) dX0_row_14 rfl ?_
    exact r_zret dX0_row_15 rfl rfl (Nat.le_refl _) (Nat.le_refl _) H
  · replace H := H.2 cH
    refine r_iload_n dX0_row_7 rfl rfl ?_
    refine k_SI (As := [.int x2]) (stk := []) cs_X0_519 dX0_row_8 rfl (Nat.le_of_ble_eq_true rfl) (H.mono (fun v2 h2 H => ?_)) ⟨Nat.le_refl _, Nat.le_refl _⟩
    refine r_if_ne (tgt := 16) dX0_row_11 rfl (fun cH => ?_) (fun cH => ?_)
    · replace H := H.1 cH
      refine r_aload_n dX0_row_16 rfl rfl ?_
      refine m_getF (x := 79) hp fw_X0_326 dX0_row_17 rfl ly_0 (ff_0_20 ly_0) ?_
      refine r_iload_n dX0_row_20 rfl rfl ?_
      obtain ⟨r3, er3⟩ : ∃ y, y = 1185 + 27 * (x1).toNatClampNeg := ⟨_, rfl⟩
      have hir3 := H.1
      replace H := H.2 r3 er3
      have tLr3 := la_79 hir3 er3
      refine m_aalF (x := r3) hp dX0_row_21 (lf_0_20 ly_0) rfl rfl (lu_0_20 ly_0) hir3 (fa_79 hir3 er3) ?_
      refine r_astore_n (ls2 := [some (.ref 0), some (.int x1), some (.int x2), some (.ref r3), none]) dX0_row_22 rfl (by decide) rfl ?_
      refine r_aload_n dX0_row_23 rfl rfl ?_
      refine m_getI hp fw_X0_509 dX0_row_24 rfl tLr3 ?_
      refine r_iconst (v := (3 : Int32)) dX0_row_27 rfl ?_
      refine r_icmp_eq (tgt := 34) dX0_row_28 rfl (fun cH => ?_) (fun cH => ?_)
      · replace H := H.1 cH
        refine r_aload_n dX0_row_34 rfl rfl ?_
        refine m_getI hp fw_X0_575 dX0_row_35 rfl tLr3 ?_
        refine r_if_eq (tgt := 56) dX0_row_38 rfl (fun cH => ?_) (fun cH => ?_)
        · replace H := H.1 cH
          refine r_iconst (v := (-1 : Int32)) dX0_row_56 rfl ?_
          exact r_zret dX0_row_57 rfl rfl (Nat.le_refl _) (Nat.le_refl _) H
        · replace H := H.2 cH
          refine r_aload_n dX0_row_41 rfl rfl ?_
          refine m_getF (x := (r3 + 11)) hp fw_X0_578 dX0_row_42 rfl tLr3 (ff_9_2 tLr3) ?_
          refine r_aload_n dX0_row_45 rfl rfl ?_
          refine m_getI hp fw_X0_575 dX0_row_46 rfl tLr3 ?_
          obtain ⟨r4, er4⟩ : ∃ y, y = (r3 + 13) + 2 * ((ri h2 r3 3)).toNatClampNeg := ⟨_, rfl⟩
          have hir4 := H.1
          replace H := H.2 r4 er4
          have tLr4 := le_9 tLr3 hir4 er4
          refine m_aalF (x := r4) hp dX0_row_49 (lf_9_2 tLr3) rfl rfl (lu_9_2 tLr3) hir4 (fe_9 tLr3 hir4 er4) ?_
          refine k_VI (As := []) (stk := []) hp cv_X0_692 dX0_row_50 rfl (Nat.le_of_ble_eq_true rfl) tLr4 (H.mono (fun v5 h5 H => ?_)) ⟨Nat.le_refl _, Nat.le_refl _⟩
          refine r_if_eq (tgt := 58) dX0_row_53 rfl (fun cH => ?_) (fun cH => ?_)
          · replace H := H.1 cH
            refine r_aload_n dX0_row_58 rfl rfl ?_
            refine r_aload_n dX0_row_59 rfl rfl ?_
            refine m_getI hp fw_X0_575 dX0_row_60 rfl tLr3 ?_
            refine m_putI hp fw_X0_787 dX0_row_63 rfl rfl ly_0 (fun h6 eh6 => ?_)
            replace H := H h6 eh6
            refine r_iconst (v := (0 : Int32)) dX0_row_66 rfl ?_
            refine r_istore (ls2 := [some (.ref 0), some (.int x1), some (.int x2), some (.ref r3), some (.int (0 : Int32))]) dX0_row_67 (by decide) rfl ?_
            refine r_prune [true, false, true, true, true] (ls2 := [some (.ref 0), none, some (.int x2), some (.ref r3), some (.int (0 : Int32))]) rfl ?_
            exact H
          · replace H := H.2 cH
            refine r_iconst (v := (-1 : Int32)) dX0_row_56 rfl ?_
            exact r_zret dX0_row_57 rfl rfl (Nat.le_refl _) (Nat.le_refl _) H
      · replace H := H.2 cH
        refine r_bipush (v := (-3 : Int32)) dX0_row_31 rfl ?_
        exact r_zret dX0_row_33 rfl rfl (Nat.le_refl _) (Nat.le_refl _) H
    · replace H := H.2 cH
      refine r_iconst (v := (-1 : Int32)) dX0_row_14 rfl ?_
      exact r_zret dX0_row_15 rfl rfl (Nat.le_refl _) (Nat.le_refl _) H
theorem s_X0_row_69 {g : GX} {d : Nat} {av : List Value} {Q : QT} {n : Nat} {h : Hp} {x2 : Int32} {a3 : Nat} {x4 : Int32} (hp : g.2.2.2.2 = true) (t3 : lay a3 = (0, 9, 8)) (H : (((ri h a3 3) < x4) → (CallV g m_X0_tidy d [.ref 0, .ref 855, .int (ri h 0 62)] n h (fun h1 => (CallI g m_X0_keepRow d [.ref 0, .int x2, .int (0 : Int32)] n h1 (fun v2 h2 => ((((0 : Int32) ≤ v2) → (vp_in x2 12 ∧ ∀ r3, r3 = 1185 + 27 * (x2).toNatClampNeg → (Q (some (.int (ri h2 r3 4))) n h2))) ∧ ((¬ (0 : Int32) ≤ v2) → (Q (some (.int v2)) n h2)))))))) ∧ ((¬ (ri h a3 3) < x4) → (vp_in x4 8 ∧ ∀ r4, r4 = 2601 + 2 * (x4).toNatClampNeg → (vp_in x4 7 ∧ ∀ r5, r5 = (a3 + 13) + 2 * (x4).toNatClampNeg → (CallV g m_X3_copy d [.ref r4, .ref r5] n h (fun h6 => (W_X0_row g d av Q n 69 [some (.ref 0), none, some (.int x2), some (.ref a3), some (.int (x4 + (1 : Int32)))] [] h6))))))) : W_X0_row g d av Q n 69 [some (.ref 0), none, some (.int x2), some (.ref a3), some (.int x4)] [] h := by
  refine r_iload dX0_row_69 rfl ?_
  refine r_aload_n dX0_row_71 rfl rfl ?_
  refine m_getI hp fw_X0_575 dX0_row_72 rfl t3 ?_
  refine r_icmp_gt (tgt := 101) dX0_row_75 rfl (fun cH => ?_) (fun cH => ?_)
  · replace H := H.1 cH
    refine r_aload_n dX0_row_101 rfl rfl ?_
    refine r_aload_n dX0_row_102 rfl rfl ?_
    refine m_getF (x := 855) hp fw_X0_455 dX0_row_103 rfl ly_0 (ff_0_61 ly_0) ?_
    refine r_aload_n dX0_row_106 rfl rfl ?_
    refine m_getI hp fw_X0_787 dX0_row_107 rfl ly_0 ?_
    refine k_VV (As := [.ref 855, .int (ri h 0 62)]) (stk := []) hp cv_X0_800 dX0_row_110 rfl (Nat.le_of_ble_eq_true rfl) ly_0 (H.mono (fun h1 H => ?_)) ⟨Nat.le_refl _, Nat.le_refl _⟩
    refine r_aload_n dX0_row_113 rfl rfl ?_
    refine r_iload_n dX0_row_114 rfl rfl ?_
    refine r_iconst (v := (0 : Int32)) dX0_row_115 rfl ?_
    refine k_VI (As := [.int x2, .int (0 : Int32)]) (stk := []) hp cv_X0_804 dX0_row_116 rfl (Nat.le_of_ble_eq_true rfl) ly_0 (H.mono (fun v2 h2 H => ?_)) ⟨Nat.le_refl _, Nat.le_refl _⟩
    refine r_istore (ls2 := [some (.ref 0), none, some (.int x2), some (.ref a3), some (.int v2)]) dX0_row_119 (by decide) rfl ?_
    refine r_iload dX0_row_121 rfl ?_
    refine r_if_ge (tgt := 131) dX0_row_123 rfl (fun cH => ?_) (fun cH => ?_)
    · replace H := H.1 cH
      refine r_aload_n dX0_row_131 rfl rfl ?_
      refine m_getF (x := 79) hp fw_X0_326 dX0_row_132 rfl ly_0 (ff_0_20 ly_0) ?_
      refine r_iload_n dX0_row_135 rfl rfl ?_
      obtain ⟨r3, er3⟩ : ∃ y, y = 1185 + 27 * (x2).toNatClampNeg := ⟨_, rfl⟩
      have hir3 := H.1
      replace H := H.2 r3 er3
      have tLr3 := la_79 hir3 er3
      refine m_aalF (x := r3) hp dX0_row_136 (lf_0_20 ly_0) rfl rfl (lu_0_20 ly_0) hir3 (fa_79 hir3 er3) ?_
      refine m_getI hp fw_X0_582 dX0_row_137 rfl tLr3 ?_
      exact r_zret dX0_row_140 rfl rfl (Nat.le_refl _) (Nat.le_refl _) H
    · replace H := H.2 cH
      refine r_iload dX0_row_126 rfl ?_
      refine r_goto (tgt := 140) dX0_row_128 rfl ?_
      exact r_zret dX0_row_140 rfl rfl (Nat.le_refl _) (Nat.le_refl _) H
  · replace H := H.2 cH
    refine r_aload_n dX0_row_78 rfl rfl ?_
    refine m_getF (x := 855) hp fw_X0_455 dX0_row_79 rfl ly_0 (ff_0_61 ly_0) ?_
    refine r_iload dX0_row_82 rfl ?_
    obtain ⟨r4, er4⟩ : ∃ y, y = 2601 + 2 * (x4).toNatClampNeg := ⟨_, rfl⟩
    have hir4 := H.1
    replace H := H.2 r4 er4
    have tLr4 := la_855 hir4 er4
    refine m_aalF (x := r4) hp dX0_row_84 (lf_0_61 ly_0) rfl rfl (lu_0_61 ly_0) hir4 (fa_855 hir4 er4) ?_
    refine r_aload_n dX0_row_85 rfl rfl ?_
    refine m_getF (x := (a3 + 11)) hp fw_X0_578 dX0_row_86 rfl t3 (ff_9_2 t3) ?_
    refine r_iload dX0_row_89 rfl ?_
    obtain ⟨r5, er5⟩ : ∃ y, y = (a3 + 13) + 2 * (x4).toNatClampNeg := ⟨_, rfl⟩
    have hir5 := H.1
    replace H := H.2 r5 er5
    have tLr5 := le_9 t3 hir5 er5
    refine m_aalF (x := r5) hp dX0_row_91 (lf_9_2 t3) rfl rfl (lu_9_2 t3) hir5 (fe_9 t3 hir5 er5) ?_
    refine k_VV (As := [.ref r5]) (stk := []) hp cv_X0_686 dX0_row_92 rfl (Nat.le_of_ble_eq_true rfl) tLr4 (H.mono (fun h6 H => ?_)) ⟨Nat.le_refl _, Nat.le_refl _⟩
    refine r_iinc (v := (x4 + (1 : Int32))) (ls2 := [some (.ref 0), none, some (.int x2), some (.ref a3), some (.int (x4 + (1 : Int32)))]) dX0_row_95 rfl rfl (by decide) rfl ?_
    refine r_goto (tgt := 69) dX0_row_98 rfl ?_
    exact H
abbrev W_X0_tidy (g : GX) (d : Nat) (av : List Value) (Q : QT) (n : Nat) (pc : Nat) (ls : LV) (stk : List Value) (h : Hp) : Prop := RJ g m_X0_tidy (d + 1) 0 0 av Q pc ls stk n h 0 0
theorem s_X0_tidy_0 {g : GX} {d : Nat} {av : List Value} {Q : QT} {n : Nat} {h : Hp} {a1 : Nat} {L1 : Nat} {x2 : Int32} (hp : g.2.2.2.2 = true) (t1 : lay a1 = (2, L1, 3)) (u1 : a1 < N0) (H : CallV g m_X3_clear d [.ref 828] n h (fun h1 => (W_X0_tidy g d av Q n 9 [some (.ref 0), some (.ref a1), some (.int x2), some (.int (0 : Int32)), none] [] h1))) : W_X0_tidy g d av Q n 0 [some (.ref 0), some (.ref a1), some (.int x2), none, none] [] h := by
  refine r_aload_n dX0_tidy_0 rfl rfl ?_
  refine m_getF (x := 828) hp fw_X0_406 dX0_tidy_1 rfl ly_0 (ff_0_44 ly_0) ?_
  refine k_VV (As := []) (stk := []) hp cv_X0_709 dX0_tidy_4 rfl (Nat.le_of_ble_eq_true rfl) (lf_0_44 ly_0) (H.mono (fun h1 H => ?_)) ⟨Nat.le_refl _, Nat.le_refl _⟩
  refine r_iconst (v := (0 : Int32)) dX0_tidy_7 rfl ?_
  refine r_istore_n (ls2 := [some (.ref 0), some (.ref a1), some (.int x2), some (.int (0 : Int32)), none]) dX0_tidy_8 rfl (by decide) rfl ?_
  exact H
theorem s_X0_tidy_9 {g : GX} {d : Nat} {av : List Value} {Q : QT} {n : Nat} {h : Hp} {a1 : Nat} {L1 : Nat} {x2 : Int32} {x3 : Int32} (hp : g.2.2.2.2 = true) (t1 : lay a1 = (2, L1, 3)) (u1 : a1 < N0) (H : ((x2 < x3) → (W_X0_tidy g d av Q n 43 [some (.ref 0), some (.ref a1), some (.int x2), some (.int (0 : Int32)), none] [] h)) ∧ ((¬ x2 < x3) → (vp_in x3 L1 ∧ ∃ r1, rr h a1 (x3).toNatClampNeg = some r1 ∧ lay r1 = (0, 3, 2) ∧ (CallV g m_X2_common d [.ref 2, .ref 828, .ref r1, .ref 828] n h (fun h2 => (W_X0_tidy g d av Q n 9 [some (.ref 0), some (.ref a1), some (.int x2), some (.int (x3 + (1 : Int32))), none] [] h2)))))) : W_X0_tidy g d av Q n 9 [some (.ref 0), some (.ref a1), some (.int x2), some (.int x3), none] [] h := by
  refine r_iload_n dX0_tidy_9 rfl rfl ?_
  refine r_iload_n dX0_tidy_10 rfl rfl ?_
  refine r_icmp_gt (tgt := 41) dX0_tidy_11 rfl (fun cH => ?_) (fun cH => ?_)
  · replace H := H.1 cH
    refine r_iconst (v := (0 : Int32)) dX0_tidy_41 rfl ?_
    refine r_istore_n (ls2 := [some (.ref 0), some (.ref a1), some (.int x2), some (.int (0 : Int32)), none]) dX0_tidy_42 rfl (by decide) rfl ?_
    exact H
  · replace H := H.2 cH
    refine r_aload_n dX0_tidy_14 rfl rfl ?_
    refine m_getF (x := 1) hp fw_X0_46 dX0_tidy_15 rfl ly_0 (ff_0_0 ly_0) ?_
    refine m_getF (x := 2) hp fw_X0_642 dX0_tidy_18 rfl (lf_0_0 ly_0) (ff_1_0 (lf_0_0 ly_0)) ?_
    refine r_aload_n dX0_tidy_21 rfl rfl ?_
    refine m_getF (x := 828) hp fw_X0_406 dX0_tidy_22 rfl ly_0 (ff_0_44 ly_0) ?_
    refine r_aload_n dX0_tidy_25 rfl rfl ?_
    refine r_iload_n dX0_tidy_26 rfl rfl ?_
    have hir1 := H.1
    obtain ⟨r1, er1, tr1, H⟩ := H.2
    refine m_aalM (x := r1) hp dX0_tidy_27 t1 rfl rfl u1 hir1 er1 ?_
    refine r_aload_n dX0_tidy_28 rfl rfl ?_
    refine m_getF (x := 828) hp fw_X0_406 dX0_tidy_29 rfl ly_0 (ff_0_44 ly_0) ?_
    refine k_VV (As := [.ref 828, .ref r1, .ref 828]) (stk := []) hp cv_X0_646 dX0_tidy_32 rfl (Nat.le_of_ble_eq_true rfl) (lf_1_0 (lf_0_0 ly_0)) (H.mono (fun h2 H => ?_)) ⟨Nat.le_refl _, Nat.le_refl _⟩
    refine r_iinc (v := (x3 + (1 : Int32))) (ls2 := [some (.ref 0), some (.ref a1), some (.int x2), some (.int (x3 + (1 : Int32))), none]) dX0_tidy_35 rfl rfl (by decide) rfl ?_
    refine r_goto (tgt := 9) dX0_tidy_38 rfl ?_
    exact H
theorem s_X0_tidy_43 {g : GX} {d : Nat} {av : List Value} {Q : QT} {n : Nat} {h : Hp} {a1 : Nat} {L1 : Nat} {x2 : Int32} {x3 : Int32} (hp : g.2.2.2.2 = true) (t1 : lay a1 = (2, L1, 3)) (u1 : a1 < N0) (H : ((x2 < x3) → (vp_in x2 L1 ∧ ∃ r1, rr h a1 (x2).toNatClampNeg = some r1 ∧ lay r1 = (0, 3, 2) ∧ (CallI g m_X3_head d [.ref r1] n h (fun v2 h2 => (CallI g m_X0_inverse d [.int v2] n h2 (fun v3 h3 => (W_X0_tidy g d av Q n 84 [none, some (.ref a1), some (.int x2), some (.int v3), some (.int (0 : Int32))] [] h3))))))) ∧ ((¬ x2 < x3) → (vp_in x3 L1 ∧ ∃ r4, rr h a1 (x3).toNatClampNeg = some r4 ∧ lay r4 = (0, 3, 2) ∧ (CallV g m_X2_divideExactly d [.ref 2, .ref r4, .ref 828] n h (fun h5 => (W_X0_tidy g d av Q n 43 [some (.ref 0), some (.ref a1), some (.int x2), some (.int (x3 + (1 : Int32))), none] [] h5)))))) : W_X0_tidy g d av Q n 43 [some (.ref 0), some (.ref a1), some (.int x2), some (.int x3), none] [] h := by
  refine r_iload_n dX0_tidy_43 rfl rfl ?_
  refine r_iload_n dX0_tidy_44 rfl rfl ?_
  refine r_icmp_gt (tgt := 71) dX0_tidy_45 rfl (fun cH => ?_) (fun cH => ?_)
  · replace H := H.1 cH
    refine r_aload_n dX0_tidy_71 rfl rfl ?_
    refine r_iload_n dX0_tidy_72 rfl rfl ?_
    have hir1 := H.1
    obtain ⟨r1, er1, tr1, H⟩ := H.2
    refine m_aalM (x := r1) hp dX0_tidy_73 t1 rfl rfl u1 hir1 er1 ?_
    refine k_VI (As := []) (stk := []) hp cv_X0_693 dX0_tidy_74 rfl (Nat.le_of_ble_eq_true rfl) tr1 (H.mono (fun v2 h2 H => ?_)) ⟨Nat.le_refl _, Nat.le_refl _⟩
    refine k_SI (As := [.int v2]) (stk := []) cs_X0_74 dX0_tidy_77 rfl (Nat.le_of_ble_eq_true rfl) (H.mono (fun v3 h3 H => ?_)) ⟨Nat.le_refl _, Nat.le_refl _⟩
    refine r_istore_n (ls2 := [some (.ref 0), some (.ref a1), some (.int x2), some (.int v3), none]) dX0_tidy_80 rfl (by decide) rfl ?_
    refine r_iconst (v := (0 : Int32)) dX0_tidy_81 rfl ?_
    refine r_istore (ls2 := [some (.ref 0), some (.ref a1), some (.int x2), some (.int v3), some (.int (0 : Int32))]) dX0_tidy_82 (by decide) rfl ?_
    refine r_prune [false, true, true, true, true] (ls2 := [none, some (.ref a1), some (.int x2), some (.int v3), some (.int (0 : Int32))]) rfl ?_
    exact H
  · replace H := H.2 cH
    refine r_aload_n dX0_tidy_48 rfl rfl ?_
    refine m_getF (x := 1) hp fw_X0_46 dX0_tidy_49 rfl ly_0 (ff_0_0 ly_0) ?_
    refine m_getF (x := 2) hp fw_X0_642 dX0_tidy_52 rfl (lf_0_0 ly_0) (ff_1_0 (lf_0_0 ly_0)) ?_
    refine r_aload_n dX0_tidy_55 rfl rfl ?_
    refine r_iload_n dX0_tidy_56 rfl rfl ?_
    have hir4 := H.1
    obtain ⟨r4, er4, tr4, H⟩ := H.2
    refine m_aalM (x := r4) hp dX0_tidy_57 t1 rfl rfl u1 hir4 er4 ?_
    refine r_aload_n dX0_tidy_58 rfl rfl ?_
    refine m_getF (x := 828) hp fw_X0_406 dX0_tidy_59 rfl ly_0 (ff_0_44 ly_0) ?_
    refine k_VV (As := [.ref r4, .ref 828]) (stk := []) hp cv_X0_718 dX0_tidy_62 rfl (Nat.le_of_ble_eq_true rfl) (lf_1_0 (lf_0_0 ly_0)) (H.mono (fun h5 H => ?_)) ⟨Nat.le_refl _, Nat.le_refl _⟩
    refine r_iinc (v := (x3 + (1 : Int32))) (ls2 := [some (.ref 0), some (.ref a1), some (.int x2), some (.int (x3 + (1 : Int32))), none]) dX0_tidy_65 rfl rfl (by decide) rfl ?_
    refine r_goto (tgt := 43) dX0_tidy_68 rfl ?_
    exact H
theorem s_X0_tidy_84 {g : GX} {d : Nat} {av : List Value} {Q : QT} {n : Nat} {h : Hp} {a1 : Nat} {L1 : Nat} {x2 : Int32} {x3 : Int32} {x4 : Int32} (hp : g.2.2.2.2 = true) (t1 : lay a1 = (2, L1, 3)) (u1 : a1 < N0) (H : ((x2 < x4) → (Q none n h)) ∧ ((¬ x2 < x4) → (vp_in x4 L1 ∧ ∃ r1, rr h a1 (x4).toNatClampNeg = some r1 ∧ lay r1 = (0, 3, 2) ∧ (CallV g m_X3_scale d [.ref r1, .int x3] n h (fun h2 => (W_X0_tidy g d av Q n 84 [none, some (.ref a1), some (.int x2), some (.int x3), some (.int (x4 + (1 : Int32)))] [] h2)))))) : W_X0_tidy g d av Q n 84 [none, some (.ref a1), some (.int x2), some (.int x3), some (.int x4)] [] h := by
  refine r_iload dX0_tidy_84 rfl ?_
  refine r_iload_n dX0_tidy_86 rfl rfl ?_
  refine r_icmp_gt (tgt := 104) dX0_tidy_87 rfl (fun cH => ?_) (fun cH => ?_)
  · replace H := H.1 cH
    exact r_vret dX0_tidy_104 rfl (Nat.le_refl _) (Nat.le_refl _) H
  · replace H := H.2 cH
    refine r_aload_n dX0_tidy_90 rfl rfl ?_
    refine r_iload dX0_tidy_91 rfl ?_
    have hir1 := H.1
    obtain ⟨r1, er1, tr1, H⟩ := H.2
    refine m_aalM (x := r1) hp dX0_tidy_93 t1 rfl rfl u1 hir1 er1 ?_
    refine r_iload_n dX0_tidy_94 rfl rfl ?_
    refine k_VV (As := [.int x3]) (stk := []) hp cv_X0_697 dX0_tidy_95 rfl (Nat.le_of_ble_eq_true rfl) tr1 (H.mono (fun h2 H => ?_)) ⟨Nat.le_refl _, Nat.le_refl _⟩
    refine r_iinc (v := (x4 + (1 : Int32))) (ls2 := [none, some (.ref a1), some (.int x2), some (.int x3), some (.int (x4 + (1 : Int32)))]) dX0_tidy_98 rfl rfl (by decide) rfl ?_
    refine r_goto (tgt := 84) dX0_tidy_101 rfl ?_
    exact H
abbrev W_X0_keepRow (g : GX) (d : Nat) (av : List Value) (Q : QT) (n : Nat) (pc : Nat) (ls : LV) (stk : List Value) (h : Hp) : Prop := RJ g m_X0_keepRow (d + 1) 0 0 av Q pc ls stk n h 0 0
theorem s_X0_keepRow_0 {g : GX} {d : Nat} {av : List Value} {Q : QT} {n : Nat} {h : Hp} {x1 : Int32} {x2 : Int32} (hp : g.2.2.2.2 = true)  (H : CallI g m_X0_needsOf d [.ref 855, .int (ri h 0 62)] n h (fun v1 h1 => (CallI g m_J3_max d [.int x2, .int v1] n h1 (fun v2 h2 => ((((60 : Int32) < v2) → (W_X0_keepRow g d av Q n 35 [some (.ref 0), some (.int x1), none, some (.int v2), none, none, none] [] h2)) ∧ ((¬ (60 : Int32) < v2) → ((((6 : Int32) < (ri h2 0 62)) → (W_X0_keepRow g d av Q n 35 [some (.ref 0), some (.int x1), none, some (.int v2), none, none, none] [] h2)) ∧ ((¬ (6 : Int32) < (ri h2 0 62)) → (W_X0_keepRow g d av Q n 36 [some (.ref 0), some (.int x1), none, some (.int v2), none, none, none] [.int (1 : Int32)] h2))))))))) : W_X0_keepRow g d av Q n 0 [some (.ref 0), some (.int x1), some (.int x2), none, none, none, none] [] h := by
  refine r_iload_n dX0_keepRow_0 rfl rfl ?_
  refine r_aload_n dX0_keepRow_1 rfl rfl ?_
  refine m_getF (x := 855) hp fw_X0_455 dX0_keepRow_2 rfl ly_0 (ff_0_61 ly_0) ?_
  refine r_aload_n dX0_keepRow_5 rfl rfl ?_
  refine m_getI hp fw_X0_787 dX0_keepRow_6 rfl ly_0 ?_
  refine k_SI (As := [.ref 855, .int (ri h 0 62)]) (stk := [.int x2]) cs_X0_790 dX0_keepRow_9 rfl (Nat.le_of_ble_eq_true rfl) (H.mono (fun v1 h1 H => ?_)) ⟨Nat.le_refl _, Nat.le_refl _⟩
  refine k_SI (As := [.int x2, .int v1]) (stk := []) cs_X0_679 dX0_keepRow_12 rfl (Nat.le_of_ble_eq_true rfl) (H.mono (fun v2 h2 H => ?_)) ⟨Nat.le_refl _, Nat.le_refl _⟩
  refine r_istore_n (ls2 := [some (.ref 0), some (.int x1), some (.int x2), some (.int v2), none, none, none]) dX0_keepRow_15 rfl (by decide) rfl ?_
  refine r_iload_n dX0_keepRow_16 rfl rfl ?_
  refine r_bipush (v := (60 : Int32)) dX0_keepRow_17 rfl ?_
  refine r_icmp_gt (tgt := 35) dX0_keepRow_19 rfl (fun cH => ?_) (fun cH => ?_)
  · replace H := H.1 cH
    refine r_prune [true, true, false, true, false, false, false] (ls2 := [some (.ref 0), some (.int x1), none, some (.int v2), none, none, none]) rfl ?_
    exact H
  · replace H := H.2 cH
    refine r_aload_n dX0_keepRow_22 rfl rfl ?_
    refine m_getI hp fw_X0_787 dX0_keepRow_23 rfl ly_0 ?_
    refine r_bipush (v := (6 : Int32)) dX0_keepRow_26 rfl ?_
    refine r_icmp_gt (tgt := 35) dX0_keepRow_28 rfl (fun cH => ?_) (fun cH => ?_)
    · replace H := H.1 cH
      refine r_prune [true, true, false, true, false, false, false] (ls2 := [some (.ref 0), some (.int x1), none, some (.int v2), none, none, none]) rfl ?_
      exact H
    · replace H := H.2 cH
      refine r_iconst (v := (1 : Int32)) dX0_keepRow_31 rfl ?_
      refine r_goto (tgt := 36) dX0_keepRow_32 rfl ?_
      refine r_prune [true, true, false, true, false, false, false] (ls2 := [some (.ref 0), some (.int x1), none, some (.int v2), none, none, none]) rfl ?_
      exact H
theorem s_X0_keepRow_35 {g : GX} {d : Nat} {av : List Value} {Q : QT} {n : Nat} {h : Hp} {x1 : Int32} {x3 : Int32} (hp : g.2.2.2.2 = true)  (H : W_X0_keepRow g d av Q n 36 [some (.ref 0), some (.int x1), none, some (.int x3), none, none, none] [.int (0 : Int32)] h) : W_X0_keepRow g d av Q n 35 [some (.ref 0), some (.int x1), none, some (.int x3), none, none, none] [] h := by
  refine r_iconst (v := (0 : Int32)) dX0_keepRow_35 rfl ?_
  exact H
theorem s_X0_keepRow_36 {g : GX} {d : Nat} {av : List Value} {Q : QT} {n : Nat} {h : Hp} {x1 : Int32} {x3 : Int32} {xs0 : Int32} (hp : g.2.2.2.2 = true)  (H : W_X0_keepRow g d av Q n 41 [some (.ref 0), some (.int x1), none, some (.int x3), some (.int xs0), some (.int (0 : Int32)), none] [] h) : W_X0_keepRow g d av Q n 36 [some (.ref 0), some (.int x1), none, some (.int x3), none, none, none] [.int xs0] h := by
  refine r_istore (ls2 := [some (.ref 0), some (.int x1), none, some (.int x3), some (.int xs0), none, none]) dX0_keepRow_36 (by decide) rfl ?_
  refine r_iconst (v := (0 : Int32)) dX0_keepRow_38 rfl ?_
  refine r_istore (ls2 := [some (.ref 0), some (.int x1), none, some (.int x3), some (.int xs0), some (.int (0 : Int32)), none]) dX0_keepRow_39 (by decide) rfl ?_
  exact H
theorem s_X0_keepRow_41 {g : GX} {d : Nat} {av : List Value} {Q : QT} {n : Nat} {h : Hp} {x1 : Int32} {x3 : Int32} {x4 : Int32} {x5 : Int32} (hp : g.2.2.2.2 = true)  (H : (((ri h 0 62) < x5) → (((¬ x4 = (0 : Int32)) → (vp_in x1 12 ∧ ∀ r1, r1 = 1185 + 27 * (x1).toNatClampNeg → (∀ h2, h2 = wi h r1 0 (4 : Int32) → (∀ h3, h3 = wi h2 r1 3 (ri h2 0 62) → (W_X0_keepRow g d av Q n 117 [some (.ref 0), none, none, some (.int x3), none, some (.ref r1), some (.int (0 : Int32))] [] h3))))) ∧ ((x4 = (0 : Int32)) → (Q (some (.int (-2 : Int32))) n h)))) ∧ ((¬ (ri h 0 62) < x5) → (((x4 = (0 : Int32)) → (W_X0_keepRow g d av Q n 74 [some (.ref 0), some (.int x1), none, some (.int x3), none, some (.int x5), none] [] h)) ∧ ((¬ x4 = (0 : Int32)) → (vp_in x5 8 ∧ ∀ r4, r4 = 2601 + 2 * (x5).toNatClampNeg → ((((25 : Int32) < (ri h r4 1)) → (W_X0_keepRow g d av Q n 74 [some (.ref 0), some (.int x1), none, some (.int x3), none, some (.int x5), none] [] h)) ∧ ((¬ (25 : Int32) < (ri h r4 1)) → (W_X0_keepRow g d av Q n 75 [some (.ref 0), some (.int x1), none, some (.int x3), none, some (.int x5), none] [.int (1 : Int32)] h)))))))) : W_X0_keepRow g d av Q n 41 [some (.ref 0), some (.int x1), none, some (.int x3), some (.int x4), some (.int x5), none] [] h := by
  refine r_iload dX0_keepRow_41 rfl ?_
  refine r_aload_n dX0_keepRow_43 rfl rfl ?_
  refine m_getI hp fw_X0_787 dX0_keepRow_44 rfl ly_0 ?_
  refine r_icmp_gt (tgt := 83) dX0_keepRow_47 rfl (fun cH => ?_) (fun cH => ?_)
  · replace H := H.1 cH
    refine r_iload dX0_keepRow_83 rfl ?_
    refine r_if_ne (tgt := 91) dX0_keepRow_85 rfl (fun cH => ?_) (fun cH => ?_)
    · replace H := H.1 cH
      refine r_aload_n dX0_keepRow_91 rfl rfl ?_
      refine m_getF (x := 79) hp fw_X0_326 dX0_keepRow_92 rfl ly_0 (ff_0_20 ly_0) ?_
      refine r_iload_n dX0_keepRow_95 rfl rfl ?_
      obtain ⟨r1, er1⟩ : ∃ y, y = 1185 + 27 * (x1).toNatClampNeg := ⟨_, rfl⟩
      have hir1 := H.1
      replace H := H.2 r1 er1
      have tLr1 := la_79 hir1 er1
      refine m_aalF (x := r1) hp dX0_keepRow_96 (lf_0_20 ly_0) rfl rfl (lu_0_20 ly_0) hir1 (fa_79 hir1 er1) ?_
      refine r_astore (ls2 := [some (.ref 0), some (.int x1), none, some (.int x3), some (.int x4), some (.ref r1), none]) dX0_keepRow_97 (by decide) rfl ?_
      refine r_aload dX0_keepRow_99 rfl ?_
      refine r_iconst (v := (4 : Int32)) dX0_keepRow_101 rfl ?_
      refine m_putI hp fw_X0_509 dX0_keepRow_102 rfl rfl tLr1 (fun h2 eh2 => ?_)
      replace H := H h2 eh2
      refine r_aload dX0_keepRow_105 rfl ?_
      refine r_aload_n dX0_keepRow_107 rfl rfl ?_
      refine m_getI hp fw_X0_787 dX0_keepRow_108 rfl ly_0 ?_
      refine m_putI hp fw_X0_575 dX0_keepRow_111 rfl rfl tLr1 (fun h3 eh3 => ?_)
      replace H := H h3 eh3
      refine r_iconst (v := (0 : Int32)) dX0_keepRow_114 rfl ?_
      refine r_istore (ls2 := [some (.ref 0), some (.int x1), none, some (.int x3), some (.int x4), some (.ref r1), some (.int (0 : Int32))]) dX0_keepRow_115 (by decide) rfl ?_
      refine r_prune [true, false, false, true, false, true, true] (ls2 := [some (.ref 0), none, none, some (.int x3), none, some (.ref r1), some (.int (0 : Int32))]) rfl ?_
      exact H
    · replace H := H.2 cH
      refine r_bipush (v := (-2 : Int32)) dX0_keepRow_88 rfl ?_
      exact r_zret dX0_keepRow_90 rfl rfl (Nat.le_refl _) (Nat.le_refl _) H
  · replace H := H.2 cH
    refine r_iload dX0_keepRow_50 rfl ?_
    refine r_if_eq (tgt := 74) dX0_keepRow_52 rfl (fun cH => ?_) (fun cH => ?_)
    · replace H := H.1 cH
      refine r_prune [true, true, false, true, false, true, false] (ls2 := [some (.ref 0), some (.int x1), none, some (.int x3), none, some (.int x5), none]) rfl ?_
      exact H
    · replace H := H.2 cH
      refine r_aload_n dX0_keepRow_55 rfl rfl ?_
      refine m_getF (x := 855) hp fw_X0_455 dX0_keepRow_56 rfl ly_0 (ff_0_61 ly_0) ?_
      refine r_iload dX0_keepRow_59 rfl ?_
      obtain ⟨r4, er4⟩ : ∃ y, y = 2601 + 2 * (x5).toNatClampNeg := ⟨_, rfl⟩
      have hir4 := H.1
      replace H := H.2 r4 er4
      have tLr4 := la_855 hir4 er4
      refine m_aalF (x := r4) hp dX0_keepRow_61 (lf_0_61 ly_0) rfl rfl (lu_0_61 ly_0) hir4 (fa_855 hir4 er4) ?_
      refine m_getI hp fw_X0_636 dX0_keepRow_62 rfl tLr4 ?_
      refine r_bipush (v := (25 : Int32)) dX0_keepRow_65 rfl ?_
      refine r_icmp_gt (tgt := 74) dX0_keepRow_67 rfl (fun cH => ?_) (fun cH => ?_)
      · replace H := H.1 cH
        refine r_prune [true, true, false, true, false, true, false] (ls2 := [some (.ref 0), some (.int x1), none, some (.int x3), none, some (.int x5), none]) rfl ?_
        exact H
      · replace H := H.2 cH
        refine r_iconst (v := (1 : Int32)) dX0_keepRow_70 rfl ?_
        refine r_goto (tgt := 75) dX0_keepRow_71 rfl ?_
        refine r_prune [true, true, false, true, false, true, false] (ls2 := [some (.ref 0), some (.int x1), none, some (.int x3), none, some (.int x5), none]) rfl ?_
        exact H
theorem s_X0_keepRow_74 {g : GX} {d : Nat} {av : List Value} {Q : QT} {n : Nat} {h : Hp} {x1 : Int32} {x3 : Int32} {x5 : Int32} (hp : g.2.2.2.2 = true)  (H : W_X0_keepRow g d av Q n 75 [some (.ref 0), some (.int x1), none, some (.int x3), none, some (.int x5), none] [.int (0 : Int32)] h) : W_X0_keepRow g d av Q n 74 [some (.ref 0), some (.int x1), none, some (.int x3), none, some (.int x5), none] [] h := by
  refine r_iconst (v := (0 : Int32)) dX0_keepRow_74 rfl ?_
  exact H
theorem s_X0_keepRow_75 {g : GX} {d : Nat} {av : List Value} {Q : QT} {n : Nat} {h : Hp} {x1 : Int32} {x3 : Int32} {x5 : Int32} {xs0 : Int32} (hp : g.2.2.2.2 = true)  (H : W_X0_keepRow g d av Q n 41 [some (.ref 0), some (.int x1), none, some (.int x3), some (.int xs0), some (.int (x5 + (1 : Int32))), none] [] h) : W_X0_keepRow g d av Q n 75 [some (.ref 0), some (.int x1), none, some (.int x3), none, some (.int x5), none] [.int xs0] h := by
  refine r_istore (ls2 := [some (.ref 0), some (.int x1), none, some (.int x3), some (.int xs0), some (.int x5), none]) dX0_keepRow_75 (by decide) rfl ?_
  refine r_iinc (v := (x5 + (1 : Int32))) (ls2 := [some (.ref 0), some (.int x1), none, some (.int x3), some (.int xs0), some (.int (x5 + (1 : Int32))), none]) dX0_keepRow_77 rfl rfl (by decide) rfl ?_
  refine r_goto (tgt := 41) dX0_keepRow_80 rfl ?_
  exact H
theorem s_X0_keepRow_117 {g : GX} {d : Nat} {av : List Value} {Q : QT} {n : Nat} {h : Hp} {x3 : Int32} {a5 : Nat} {x6 : Int32} (hp : g.2.2.2.2 = true) (t5 : lay a5 = (0, 9, 8)) (H : (((ri h 0 62) < x6) → (∀ h1, h1 = wi h a5 4 x3 → (∀ h2, h2 = wi h1 a5 5 (0 : Int32) → (∀ h3, h3 = wi h2 a5 7 (0 : Int32) → (Q (some (.int (ri h3 0 62))) n h3))))) ∧ ((¬ (ri h 0 62) < x6) → (vp_in x6 7 ∧ ∀ r4, r4 = (a5 + 13) + 2 * (x6).toNatClampNeg → (vp_in x6 8 ∧ ∀ r5, r5 = 2601 + 2 * (x6).toNatClampNeg → (CallV g m_X3_copy d [.ref r4, .ref r5] n h (fun h6 => (W_X0_keepRow g d av Q n 117 [some (.ref 0), none, none, some (.int x3), none, some (.ref a5), some (.int (x6 + (1 : Int32)))] [] h6))))))) : W_X0_keepRow g d av Q n 117 [some (.ref 0), none, none, some (.int x3), none, some (.ref a5), some (.int x6)] [] h := by
  refine r_iload dX0_keepRow_117 rfl ?_
  refine r_aload_n dX0_keepRow_119 rfl rfl ?_
  refine m_getI hp fw_X0_787 dX0_keepRow_120 rfl ly_0 ?_
  refine r_icmp_gt (tgt := 150) dX0_keepRow_123 rfl (fun cH => ?_) (fun cH => ?_)
  · replace H := H.1 cH
    refine r_aload dX0_keepRow_150 rfl ?_
    refine r_iload_n dX0_keepRow_152 rfl rfl ?_
    refine m_putI hp fw_X0_582 dX0_keepRow_153 rfl rfl t5 (fun h1 eh1 => ?_)
    replace H := H h1 eh1
    refine r_aload dX0_keepRow_156 rfl ?_
    refine r_iconst (v := (0 : Int32)) dX0_keepRow_158 rfl ?_
    refine m_putI hp fw_X0_794 dX0_keepRow_159 rfl rfl t5 (fun h2 eh2 => ?_)
    replace H := H h2 eh2
    refine r_aload dX0_keepRow_162 rfl ?_
    refine r_iconst (v := (0 : Int32)) dX0_keepRow_164 rfl ?_
    refine m_putI hp fw_X0_797 dX0_keepRow_165 rfl rfl t5 (fun h3 eh3 => ?_)
    replace H := H h3 eh3
    refine r_aload_n dX0_keepRow_168 rfl rfl ?_
    refine m_getI hp fw_X0_787 dX0_keepRow_169 rfl ly_0 ?_
    exact r_zret dX0_keepRow_172 rfl rfl (Nat.le_refl _) (Nat.le_refl _) H
  · replace H := H.2 cH
    refine r_aload dX0_keepRow_126 rfl ?_
    refine m_getF (x := (a5 + 11)) hp fw_X0_578 dX0_keepRow_128 rfl t5 (ff_9_2 t5) ?_
    refine r_iload dX0_keepRow_131 rfl ?_
    obtain ⟨r4, er4⟩ : ∃ y, y = (a5 + 13) + 2 * (x6).toNatClampNeg := ⟨_, rfl⟩
    have hir4 := H.1
    replace H := H.2 r4 er4
    have tLr4 := le_9 t5 hir4 er4
    refine m_aalF (x := r4) hp dX0_keepRow_133 (lf_9_2 t5) rfl rfl (lu_9_2 t5) hir4 (fe_9 t5 hir4 er4) ?_
    refine r_aload_n dX0_keepRow_134 rfl rfl ?_
    refine m_getF (x := 855) hp fw_X0_455 dX0_keepRow_135 rfl ly_0 (ff_0_61 ly_0) ?_
    refine r_iload dX0_keepRow_138 rfl ?_
    obtain ⟨r5, er5⟩ : ∃ y, y = 2601 + 2 * (x6).toNatClampNeg := ⟨_, rfl⟩
    have hir5 := H.1
    replace H := H.2 r5 er5
    have tLr5 := la_855 hir5 er5
    refine m_aalF (x := r5) hp dX0_keepRow_140 (lf_0_61 ly_0) rfl rfl (lu_0_61 ly_0) hir5 (fa_855 hir5 er5) ?_
    refine k_VV (As := [.ref r5]) (stk := []) hp cv_X0_686 dX0_keepRow_141 rfl (Nat.le_of_ble_eq_true rfl) tLr4 (H.mono (fun h6 H => ?_)) ⟨Nat.le_refl _, Nat.le_refl _⟩
    refine r_iinc (v := (x6 + (1 : Int32))) (ls2 := [some (.ref 0), none, none, some (.int x3), none, some (.ref a5), some (.int (x6 + (1 : Int32)))]) dX0_keepRow_144 rfl rfl (by decide) rfl ?_
    refine r_goto (tgt := 117) dX0_keepRow_147 rfl ?_
    exact H
abbrev W_X0_needsOf (g : GX) (d : Nat) (av : List Value) (Q : QT) (n : Nat) (pc : Nat) (ls : LV) (stk : List Value) (h : Hp) : Prop := RJ g m_X0_needsOf (d + 1) 0 0 av Q pc ls stk n h 0 0
theorem s_X0_needsOf_0 {g : GX} {d : Nat} {av : List Value} {Q : QT} {n : Nat} {h : Hp} {a0 : Nat} {L0 : Nat} {x1 : Int32} (hp : g.2.2.2.2 = true) (t0 : lay a0 = (2, L0, 3)) (u0 : a0 < N0) (H : W_X0_needsOf g d av Q n 4 [some (.ref a0), some (.int x1), some (.int x1), some (.int (0 : Int32))] [] h) : W_X0_needsOf g d av Q n 0 [some (.ref a0), some (.int x1), none, none] [] h := by
  refine r_iload_n dX0_needsOf_0 rfl rfl ?_
  refine r_istore_n (ls2 := [some (.ref a0), some (.int x1), some (.int x1), none]) dX0_needsOf_1 rfl (by decide) rfl ?_
  refine r_iconst (v := (0 : Int32)) dX0_needsOf_2 rfl ?_
  refine r_istore_n (ls2 := [some (.ref a0), some (.int x1), some (.int x1), some (.int (0 : Int32))]) dX0_needsOf_3 rfl (by decide) rfl ?_
  exact H
theorem s_X0_needsOf_4 {g : GX} {d : Nat} {av : List Value} {Q : QT} {n : Nat} {h : Hp} {a0 : Nat} {L0 : Nat} {x1 : Int32} {x2 : Int32} {x3 : Int32} (hp : g.2.2.2.2 = true) (t0 : lay a0 = (2, L0, 3)) (u0 : a0 < N0) (H : (((300 : Int32) < x3) → (Q (some (.int x2)) n h)) ∧ ((¬ (300 : Int32) < x3) → (vp_in x1 L0 ∧ ∃ r1, rr h a0 (x1).toNatClampNeg = some r1 ∧ lay r1 = (0, 3, 2) ∧ (CallI g m_X3_value d [.ref r1, .int x3] n h (fun v2 h2 => (((¬ v2 = (0 : Int32)) → (W_X0_needsOf g d av Q n 30 [some (.ref a0), some (.int x1), none, some (.int x3)] [.int x2] h2)) ∧ ((v2 = (0 : Int32)) → (W_X0_needsOf g d av Q n 30 [some (.ref a0), some (.int x1), none, some (.int x3)] [.int ((x1 + (1 : Int32)) + x3)] h2)))))))) : W_X0_needsOf g d av Q n 4 [some (.ref a0), some (.int x1), some (.int x2), some (.int x3)] [] h := by
  refine r_iload_n dX0_needsOf_4 rfl rfl ?_
  refine r_sipush (v := (300 : Int32)) dX0_needsOf_5 rfl ?_
  refine r_icmp_gt (tgt := 37) dX0_needsOf_8 rfl (fun cH => ?_) (fun cH => ?_)
  · replace H := H.1 cH
    refine r_iload_n dX0_needsOf_37 rfl rfl ?_
    exact r_zret dX0_needsOf_38 rfl rfl (Nat.le_refl _) (Nat.le_refl _) H
  · replace H := H.2 cH
    refine r_aload_n dX0_needsOf_11 rfl rfl ?_
    refine r_iload_n dX0_needsOf_12 rfl rfl ?_
    have hir1 := H.1
    obtain ⟨r1, er1, tr1, H⟩ := H.2
    refine m_aalM (x := r1) hp dX0_needsOf_13 t0 rfl rfl u0 hir1 er1 ?_
    refine r_iload_n dX0_needsOf_14 rfl rfl ?_
    refine k_VI (As := [.int x3]) (stk := []) hp cv_X0_765 dX0_needsOf_15 rfl (Nat.le_of_ble_eq_true rfl) tr1 (H.mono (fun v2 h2 H => ?_)) ⟨Nat.le_refl _, Nat.le_refl _⟩
    refine r_if_ne (tgt := 29) dX0_needsOf_18 rfl (fun cH => ?_) (fun cH => ?_)
    · replace H := H.1 cH
      refine r_iload_n dX0_needsOf_29 rfl rfl ?_
      refine r_prune [true, true, false, true] (ls2 := [some (.ref a0), some (.int x1), none, some (.int x3)]) rfl ?_
      exact H
    · replace H := H.2 cH
      refine r_iload_n dX0_needsOf_21 rfl rfl ?_
      refine r_iconst (v := (1 : Int32)) dX0_needsOf_22 rfl ?_
      refine r_iadd dX0_needsOf_23 ?_
      refine r_iload_n dX0_needsOf_24 rfl rfl ?_
      refine r_iadd dX0_needsOf_25 ?_
      refine r_goto (tgt := 30) dX0_needsOf_26 rfl ?_
      refine r_prune [true, true, false, true] (ls2 := [some (.ref a0), some (.int x1), none, some (.int x3)]) rfl ?_
      exact H
theorem s_X0_needsOf_30 {g : GX} {d : Nat} {av : List Value} {Q : QT} {n : Nat} {h : Hp} {a0 : Nat} {L0 : Nat} {x1 : Int32} {x3 : Int32} {xs0 : Int32} (hp : g.2.2.2.2 = true) (t0 : lay a0 = (2, L0, 3)) (u0 : a0 < N0) (H : W_X0_needsOf g d av Q n 4 [some (.ref a0), some (.int x1), some (.int xs0), some (.int (x3 + (1 : Int32)))] [] h) : W_X0_needsOf g d av Q n 30 [some (.ref a0), some (.int x1), none, some (.int x3)] [.int xs0] h := by
  refine r_istore_n (ls2 := [some (.ref a0), some (.int x1), some (.int xs0), some (.int x3)]) dX0_needsOf_30 rfl (by decide) rfl ?_
  refine r_iinc (v := (x3 + (1 : Int32))) (ls2 := [some (.ref a0), some (.int x1), some (.int xs0), some (.int (x3 + (1 : Int32)))]) dX0_needsOf_31 rfl rfl (by decide) rfl ?_
  refine r_goto (tgt := 4) dX0_needsOf_34 rfl ?_
  exact H
abbrev W_X0_first (g : GX) (d : Nat) (av : List Value) (Q : QT) (n : Nat) (pc : Nat) (ls : LV) (stk : List Value) (h : Hp) : Prop := RJ g m_X0_first (d + 1) 0 0 av Q pc ls stk n h 0 0
theorem s_X0_first_0 {g : GX} {d : Nat} {av : List Value} {Q : QT} {n : Nat} {h : Hp} {x1 : Int32} {x2 : Int32} (hp : g.2.2.2.2 = true)  (H : CallI g m_X0_isSlot d [.int x1] n h (fun v1 h1 => (((¬ v1 = (0 : Int32)) → (vp_in x1 12 ∧ ∀ r2, r2 = 1185 + 27 * (x1).toNatClampNeg → ((((ri h1 r2 0) = (4 : Int32)) → (((¬ (ri h1 r2 5) = (ri h1 r2 4)) → (∀ h3, h3 = wi h1 r2 5 ((ri h1 r2 5) + (1 : Int32)) → (CallI g m_X0_rest d [.int x2] n h3 (fun v4 h4 => (vp_in (ri h1 r2 5) 301 ∧ ∀ h5, h5 = wi h4 (r2 + 12) ((ri h1 r2 5)).toNatClampNeg v4 → (∀ h6, h6 = wi h5 r2 7 (ri h5 r2 5) → (Q (some (.int (ri h6 r2 5))) n h6))))))) ∧ (((ri h1 r2 5) = (ri h1 r2 4)) → (Q (some (.int (-1 : Int32))) n h1)))) ∧ ((¬ (ri h1 r2 0) = (4 : Int32)) → (Q (some (.int (-3 : Int32))) n h1))))) ∧ ((v1 = (0 : Int32)) → (Q (some (.int (-1 : Int32))) n h1))))) : W_X0_first g d av Q n 0 [some (.ref 0), some (.int x1), some (.int x2), none] [] h := by
  refine r_iload_n dX0_first_0 rfl rfl ?_
  refine k_SI (As := [.int x1]) (stk := []) cs_X0_519 dX0_first_1 rfl (Nat.le_of_ble_eq_true rfl) (H.mono (fun v1 h1 H => ?_)) ⟨Nat.le_refl _, Nat.le_refl _⟩
  refine r_if_ne (tgt := 9) dX0_first_4 rfl (fun cH => ?_) (fun cH => ?_)
  · replace H := H.1 cH
    refine r_aload_n dX0_first_9 rfl rfl ?_
    refine m_getF (x := 79) hp fw_X0_326 dX0_first_10 rfl ly_0 (ff_0_20 ly_0) ?_
    refine r_iload_n dX0_first_13 rfl rfl ?_
    obtain ⟨r2, er2⟩ : ∃ y, y = 1185 + 27 * (x1).toNatClampNeg := ⟨_, rfl⟩
    have hir2 := H.1
    replace H := H.2 r2 er2
    have tLr2 := la_79 hir2 er2
    refine m_aalF (x := r2) hp dX0_first_14 (lf_0_20 ly_0) rfl rfl (lu_0_20 ly_0) hir2 (fa_79 hir2 er2) ?_
    refine r_astore_n (ls2 := [some (.ref 0), some (.int x1), some (.int x2), some (.ref r2)]) dX0_first_15 rfl (by decide) rfl ?_
    refine r_aload_n dX0_first_16 rfl rfl ?_
    refine m_getI hp fw_X0_509 dX0_first_17 rfl tLr2 ?_
    refine r_iconst (v := (4 : Int32)) dX0_first_20 rfl ?_
    refine r_icmp_eq (tgt := 27) dX0_first_21 rfl (fun cH => ?_) (fun cH => ?_)
    · replace H := H.1 cH
      refine r_aload_n dX0_first_27 rfl rfl ?_
      refine m_getI hp fw_X0_794 dX0_first_28 rfl tLr2 ?_
      refine r_aload_n dX0_first_31 rfl rfl ?_
      refine m_getI hp fw_X0_582 dX0_first_32 rfl tLr2 ?_
      refine r_icmp_ne (tgt := 40) dX0_first_35 rfl (fun cH => ?_) (fun cH => ?_)
      · replace H := H.1 cH
        refine r_aload_n dX0_first_40 rfl rfl ?_
        refine m_getF (x := (r2 + 12)) hp fw_X0_807 dX0_first_41 rfl tLr2 (ff_9_6 tLr2) ?_
        refine r_aload_n dX0_first_44 rfl rfl ?_
        refine r_dup dX0_first_45 rfl ?_
        refine m_getI hp fw_X0_794 dX0_first_46 rfl tLr2 ?_
        refine r_dup_x1 dX0_first_49 rfl rfl ?_
        refine r_iconst (v := (1 : Int32)) dX0_first_50 rfl ?_
        refine r_iadd dX0_first_51 ?_
        refine m_putI hp fw_X0_794 dX0_first_52 rfl rfl tLr2 (fun h3 eh3 => ?_)
        replace H := H h3 eh3
        refine r_iload_n dX0_first_55 rfl rfl ?_
        refine k_SI (As := [.int x2]) (stk := [.int (ri h1 r2 5), .ref (r2 + 12)]) cs_X0_543 dX0_first_56 rfl (Nat.le_of_ble_eq_true rfl) (H.mono (fun v4 h4 H => ?_)) ⟨Nat.le_refl _, Nat.le_refl _⟩
        refine m_iast hp dX0_first_59 (lf_9_6 tLr2) H.1 (fun h5 eh5 => ?_)
        replace H := H.2 h5 eh5
        refine r_aload_n dX0_first_60 rfl rfl ?_
        refine r_aload_n dX0_first_61 rfl rfl ?_
        refine m_getI hp fw_X0_794 dX0_first_62 rfl tLr2 ?_
        refine m_putI hp fw_X0_797 dX0_first_65 rfl rfl tLr2 (fun h6 eh6 => ?_)
        replace H := H h6 eh6
        refine r_aload_n dX0_first_68 rfl rfl ?_
        refine m_getI hp fw_X0_794 dX0_first_69 rfl tLr2 ?_
        exact r_zret dX0_first_72 rfl rfl (Nat.le_refl _) (Nat.le_refl _) H
      · replace H := H.2 cH
        refine r_iconst (v := (-1 : Int32)) dX0_first_38 rfl ?_
        exact r_zret dX0_first_39 rfl rfl (Nat.le_refl _) (Nat.le_refl _) H
    · replace H := H.2 cH
      refine r_bipush (v := (-3 : Int32)) dX0_first_24 rfl ?_
      exact r_zret dX0_first_26 rfl rfl (Nat.le_refl _) (Nat.le_refl _) H
  · replace H := H.2 cH
    refine r_iconst (v := (-1 : Int32)) dX0_first_7 rfl ?_
    exact r_zret dX0_first_8 rfl rfl (Nat.le_refl _) (Nat.le_refl _) H
abbrev W_X0_at (g : GX) (d : Nat) (av : List Value) (Q : QT) (n : Nat) (pc : Nat) (ls : LV) (stk : List Value) (h : Hp) : Prop := RJ g m_X0_at (d + 1) 0 0 av Q pc ls stk n h 0 0
theorem s_X0_at_0 {g : GX} {d : Nat} {av : List Value} {Q : QT} {n : Nat} {h : Hp} {x1 : Int32} {x2 : Int32} (hp : g.2.2.2.2 = true)  (H : CallI g m_X0_isSlot d [.int x1] n h (fun v1 h1 => (((¬ v1 = (0 : Int32)) → (vp_in x1 12 ∧ ∀ r2, r2 = 1185 + 27 * (x1).toNatClampNeg → ((((ri h1 r2 0) = (4 : Int32)) → (CallI g m_X0_isWhole d [.ref r2] n h1 (fun v3 h3 => (((v3 = (0 : Int32)) → (Q (some (.int (-1 : Int32))) n h3)) ∧ ((¬ v3 = (0 : Int32)) → (CallI g m_X0_within d [.int x2, .int (0 : Int32), .int (300 : Int32)] n h3 (fun v4 h4 => (((v4 = (0 : Int32)) → (Q (some (.int (-1 : Int32))) n h4)) ∧ ((¬ v4 = (0 : Int32)) → (CallI g m_X0_numberAt d [.ref 0, .ref r2, .int x2] n h4 (fun v5 h5 => (Q (some (.int v5)) n h5)))))))))))) ∧ ((¬ (ri h1 r2 0) = (4 : Int32)) → (Q (some (.int (-3 : Int32))) n h1))))) ∧ ((v1 = (0 : Int32)) → (Q (some (.int (-1 : Int32))) n h1))))) : W_X0_at g d av Q n 0 [some (.ref 0), some (.int x1), some (.int x2), none] [] h := by
  refine r_iload_n dX0_at_0 rfl rfl ?_
  refine k_SI (As := [.int x1]) (stk := []) cs_X0_519 dX0_at_1 rfl (Nat.le_of_ble_eq_true rfl) (H.mono (fun v1 h1 H => ?_)) ⟨Nat.le_refl _, Nat.le_refl _⟩
  refine r_if_ne (tgt := 9) dX0_at_4 rfl (fun cH => ?_) (fun cH => ?_)
  · replace H := H.1 cH
    refine r_aload_n dX0_at_9 rfl rfl ?_
    refine m_getF (x := 79) hp fw_X0_326 dX0_at_10 rfl ly_0 (ff_0_20 ly_0) ?_
    refine r_iload_n dX0_at_13 rfl rfl ?_
    obtain ⟨r2, er2⟩ : ∃ y, y = 1185 + 27 * (x1).toNatClampNeg := ⟨_, rfl⟩
    have hir2 := H.1
    replace H := H.2 r2 er2
    have tLr2 := la_79 hir2 er2
    refine m_aalF (x := r2) hp dX0_at_14 (lf_0_20 ly_0) rfl rfl (lu_0_20 ly_0) hir2 (fa_79 hir2 er2) ?_
    refine r_astore_n (ls2 := [some (.ref 0), some (.int x1), some (.int x2), some (.ref r2)]) dX0_at_15 rfl (by decide) rfl ?_
    refine r_aload_n dX0_at_16 rfl rfl ?_
    refine m_getI hp fw_X0_509 dX0_at_17 rfl tLr2 ?_
    refine r_iconst (v := (4 : Int32)) dX0_at_20 rfl ?_
    refine r_icmp_eq (tgt := 27) dX0_at_21 rfl (fun cH => ?_) (fun cH => ?_)
    · replace H := H.1 cH
      refine r_aload_n dX0_at_27 rfl rfl ?_
      refine k_SI (As := [.ref r2]) (stk := []) cs_X0_810 dX0_at_28 rfl (Nat.le_of_ble_eq_true rfl) (H.mono (fun v3 h3 H => ?_)) ⟨Nat.le_refl _, Nat.le_refl _⟩
      refine r_if_eq (tgt := 54) dX0_at_31 rfl (fun cH => ?_) (fun cH => ?_)
      · replace H := H.1 cH
        refine r_iconst (v := (-1 : Int32)) dX0_at_54 rfl ?_
        exact r_zret dX0_at_55 rfl rfl (Nat.le_refl _) (Nat.le_refl _) H
      · replace H := H.2 cH
        refine r_iload_n dX0_at_34 rfl rfl ?_
        refine r_iconst (v := (0 : Int32)) dX0_at_35 rfl ?_
        refine r_sipush (v := (300 : Int32)) dX0_at_36 rfl ?_
        refine k_SI (As := [.int x2, .int (0 : Int32), .int (300 : Int32)]) (stk := []) cs_X0_173 dX0_at_39 rfl (Nat.le_of_ble_eq_true rfl) (H.mono (fun v4 h4 H => ?_)) ⟨Nat.le_refl _, Nat.le_refl _⟩
        refine r_if_eq (tgt := 54) dX0_at_42 rfl (fun cH => ?_) (fun cH => ?_)
        · replace H := H.1 cH
          refine r_iconst (v := (-1 : Int32)) dX0_at_54 rfl ?_
          exact r_zret dX0_at_55 rfl rfl (Nat.le_refl _) (Nat.le_refl _) H
        · replace H := H.2 cH
          refine r_aload_n dX0_at_45 rfl rfl ?_
          refine r_aload_n dX0_at_46 rfl rfl ?_
          refine r_iload_n dX0_at_47 rfl rfl ?_
          refine k_VI (As := [.ref r2, .int x2]) (stk := []) hp cv_X0_814 dX0_at_48 rfl (Nat.le_of_ble_eq_true rfl) ly_0 (H.mono (fun v5 h5 H => ?_)) ⟨Nat.le_refl _, Nat.le_refl _⟩
          refine r_goto (tgt := 55) dX0_at_51 rfl ?_
          exact r_zret dX0_at_55 rfl rfl (Nat.le_refl _) (Nat.le_refl _) H
    · replace H := H.2 cH
      refine r_bipush (v := (-3 : Int32)) dX0_at_24 rfl ?_
      exact r_zret dX0_at_26 rfl rfl (Nat.le_refl _) (Nat.le_refl _) H
  · replace H := H.2 cH
    refine r_iconst (v := (-1 : Int32)) dX0_at_7 rfl ?_
    exact r_zret dX0_at_8 rfl rfl (Nat.le_refl _) (Nat.le_refl _) H
abbrev W_X0_isWhole (g : GX) (d : Nat) (av : List Value) (Q : QT) (n : Nat) (pc : Nat) (ls : LV) (stk : List Value) (h : Hp) : Prop := RJ g m_X0_isWhole d 0 0 av Q pc ls stk n h 0 0
theorem s_X0_isWhole_0 {g : GX} {d : Nat} {av : List Value} {Q : QT} {n : Nat} {h : Hp} {a0 : Nat} (hp : g.2.2.2.2 = true) (t0 : lay a0 = (0, 9, 8)) (H : ((¬ (ri h a0 0) = (4 : Int32)) → (Q (some (.int (0 : Int32))) n h)) ∧ (((ri h a0 0) = (4 : Int32)) → (((¬ (ri h a0 5) = (ri h a0 4)) → (Q (some (.int (0 : Int32))) n h)) ∧ (((ri h a0 5) = (ri h a0 4)) → (Q (some (.int (1 : Int32))) n h))))) : W_X0_isWhole g d av Q n 0 [some (.ref a0)] [] h := by
  refine r_aload_n dX0_isWhole_0 rfl rfl ?_
  refine m_getI hp fw_X0_509 dX0_isWhole_1 rfl t0 ?_
  refine r_iconst (v := (4 : Int32)) dX0_isWhole_4 rfl ?_
  refine r_icmp_ne (tgt := 23) dX0_isWhole_5 rfl (fun cH => ?_) (fun cH => ?_)
  · replace H := H.1 cH
    refine r_iconst (v := (0 : Int32)) dX0_isWhole_23 rfl ?_
    exact r_zret dX0_isWhole_24 rfl rfl (Nat.le_refl _) (Nat.le_refl _) H
  · replace H := H.2 cH
    refine r_aload_n dX0_isWhole_8 rfl rfl ?_
    refine m_getI hp fw_X0_794 dX0_isWhole_9 rfl t0 ?_
    refine r_aload_n dX0_isWhole_12 rfl rfl ?_
    refine m_getI hp fw_X0_582 dX0_isWhole_13 rfl t0 ?_
    refine r_icmp_ne (tgt := 23) dX0_isWhole_16 rfl (fun cH => ?_) (fun cH => ?_)
    · replace H := H.1 cH
      refine r_iconst (v := (0 : Int32)) dX0_isWhole_23 rfl ?_
      exact r_zret dX0_isWhole_24 rfl rfl (Nat.le_refl _) (Nat.le_refl _) H
    · replace H := H.2 cH
      refine r_iconst (v := (1 : Int32)) dX0_isWhole_19 rfl ?_
      refine r_goto (tgt := 24) dX0_isWhole_20 rfl ?_
      exact r_zret dX0_isWhole_24 rfl rfl (Nat.le_refl _) (Nat.le_refl _) H
abbrev W_X0_numberAt (g : GX) (d : Nat) (av : List Value) (Q : QT) (n : Nat) (pc : Nat) (ls : LV) (stk : List Value) (h : Hp) : Prop := RJ g m_X0_numberAt (d + 1) 0 0 av Q pc ls stk n h 0 0
theorem s_X0_numberAt_0 {g : GX} {d : Nat} {av : List Value} {Q : QT} {n : Nat} {h : Hp} {a1 : Nat} {x2 : Int32} (hp : g.2.2.2.2 = true) (t1 : lay a1 = (0, 9, 8)) (H : ((x2 < (ri h a1 7)) → (vp_in x2 301 ∧ (Q (some (.int (ri h (a1 + 12) (x2).toNatClampNeg))) n h))) ∧ ((¬ x2 < (ri h a1 7)) → (W_X0_numberAt g d av Q n 24 [none, some (.ref a1), some (.int x2), some (.int ((ri h a1 7) - (ri h a1 3))), some (.int (0 : Int32)), some (.int (0 : Int32))] [] h))) : W_X0_numberAt g d av Q n 0 [none, some (.ref a1), some (.int x2), none, none, none] [] h := by
  refine r_aload_n dX0_numberAt_0 rfl rfl ?_
  refine m_getI hp fw_X0_797 dX0_numberAt_1 rfl t1 ?_
  refine r_iload_n dX0_numberAt_4 rfl rfl ?_
  refine r_icmp_gt (tgt := 116) dX0_numberAt_5 rfl (fun cH => ?_) (fun cH => ?_)
  · replace H := H.1 cH
    refine r_aload_n dX0_numberAt_116 rfl rfl ?_
    refine m_getF (x := (a1 + 12)) hp fw_X0_807 dX0_numberAt_117 rfl t1 (ff_9_6 t1) ?_
    refine r_iload_n dX0_numberAt_120 rfl rfl ?_
    refine m_iald hp dX0_numberAt_121 (lf_9_6 t1) H.1 ?_
    replace H := H.2
    exact r_zret dX0_numberAt_122 rfl rfl (Nat.le_refl _) (Nat.le_refl _) H
  · replace H := H.2 cH
    refine r_aload_n dX0_numberAt_8 rfl rfl ?_
    refine m_getI hp fw_X0_797 dX0_numberAt_9 rfl t1 ?_
    refine r_aload_n dX0_numberAt_12 rfl rfl ?_
    refine m_getI hp fw_X0_575 dX0_numberAt_13 rfl t1 ?_
    refine r_isub dX0_numberAt_16 ?_
    refine r_istore_n (ls2 := [none, some (.ref a1), some (.int x2), some (.int ((ri h a1 7) - (ri h a1 3))), none, none]) dX0_numberAt_17 rfl (by decide) rfl ?_
    refine r_iconst (v := (0 : Int32)) dX0_numberAt_18 rfl ?_
    refine r_istore (ls2 := [none, some (.ref a1), some (.int x2), some (.int ((ri h a1 7) - (ri h a1 3))), some (.int (0 : Int32)), none]) dX0_numberAt_19 (by decide) rfl ?_
    refine r_iconst (v := (0 : Int32)) dX0_numberAt_21 rfl ?_
    refine r_istore (ls2 := [none, some (.ref a1), some (.int x2), some (.int ((ri h a1 7) - (ri h a1 3))), some (.int (0 : Int32)), some (.int (0 : Int32))]) dX0_numberAt_22 (by decide) rfl ?_
    exact H
theorem s_X0_numberAt_24 {g : GX} {d : Nat} {av : List Value} {Q : QT} {n : Nat} {h : Hp} {a1 : Nat} {x2 : Int32} {x3 : Int32} {x4 : Int32} {x5 : Int32} (hp : g.2.2.2.2 = true) (t1 : lay a1 = (0, 9, 8)) (H : (((ri h a1 3) ≤ x5) → (vp_in (ri h a1 3) 7 ∧ ∀ r1, r1 = (a1 + 13) + 2 * ((ri h a1 3)).toNatClampNeg → (CallI g m_X3_value d [.ref r1, .int x3] n h (fun v2 h2 => (CallI g m_X0_inverse d [.int v2] n h2 (fun v3 h3 => (CallI g m_X0_times d [.int x4, .int v3] n h3 (fun v4 h4 => (CallI g m_X0_less d [.int (0 : Int32), .int v4] n h4 (fun v5 h5 => (vp_in (ri h a1 7) 301 ∧ ∀ h6, h6 = wi h5 (a1 + 12) ((ri h a1 7)).toNatClampNeg v5 → (∀ h7, h7 = wi h6 a1 7 ((ri h6 a1 7) + (1 : Int32)) → (W_X0_numberAt g d av Q n 0 [none, some (.ref a1), some (.int x2), none, none, none] [] h7))))))))))))) ∧ ((¬ (ri h a1 3) ≤ x5) → (vp_in x5 7 ∧ ∀ r8, r8 = (a1 + 13) + 2 * (x5).toNatClampNeg → (CallI g m_X3_value d [.ref r8, .int x3] n h (fun v9 h9 => (vp_in (x3 + x5) 301 ∧ (CallI g m_X0_times d [.int v9, .int (ri h9 (a1 + 12) ((x3 + x5)).toNatClampNeg)] n h9 (fun v10 h10 => (CallI g m_X0_sum d [.int x4, .int v10] n h10 (fun v11 h11 => (W_X0_numberAt g d av Q n 24 [none, some (.ref a1), some (.int x2), some (.int x3), some (.int v11), some (.int (x5 + (1 : Int32)))] [] h11))))))))))) : W_X0_numberAt g d av Q n 24 [none, some (.ref a1), some (.int x2), some (.int x3), some (.int x4), some (.int x5)] [] h := by
  refine r_iload dX0_numberAt_24 rfl ?_
  refine r_aload_n dX0_numberAt_26 rfl rfl ?_
  refine m_getI hp fw_X0_575 dX0_numberAt_27 rfl t1 ?_
  refine r_icmp_ge (tgt := 69) dX0_numberAt_30 rfl (fun cH => ?_) (fun cH => ?_)
  · replace H := H.1 cH
    refine r_aload_n dX0_numberAt_69 rfl rfl ?_
    refine m_getF (x := (a1 + 12)) hp fw_X0_807 dX0_numberAt_70 rfl t1 (ff_9_6 t1) ?_
    refine r_aload_n dX0_numberAt_73 rfl rfl ?_
    refine m_getI hp fw_X0_797 dX0_numberAt_74 rfl t1 ?_
    refine r_iconst (v := (0 : Int32)) dX0_numberAt_77 rfl ?_
    refine r_iload dX0_numberAt_78 rfl ?_
    refine r_aload_n dX0_numberAt_80 rfl rfl ?_
    refine m_getF (x := (a1 + 11)) hp fw_X0_578 dX0_numberAt_81 rfl t1 (ff_9_2 t1) ?_
    refine r_aload_n dX0_numberAt_84 rfl rfl ?_
    refine m_getI hp fw_X0_575 dX0_numberAt_85 rfl t1 ?_
    obtain ⟨r1, er1⟩ : ∃ y, y = (a1 + 13) + 2 * ((ri h a1 3)).toNatClampNeg := ⟨_, rfl⟩
    have hir1 := H.1
    replace H := H.2 r1 er1
    have tLr1 := le_9 t1 hir1 er1
    refine m_aalF (x := r1) hp dX0_numberAt_88 (lf_9_2 t1) rfl rfl (lu_9_2 t1) hir1 (fe_9 t1 hir1 er1) ?_
    refine r_iload_n dX0_numberAt_89 rfl rfl ?_
    refine k_VI (As := [.int x3]) (stk := [.int x4, .int (0 : Int32), .int (ri h a1 7), .ref (a1 + 12)]) hp cv_X0_765 dX0_numberAt_90 rfl (Nat.le_of_ble_eq_true rfl) tLr1 (H.mono (fun v2 h2 H => ?_)) ⟨Nat.le_refl _, Nat.le_refl _⟩
    refine k_SI (As := [.int v2]) (stk := [.int x4, .int (0 : Int32), .int (ri h a1 7), .ref (a1 + 12)]) cs_X0_74 dX0_numberAt_93 rfl (Nat.le_of_ble_eq_true rfl) (H.mono (fun v3 h3 H => ?_)) ⟨Nat.le_refl _, Nat.le_refl _⟩
    refine k_SI (As := [.int x4, .int v3]) (stk := [.int (0 : Int32), .int (ri h a1 7), .ref (a1 + 12)]) cs_X0_6 dX0_numberAt_96 rfl (Nat.le_of_ble_eq_true rfl) (H.mono (fun v4 h4 H => ?_)) ⟨Nat.le_refl _, Nat.le_refl _⟩
    refine k_SI (As := [.int (0 : Int32), .int v4]) (stk := [.int (ri h a1 7), .ref (a1 + 12)]) cs_X0_784 dX0_numberAt_99 rfl (Nat.le_of_ble_eq_true rfl) (H.mono (fun v5 h5 H => ?_)) ⟨Nat.le_refl _, Nat.le_refl _⟩
    refine m_iast hp dX0_numberAt_102 (lf_9_6 t1) H.1 (fun h6 eh6 => ?_)
    replace H := H.2 h6 eh6
    refine r_aload_n dX0_numberAt_103 rfl rfl ?_
    refine r_dup dX0_numberAt_104 rfl ?_
    refine m_getI hp fw_X0_797 dX0_numberAt_105 rfl t1 ?_
    refine r_iconst (v := (1 : Int32)) dX0_numberAt_108 rfl ?_
    refine r_iadd dX0_numberAt_109 ?_
    refine m_putI hp fw_X0_797 dX0_numberAt_110 rfl rfl t1 (fun h7 eh7 => ?_)
    replace H := H h7 eh7
    refine r_goto (tgt := 0) dX0_numberAt_113 rfl ?_
    refine r_prune [false, true, true, false, false, false] (ls2 := [none, some (.ref a1), some (.int x2), none, none, none]) rfl ?_
    exact H
  · replace H := H.2 cH
    refine r_iload dX0_numberAt_33 rfl ?_
    refine r_aload_n dX0_numberAt_35 rfl rfl ?_
    refine m_getF (x := (a1 + 11)) hp fw_X0_578 dX0_numberAt_36 rfl t1 (ff_9_2 t1) ?_
    refine r_iload dX0_numberAt_39 rfl ?_
    obtain ⟨r8, er8⟩ : ∃ y, y = (a1 + 13) + 2 * (x5).toNatClampNeg := ⟨_, rfl⟩
    have hir8 := H.1
    replace H := H.2 r8 er8
    have tLr8 := le_9 t1 hir8 er8
    refine m_aalF (x := r8) hp dX0_numberAt_41 (lf_9_2 t1) rfl rfl (lu_9_2 t1) hir8 (fe_9 t1 hir8 er8) ?_
    refine r_iload_n dX0_numberAt_42 rfl rfl ?_
    refine k_VI (As := [.int x3]) (stk := [.int x4]) hp cv_X0_765 dX0_numberAt_43 rfl (Nat.le_of_ble_eq_true rfl) tLr8 (H.mono (fun v9 h9 H => ?_)) ⟨Nat.le_refl _, Nat.le_refl _⟩
    refine r_aload_n dX0_numberAt_46 rfl rfl ?_
    refine m_getF (x := (a1 + 12)) hp fw_X0_807 dX0_numberAt_47 rfl t1 (ff_9_6 t1) ?_
    refine r_iload_n dX0_numberAt_50 rfl rfl ?_
    refine r_iload dX0_numberAt_51 rfl ?_
    refine r_iadd dX0_numberAt_53 ?_
    refine m_iald hp dX0_numberAt_54 (lf_9_6 t1) H.1 ?_
    replace H := H.2
    refine k_SI (As := [.int v9, .int (ri h9 (a1 + 12) ((x3 + x5)).toNatClampNeg)]) (stk := [.int x4]) cs_X0_6 dX0_numberAt_55 rfl (Nat.le_of_ble_eq_true rfl) (H.mono (fun v10 h10 H => ?_)) ⟨Nat.le_refl _, Nat.le_refl _⟩
    refine k_SI (As := [.int x4, .int v10]) (stk := []) cs_X0_598 dX0_numberAt_58 rfl (Nat.le_of_ble_eq_true rfl) (H.mono (fun v11 h11 H => ?_)) ⟨Nat.le_refl _, Nat.le_refl _⟩
    refine r_istore (ls2 := [none, some (.ref a1), some (.int x2), some (.int x3), some (.int v11), some (.int x5)]) dX0_numberAt_61 (by decide) rfl ?_
    refine r_iinc (v := (x5 + (1 : Int32))) (ls2 := [none, some (.ref a1), some (.int x2), some (.int x3), some (.int v11), some (.int (x5 + (1 : Int32)))]) dX0_numberAt_63 rfl rfl (by decide) rfl ?_
    refine r_goto (tgt := 24) dX0_numberAt_66 rfl ?_
    exact H
abbrev W_X0_join (g : GX) (d : Nat) (av : List Value) (Q : QT) (n : Nat) (pc : Nat) (ls : LV) (stk : List Value) (h : Hp) : Prop := RJ g m_X0_join (d + 1) 0 0 av Q pc ls stk n h 0 0
theorem s_X0_join_0 {g : GX} {d : Nat} {av : List Value} {Q : QT} {n : Nat} {h : Hp} {x1 : Int32} {x2 : Int32} {x3 : Int32} {x4 : Int32} (hp : g.2.2.2.2 = true)  (H : CallI g m_X0_within d [.int x1, .int (0 : Int32), .int (2 : Int32)] n h (fun v1 h1 => (((¬ v1 = (0 : Int32)) → (W_X0_join g d av Q n 14 [some (.ref 0), some (.int x1), some (.int x2), some (.int x3), some (.int x4), none, none, none, none, none, none] [] h1)) ∧ ((v1 = (0 : Int32)) → (((¬ x1 = (5 : Int32)) → (W_X0_join g d av Q n 19 [some (.ref 0), some (.int x1), some (.int x2), some (.int x3), some (.int x4), none, none, none, none, none, none] [.int (0 : Int32)] h1)) ∧ ((x1 = (5 : Int32)) → (W_X0_join g d av Q n 14 [some (.ref 0), some (.int x1), some (.int x2), some (.int x3), some (.int x4), none, none, none, none, none, none] [] h1))))))) : W_X0_join g d av Q n 0 [some (.ref 0), some (.int x1), some (.int x2), some (.int x3), some (.int x4), none, none, none, none, none, none] [] h := by
  refine r_iload_n dX0_join_0 rfl rfl ?_
  refine r_iconst (v := (0 : Int32)) dX0_join_1 rfl ?_
  refine r_iconst (v := (2 : Int32)) dX0_join_2 rfl ?_
  refine k_SI (As := [.int x1, .int (0 : Int32), .int (2 : Int32)]) (stk := []) cs_X0_173 dX0_join_3 rfl (Nat.le_of_ble_eq_true rfl) (H.mono (fun v1 h1 H => ?_)) ⟨Nat.le_refl _, Nat.le_refl _⟩
  refine r_if_ne (tgt := 14) dX0_join_6 rfl (fun cH => ?_) (fun cH => ?_)
  · replace H := H.1 cH
    exact H
  · replace H := H.2 cH
    refine r_iload_n dX0_join_9 rfl rfl ?_
    refine r_iconst (v := (5 : Int32)) dX0_join_10 rfl ?_
    refine r_icmp_ne (tgt := 18) dX0_join_11 rfl (fun cH => ?_) (fun cH => ?_)
    · replace H := H.1 cH
      refine r_iconst (v := (0 : Int32)) dX0_join_18 rfl ?_
      exact H
    · replace H := H.2 cH
      exact H
theorem s_X0_join_14 {g : GX} {d : Nat} {av : List Value} {Q : QT} {n : Nat} {h : Hp} {x1 : Int32} {x2 : Int32} {x3 : Int32} {x4 : Int32} (hp : g.2.2.2.2 = true)  (H : W_X0_join g d av Q n 19 [some (.ref 0), some (.int x1), some (.int x2), some (.int x3), some (.int x4), none, none, none, none, none, none] [.int (1 : Int32)] h) : W_X0_join g d av Q n 14 [some (.ref 0), some (.int x1), some (.int x2), some (.int x3), some (.int x4), none, none, none, none, none, none] [] h := by
  refine r_iconst (v := (1 : Int32)) dX0_join_14 rfl ?_
  refine r_goto (tgt := 19) dX0_join_15 rfl ?_
  exact H
theorem s_X0_join_19 {g : GX} {d : Nat} {av : List Value} {Q : QT} {n : Nat} {h : Hp} {x1 : Int32} {x2 : Int32} {x3 : Int32} {x4 : Int32} {xs0 : Int32} (hp : g.2.2.2.2 = true)  (H : CallI g m_X0_isSlot d [.int x2] n h (fun v1 h1 => (((v1 = (0 : Int32)) → (Q (some (.int (-1 : Int32))) n h1)) ∧ ((¬ v1 = (0 : Int32)) → (((xs0 = (0 : Int32)) → (W_X0_join g d av Q n 40 [some (.ref 0), some (.int x1), some (.int x2), some (.int x3), some (.int x4), some (.int xs0), none, none, none, none, none] [] h1)) ∧ ((¬ xs0 = (0 : Int32)) → (CallI g m_X0_isSlot d [.int x3] n h1 (fun v2 h2 => (((v2 = (0 : Int32)) → (Q (some (.int (-1 : Int32))) n h2)) ∧ ((¬ v2 = (0 : Int32)) → (W_X0_join g d av Q n 40 [some (.ref 0), some (.int x1), some (.int x2), some (.int x3), some (.int x4), some (.int xs0), none, none, none, none, none] [] h2))))))))))) : W_X0_join g d av Q n 19 [some (.ref 0), some (.int x1), some (.int x2), some (.int x3), some (.int x4), none, none, none, none, none, none] [.int xs0] h := by
  refine r_istore (ls2 := [some (.ref 0), some (.int x1), some (.int x2), some (.int x3), some (.int x4), some (.int xs0), none, none, none, none, none]) dX0_join_19 (by decide) rfl ?_
  refine r_iload_n dX0_join_21 rfl rfl ?_
  refine k_SI (As := [.int x2]) (stk := []) cs_X0_519 dX0_join_22 rfl (Nat.le_of_ble_eq_true rfl) (H.mono (fun v1 h1 H => ?_)) ⟨Nat.le_refl _, Nat.le_refl _⟩
  refine r_if_eq (tgt := 48) dX0_join_25 rfl (fun cH => ?_) (fun cH => ?_)
  · replace H := H.1 cH
    refine r_iconst (v := (-1 : Int32)) dX0_join_48 rfl ?_
    exact r_zret dX0_join_49 rfl rfl (Nat.le_refl _) (Nat.le_refl _) H
  · replace H := H.2 cH
    refine r_iload dX0_join_28 rfl ?_
    refine r_if_eq (tgt := 40) dX0_join_30 rfl (fun cH => ?_) (fun cH => ?_)
    · replace H := H.1 cH
      exact H
    · replace H := H.2 cH
      refine r_iload_n dX0_join_33 rfl rfl ?_
      refine k_SI (As := [.int x3]) (stk := []) cs_X0_519 dX0_join_34 rfl (Nat.le_of_ble_eq_true rfl) (H.mono (fun v2 h2 H => ?_)) ⟨Nat.le_refl _, Nat.le_refl _⟩
      refine r_if_eq (tgt := 48) dX0_join_37 rfl (fun cH => ?_) (fun cH => ?_)
      · replace H := H.1 cH
        refine r_iconst (v := (-1 : Int32)) dX0_join_48 rfl ?_
        exact r_zret dX0_join_49 rfl rfl (Nat.le_refl _) (Nat.le_refl _) H
      · replace H := H.2 cH
        exact H
theorem s_X0_join_40 {g : GX} {d : Nat} {av : List Value} {Q : QT} {n : Nat} {h : Hp} {x1 : Int32} {x2 : Int32} {x3 : Int32} {x4 : Int32} {x5 : Int32} (hp : g.2.2.2.2 = true)  (H : CallI g m_X0_isSlot d [.int x4] n h (fun v1 h1 => (((¬ v1 = (0 : Int32)) → (vp_in x2 12 ∧ ∀ r2, r2 = 1185 + 27 * (x2).toNatClampNeg → (((x5 = (0 : Int32)) → (W_X0_join g d av Q n 74 [some (.ref 0), some (.int x1), none, none, some (.int x4), none, some (.ref r2), none, none, none, none] [.ref r2] h1)) ∧ ((¬ x5 = (0 : Int32)) → (vp_in x3 12 ∧ ∀ r3, r3 = 1185 + 27 * (x3).toNatClampNeg → (W_X0_join g d av Q n 74 [some (.ref 0), some (.int x1), none, none, some (.int x4), none, some (.ref r2), none, none, none, none] [.ref r3] h1)))))) ∧ ((v1 = (0 : Int32)) → (Q (some (.int (-1 : Int32))) n h1))))) : W_X0_join g d av Q n 40 [some (.ref 0), some (.int x1), some (.int x2), some (.int x3), some (.int x4), some (.int x5), none, none, none, none, none] [] h := by
  refine r_iload dX0_join_40 rfl ?_
  refine k_SI (As := [.int x4]) (stk := []) cs_X0_519 dX0_join_42 rfl (Nat.le_of_ble_eq_true rfl) (H.mono (fun v1 h1 H => ?_)) ⟨Nat.le_refl _, Nat.le_refl _⟩
  refine r_if_ne (tgt := 50) dX0_join_45 rfl (fun cH => ?_) (fun cH => ?_)
  · replace H := H.1 cH
    refine r_aload_n dX0_join_50 rfl rfl ?_
    refine m_getF (x := 79) hp fw_X0_326 dX0_join_51 rfl ly_0 (ff_0_20 ly_0) ?_
    refine r_iload_n dX0_join_54 rfl rfl ?_
    obtain ⟨r2, er2⟩ : ∃ y, y = 1185 + 27 * (x2).toNatClampNeg := ⟨_, rfl⟩
    have hir2 := H.1
    replace H := H.2 r2 er2
    have tLr2 := la_79 hir2 er2
    refine m_aalF (x := r2) hp dX0_join_55 (lf_0_20 ly_0) rfl rfl (lu_0_20 ly_0) hir2 (fa_79 hir2 er2) ?_
    refine r_astore (ls2 := [some (.ref 0), some (.int x1), some (.int x2), some (.int x3), some (.int x4), some (.int x5), some (.ref r2), none, none, none, none]) dX0_join_56 (by decide) rfl ?_
    refine r_iload dX0_join_58 rfl ?_
    refine r_if_eq (tgt := 72) dX0_join_60 rfl (fun cH => ?_) (fun cH => ?_)
    · replace H := H.1 cH
      refine r_aload dX0_join_72 rfl ?_
      refine r_prune [true, true, false, false, true, false, true, false, false, false, false] (ls2 := [some (.ref 0), some (.int x1), none, none, some (.int x4), none, some (.ref r2), none, none, none, none]) rfl ?_
      exact H
    · replace H := H.2 cH
      refine r_aload_n dX0_join_63 rfl rfl ?_
      refine m_getF (x := 79) hp fw_X0_326 dX0_join_64 rfl ly_0 (ff_0_20 ly_0) ?_
      refine r_iload_n dX0_join_67 rfl rfl ?_
      obtain ⟨r3, er3⟩ : ∃ y, y = 1185 + 27 * (x3).toNatClampNeg := ⟨_, rfl⟩
      have hir3 := H.1
      replace H := H.2 r3 er3
      have tLr3 := la_79 hir3 er3
      refine m_aalF (x := r3) hp dX0_join_68 (lf_0_20 ly_0) rfl rfl (lu_0_20 ly_0) hir3 (fa_79 hir3 er3) ?_
      refine r_goto (tgt := 74) dX0_join_69 rfl ?_
      refine r_prune [true, true, false, false, true, false, true, false, false, false, false] (ls2 := [some (.ref 0), some (.int x1), none, none, some (.int x4), none, some (.ref r2), none, none, none, none]) rfl ?_
      exact H
  · replace H := H.2 cH
    refine r_iconst (v := (-1 : Int32)) dX0_join_48 rfl ?_
    exact r_zret dX0_join_49 rfl rfl (Nat.le_refl _) (Nat.le_refl _) H
theorem s_X0_join_74 {g : GX} {d : Nat} {av : List Value} {Q : QT} {n : Nat} {h : Hp} {x1 : Int32} {x4 : Int32} {a6 : Nat} {as0 : Nat} (hp : g.2.2.2.2 = true) (t6 : lay a6 = (0, 9, 8)) (ts0 : lay as0 = (0, 9, 8)) (H : ((¬ (ri h a6 0) = (4 : Int32)) → (Q (some (.int (-3 : Int32))) n h)) ∧ (((ri h a6 0) = (4 : Int32)) → (((x1 = (5 : Int32)) → (W_X0_join g d av Q n 99 [some (.ref 0), some (.int x1), none, none, some (.int x4), none, some (.ref a6), some (.ref as0), none, none, none] [] h)) ∧ ((¬ x1 = (5 : Int32)) → (((¬ (ri h as0 0) = (4 : Int32)) → (Q (some (.int (-3 : Int32))) n h)) ∧ (((ri h as0 0) = (4 : Int32)) → (W_X0_join g d av Q n 99 [some (.ref 0), some (.int x1), none, none, some (.int x4), none, some (.ref a6), some (.ref as0), none, none, none] [] h))))))) : W_X0_join g d av Q n 74 [some (.ref 0), some (.int x1), none, none, some (.int x4), none, some (.ref a6), none, none, none, none] [.ref as0] h := by
  refine r_astore (ls2 := [some (.ref 0), some (.int x1), none, none, some (.int x4), none, some (.ref a6), some (.ref as0), none, none, none]) dX0_join_74 (by decide) rfl ?_
  refine r_aload dX0_join_76 rfl ?_
  refine m_getI hp fw_X0_509 dX0_join_78 rfl t6 ?_
  refine r_iconst (v := (4 : Int32)) dX0_join_81 rfl ?_
  refine r_icmp_ne (tgt := 113) dX0_join_82 rfl (fun cH => ?_) (fun cH => ?_)
  · replace H := H.1 cH
    refine r_bipush (v := (-3 : Int32)) dX0_join_113 rfl ?_
    exact r_zret dX0_join_115 rfl rfl (Nat.le_refl _) (Nat.le_refl _) H
  · replace H := H.2 cH
    refine r_iload_n dX0_join_85 rfl rfl ?_
    refine r_iconst (v := (5 : Int32)) dX0_join_86 rfl ?_
    refine r_icmp_eq (tgt := 99) dX0_join_87 rfl (fun cH => ?_) (fun cH => ?_)
    · replace H := H.1 cH
      exact H
    · replace H := H.2 cH
      refine r_aload dX0_join_90 rfl ?_
      refine m_getI hp fw_X0_509 dX0_join_92 rfl ts0 ?_
      refine r_iconst (v := (4 : Int32)) dX0_join_95 rfl ?_
      refine r_icmp_ne (tgt := 113) dX0_join_96 rfl (fun cH => ?_) (fun cH => ?_)
      · replace H := H.1 cH
        refine r_bipush (v := (-3 : Int32)) dX0_join_113 rfl ?_
        exact r_zret dX0_join_115 rfl rfl (Nat.le_refl _) (Nat.le_refl _) H
      · replace H := H.2 cH
        exact H
theorem s_X0_join_99 {g : GX} {d : Nat} {av : List Value} {Q : QT} {n : Nat} {h : Hp} {x1 : Int32} {x4 : Int32} {a6 : Nat} {a7 : Nat} (hp : g.2.2.2.2 = true) (t6 : lay a6 = (0, 9, 8)) (t7 : lay a7 = (0, 9, 8)) (H : ((¬ x1 = (5 : Int32)) → (W_X0_join g d av Q n 116 [some (.ref 0), some (.int x1), none, none, some (.int x4), none, some (.ref a6), some (.ref a7), none, none, none] [] h)) ∧ ((x1 = (5 : Int32)) → (CallI g m_X0_isPolynomialInN d [.ref 0, .ref a7] n h (fun v1 h1 => (((¬ v1 = (0 : Int32)) → (W_X0_join g d av Q n 116 [some (.ref 0), some (.int x1), none, none, some (.int x4), none, some (.ref a6), some (.ref a7), none, none, none] [] h1)) ∧ ((v1 = (0 : Int32)) → (Q (some (.int (-3 : Int32))) n h1))))))) : W_X0_join g d av Q n 99 [some (.ref 0), some (.int x1), none, none, some (.int x4), none, some (.ref a6), some (.ref a7), none, none, none] [] h := by
  refine r_iload_n dX0_join_99 rfl rfl ?_
  refine r_iconst (v := (5 : Int32)) dX0_join_100 rfl ?_
  refine r_icmp_ne (tgt := 116) dX0_join_101 rfl (fun cH => ?_) (fun cH => ?_)
  · replace H := H.1 cH
    exact H
  · replace H := H.2 cH
    refine r_aload_n dX0_join_104 rfl rfl ?_
    refine r_aload dX0_join_105 rfl ?_
    refine k_VI (As := [.ref a7]) (stk := []) hp cv_X0_829 dX0_join_107 rfl (Nat.le_of_ble_eq_true rfl) ly_0 (H.mono (fun v1 h1 H => ?_)) ⟨Nat.le_refl _, Nat.le_refl _⟩
    refine r_if_ne (tgt := 116) dX0_join_110 rfl (fun cH => ?_) (fun cH => ?_)
    · replace H := H.1 cH
      exact H
    · replace H := H.2 cH
      refine r_bipush (v := (-3 : Int32)) dX0_join_113 rfl ?_
      exact r_zret dX0_join_115 rfl rfl (Nat.le_refl _) (Nat.le_refl _) H
theorem s_X0_join_116 {g : GX} {d : Nat} {av : List Value} {Q : QT} {n : Nat} {h : Hp} {x1 : Int32} {x4 : Int32} {a6 : Nat} {a7 : Nat} (hp : g.2.2.2.2 = true) (t6 : lay a6 = (0, 9, 8)) (t7 : lay a7 = (0, 9, 8)) (H : CallI g m_X0_within d [.int x1, .int (0 : Int32), .int (5 : Int32)] n h (fun v1 h1 => (((v1 = (0 : Int32)) → (Q (some (.int (-1 : Int32))) n h1)) ∧ ((¬ v1 = (0 : Int32)) → (CallI g m_X0_isWhole d [.ref a6] n h1 (fun v2 h2 => (((v2 = (0 : Int32)) → (Q (some (.int (-1 : Int32))) n h2)) ∧ ((¬ v2 = (0 : Int32)) → (((x1 = (5 : Int32)) → (W_X0_join g d av Q n 148 [some (.ref 0), some (.int x1), none, none, some (.int x4), none, some (.ref a6), some (.ref a7), none, none, none] [] h2)) ∧ ((¬ x1 = (5 : Int32)) → (CallI g m_X0_isWhole d [.ref a7] n h2 (fun v3 h3 => (((¬ v3 = (0 : Int32)) → (W_X0_join g d av Q n 148 [some (.ref 0), some (.int x1), none, none, some (.int x4), none, some (.ref a6), some (.ref a7), none, none, none] [] h3)) ∧ ((v3 = (0 : Int32)) → (Q (some (.int (-1 : Int32))) n h3))))))))))))))) : W_X0_join g d av Q n 116 [some (.ref 0), some (.int x1), none, none, some (.int x4), none, some (.ref a6), some (.ref a7), none, none, none] [] h := by
  refine r_iload_n dX0_join_116 rfl rfl ?_
  refine r_iconst (v := (0 : Int32)) dX0_join_117 rfl ?_
  refine r_iconst (v := (5 : Int32)) dX0_join_118 rfl ?_
  refine k_SI (As := [.int x1, .int (0 : Int32), .int (5 : Int32)]) (stk := []) cs_X0_173 dX0_join_119 rfl (Nat.le_of_ble_eq_true rfl) (H.mono (fun v1 h1 H => ?_)) ⟨Nat.le_refl _, Nat.le_refl _⟩
  refine r_if_eq (tgt := 146) dX0_join_122 rfl (fun cH => ?_) (fun cH => ?_)
  · replace H := H.1 cH
    refine r_iconst (v := (-1 : Int32)) dX0_join_146 rfl ?_
    exact r_zret dX0_join_147 rfl rfl (Nat.le_refl _) (Nat.le_refl _) H
  · replace H := H.2 cH
    refine r_aload dX0_join_125 rfl ?_
    refine k_SI (As := [.ref a6]) (stk := []) cs_X0_810 dX0_join_127 rfl (Nat.le_of_ble_eq_true rfl) (H.mono (fun v2 h2 H => ?_)) ⟨Nat.le_refl _, Nat.le_refl _⟩
    refine r_if_eq (tgt := 146) dX0_join_130 rfl (fun cH => ?_) (fun cH => ?_)
    · replace H := H.1 cH
      refine r_iconst (v := (-1 : Int32)) dX0_join_146 rfl ?_
      exact r_zret dX0_join_147 rfl rfl (Nat.le_refl _) (Nat.le_refl _) H
    · replace H := H.2 cH
      refine r_iload_n dX0_join_133 rfl rfl ?_
      refine r_iconst (v := (5 : Int32)) dX0_join_134 rfl ?_
      refine r_icmp_eq (tgt := 148) dX0_join_135 rfl (fun cH => ?_) (fun cH => ?_)
      · replace H := H.1 cH
        exact H
      · replace H := H.2 cH
        refine r_aload dX0_join_138 rfl ?_
        refine k_SI (As := [.ref a7]) (stk := []) cs_X0_810 dX0_join_140 rfl (Nat.le_of_ble_eq_true rfl) (H.mono (fun v3 h3 H => ?_)) ⟨Nat.le_refl _, Nat.le_refl _⟩
        refine r_if_ne (tgt := 148) dX0_join_143 rfl (fun cH => ?_) (fun cH => ?_)
        · replace H := H.1 cH
          exact H
        · replace H := H.2 cH
          refine r_iconst (v := (-1 : Int32)) dX0_join_146 rfl ?_
          exact r_zret dX0_join_147 rfl rfl (Nat.le_refl _) (Nat.le_refl _) H
theorem s_X0_join_148 {g : GX} {d : Nat} {av : List Value} {Q : QT} {n : Nat} {h : Hp} {x1 : Int32} {x4 : Int32} {a6 : Nat} {a7 : Nat} (hp : g.2.2.2.2 = true) (t6 : lay a6 = (0, 9, 8)) (t7 : lay a7 = (0, 9, 8)) (H : CallV g m_X3_clear d [.ref 1112] n h (fun h1 => (((¬ x1 = (5 : Int32)) → (CallI g m_J3_max d [.int (ri h a6 4), .int (ri h1 a7 4)] n h1 (fun v2 h2 => (W_X0_join g d av Q n 201 [some (.ref 0), some (.int x1), none, none, some (.int x4), none, some (.ref a6), some (.ref a7), some (.int v2), none, none] [] h2)))) ∧ ((x1 = (5 : Int32)) → (CallV g m_X4_row d [.ref (a7 + 3), .int (0 : Int32), .ref 1112] n h1 (fun h3 => (W_X0_join g d av Q n 201 [some (.ref 0), some (.int x1), none, none, some (.int x4), none, some (.ref a6), some (.ref a7), some (.int (ri h a6 4)), none, none] [] h3))))))) : W_X0_join g d av Q n 148 [some (.ref 0), some (.int x1), none, none, some (.int x4), none, some (.ref a6), some (.ref a7), none, none, none] [] h := by
  refine r_aload dX0_join_148 rfl ?_
  refine m_getI hp fw_X0_582 dX0_join_150 rfl t6 ?_
  refine r_istore (ls2 := [some (.ref 0), some (.int x1), none, none, some (.int x4), none, some (.ref a6), some (.ref a7), some (.int (ri h a6 4)), none, none]) dX0_join_153 (by decide) rfl ?_
  refine r_aload_n dX0_join_155 rfl rfl ?_
  refine m_getF (x := 1112) hp fw_X0_476 dX0_join_156 rfl ly_0 (ff_0_67 ly_0) ?_
  refine k_VV (As := []) (stk := []) hp cv_X0_709 dX0_join_159 rfl (Nat.le_of_ble_eq_true rfl) (lf_0_67 ly_0) (H.mono (fun h1 H => ?_)) ⟨Nat.le_refl _, Nat.le_refl _⟩
  refine r_iload_n dX0_join_162 rfl rfl ?_
  refine r_iconst (v := (5 : Int32)) dX0_join_163 rfl ?_
  refine r_icmp_ne (tgt := 189) dX0_join_164 rfl (fun cH => ?_) (fun cH => ?_)
  · replace H := H.1 cH
    refine r_iload dX0_join_189 rfl ?_
    refine r_aload dX0_join_191 rfl ?_
    refine m_getI hp fw_X0_582 dX0_join_193 rfl t7 ?_
    refine k_SI (As := [.int (ri h a6 4), .int (ri h1 a7 4)]) (stk := []) cs_X0_679 dX0_join_196 rfl (Nat.le_of_ble_eq_true rfl) (H.mono (fun v2 h2 H => ?_)) ⟨Nat.le_refl _, Nat.le_refl _⟩
    refine r_istore (ls2 := [some (.ref 0), some (.int x1), none, none, some (.int x4), none, some (.ref a6), some (.ref a7), some (.int v2), none, none]) dX0_join_199 (by decide) rfl ?_
    exact H
  · replace H := H.2 cH
    refine r_aload dX0_join_167 rfl ?_
    refine m_getF (x := (a7 + 1)) hp fw_X0_512 dX0_join_169 rfl t7 (ff_9_1 t7) ?_
    refine m_getF (x := (a7 + 2)) hp fw_X0_110 dX0_join_172 rfl (lf_9_1 t7) (ff_5_0 (lf_9_1 t7)) ?_
    refine m_getF (x := (a7 + 3)) hp fw_X0_89 dX0_join_175 rfl (lf_5_0 (lf_9_1 t7)) (ff_6_0 (lf_5_0 (lf_9_1 t7))) ?_
    refine r_iconst (v := (0 : Int32)) dX0_join_178 rfl ?_
    refine r_aload_n dX0_join_179 rfl rfl ?_
    refine m_getF (x := 1112) hp fw_X0_476 dX0_join_180 rfl ly_0 (ff_0_67 ly_0) ?_
    refine k_VV (As := [.int (0 : Int32), .ref 1112]) (stk := []) hp cv_X0_661 dX0_join_183 rfl (Nat.le_of_ble_eq_true rfl) (lf_6_0 (lf_5_0 (lf_9_1 t7))) (H.mono (fun h3 H => ?_)) ⟨Nat.le_refl _, Nat.le_refl _⟩
    refine r_goto (tgt := 201) dX0_join_186 rfl ?_
    exact H
theorem s_X0_join_201 {g : GX} {d : Nat} {av : List Value} {Q : QT} {n : Nat} {h : Hp} {x1 : Int32} {x4 : Int32} {a6 : Nat} {a7 : Nat} {x8 : Int32} (hp : g.2.2.2.2 = true) (t6 : lay a6 = (0, 9, 8)) (t7 : lay a7 = (0, 9, 8)) (H : ((x1 = (3 : Int32)) → (W_X0_join g d av Q n 211 [some (.ref 0), some (.int x1), none, none, some (.int x4), none, some (.ref a6), some (.ref a7), some (.int x8), none, none] [] h)) ∧ ((¬ x1 = (3 : Int32)) → (((¬ x1 = (4 : Int32)) → (CallI g m_X0_areLow d [.ref a6] n h (fun v1 h1 => (((v1 = (0 : Int32)) → (W_X0_join g d av Q n 270 [some (.ref 0), some (.int x1), none, none, some (.int x4), none, some (.ref a6), some (.ref a7), some (.int x8), none, none] [] h1)) ∧ ((¬ v1 = (0 : Int32)) → (((¬ x1 = (5 : Int32)) → (CallI g m_X0_areLow d [.ref a7] n h1 (fun v2 h2 => (((v2 = (0 : Int32)) → (W_X0_join g d av Q n 270 [some (.ref 0), some (.int x1), none, none, some (.int x4), none, some (.ref a6), some (.ref a7), some (.int x8), none, none] [] h2)) ∧ ((¬ v2 = (0 : Int32)) → (W_X0_join g d av Q n 266 [some (.ref 0), some (.int x1), none, none, some (.int x4), none, some (.ref a6), some (.ref a7), some (.int x8), none, none] [] h2)))))) ∧ ((x1 = (5 : Int32)) → (CallI g m_X3_degree d [.ref 1112] n h1 (fun v3 h3 => ((((6 : Int32) < v3) → (W_X0_join g d av Q n 270 [some (.ref 0), some (.int x1), none, none, some (.int x4), none, some (.ref a6), some (.ref a7), some (.int x8), none, none] [] h3)) ∧ ((¬ (6 : Int32) < v3) → (W_X0_join g d av Q n 266 [some (.ref 0), some (.int x1), none, none, some (.int x4), none, some (.ref a6), some (.ref a7), some (.int x8), none, none] [] h3)))))))))))) ∧ ((x1 = (4 : Int32)) → (W_X0_join g d av Q n 211 [some (.ref 0), some (.int x1), none, none, some (.int x4), none, some (.ref a6), some (.ref a7), some (.int x8), none, none] [] h))))) : W_X0_join g d av Q n 201 [some (.ref 0), some (.int x1), none, none, some (.int x4), none, some (.ref a6), some (.ref a7), some (.int x8), none, none] [] h := by
  refine r_iload_n dX0_join_201 rfl rfl ?_
  refine r_iconst (v := (3 : Int32)) dX0_join_202 rfl ?_
  refine r_icmp_eq (tgt := 211) dX0_join_203 rfl (fun cH => ?_) (fun cH => ?_)
  · replace H := H.1 cH
    exact H
  · replace H := H.2 cH
    refine r_iload_n dX0_join_206 rfl rfl ?_
    refine r_iconst (v := (4 : Int32)) dX0_join_207 rfl ?_
    refine r_icmp_ne (tgt := 230) dX0_join_208 rfl (fun cH => ?_) (fun cH => ?_)
    · replace H := H.1 cH
      refine r_aload dX0_join_230 rfl ?_
      refine k_SI (As := [.ref a6]) (stk := []) cs_X0_836 dX0_join_232 rfl (Nat.le_of_ble_eq_true rfl) (H.mono (fun v1 h1 H => ?_)) ⟨Nat.le_refl _, Nat.le_refl _⟩
      refine r_if_eq (tgt := 270) dX0_join_235 rfl (fun cH => ?_) (fun cH => ?_)
      · replace H := H.1 cH
        exact H
      · replace H := H.2 cH
        refine r_iload_n dX0_join_238 rfl rfl ?_
        refine r_iconst (v := (5 : Int32)) dX0_join_239 rfl ?_
        refine r_icmp_ne (tgt := 258) dX0_join_240 rfl (fun cH => ?_) (fun cH => ?_)
        · replace H := H.1 cH
          refine r_aload dX0_join_258 rfl ?_
          refine k_SI (As := [.ref a7]) (stk := []) cs_X0_836 dX0_join_260 rfl (Nat.le_of_ble_eq_true rfl) (H.mono (fun v2 h2 H => ?_)) ⟨Nat.le_refl _, Nat.le_refl _⟩
          refine r_if_eq (tgt := 270) dX0_join_263 rfl (fun cH => ?_) (fun cH => ?_)
          · replace H := H.1 cH
            exact H
          · replace H := H.2 cH
            exact H
        · replace H := H.2 cH
          refine r_aload_n dX0_join_243 rfl rfl ?_
          refine m_getF (x := 1112) hp fw_X0_476 dX0_join_244 rfl ly_0 (ff_0_67 ly_0) ?_
          refine k_VI (As := []) (stk := []) hp cv_X0_826 dX0_join_247 rfl (Nat.le_of_ble_eq_true rfl) (lf_0_67 ly_0) (H.mono (fun v3 h3 H => ?_)) ⟨Nat.le_refl _, Nat.le_refl _⟩
          refine r_bipush (v := (6 : Int32)) dX0_join_250 rfl ?_
          refine r_icmp_gt (tgt := 270) dX0_join_252 rfl (fun cH => ?_) (fun cH => ?_)
          · replace H := H.1 cH
            exact H
          · replace H := H.2 cH
            refine r_goto (tgt := 266) dX0_join_255 rfl ?_
            exact H
    · replace H := H.2 cH
      exact H
theorem s_X0_join_211 {g : GX} {d : Nat} {av : List Value} {Q : QT} {n : Nat} {h : Hp} {x1 : Int32} {x4 : Int32} {a6 : Nat} {a7 : Nat} {x8 : Int32} (hp : g.2.2.2.2 = true) (t6 : lay a6 = (0, 9, 8)) (t7 : lay a7 = (0, 9, 8)) (H : ((¬ x1 = (3 : Int32)) → (W_X0_join g d av Q n 224 [some (.ref 0), some (.int x1), none, none, some (.int x4), none, some (.ref a6), some (.ref a7), some (.int x8), none, none] [.int (0 : Int32), .ref a6, .ref 0] h)) ∧ ((x1 = (3 : Int32)) → (W_X0_join g d av Q n 224 [some (.ref 0), some (.int x1), none, none, some (.int x4), none, some (.ref a6), some (.ref a7), some (.int x8), none, none] [.int (1 : Int32), .ref a6, .ref 0] h))) : W_X0_join g d av Q n 211 [some (.ref 0), some (.int x1), none, none, some (.int x4), none, some (.ref a6), some (.ref a7), some (.int x8), none, none] [] h := by
  refine r_aload_n dX0_join_211 rfl rfl ?_
  refine r_aload dX0_join_212 rfl ?_
  refine r_iload_n dX0_join_214 rfl rfl ?_
  refine r_iconst (v := (3 : Int32)) dX0_join_215 rfl ?_
  refine r_icmp_ne (tgt := 223) dX0_join_216 rfl (fun cH => ?_) (fun cH => ?_)
  · replace H := H.1 cH
    refine r_iconst (v := (0 : Int32)) dX0_join_223 rfl ?_
    exact H
  · replace H := H.2 cH
    refine r_iconst (v := (1 : Int32)) dX0_join_219 rfl ?_
    refine r_goto (tgt := 224) dX0_join_220 rfl ?_
    exact H
theorem s_X0_join_224 {g : GX} {d : Nat} {av : List Value} {Q : QT} {n : Nat} {h : Hp} {x1 : Int32} {x4 : Int32} {a6 : Nat} {a7 : Nat} {x8 : Int32} {xs0 : Int32} {as1 : Nat} {as2 : Nat} (hp : g.2.2.2.2 = true) (t6 : lay a6 = (0, 9, 8)) (t7 : lay a7 = (0, 9, 8)) (ts1 : lay as1 = (0, 9, 8)) (ts2 : lay as2 = (0, 0, 80)) (H : CallV g m_X0_findMoved d [.ref as2, .ref as1, .int xs0] n h (fun h1 => (W_X0_join g d av Q n 356 [some (.ref 0), some (.int x1), none, none, some (.int x4), none, some (.ref a6), some (.ref a7), some (.int x8), none, none] [] h1))) : W_X0_join g d av Q n 224 [some (.ref 0), some (.int x1), none, none, some (.int x4), none, some (.ref a6), some (.ref a7), some (.int x8), none, none] [.int xs0, .ref as1, .ref as2] h := by
  refine k_VV (As := [.ref as1, .int xs0]) (stk := []) hp cv_X0_832 dX0_join_224 rfl (Nat.le_of_ble_eq_true rfl) ts2 (H.mono (fun h1 H => ?_)) ⟨Nat.le_refl _, Nat.le_refl _⟩
  refine r_goto (tgt := 356) dX0_join_227 rfl ?_
  exact H
theorem s_X0_join_266 {g : GX} {d : Nat} {av : List Value} {Q : QT} {n : Nat} {h : Hp} {x1 : Int32} {x4 : Int32} {a6 : Nat} {a7 : Nat} {x8 : Int32} (hp : g.2.2.2.2 = true) (t6 : lay a6 = (0, 9, 8)) (t7 : lay a7 = (0, 9, 8)) (H : W_X0_join g d av Q n 271 [some (.ref 0), some (.int x1), none, none, some (.int x4), none, some (.ref a6), some (.ref a7), some (.int x8), none, none] [.int (1 : Int32)] h) : W_X0_join g d av Q n 266 [some (.ref 0), some (.int x1), none, none, some (.int x4), none, some (.ref a6), some (.ref a7), some (.int x8), none, none] [] h := by
  refine r_iconst (v := (1 : Int32)) dX0_join_266 rfl ?_
  refine r_goto (tgt := 271) dX0_join_267 rfl ?_
  exact H
theorem s_X0_join_270 {g : GX} {d : Nat} {av : List Value} {Q : QT} {n : Nat} {h : Hp} {x1 : Int32} {x4 : Int32} {a6 : Nat} {a7 : Nat} {x8 : Int32} (hp : g.2.2.2.2 = true) (t6 : lay a6 = (0, 9, 8)) (t7 : lay a7 = (0, 9, 8)) (H : W_X0_join g d av Q n 271 [some (.ref 0), some (.int x1), none, none, some (.int x4), none, some (.ref a6), some (.ref a7), some (.int x8), none, none] [.int (0 : Int32)] h) : W_X0_join g d av Q n 270 [some (.ref 0), some (.int x1), none, none, some (.int x4), none, some (.ref a6), some (.ref a7), some (.int x8), none, none] [] h := by
  refine r_iconst (v := (0 : Int32)) dX0_join_270 rfl ?_
  exact H
theorem s_X0_join_271 {g : GX} {d : Nat} {av : List Value} {Q : QT} {n : Nat} {h : Hp} {x1 : Int32} {x4 : Int32} {a6 : Nat} {a7 : Nat} {x8 : Int32} {xs0 : Int32} (hp : g.2.2.2.2 = true) (t6 : lay a6 = (0, 9, 8)) (t7 : lay a7 = (0, 9, 8)) (H : ((¬ x1 = (5 : Int32)) → (((¬ x1 = (2 : Int32)) → (W_X0_join g d av Q n 316 [some (.ref 0), some (.int x1), none, none, some (.int x4), none, some (.ref a6), some (.ref a7), some (.int x8), some (.int xs0), none] [.int ((ri h a6 3) + (ri h a7 3))] h)) ∧ ((x1 = (2 : Int32)) → (W_X0_join g d av Q n 316 [some (.ref 0), some (.int x1), none, none, some (.int x4), none, some (.ref a6), some (.ref a7), some (.int x8), some (.int xs0), none] [.int ((ri h a6 3) * (ri h a7 3))] h)))) ∧ ((x1 = (5 : Int32)) → (W_X0_join g d av Q n 316 [some (.ref 0), some (.int x1), none, none, some (.int x4), none, some (.ref a6), some (.ref a7), some (.int x8), some (.int xs0), none] [.int (ri h a6 3)] h))) : W_X0_join g d av Q n 271 [some (.ref 0), some (.int x1), none, none, some (.int x4), none, some (.ref a6), some (.ref a7), some (.int x8), none, none] [.int xs0] h := by
  refine r_istore (ls2 := [some (.ref 0), some (.int x1), none, none, some (.int x4), none, some (.ref a6), some (.ref a7), some (.int x8), some (.int xs0), none]) dX0_join_271 (by decide) rfl ?_
  refine r_iload_n dX0_join_273 rfl rfl ?_
  refine r_iconst (v := (5 : Int32)) dX0_join_274 rfl ?_
  refine r_icmp_ne (tgt := 286) dX0_join_275 rfl (fun cH => ?_) (fun cH => ?_)
  · replace H := H.1 cH
    refine r_iload_n dX0_join_286 rfl rfl ?_
    refine r_iconst (v := (2 : Int32)) dX0_join_287 rfl ?_
    refine r_icmp_ne (tgt := 305) dX0_join_288 rfl (fun cH => ?_) (fun cH => ?_)
    · replace H := H.1 cH
      refine r_aload dX0_join_305 rfl ?_
      refine m_getI hp fw_X0_575 dX0_join_307 rfl t6 ?_
      refine r_aload dX0_join_310 rfl ?_
      refine m_getI hp fw_X0_575 dX0_join_312 rfl t7 ?_
      refine r_iadd dX0_join_315 ?_
      exact H
    · replace H := H.2 cH
      refine r_aload dX0_join_291 rfl ?_
      refine m_getI hp fw_X0_575 dX0_join_293 rfl t6 ?_
      refine r_aload dX0_join_296 rfl ?_
      refine m_getI hp fw_X0_575 dX0_join_298 rfl t7 ?_
      refine r_imul dX0_join_301 ?_
      refine r_goto (tgt := 316) dX0_join_302 rfl ?_
      exact H
  · replace H := H.2 cH
    refine r_aload dX0_join_278 rfl ?_
    refine m_getI hp fw_X0_575 dX0_join_280 rfl t6 ?_
    refine r_goto (tgt := 316) dX0_join_283 rfl ?_
    exact H
theorem s_X0_join_316 {g : GX} {d : Nat} {av : List Value} {Q : QT} {n : Nat} {h : Hp} {x1 : Int32} {x4 : Int32} {a6 : Nat} {a7 : Nat} {x8 : Int32} {x9 : Int32} {xs0 : Int32} (hp : g.2.2.2.2 = true) (t6 : lay a6 = (0, 9, 8)) (t7 : lay a7 = (0, 9, 8)) (H : ((x9 = (0 : Int32)) → (Q (some (.int (-2 : Int32))) n h)) ∧ ((¬ x9 = (0 : Int32)) → (((xs0 ≤ (6 : Int32)) → (CallV g m_X0_layJoined d [.ref 0, .int x1, .ref a6, .ref a7, .ref 1112] n h (fun h1 => (CallI g m_X0_findJoined d [.ref 0] n h1 (fun v2 h2 => (((¬ v2 = (0 : Int32)) → (W_X0_join g d av Q n 356 [some (.ref 0), some (.int x1), none, none, some (.int x4), none, some (.ref a6), some (.ref a7), some (.int x8), none, none] [] h2)) ∧ ((v2 = (0 : Int32)) → (Q (some (.int (-2 : Int32))) n h2)))))))) ∧ ((¬ xs0 ≤ (6 : Int32)) → (Q (some (.int (-2 : Int32))) n h))))) : W_X0_join g d av Q n 316 [some (.ref 0), some (.int x1), none, none, some (.int x4), none, some (.ref a6), some (.ref a7), some (.int x8), some (.int x9), none] [.int xs0] h := by
  refine r_istore (ls2 := [some (.ref 0), some (.int x1), none, none, some (.int x4), none, some (.ref a6), some (.ref a7), some (.int x8), some (.int x9), some (.int xs0)]) dX0_join_316 (by decide) rfl ?_
  refine r_iload dX0_join_318 rfl ?_
  refine r_if_eq (tgt := 330) dX0_join_320 rfl (fun cH => ?_) (fun cH => ?_)
  · replace H := H.1 cH
    refine r_bipush (v := (-2 : Int32)) dX0_join_330 rfl ?_
    exact r_zret dX0_join_332 rfl rfl (Nat.le_refl _) (Nat.le_refl _) H
  · replace H := H.2 cH
    refine r_iload dX0_join_323 rfl ?_
    refine r_bipush (v := (6 : Int32)) dX0_join_325 rfl ?_
    refine r_icmp_le (tgt := 333) dX0_join_327 rfl (fun cH => ?_) (fun cH => ?_)
    · replace H := H.1 cH
      refine r_aload_n dX0_join_333 rfl rfl ?_
      refine r_iload_n dX0_join_334 rfl rfl ?_
      refine r_aload dX0_join_335 rfl ?_
      refine r_aload dX0_join_337 rfl ?_
      refine r_aload_n dX0_join_339 rfl rfl ?_
      refine m_getF (x := 1112) hp fw_X0_476 dX0_join_340 rfl ly_0 (ff_0_67 ly_0) ?_
      refine k_VV (As := [.int x1, .ref a6, .ref a7, .ref 1112]) (stk := []) hp cv_X0_839 dX0_join_343 rfl (Nat.le_of_ble_eq_true rfl) ly_0 (H.mono (fun h1 H => ?_)) ⟨Nat.le_refl _, Nat.le_refl _⟩
      refine r_aload_n dX0_join_346 rfl rfl ?_
      refine k_VI (As := []) (stk := []) hp cv_X0_843 dX0_join_347 rfl (Nat.le_of_ble_eq_true rfl) ly_0 (H.mono (fun v2 h2 H => ?_)) ⟨Nat.le_refl _, Nat.le_refl _⟩
      refine r_if_ne (tgt := 356) dX0_join_350 rfl (fun cH => ?_) (fun cH => ?_)
      · replace H := H.1 cH
        refine r_prune [true, true, false, false, true, false, true, true, true, false, false] (ls2 := [some (.ref 0), some (.int x1), none, none, some (.int x4), none, some (.ref a6), some (.ref a7), some (.int x8), none, none]) rfl ?_
        exact H
      · replace H := H.2 cH
        refine r_bipush (v := (-2 : Int32)) dX0_join_353 rfl ?_
        exact r_zret dX0_join_355 rfl rfl (Nat.le_refl _) (Nat.le_refl _) H
    · replace H := H.2 cH
      refine r_bipush (v := (-2 : Int32)) dX0_join_330 rfl ?_
      exact r_zret dX0_join_332 rfl rfl (Nat.le_refl _) (Nat.le_refl _) H
theorem s_X0_join_356 {g : GX} {d : Nat} {av : List Value} {Q : QT} {n : Nat} {h : Hp} {x1 : Int32} {x4 : Int32} {a6 : Nat} {a7 : Nat} {x8 : Int32} (hp : g.2.2.2.2 = true) (t6 : lay a6 = (0, 9, 8)) (t7 : lay a7 = (0, 9, 8)) (H : CallV g m_X0_tidy d [.ref 0, .ref 855, .int (ri h 0 62)] n h (fun h1 => (CallI g m_X0_keepJoined d [.ref 0, .int x1, .ref a6, .ref a7, .int x4, .int (x8 + (ri h1 0 62))] n h1 (fun v2 h2 => (Q (some (.int v2)) n h2))))) : W_X0_join g d av Q n 356 [some (.ref 0), some (.int x1), none, none, some (.int x4), none, some (.ref a6), some (.ref a7), some (.int x8), none, none] [] h := by
  refine r_aload_n dX0_join_356 rfl rfl ?_
  refine r_aload_n dX0_join_357 rfl rfl ?_
  refine m_getF (x := 855) hp fw_X0_455 dX0_join_358 rfl ly_0 (ff_0_61 ly_0) ?_
  refine r_aload_n dX0_join_361 rfl rfl ?_
  refine m_getI hp fw_X0_787 dX0_join_362 rfl ly_0 ?_
  refine k_VV (As := [.ref 855, .int (ri h 0 62)]) (stk := []) hp cv_X0_800 dX0_join_365 rfl (Nat.le_of_ble_eq_true rfl) ly_0 (H.mono (fun h1 H => ?_)) ⟨Nat.le_refl _, Nat.le_refl _⟩
  refine r_aload_n dX0_join_368 rfl rfl ?_
  refine r_iload_n dX0_join_369 rfl rfl ?_
  refine r_aload dX0_join_370 rfl ?_
  refine r_aload dX0_join_372 rfl ?_
  refine r_iload dX0_join_374 rfl ?_
  refine r_iload dX0_join_376 rfl ?_
  refine r_aload_n dX0_join_378 rfl rfl ?_
  refine m_getI hp fw_X0_787 dX0_join_379 rfl ly_0 ?_
  refine r_iadd dX0_join_382 ?_
  refine k_VI (As := [.int x1, .ref a6, .ref a7, .int x4, .int (x8 + (ri h1 0 62))]) (stk := []) hp cv_X0_846 dX0_join_383 rfl (Nat.le_of_ble_eq_true rfl) ly_0 (H.mono (fun v2 h2 H => ?_)) ⟨Nat.le_refl _, Nat.le_refl _⟩
  exact r_zret dX0_join_386 rfl rfl (Nat.le_refl _) (Nat.le_refl _) H
abbrev W_X0_isPolynomialInN (g : GX) (d : Nat) (av : List Value) (Q : QT) (n : Nat) (pc : Nat) (ls : LV) (stk : List Value) (h : Hp) : Prop := RJ g m_X0_isPolynomialInN (d + 1) 0 0 av Q pc ls stk n h 0 0
theorem s_X0_isPolynomialInN_0 {g : GX} {d : Nat} {av : List Value} {Q : QT} {n : Nat} {h : Hp} {a1 : Nat} (hp : g.2.2.2.2 = true) (t1 : lay a1 = (0, 9, 8)) (H : ((¬ (ri h a1 0) = (1 : Int32)) → (Q (some (.int (0 : Int32))) n h)) ∧ (((ri h a1 0) = (1 : Int32)) → (CallI g m_X6_isPolynomial d [.ref (a1 + 2)] n h (fun v1 h1 => (((v1 = (0 : Int32)) → (Q (some (.int (0 : Int32))) n h1)) ∧ ((¬ v1 = (0 : Int32)) → (((¬ (ri h1 (a1 + 3) 3) = (1 : Int32)) → (Q (some (.int (0 : Int32))) n h1)) ∧ (((ri h1 (a1 + 3) 3) = (1 : Int32)) → (Q (some (.int (1 : Int32))) n h1))))))))) : W_X0_isPolynomialInN g d av Q n 0 [some (.ref 0), some (.ref a1), none] [] h := by
  refine r_aload_n dX0_isPolynomialInN_0 rfl rfl ?_
  refine m_getF (x := (a1 + 1)) hp fw_X0_512 dX0_isPolynomialInN_1 rfl t1 (ff_9_1 t1) ?_
  refine m_getF (x := (a1 + 2)) hp fw_X0_110 dX0_isPolynomialInN_4 rfl (lf_9_1 t1) (ff_5_0 (lf_9_1 t1)) ?_
  refine r_astore_n (ls2 := [some (.ref 0), some (.ref a1), some (.ref (a1 + 2))]) dX0_isPolynomialInN_7 rfl (by decide) rfl ?_
  refine r_aload_n dX0_isPolynomialInN_8 rfl rfl ?_
  refine m_getI hp fw_X0_509 dX0_isPolynomialInN_9 rfl t1 ?_
  refine r_iconst (v := (1 : Int32)) dX0_isPolynomialInN_12 rfl ?_
  refine r_icmp_ne (tgt := 38) dX0_isPolynomialInN_13 rfl (fun cH => ?_) (fun cH => ?_)
  · replace H := H.1 cH
    refine r_iconst (v := (0 : Int32)) dX0_isPolynomialInN_38 rfl ?_
    exact r_zret dX0_isPolynomialInN_39 rfl rfl (Nat.le_refl _) (Nat.le_refl _) H
  · replace H := H.2 cH
    refine r_aload_n dX0_isPolynomialInN_16 rfl rfl ?_
    refine k_VI (As := []) (stk := []) hp cv_X0_180 dX0_isPolynomialInN_17 rfl (Nat.le_of_ble_eq_true rfl) (lf_5_0 (lf_9_1 t1)) (H.mono (fun v1 h1 H => ?_)) ⟨Nat.le_refl _, Nat.le_refl _⟩
    refine r_if_eq (tgt := 38) dX0_isPolynomialInN_20 rfl (fun cH => ?_) (fun cH => ?_)
    · replace H := H.1 cH
      refine r_iconst (v := (0 : Int32)) dX0_isPolynomialInN_38 rfl ?_
      exact r_zret dX0_isPolynomialInN_39 rfl rfl (Nat.le_refl _) (Nat.le_refl _) H
    · replace H := H.2 cH
      refine r_aload_n dX0_isPolynomialInN_23 rfl rfl ?_
      refine m_getF (x := (a1 + 3)) hp fw_X0_89 dX0_isPolynomialInN_24 rfl (lf_5_0 (lf_9_1 t1)) (ff_6_0 (lf_5_0 (lf_9_1 t1))) ?_
      refine m_getI hp fw_X0_28 dX0_isPolynomialInN_27 rfl (lf_6_0 (lf_5_0 (lf_9_1 t1))) ?_
      refine r_iconst (v := (1 : Int32)) dX0_isPolynomialInN_30 rfl ?_
      refine r_icmp_ne (tgt := 38) dX0_isPolynomialInN_31 rfl (fun cH => ?_) (fun cH => ?_)
      · replace H := H.1 cH
        refine r_iconst (v := (0 : Int32)) dX0_isPolynomialInN_38 rfl ?_
        exact r_zret dX0_isPolynomialInN_39 rfl rfl (Nat.le_refl _) (Nat.le_refl _) H
      · replace H := H.2 cH
        refine r_iconst (v := (1 : Int32)) dX0_isPolynomialInN_34 rfl ?_
        refine r_goto (tgt := 39) dX0_isPolynomialInN_35 rfl ?_
        exact r_zret dX0_isPolynomialInN_39 rfl rfl (Nat.le_refl _) (Nat.le_refl _) H
abbrev W_X0_findMoved (g : GX) (d : Nat) (av : List Value) (Q : QT) (n : Nat) (pc : Nat) (ls : LV) (stk : List Value) (h : Hp) : Prop := RJ g m_X0_findMoved (d + 1) 0 0 av Q pc ls stk n h 0 0
theorem s_X0_findMoved_0 {g : GX} {d : Nat} {av : List Value} {Q : QT} {n : Nat} {h : Hp} {a1 : Nat} {x2 : Int32} (hp : g.2.2.2.2 = true) (t1 : lay a1 = (0, 9, 8)) (H : ((x2 = (0 : Int32)) → (W_X0_findMoved g d av Q n 14 [some (.ref 0), some (.ref a1), some (.int x2), none] [.int (0 : Int32), .int (ri h a1 3), .ref 0] h)) ∧ ((¬ x2 = (0 : Int32)) → (W_X0_findMoved g d av Q n 14 [some (.ref 0), some (.ref a1), some (.int x2), none] [.int (1 : Int32), .int (ri h a1 3), .ref 0] h))) : W_X0_findMoved g d av Q n 0 [some (.ref 0), some (.ref a1), some (.int x2), none] [] h := by
  refine r_aload_n dX0_findMoved_0 rfl rfl ?_
  refine r_aload_n dX0_findMoved_1 rfl rfl ?_
  refine m_getI hp fw_X0_575 dX0_findMoved_2 rfl t1 ?_
  refine r_iload_n dX0_findMoved_5 rfl rfl ?_
  refine r_if_eq (tgt := 13) dX0_findMoved_6 rfl (fun cH => ?_) (fun cH => ?_)
  · replace H := H.1 cH
    refine r_iconst (v := (0 : Int32)) dX0_findMoved_13 rfl ?_
    exact H
  · replace H := H.2 cH
    refine r_iconst (v := (1 : Int32)) dX0_findMoved_9 rfl ?_
    refine r_goto (tgt := 14) dX0_findMoved_10 rfl ?_
    exact H
theorem s_X0_findMoved_14 {g : GX} {d : Nat} {av : List Value} {Q : QT} {n : Nat} {h : Hp} {a1 : Nat} {x2 : Int32} {xs0 : Int32} {xs1 : Int32} {as2 : Nat} (hp : g.2.2.2.2 = true) (t1 : lay a1 = (0, 9, 8)) (ts2 : lay as2 = (0, 0, 80)) (H : ∀ h1, h1 = wi h as2 62 (xs1 + xs0) → (W_X0_findMoved g d av Q n 20 [some (.ref 0), some (.ref a1), some (.int x2), some (.int (0 : Int32))] [] h1)) : W_X0_findMoved g d av Q n 14 [some (.ref 0), some (.ref a1), some (.int x2), none] [.int xs0, .int xs1, .ref as2] h := by
  refine r_iadd dX0_findMoved_14 ?_
  refine m_putI hp fw_X0_787 dX0_findMoved_15 rfl rfl ts2 (fun h1 eh1 => ?_)
  replace H := H h1 eh1
  refine r_iconst (v := (0 : Int32)) dX0_findMoved_18 rfl ?_
  refine r_istore_n (ls2 := [some (.ref 0), some (.ref a1), some (.int x2), some (.int (0 : Int32))]) dX0_findMoved_19 rfl (by decide) rfl ?_
  exact H
theorem s_X0_findMoved_20 {g : GX} {d : Nat} {av : List Value} {Q : QT} {n : Nat} {h : Hp} {a1 : Nat} {x2 : Int32} {x3 : Int32} (hp : g.2.2.2.2 = true) (t1 : lay a1 = (0, 9, 8)) (H : (((ri h 0 62) < x3) → (Q none n h)) ∧ ((¬ (ri h 0 62) < x3) → (vp_in x3 8 ∧ ∀ r1, r1 = 2601 + 2 * (x3).toNatClampNeg → (CallV g m_X3_clear d [.ref r1] n h (fun h2 => ((((ri h2 a1 3) < x3) → (W_X0_findMoved g d av Q n 90 [some (.ref 0), some (.ref a1), some (.int x2), some (.int x3)] [] h2)) ∧ ((¬ (ri h2 a1 3) < x3) → (vp_in x3 7 ∧ ∀ r3, r3 = (a1 + 13) + 2 * (x3).toNatClampNeg → (CallV g m_X3_copy d [.ref 103, .ref r3] n h2 (fun h4 => (CallV g m_X3_shift d [.ref 103, .int (1 : Int32)] n h4 (fun h5 => (vp_in x3 8 ∧ ∀ r6, r6 = 2601 + 2 * (x3).toNatClampNeg → (((x2 = (0 : Int32)) → (W_X0_findMoved g d av Q n 86 [some (.ref 0), some (.ref a1), some (.int x2), some (.int x3)] [.int (1 : Int32), .ref 103, .ref r6] h5)) ∧ ((¬ x2 = (0 : Int32)) → (W_X0_findMoved g d av Q n 86 [some (.ref 0), some (.ref a1), some (.int x2), some (.int x3)] [.int (2147483646 : Int32), .ref 103, .ref r6] h5)))))))))))))))) : W_X0_findMoved g d av Q n 20 [some (.ref 0), some (.ref a1), some (.int x2), some (.int x3)] [] h := by
  refine r_iload_n dX0_findMoved_20 rfl rfl ?_
  refine r_aload_n dX0_findMoved_21 rfl rfl ?_
  refine m_getI hp fw_X0_787 dX0_findMoved_22 rfl ly_0 ?_
  refine r_icmp_gt (tgt := 142) dX0_findMoved_25 rfl (fun cH => ?_) (fun cH => ?_)
  · replace H := H.1 cH
    exact r_vret dX0_findMoved_142 rfl (Nat.le_refl _) (Nat.le_refl _) H
  · replace H := H.2 cH
    refine r_aload_n dX0_findMoved_28 rfl rfl ?_
    refine m_getF (x := 855) hp fw_X0_455 dX0_findMoved_29 rfl ly_0 (ff_0_61 ly_0) ?_
    refine r_iload_n dX0_findMoved_32 rfl rfl ?_
    obtain ⟨r1, er1⟩ : ∃ y, y = 2601 + 2 * (x3).toNatClampNeg := ⟨_, rfl⟩
    have hir1 := H.1
    replace H := H.2 r1 er1
    have tLr1 := la_855 hir1 er1
    refine m_aalF (x := r1) hp dX0_findMoved_33 (lf_0_61 ly_0) rfl rfl (lu_0_61 ly_0) hir1 (fa_855 hir1 er1) ?_
    refine k_VV (As := []) (stk := []) hp cv_X0_709 dX0_findMoved_34 rfl (Nat.le_of_ble_eq_true rfl) tLr1 (H.mono (fun h2 H => ?_)) ⟨Nat.le_refl _, Nat.le_refl _⟩
    refine r_iload_n dX0_findMoved_37 rfl rfl ?_
    refine r_aload_n dX0_findMoved_38 rfl rfl ?_
    refine m_getI hp fw_X0_575 dX0_findMoved_39 rfl t1 ?_
    refine r_icmp_gt (tgt := 90) dX0_findMoved_42 rfl (fun cH => ?_) (fun cH => ?_)
    · replace H := H.1 cH
      exact H
    · replace H := H.2 cH
      refine r_aload_n dX0_findMoved_45 rfl rfl ?_
      refine m_getF (x := 103) hp fw_X0_361 dX0_findMoved_46 rfl ly_0 (ff_0_32 ly_0) ?_
      refine r_aload_n dX0_findMoved_49 rfl rfl ?_
      refine m_getF (x := (a1 + 11)) hp fw_X0_578 dX0_findMoved_50 rfl t1 (ff_9_2 t1) ?_
      refine r_iload_n dX0_findMoved_53 rfl rfl ?_
      obtain ⟨r3, er3⟩ : ∃ y, y = (a1 + 13) + 2 * (x3).toNatClampNeg := ⟨_, rfl⟩
      have hir3 := H.1
      replace H := H.2 r3 er3
      have tLr3 := le_9 t1 hir3 er3
      refine m_aalF (x := r3) hp dX0_findMoved_54 (lf_9_2 t1) rfl rfl (lu_9_2 t1) hir3 (fe_9 t1 hir3 er3) ?_
      refine k_VV (As := [.ref r3]) (stk := []) hp cv_X0_686 dX0_findMoved_55 rfl (Nat.le_of_ble_eq_true rfl) (lf_0_32 ly_0) (H.mono (fun h4 H => ?_)) ⟨Nat.le_refl _, Nat.le_refl _⟩
      refine r_aload_n dX0_findMoved_58 rfl rfl ?_
      refine m_getF (x := 103) hp fw_X0_361 dX0_findMoved_59 rfl ly_0 (ff_0_32 ly_0) ?_
      refine r_iconst (v := (1 : Int32)) dX0_findMoved_62 rfl ?_
      refine k_VV (As := [.int (1 : Int32)]) (stk := []) hp cv_X0_639 dX0_findMoved_63 rfl (Nat.le_of_ble_eq_true rfl) (lf_0_32 ly_0) (H.mono (fun h5 H => ?_)) ⟨Nat.le_refl _, Nat.le_refl _⟩
      refine r_aload_n dX0_findMoved_66 rfl rfl ?_
      refine m_getF (x := 855) hp fw_X0_455 dX0_findMoved_67 rfl ly_0 (ff_0_61 ly_0) ?_
      refine r_iload_n dX0_findMoved_70 rfl rfl ?_
      obtain ⟨r6, er6⟩ : ∃ y, y = 2601 + 2 * (x3).toNatClampNeg := ⟨_, rfl⟩
      have hir6 := H.1
      replace H := H.2 r6 er6
      have tLr6 := la_855 hir6 er6
      refine m_aalF (x := r6) hp dX0_findMoved_71 (lf_0_61 ly_0) rfl rfl (lu_0_61 ly_0) hir6 (fa_855 hir6 er6) ?_
      refine r_aload_n dX0_findMoved_72 rfl rfl ?_
      refine m_getF (x := 103) hp fw_X0_361 dX0_findMoved_73 rfl ly_0 (ff_0_32 ly_0) ?_
      refine r_iload_n dX0_findMoved_76 rfl rfl ?_
      refine r_if_eq (tgt := 85) dX0_findMoved_77 rfl (fun cH => ?_) (fun cH => ?_)
      · replace H := H.1 cH
        refine r_iconst (v := (1 : Int32)) dX0_findMoved_85 rfl ?_
        exact H
      · replace H := H.2 cH
        refine r_ldc (own := "") (v := (2147483646 : Int32)) dX0_findMoved_80 q1022 ?_
        refine r_goto (tgt := 86) dX0_findMoved_82 rfl ?_
        exact H
theorem s_X0_findMoved_86 {g : GX} {d : Nat} {av : List Value} {Q : QT} {n : Nat} {h : Hp} {a1 : Nat} {x2 : Int32} {x3 : Int32} {xs0 : Int32} {as1 : Nat} {as2 : Nat} (hp : g.2.2.2.2 = true) (t1 : lay a1 = (0, 9, 8)) (ts1 : lay as1 = (0, 3, 2)) (ts2 : lay as2 = (0, 3, 2)) (H : CallV g m_X3_add d [.ref as2, .ref as1, .int xs0, .int (0 : Int32)] n h (fun h1 => (W_X0_findMoved g d av Q n 90 [some (.ref 0), some (.ref a1), some (.int x2), some (.int x3)] [] h1))) : W_X0_findMoved g d av Q n 86 [some (.ref 0), some (.ref a1), some (.int x2), some (.int x3)] [.int xs0, .ref as1, .ref as2] h := by
  refine r_iconst (v := (0 : Int32)) dX0_findMoved_86 rfl ?_
  refine k_VV (As := [.ref as1, .int xs0, .int (0 : Int32)]) (stk := []) hp cv_X0_689 dX0_findMoved_87 rfl (Nat.le_of_ble_eq_true rfl) ts2 (H.mono (fun h1 H => ?_)) ⟨Nat.le_refl _, Nat.le_refl _⟩
  exact H
theorem s_X0_findMoved_90 {g : GX} {d : Nat} {av : List Value} {Q : QT} {n : Nat} {h : Hp} {a1 : Nat} {x2 : Int32} {x3 : Int32} (hp : g.2.2.2.2 = true) (t1 : lay a1 = (0, 9, 8)) (H : ((x2 = (0 : Int32)) → (W_X0_findMoved g d av Q n 136 [some (.ref 0), some (.ref a1), some (.int x2), some (.int x3)] [] h)) ∧ ((¬ x2 = (0 : Int32)) → (((x3 ≤ (0 : Int32)) → (W_X0_findMoved g d av Q n 136 [some (.ref 0), some (.ref a1), some (.int x2), some (.int x3)] [] h)) ∧ ((¬ x3 ≤ (0 : Int32)) → (vp_in (x3 - (1 : Int32)) 7 ∧ ∀ r1, r1 = (a1 + 13) + 2 * ((x3 - (1 : Int32))).toNatClampNeg → (CallV g m_X3_copy d [.ref 103, .ref r1] n h (fun h2 => (CallV g m_X3_shift d [.ref 103, .int (1 : Int32)] n h2 (fun h3 => (vp_in x3 8 ∧ ∀ r4, r4 = 2601 + 2 * (x3).toNatClampNeg → (CallV g m_X3_add d [.ref r4, .ref 103, .int (1 : Int32), .int (0 : Int32)] n h3 (fun h5 => (W_X0_findMoved g d av Q n 136 [some (.ref 0), some (.ref a1), some (.int x2), some (.int x3)] [] h5))))))))))))) : W_X0_findMoved g d av Q n 90 [some (.ref 0), some (.ref a1), some (.int x2), some (.int x3)] [] h := by
  refine r_iload_n dX0_findMoved_90 rfl rfl ?_
  refine r_if_eq (tgt := 136) dX0_findMoved_91 rfl (fun cH => ?_) (fun cH => ?_)
  · replace H := H.1 cH
    exact H
  · replace H := H.2 cH
    refine r_iload_n dX0_findMoved_94 rfl rfl ?_
    refine r_if_le (tgt := 136) dX0_findMoved_95 rfl (fun cH => ?_) (fun cH => ?_)
    · replace H := H.1 cH
      exact H
    · replace H := H.2 cH
      refine r_aload_n dX0_findMoved_98 rfl rfl ?_
      refine m_getF (x := 103) hp fw_X0_361 dX0_findMoved_99 rfl ly_0 (ff_0_32 ly_0) ?_
      refine r_aload_n dX0_findMoved_102 rfl rfl ?_
      refine m_getF (x := (a1 + 11)) hp fw_X0_578 dX0_findMoved_103 rfl t1 (ff_9_2 t1) ?_
      refine r_iload_n dX0_findMoved_106 rfl rfl ?_
      refine r_iconst (v := (1 : Int32)) dX0_findMoved_107 rfl ?_
      refine r_isub dX0_findMoved_108 ?_
      obtain ⟨r1, er1⟩ : ∃ y, y = (a1 + 13) + 2 * ((x3 - (1 : Int32))).toNatClampNeg := ⟨_, rfl⟩
      have hir1 := H.1
      replace H := H.2 r1 er1
      have tLr1 := le_9 t1 hir1 er1
      refine m_aalF (x := r1) hp dX0_findMoved_109 (lf_9_2 t1) rfl rfl (lu_9_2 t1) hir1 (fe_9 t1 hir1 er1) ?_
      refine k_VV (As := [.ref r1]) (stk := []) hp cv_X0_686 dX0_findMoved_110 rfl (Nat.le_of_ble_eq_true rfl) (lf_0_32 ly_0) (H.mono (fun h2 H => ?_)) ⟨Nat.le_refl _, Nat.le_refl _⟩
      refine r_aload_n dX0_findMoved_113 rfl rfl ?_
      refine m_getF (x := 103) hp fw_X0_361 dX0_findMoved_114 rfl ly_0 (ff_0_32 ly_0) ?_
      refine r_iconst (v := (1 : Int32)) dX0_findMoved_117 rfl ?_
      refine k_VV (As := [.int (1 : Int32)]) (stk := []) hp cv_X0_639 dX0_findMoved_118 rfl (Nat.le_of_ble_eq_true rfl) (lf_0_32 ly_0) (H.mono (fun h3 H => ?_)) ⟨Nat.le_refl _, Nat.le_refl _⟩
      refine r_aload_n dX0_findMoved_121 rfl rfl ?_
      refine m_getF (x := 855) hp fw_X0_455 dX0_findMoved_122 rfl ly_0 (ff_0_61 ly_0) ?_
      refine r_iload_n dX0_findMoved_125 rfl rfl ?_
      obtain ⟨r4, er4⟩ : ∃ y, y = 2601 + 2 * (x3).toNatClampNeg := ⟨_, rfl⟩
      have hir4 := H.1
      replace H := H.2 r4 er4
      have tLr4 := la_855 hir4 er4
      refine m_aalF (x := r4) hp dX0_findMoved_126 (lf_0_61 ly_0) rfl rfl (lu_0_61 ly_0) hir4 (fa_855 hir4 er4) ?_
      refine r_aload_n dX0_findMoved_127 rfl rfl ?_
      refine m_getF (x := 103) hp fw_X0_361 dX0_findMoved_128 rfl ly_0 (ff_0_32 ly_0) ?_
      refine r_iconst (v := (1 : Int32)) dX0_findMoved_131 rfl ?_
      refine r_iconst (v := (0 : Int32)) dX0_findMoved_132 rfl ?_
      refine k_VV (As := [.ref 103, .int (1 : Int32), .int (0 : Int32)]) (stk := []) hp cv_X0_689 dX0_findMoved_133 rfl (Nat.le_of_ble_eq_true rfl) tLr4 (H.mono (fun h5 H => ?_)) ⟨Nat.le_refl _, Nat.le_refl _⟩
      exact H
theorem s_X0_findMoved_136 {g : GX} {d : Nat} {av : List Value} {Q : QT} {n : Nat} {h : Hp} {a1 : Nat} {x2 : Int32} {x3 : Int32} (hp : g.2.2.2.2 = true) (t1 : lay a1 = (0, 9, 8)) (H : W_X0_findMoved g d av Q n 20 [some (.ref 0), some (.ref a1), some (.int x2), some (.int (x3 + (1 : Int32)))] [] h) : W_X0_findMoved g d av Q n 136 [some (.ref 0), some (.ref a1), some (.int x2), some (.int x3)] [] h := by
  refine r_iinc (v := (x3 + (1 : Int32))) (ls2 := [some (.ref 0), some (.ref a1), some (.int x2), some (.int (x3 + (1 : Int32)))]) dX0_findMoved_136 rfl rfl (by decide) rfl ?_
  refine r_goto (tgt := 20) dX0_findMoved_139 rfl ?_
  exact H
abbrev W_X0_areLow (g : GX) (d : Nat) (av : List Value) (Q : QT) (n : Nat) (pc : Nat) (ls : LV) (stk : List Value) (h : Hp) : Prop := RJ g m_X0_areLow (d + 1) 0 0 av Q pc ls stk n h 0 0
theorem s_X0_areLow_0 {g : GX} {d : Nat} {av : List Value} {Q : QT} {n : Nat} {h : Hp} {a0 : Nat} (hp : g.2.2.2.2 = true) (t0 : lay a0 = (0, 9, 8)) (H : W_X0_areLow g d av Q n 4 [some (.ref a0), some (.int (1 : Int32)), some (.int (0 : Int32))] [] h) : W_X0_areLow g d av Q n 0 [some (.ref a0), none, none] [] h := by
  refine r_iconst (v := (1 : Int32)) dX0_areLow_0 rfl ?_
  refine r_istore_n (ls2 := [some (.ref a0), some (.int (1 : Int32)), none]) dX0_areLow_1 rfl (by decide) rfl ?_
  refine r_iconst (v := (0 : Int32)) dX0_areLow_2 rfl ?_
  refine r_istore_n (ls2 := [some (.ref a0), some (.int (1 : Int32)), some (.int (0 : Int32))]) dX0_areLow_3 rfl (by decide) rfl ?_
  exact H
theorem s_X0_areLow_4 {g : GX} {d : Nat} {av : List Value} {Q : QT} {n : Nat} {h : Hp} {a0 : Nat} {x1 : Int32} {x2 : Int32} (hp : g.2.2.2.2 = true) (t0 : lay a0 = (0, 9, 8)) (H : (((ri h a0 3) < x2) → ((x1 = 0 ∨ x1 = 1) ∧ Q (some (.int x1)) n h)) ∧ ((¬ (ri h a0 3) < x2) → (((x1 = (0 : Int32)) → (W_X0_areLow g d av Q n 34 [some (.ref a0), none, some (.int x2)] [] h)) ∧ ((¬ x1 = (0 : Int32)) → (vp_in x2 7 ∧ ∀ r1, r1 = (a0 + 13) + 2 * (x2).toNatClampNeg → (CallI g m_X3_degree d [.ref r1] n h (fun v2 h2 => ((((6 : Int32) < v2) → (W_X0_areLow g d av Q n 34 [some (.ref a0), none, some (.int x2)] [] h2)) ∧ ((¬ (6 : Int32) < v2) → (W_X0_areLow g d av Q n 35 [some (.ref a0), none, some (.int x2)] [.int (1 : Int32)] h2)))))))))) : W_X0_areLow g d av Q n 4 [some (.ref a0), some (.int x1), some (.int x2)] [] h := by
  refine r_iload_n dX0_areLow_4 rfl rfl ?_
  refine r_aload_n dX0_areLow_5 rfl rfl ?_
  refine m_getI hp fw_X0_575 dX0_areLow_6 rfl t0 ?_
  refine r_icmp_gt (tgt := 42) dX0_areLow_9 rfl (fun cH => ?_) (fun cH => ?_)
  · replace H := H.1 cH
    refine r_iload_n dX0_areLow_42 rfl rfl ?_
    exact r_zret dX0_areLow_43 rfl (nar01 H.1) (Nat.le_refl _) (Nat.le_refl _) H.2
  · replace H := H.2 cH
    refine r_iload_n dX0_areLow_12 rfl rfl ?_
    refine r_if_eq (tgt := 34) dX0_areLow_13 rfl (fun cH => ?_) (fun cH => ?_)
    · replace H := H.1 cH
      refine r_prune [true, false, true] (ls2 := [some (.ref a0), none, some (.int x2)]) rfl ?_
      exact H
    · replace H := H.2 cH
      refine r_aload_n dX0_areLow_16 rfl rfl ?_
      refine m_getF (x := (a0 + 11)) hp fw_X0_578 dX0_areLow_17 rfl t0 (ff_9_2 t0) ?_
      refine r_iload_n dX0_areLow_20 rfl rfl ?_
      obtain ⟨r1, er1⟩ : ∃ y, y = (a0 + 13) + 2 * (x2).toNatClampNeg := ⟨_, rfl⟩
      have hir1 := H.1
      replace H := H.2 r1 er1
      have tLr1 := le_9 t0 hir1 er1
      refine m_aalF (x := r1) hp dX0_areLow_21 (lf_9_2 t0) rfl rfl (lu_9_2 t0) hir1 (fe_9 t0 hir1 er1) ?_
      refine k_VI (As := []) (stk := []) hp cv_X0_826 dX0_areLow_22 rfl (Nat.le_of_ble_eq_true rfl) tLr1 (H.mono (fun v2 h2 H => ?_)) ⟨Nat.le_refl _, Nat.le_refl _⟩
      refine r_bipush (v := (6 : Int32)) dX0_areLow_25 rfl ?_
      refine r_icmp_gt (tgt := 34) dX0_areLow_27 rfl (fun cH => ?_) (fun cH => ?_)
      · replace H := H.1 cH
        refine r_prune [true, false, true] (ls2 := [some (.ref a0), none, some (.int x2)]) rfl ?_
        exact H
      · replace H := H.2 cH
        refine r_iconst (v := (1 : Int32)) dX0_areLow_30 rfl ?_
        refine r_goto (tgt := 35) dX0_areLow_31 rfl ?_
        refine r_prune [true, false, true] (ls2 := [some (.ref a0), none, some (.int x2)]) rfl ?_
        exact H
theorem s_X0_areLow_34 {g : GX} {d : Nat} {av : List Value} {Q : QT} {n : Nat} {h : Hp} {a0 : Nat} {x2 : Int32} (hp : g.2.2.2.2 = true) (t0 : lay a0 = (0, 9, 8)) (H : W_X0_areLow g d av Q n 35 [some (.ref a0), none, some (.int x2)] [.int (0 : Int32)] h) : W_X0_areLow g d av Q n 34 [some (.ref a0), none, some (.int x2)] [] h := by
  refine r_iconst (v := (0 : Int32)) dX0_areLow_34 rfl ?_
  exact H
theorem s_X0_areLow_35 {g : GX} {d : Nat} {av : List Value} {Q : QT} {n : Nat} {h : Hp} {a0 : Nat} {x2 : Int32} {xs0 : Int32} (hp : g.2.2.2.2 = true) (t0 : lay a0 = (0, 9, 8)) (H : W_X0_areLow g d av Q n 4 [some (.ref a0), some (.int xs0), some (.int (x2 + (1 : Int32)))] [] h) : W_X0_areLow g d av Q n 35 [some (.ref a0), none, some (.int x2)] [.int xs0] h := by
  refine r_istore_n (ls2 := [some (.ref a0), some (.int xs0), some (.int x2)]) dX0_areLow_35 rfl (by decide) rfl ?_
  refine r_iinc (v := (x2 + (1 : Int32))) (ls2 := [some (.ref a0), some (.int xs0), some (.int (x2 + (1 : Int32)))]) dX0_areLow_36 rfl rfl (by decide) rfl ?_
  refine r_goto (tgt := 4) dX0_areLow_39 rfl ?_
  exact H
abbrev W_X0_layJoined (g : GX) (d : Nat) (av : List Value) (Q : QT) (n : Nat) (pc : Nat) (ls : LV) (stk : List Value) (h : Hp) : Prop := RJ g m_X0_layJoined (d + 1) 0 0 av Q pc ls stk n h 0 0
theorem s_X0_layJoined_0 {g : GX} {d : Nat} {av : List Value} {Q : QT} {n : Nat} {h : Hp} {x1 : Int32} {a2 : Nat} {a3 : Nat} {a4 : Nat} (hp : g.2.2.2.2 = true) (t2 : lay a2 = (0, 9, 8)) (t3 : lay a3 = (0, 9, 8)) (t4 : lay a4 = (0, 3, 2)) (H : CallV g m_X8_find d [.ref 856, .ref a2] n h (fun h1 => ((((3 : Int32) ≤ x1) → (W_X0_layJoined g d av Q n 21 [some (.ref 0), some (.int x1), some (.ref a2), some (.ref a3), some (.ref a4), none, none, none, none] [] h1)) ∧ ((¬ (3 : Int32) ≤ x1) → (CallV g m_X8_find d [.ref 983, .ref a3] n h1 (fun h2 => (W_X0_layJoined g d av Q n 21 [some (.ref 0), some (.int x1), some (.ref a2), some (.ref a3), some (.ref a4), none, none, none, none] [] h2))))))) : W_X0_layJoined g d av Q n 0 [some (.ref 0), some (.int x1), some (.ref a2), some (.ref a3), some (.ref a4), none, none, none, none] [] h := by
  refine r_aload_n dX0_layJoined_0 rfl rfl ?_
  refine m_getF (x := 856) hp fw_X0_463 dX0_layJoined_1 rfl ly_0 (ff_0_63 ly_0) ?_
  refine r_aload_n dX0_layJoined_4 rfl rfl ?_
  refine k_VV (As := [.ref a2]) (stk := []) hp cv_X0_818 dX0_layJoined_5 rfl (Nat.le_of_ble_eq_true rfl) (lf_0_63 ly_0) (H.mono (fun h1 H => ?_)) ⟨Nat.le_refl _, Nat.le_refl _⟩
  refine r_iload_n dX0_layJoined_8 rfl rfl ?_
  refine r_iconst (v := (3 : Int32)) dX0_layJoined_9 rfl ?_
  refine r_icmp_ge (tgt := 21) dX0_layJoined_10 rfl (fun cH => ?_) (fun cH => ?_)
  · replace H := H.1 cH
    exact H
  · replace H := H.2 cH
    refine r_aload_n dX0_layJoined_13 rfl rfl ?_
    refine m_getF (x := 983) hp fw_X0_467 dX0_layJoined_14 rfl ly_0 (ff_0_64 ly_0) ?_
    refine r_aload_n dX0_layJoined_17 rfl rfl ?_
    refine k_VV (As := [.ref a3]) (stk := []) hp cv_X0_818 dX0_layJoined_18 rfl (Nat.le_of_ble_eq_true rfl) (lf_0_64 ly_0) (H.mono (fun h2 H => ?_)) ⟨Nat.le_refl _, Nat.le_refl _⟩
    exact H
theorem s_X0_layJoined_21 {g : GX} {d : Nat} {av : List Value} {Q : QT} {n : Nat} {h : Hp} {x1 : Int32} {a2 : Nat} {a3 : Nat} {a4 : Nat} (hp : g.2.2.2.2 = true) (t2 : lay a2 = (0, 9, 8)) (t3 : lay a3 = (0, 9, 8)) (t4 : lay a4 = (0, 3, 2)) (H : (((2 : Int32) ≤ x1) → (((¬ x1 = (2 : Int32)) → (W_X0_layJoined g d av Q n 59 [some (.ref 0), some (.int x1), some (.ref a2), some (.ref a3), some (.ref a4), none, none, none, none] [.int (ri h a2 3)] h)) ∧ ((x1 = (2 : Int32)) → (W_X0_layJoined g d av Q n 59 [some (.ref 0), some (.int x1), some (.ref a2), some (.ref a3), some (.ref a4), none, none, none, none] [.int ((ri h a2 3) * (ri h a3 3))] h)))) ∧ ((¬ (2 : Int32) ≤ x1) → (W_X0_layJoined g d av Q n 59 [some (.ref 0), some (.int x1), some (.ref a2), some (.ref a3), some (.ref a4), none, none, none, none] [.int ((ri h a2 3) + (ri h a3 3))] h))) : W_X0_layJoined g d av Q n 21 [some (.ref 0), some (.int x1), some (.ref a2), some (.ref a3), some (.ref a4), none, none, none, none] [] h := by
  refine r_iload_n dX0_layJoined_21 rfl rfl ?_
  refine r_iconst (v := (2 : Int32)) dX0_layJoined_22 rfl ?_
  refine r_icmp_ge (tgt := 38) dX0_layJoined_23 rfl (fun cH => ?_) (fun cH => ?_)
  · replace H := H.1 cH
    refine r_iload_n dX0_layJoined_38 rfl rfl ?_
    refine r_iconst (v := (2 : Int32)) dX0_layJoined_39 rfl ?_
    refine r_icmp_ne (tgt := 55) dX0_layJoined_40 rfl (fun cH => ?_) (fun cH => ?_)
    · replace H := H.1 cH
      refine r_aload_n dX0_layJoined_55 rfl rfl ?_
      refine m_getI hp fw_X0_575 dX0_layJoined_56 rfl t2 ?_
      exact H
    · replace H := H.2 cH
      refine r_aload_n dX0_layJoined_43 rfl rfl ?_
      refine m_getI hp fw_X0_575 dX0_layJoined_44 rfl t2 ?_
      refine r_aload_n dX0_layJoined_47 rfl rfl ?_
      refine m_getI hp fw_X0_575 dX0_layJoined_48 rfl t3 ?_
      refine r_imul dX0_layJoined_51 ?_
      refine r_goto (tgt := 59) dX0_layJoined_52 rfl ?_
      exact H
  · replace H := H.2 cH
    refine r_aload_n dX0_layJoined_26 rfl rfl ?_
    refine m_getI hp fw_X0_575 dX0_layJoined_27 rfl t2 ?_
    refine r_aload_n dX0_layJoined_30 rfl rfl ?_
    refine m_getI hp fw_X0_575 dX0_layJoined_31 rfl t3 ?_
    refine r_iadd dX0_layJoined_34 ?_
    refine r_goto (tgt := 59) dX0_layJoined_35 rfl ?_
    exact H
theorem s_X0_layJoined_59 {g : GX} {d : Nat} {av : List Value} {Q : QT} {n : Nat} {h : Hp} {x1 : Int32} {a2 : Nat} {a3 : Nat} {a4 : Nat} {xs0 : Int32} (hp : g.2.2.2.2 = true) (t2 : lay a2 = (0, 9, 8)) (t3 : lay a3 = (0, 9, 8)) (t4 : lay a4 = (0, 3, 2)) (H : CallV g m_X7_open d [.ref 113, .int xs0, .int (7 : Int32)] n h (fun h1 => (W_X0_layJoined g d av Q n 75 [some (.ref 0), some (.int x1), some (.ref a2), some (.ref a3), some (.ref a4), none, some (.int (0 : Int32)), none, none] [] h1))) : W_X0_layJoined g d av Q n 59 [some (.ref 0), some (.int x1), some (.ref a2), some (.ref a3), some (.ref a4), none, none, none, none] [.int xs0] h := by
  refine r_istore (ls2 := [some (.ref 0), some (.int x1), some (.ref a2), some (.ref a3), some (.ref a4), some (.int xs0), none, none, none]) dX0_layJoined_59 (by decide) rfl ?_
  refine r_aload_n dX0_layJoined_61 rfl rfl ?_
  refine m_getF (x := 113) hp fw_X0_382 dX0_layJoined_62 rfl ly_0 (ff_0_37 ly_0) ?_
  refine r_iload dX0_layJoined_65 rfl ?_
  refine r_bipush (v := (7 : Int32)) dX0_layJoined_67 rfl ?_
  refine k_VV (As := [.int xs0, .int (7 : Int32)]) (stk := []) hp cv_X0_698 dX0_layJoined_69 rfl (Nat.le_of_ble_eq_true rfl) (lf_0_37 ly_0) (H.mono (fun h1 H => ?_)) ⟨Nat.le_refl _, Nat.le_refl _⟩
  refine r_iconst (v := (0 : Int32)) dX0_layJoined_72 rfl ?_
  refine r_istore (ls2 := [some (.ref 0), some (.int x1), some (.ref a2), some (.ref a3), some (.ref a4), some (.int xs0), some (.int (0 : Int32)), none, none]) dX0_layJoined_73 (by decide) rfl ?_
  refine r_prune [true, true, true, true, true, false, true, false, false] (ls2 := [some (.ref 0), some (.int x1), some (.ref a2), some (.ref a3), some (.ref a4), none, some (.int (0 : Int32)), none, none]) rfl ?_
  exact H
theorem s_X0_layJoined_75 {g : GX} {d : Nat} {av : List Value} {Q : QT} {n : Nat} {h : Hp} {x1 : Int32} {a2 : Nat} {a3 : Nat} {a4 : Nat} {x6 : Int32} (hp : g.2.2.2.2 = true) (t2 : lay a2 = (0, 9, 8)) (t3 : lay a3 = (0, 9, 8)) (t4 : lay a4 = (0, 3, 2)) (H : (((6 : Int32) < x6) → (Q none n h)) ∧ ((¬ (6 : Int32) < x6) → (vp_in x6 7 ∧ ∀ r1, r1 = 2617 + 2 * (x6).toNatClampNeg → (vp_in x6 7 ∧ ∀ r2, r2 = 871 + 16 * (x6).toNatClampNeg → (CallV g m_X3_copy d [.ref r1, .ref r2] n h (fun h3 => ((((3 : Int32) ≤ x1) → (CallV g m_X3_copy d [.ref 105, .ref a4] n h3 (fun h4 => (CallV g m_X3_shift d [.ref 105, .int x6] n h4 (fun h5 => (W_X0_layJoined g d av Q n 158 [some (.ref 0), some (.int x1), some (.ref a2), some (.ref a3), some (.ref a4), none, some (.int x6), none, none] [] h5)))))) ∧ ((¬ (3 : Int32) ≤ x1) → (vp_in x6 7 ∧ ∀ r6, r6 = 2617 + 2 * (x6).toNatClampNeg → (vp_in x6 7 ∧ ∀ r7, r7 = 871 + 16 * (x6).toNatClampNeg → (vp_in x6 7 ∧ ∀ r8, r8 = 998 + 16 * (x6).toNatClampNeg → (CallV g m_X3_product d [.ref r6, .ref r7, .ref r8] n h3 (fun h9 => (W_X0_layJoined g d av Q n 158 [some (.ref 0), some (.int x1), some (.ref a2), some (.ref a3), some (.ref a4), none, some (.int x6), none, none] [] h9)))))))))))))) : W_X0_layJoined g d av Q n 75 [some (.ref 0), some (.int x1), some (.ref a2), some (.ref a3), some (.ref a4), none, some (.int x6), none, none] [] h := by
  refine r_iload dX0_layJoined_75 rfl ?_
  refine r_bipush (v := (6 : Int32)) dX0_layJoined_77 rfl ?_
  refine r_icmp_gt (tgt := 407) dX0_layJoined_79 rfl (fun cH => ?_) (fun cH => ?_)
  · replace H := H.1 cH
    exact r_vret dX0_layJoined_407 rfl (Nat.le_refl _) (Nat.le_refl _) H
  · replace H := H.2 cH
    refine r_aload_n dX0_layJoined_82 rfl rfl ?_
    refine m_getF (x := 1110) hp fw_X0_470 dX0_layJoined_83 rfl ly_0 (ff_0_65 ly_0) ?_
    refine r_iload dX0_layJoined_86 rfl ?_
    obtain ⟨r1, er1⟩ : ∃ y, y = 2617 + 2 * (x6).toNatClampNeg := ⟨_, rfl⟩
    have hir1 := H.1
    replace H := H.2 r1 er1
    have tLr1 := la_1110 hir1 er1
    refine m_aalF (x := r1) hp dX0_layJoined_88 (lf_0_65 ly_0) rfl rfl (lu_0_65 ly_0) hir1 (fa_1110 hir1 er1) ?_
    refine r_aload_n dX0_layJoined_89 rfl rfl ?_
    refine m_getF (x := 856) hp fw_X0_463 dX0_layJoined_90 rfl ly_0 (ff_0_63 ly_0) ?_
    refine m_getF (x := 865) hp fw_X0_822 dX0_layJoined_93 rfl (lf_0_63 ly_0) (ff_8_1 (Or.inl rfl)) ?_
    refine r_iload dX0_layJoined_96 rfl ?_
    obtain ⟨r2, er2⟩ : ∃ y, y = 871 + 16 * (x6).toNatClampNeg := ⟨_, rfl⟩
    have hir2 := H.1
    replace H := H.2 r2 er2
    have tLr2 := la_865 hir2 er2
    refine m_aalF (x := r2) hp dX0_layJoined_98 (lf_8_1 (Or.inl rfl)) rfl rfl (lu_8_1 (Or.inl rfl)) hir2 (fa_865 hir2 er2) ?_
    refine k_VV (As := [.ref r2]) (stk := []) hp cv_X0_686 dX0_layJoined_99 rfl (Nat.le_of_ble_eq_true rfl) tLr1 (H.mono (fun h3 H => ?_)) ⟨Nat.le_refl _, Nat.le_refl _⟩
    refine r_iload_n dX0_layJoined_102 rfl rfl ?_
    refine r_iconst (v := (3 : Int32)) dX0_layJoined_103 rfl ?_
    refine r_icmp_ge (tgt := 140) dX0_layJoined_104 rfl (fun cH => ?_) (fun cH => ?_)
    · replace H := H.1 cH
      refine r_aload_n dX0_layJoined_140 rfl rfl ?_
      refine m_getF (x := 105) hp fw_X0_365 dX0_layJoined_141 rfl ly_0 (ff_0_33 ly_0) ?_
      refine r_aload dX0_layJoined_144 rfl ?_
      refine k_VV (As := [.ref a4]) (stk := []) hp cv_X0_686 dX0_layJoined_146 rfl (Nat.le_of_ble_eq_true rfl) (lf_0_33 ly_0) (H.mono (fun h4 H => ?_)) ⟨Nat.le_refl _, Nat.le_refl _⟩
      refine r_aload_n dX0_layJoined_149 rfl rfl ?_
      refine m_getF (x := 105) hp fw_X0_365 dX0_layJoined_150 rfl ly_0 (ff_0_33 ly_0) ?_
      refine r_iload dX0_layJoined_153 rfl ?_
      refine k_VV (As := [.int x6]) (stk := []) hp cv_X0_639 dX0_layJoined_155 rfl (Nat.le_of_ble_eq_true rfl) (lf_0_33 ly_0) (H.mono (fun h5 H => ?_)) ⟨Nat.le_refl _, Nat.le_refl _⟩
      exact H
    · replace H := H.2 cH
      refine r_aload_n dX0_layJoined_107 rfl rfl ?_
      refine m_getF (x := 1110) hp fw_X0_470 dX0_layJoined_108 rfl ly_0 (ff_0_65 ly_0) ?_
      refine r_iload dX0_layJoined_111 rfl ?_
      obtain ⟨r6, er6⟩ : ∃ y, y = 2617 + 2 * (x6).toNatClampNeg := ⟨_, rfl⟩
      have hir6 := H.1
      replace H := H.2 r6 er6
      have tLr6 := la_1110 hir6 er6
      refine m_aalF (x := r6) hp dX0_layJoined_113 (lf_0_65 ly_0) rfl rfl (lu_0_65 ly_0) hir6 (fa_1110 hir6 er6) ?_
      refine r_aload_n dX0_layJoined_114 rfl rfl ?_
      refine m_getF (x := 856) hp fw_X0_463 dX0_layJoined_115 rfl ly_0 (ff_0_63 ly_0) ?_
      refine m_getF (x := 865) hp fw_X0_822 dX0_layJoined_118 rfl (lf_0_63 ly_0) (ff_8_1 (Or.inl rfl)) ?_
      refine r_iload dX0_layJoined_121 rfl ?_
      obtain ⟨r7, er7⟩ : ∃ y, y = 871 + 16 * (x6).toNatClampNeg := ⟨_, rfl⟩
      have hir7 := H.1
      replace H := H.2 r7 er7
      have tLr7 := la_865 hir7 er7
      refine m_aalF (x := r7) hp dX0_layJoined_123 (lf_8_1 (Or.inl rfl)) rfl rfl (lu_8_1 (Or.inl rfl)) hir7 (fa_865 hir7 er7) ?_
      refine r_aload_n dX0_layJoined_124 rfl rfl ?_
      refine m_getF (x := 983) hp fw_X0_467 dX0_layJoined_125 rfl ly_0 (ff_0_64 ly_0) ?_
      refine m_getF (x := 992) hp fw_X0_822 dX0_layJoined_128 rfl (lf_0_64 ly_0) (ff_8_1 (Or.inr rfl)) ?_
      refine r_iload dX0_layJoined_131 rfl ?_
      obtain ⟨r8, er8⟩ : ∃ y, y = 998 + 16 * (x6).toNatClampNeg := ⟨_, rfl⟩
      have hir8 := H.1
      replace H := H.2 r8 er8
      have tLr8 := la_992 hir8 er8
      refine m_aalF (x := r8) hp dX0_layJoined_133 (lf_8_1 (Or.inr rfl)) rfl rfl (lu_8_1 (Or.inr rfl)) hir8 (fa_992 hir8 er8) ?_
      refine k_VV (As := [.ref r7, .ref r8]) (stk := []) hp cv_X0_739 dX0_layJoined_134 rfl (Nat.le_of_ble_eq_true rfl) tLr6 (H.mono (fun h9 H => ?_)) ⟨Nat.le_refl _, Nat.le_refl _⟩
      refine r_goto (tgt := 158) dX0_layJoined_137 rfl ?_
      exact H
theorem s_X0_layJoined_158 {g : GX} {d : Nat} {av : List Value} {Q : QT} {n : Nat} {h : Hp} {x1 : Int32} {a2 : Nat} {a3 : Nat} {a4 : Nat} {x6 : Int32} (hp : g.2.2.2.2 = true) (t2 : lay a2 = (0, 9, 8)) (t3 : lay a3 = (0, 9, 8)) (t4 : lay a4 = (0, 3, 2)) (H : W_X0_layJoined g d av Q n 161 [some (.ref 0), some (.int x1), some (.ref a2), some (.ref a3), some (.ref a4), none, some (.int x6), some (.int (0 : Int32)), none] [] h) : W_X0_layJoined g d av Q n 158 [some (.ref 0), some (.int x1), some (.ref a2), some (.ref a3), some (.ref a4), none, some (.int x6), none, none] [] h := by
  refine r_iconst (v := (0 : Int32)) dX0_layJoined_158 rfl ?_
  refine r_istore (ls2 := [some (.ref 0), some (.int x1), some (.ref a2), some (.ref a3), some (.ref a4), none, some (.int x6), some (.int (0 : Int32)), none]) dX0_layJoined_159 (by decide) rfl ?_
  exact H
theorem s_X0_layJoined_161 {g : GX} {d : Nat} {av : List Value} {Q : QT} {n : Nat} {h : Hp} {x1 : Int32} {a2 : Nat} {a3 : Nat} {a4 : Nat} {x6 : Int32} {x7 : Int32} (hp : g.2.2.2.2 = true) (t2 : lay a2 = (0, 9, 8)) (t3 : lay a3 = (0, 9, 8)) (t4 : lay a4 = (0, 3, 2)) (H : (((ri h a2 3) ≤ x7) → (W_X0_layJoined g d av Q n 306 [some (.ref 0), some (.int x1), some (.ref a2), some (.ref a3), some (.ref a4), none, some (.int x6), some (.int (0 : Int32)), none] [] h)) ∧ ((¬ (ri h a2 3) ≤ x7) → (((¬ x1 = (2 : Int32)) → (vp_in x7 24 ∧ ∃ r1 Lr1, rr h 114 (x7).toNatClampNeg = some r1 ∧ (lay r1 = (2, Lr1, 3) ∧ r1 < N0) ∧ (vp_in x6 Lr1 ∧ ∃ r2, rr h r1 (x6).toNatClampNeg = some r2 ∧ lay r2 = (0, 3, 2) ∧ (vp_in x6 7 ∧ ∀ r3, r3 = 858 + 1 * (x6).toNatClampNeg → (vp_in x7 6 ∧ ∃ r4, rr h r3 (x7).toNatClampNeg = some r4 ∧ lay r4 = (0, 3, 2) ∧ ((((2 : Int32) ≤ x1) → (W_X0_layJoined g d av Q n 294 [some (.ref 0), some (.int x1), some (.ref a2), some (.ref a3), some (.ref a4), none, some (.int x6), some (.int x7), none] [.ref 105, .ref r4, .ref r2] h)) ∧ ((¬ (2 : Int32) ≤ x1) → (vp_in x6 7 ∧ ∀ r5, r5 = 998 + 16 * (x6).toNatClampNeg → (W_X0_layJoined g d av Q n 294 [some (.ref 0), some (.int x1), some (.ref a2), some (.ref a3), some (.ref a4), none, some (.int x6), some (.int x7), none] [.ref r5, .ref r4, .ref r2] h))))))))) ∧ ((x1 = (2 : Int32)) → (W_X0_layJoined g d av Q n 178 [some (.ref 0), some (.int x1), some (.ref a2), some (.ref a3), some (.ref a4), none, some (.int x6), some (.int x7), some (.int (0 : Int32))] [] h))))) : W_X0_layJoined g d av Q n 161 [some (.ref 0), some (.int x1), some (.ref a2), some (.ref a3), some (.ref a4), none, some (.int x6), some (.int x7), none] [] h := by
  refine r_iload dX0_layJoined_161 rfl ?_
  refine r_aload_n dX0_layJoined_163 rfl rfl ?_
  refine m_getI hp fw_X0_575 dX0_layJoined_164 rfl t2 ?_
  refine r_icmp_ge (tgt := 303) dX0_layJoined_167 rfl (fun cH => ?_) (fun cH => ?_)
  · replace H := H.1 cH
    refine r_iconst (v := (0 : Int32)) dX0_layJoined_303 rfl ?_
    refine r_istore (ls2 := [some (.ref 0), some (.int x1), some (.ref a2), some (.ref a3), some (.ref a4), none, some (.int x6), some (.int (0 : Int32)), none]) dX0_layJoined_304 (by decide) rfl ?_
    exact H
  · replace H := H.2 cH
    refine r_iload_n dX0_layJoined_170 rfl rfl ?_
    refine r_iconst (v := (2 : Int32)) dX0_layJoined_171 rfl ?_
    refine r_icmp_ne (tgt := 246) dX0_layJoined_172 rfl (fun cH => ?_) (fun cH => ?_)
    · replace H := H.1 cH
      refine r_aload_n dX0_layJoined_246 rfl rfl ?_
      refine m_getF (x := 113) hp fw_X0_382 dX0_layJoined_247 rfl ly_0 (ff_0_37 ly_0) ?_
      refine m_getF (x := 114) hp fw_X0_694 dX0_layJoined_250 rfl (lf_0_37 ly_0) (ff_7_1 (lf_0_37 ly_0)) ?_
      refine r_iload dX0_layJoined_253 rfl ?_
      have hir1 := H.1
      obtain ⟨r1, Lr1, er1, tr1, H⟩ := H.2
      refine m_aalM (x := r1) hp dX0_layJoined_255 (lf_7_1 (lf_0_37 ly_0)) rfl rfl (lu_7_1 (lf_0_37 ly_0)) hir1 er1 ?_
      refine r_iload dX0_layJoined_256 rfl ?_
      have hir2 := H.1
      obtain ⟨r2, er2, tr2, H⟩ := H.2
      refine m_aalM (x := r2) hp dX0_layJoined_258 tr1.1 rfl rfl tr1.2 hir2 er2 ?_
      refine r_aload_n dX0_layJoined_259 rfl rfl ?_
      refine m_getF (x := 856) hp fw_X0_463 dX0_layJoined_260 rfl ly_0 (ff_0_63 ly_0) ?_
      refine m_getF (x := 857) hp fw_X0_824 dX0_layJoined_263 rfl (lf_0_63 ly_0) (ff_8_0 (Or.inl rfl)) ?_
      refine r_iload dX0_layJoined_266 rfl ?_
      obtain ⟨r3, er3⟩ : ∃ y, y = 858 + 1 * (x6).toNatClampNeg := ⟨_, rfl⟩
      have hir3 := H.1
      replace H := H.2 r3 er3
      have tLr3 := la_857 hir3 er3
      have tUr3 := lau_857 hir3 er3
      refine m_aalF (x := r3) hp dX0_layJoined_268 (lf_8_0 (Or.inl rfl)) rfl rfl (lu_8_0 (Or.inl rfl)) hir3 (fa_857 hir3 er3) ?_
      refine r_iload dX0_layJoined_269 rfl ?_
      have hir4 := H.1
      obtain ⟨r4, er4, tr4, H⟩ := H.2
      refine m_aalM (x := r4) hp dX0_layJoined_271 tLr3 rfl rfl tUr3 hir4 er4 ?_
      refine r_iload_n dX0_layJoined_272 rfl rfl ?_
      refine r_iconst (v := (2 : Int32)) dX0_layJoined_273 rfl ?_
      refine r_icmp_ge (tgt := 290) dX0_layJoined_274 rfl (fun cH => ?_) (fun cH => ?_)
      · replace H := H.1 cH
        refine r_aload_n dX0_layJoined_290 rfl rfl ?_
        refine m_getF (x := 105) hp fw_X0_365 dX0_layJoined_291 rfl ly_0 (ff_0_33 ly_0) ?_
        exact H
      · replace H := H.2 cH
        refine r_aload_n dX0_layJoined_277 rfl rfl ?_
        refine m_getF (x := 983) hp fw_X0_467 dX0_layJoined_278 rfl ly_0 (ff_0_64 ly_0) ?_
        refine m_getF (x := 992) hp fw_X0_822 dX0_layJoined_281 rfl (lf_0_64 ly_0) (ff_8_1 (Or.inr rfl)) ?_
        refine r_iload dX0_layJoined_284 rfl ?_
        obtain ⟨r5, er5⟩ : ∃ y, y = 998 + 16 * (x6).toNatClampNeg := ⟨_, rfl⟩
        have hir5 := H.1
        replace H := H.2 r5 er5
        have tLr5 := la_992 hir5 er5
        refine m_aalF (x := r5) hp dX0_layJoined_286 (lf_8_1 (Or.inr rfl)) rfl rfl (lu_8_1 (Or.inr rfl)) hir5 (fa_992 hir5 er5) ?_
        refine r_goto (tgt := 294) dX0_layJoined_287 rfl ?_
        exact H
    · replace H := H.2 cH
      refine r_iconst (v := (0 : Int32)) dX0_layJoined_175 rfl ?_
      refine r_istore (ls2 := [some (.ref 0), some (.int x1), some (.ref a2), some (.ref a3), some (.ref a4), none, some (.int x6), some (.int x7), some (.int (0 : Int32))]) dX0_layJoined_176 (by decide) rfl ?_
      exact H
theorem s_X0_layJoined_178 {g : GX} {d : Nat} {av : List Value} {Q : QT} {n : Nat} {h : Hp} {x1 : Int32} {a2 : Nat} {a3 : Nat} {a4 : Nat} {x6 : Int32} {x7 : Int32} {x8 : Int32} (hp : g.2.2.2.2 = true) (t2 : lay a2 = (0, 9, 8)) (t3 : lay a3 = (0, 9, 8)) (t4 : lay a4 = (0, 3, 2)) (H : (((ri h a3 3) ≤ x8) → (W_X0_layJoined g d av Q n 297 [some (.ref 0), some (.int x1), some (.ref a2), some (.ref a3), some (.ref a4), none, some (.int x6), some (.int x7), none] [] h)) ∧ ((¬ (ri h a3 3) ≤ x8) → (vp_in ((x7 * (ri h a3 3)) + x8) 24 ∧ ∃ r1 Lr1, rr h 114 (((x7 * (ri h a3 3)) + x8)).toNatClampNeg = some r1 ∧ (lay r1 = (2, Lr1, 3) ∧ r1 < N0) ∧ (vp_in x6 Lr1 ∧ ∃ r2, rr h r1 (x6).toNatClampNeg = some r2 ∧ lay r2 = (0, 3, 2) ∧ (vp_in x6 7 ∧ ∀ r3, r3 = 858 + 1 * (x6).toNatClampNeg → (vp_in x7 6 ∧ ∃ r4, rr h r3 (x7).toNatClampNeg = some r4 ∧ lay r4 = (0, 3, 2) ∧ (vp_in x6 7 ∧ ∀ r5, r5 = 985 + 1 * (x6).toNatClampNeg → (vp_in x8 6 ∧ ∃ r6, rr h r5 (x8).toNatClampNeg = some r6 ∧ lay r6 = (0, 3, 2) ∧ (CallV g m_X3_product d [.ref r2, .ref r4, .ref r6] n h (fun h7 => (W_X0_layJoined g d av Q n 178 [some (.ref 0), some (.int x1), some (.ref a2), some (.ref a3), some (.ref a4), none, some (.int x6), some (.int x7), some (.int (x8 + (1 : Int32)))] [] h7))))))))))) : W_X0_layJoined g d av Q n 178 [some (.ref 0), some (.int x1), some (.ref a2), some (.ref a3), some (.ref a4), none, some (.int x6), some (.int x7), some (.int x8)] [] h := by
  refine r_iload dX0_layJoined_178 rfl ?_
  refine r_aload_n dX0_layJoined_180 rfl rfl ?_
  refine m_getI hp fw_X0_575 dX0_layJoined_181 rfl t3 ?_
  refine r_icmp_ge (tgt := 243) dX0_layJoined_184 rfl (fun cH => ?_) (fun cH => ?_)
  · replace H := H.1 cH
    refine r_goto (tgt := 297) dX0_layJoined_243 rfl ?_
    refine r_prune [true, true, true, true, true, false, true, true, false] (ls2 := [some (.ref 0), some (.int x1), some (.ref a2), some (.ref a3), some (.ref a4), none, some (.int x6), some (.int x7), none]) rfl ?_
    exact H
  · replace H := H.2 cH
    refine r_aload_n dX0_layJoined_187 rfl rfl ?_
    refine m_getF (x := 113) hp fw_X0_382 dX0_layJoined_188 rfl ly_0 (ff_0_37 ly_0) ?_
    refine m_getF (x := 114) hp fw_X0_694 dX0_layJoined_191 rfl (lf_0_37 ly_0) (ff_7_1 (lf_0_37 ly_0)) ?_
    refine r_iload dX0_layJoined_194 rfl ?_
    refine r_aload_n dX0_layJoined_196 rfl rfl ?_
    refine m_getI hp fw_X0_575 dX0_layJoined_197 rfl t3 ?_
    refine r_imul dX0_layJoined_200 ?_
    refine r_iload dX0_layJoined_201 rfl ?_
    refine r_iadd dX0_layJoined_203 ?_
    have hir1 := H.1
    obtain ⟨r1, Lr1, er1, tr1, H⟩ := H.2
    refine m_aalM (x := r1) hp dX0_layJoined_204 (lf_7_1 (lf_0_37 ly_0)) rfl rfl (lu_7_1 (lf_0_37 ly_0)) hir1 er1 ?_
    refine r_iload dX0_layJoined_205 rfl ?_
    have hir2 := H.1
    obtain ⟨r2, er2, tr2, H⟩ := H.2
    refine m_aalM (x := r2) hp dX0_layJoined_207 tr1.1 rfl rfl tr1.2 hir2 er2 ?_
    refine r_aload_n dX0_layJoined_208 rfl rfl ?_
    refine m_getF (x := 856) hp fw_X0_463 dX0_layJoined_209 rfl ly_0 (ff_0_63 ly_0) ?_
    refine m_getF (x := 857) hp fw_X0_824 dX0_layJoined_212 rfl (lf_0_63 ly_0) (ff_8_0 (Or.inl rfl)) ?_
    refine r_iload dX0_layJoined_215 rfl ?_
    obtain ⟨r3, er3⟩ : ∃ y, y = 858 + 1 * (x6).toNatClampNeg := ⟨_, rfl⟩
    have hir3 := H.1
    replace H := H.2 r3 er3
    have tLr3 := la_857 hir3 er3
    have tUr3 := lau_857 hir3 er3
    refine m_aalF (x := r3) hp dX0_layJoined_217 (lf_8_0 (Or.inl rfl)) rfl rfl (lu_8_0 (Or.inl rfl)) hir3 (fa_857 hir3 er3) ?_
    refine r_iload dX0_layJoined_218 rfl ?_
    have hir4 := H.1
    obtain ⟨r4, er4, tr4, H⟩ := H.2
    refine m_aalM (x := r4) hp dX0_layJoined_220 tLr3 rfl rfl tUr3 hir4 er4 ?_
    refine r_aload_n dX0_layJoined_221 rfl rfl ?_
    refine m_getF (x := 983) hp fw_X0_467 dX0_layJoined_222 rfl ly_0 (ff_0_64 ly_0) ?_
    refine m_getF (x := 984) hp fw_X0_824 dX0_layJoined_225 rfl (lf_0_64 ly_0) (ff_8_0 (Or.inr rfl)) ?_
    refine r_iload dX0_layJoined_228 rfl ?_
    obtain ⟨r5, er5⟩ : ∃ y, y = 985 + 1 * (x6).toNatClampNeg := ⟨_, rfl⟩
    have hir5 := H.1
    replace H := H.2 r5 er5
    have tLr5 := la_984 hir5 er5
    have tUr5 := lau_984 hir5 er5
    refine m_aalF (x := r5) hp dX0_layJoined_230 (lf_8_0 (Or.inr rfl)) rfl rfl (lu_8_0 (Or.inr rfl)) hir5 (fa_984 hir5 er5) ?_
    refine r_iload dX0_layJoined_231 rfl ?_
    have hir6 := H.1
    obtain ⟨r6, er6, tr6, H⟩ := H.2
    refine m_aalM (x := r6) hp dX0_layJoined_233 tLr5 rfl rfl tUr5 hir6 er6 ?_
    refine k_VV (As := [.ref r4, .ref r6]) (stk := []) hp cv_X0_739 dX0_layJoined_234 rfl (Nat.le_of_ble_eq_true rfl) tr2 (H.mono (fun h7 H => ?_)) ⟨Nat.le_refl _, Nat.le_refl _⟩
    refine r_iinc (v := (x8 + (1 : Int32))) (ls2 := [some (.ref 0), some (.int x1), some (.ref a2), some (.ref a3), some (.ref a4), none, some (.int x6), some (.int x7), some (.int (x8 + (1 : Int32)))]) dX0_layJoined_237 rfl rfl (by decide) rfl ?_
    refine r_goto (tgt := 178) dX0_layJoined_240 rfl ?_
    exact H
theorem s_X0_layJoined_294 {g : GX} {d : Nat} {av : List Value} {Q : QT} {n : Nat} {h : Hp} {x1 : Int32} {a2 : Nat} {a3 : Nat} {a4 : Nat} {x6 : Int32} {x7 : Int32} {as0 : Nat} {as1 : Nat} {as2 : Nat} (hp : g.2.2.2.2 = true) (t2 : lay a2 = (0, 9, 8)) (t3 : lay a3 = (0, 9, 8)) (t4 : lay a4 = (0, 3, 2)) (ts0 : lay as0 = (0, 3, 2)) (ts1 : lay as1 = (0, 3, 2)) (ts2 : lay as2 = (0, 3, 2)) (H : CallV g m_X3_product d [.ref as2, .ref as1, .ref as0] n h (fun h1 => (W_X0_layJoined g d av Q n 297 [some (.ref 0), some (.int x1), some (.ref a2), some (.ref a3), some (.ref a4), none, some (.int x6), some (.int x7), none] [] h1))) : W_X0_layJoined g d av Q n 294 [some (.ref 0), some (.int x1), some (.ref a2), some (.ref a3), some (.ref a4), none, some (.int x6), some (.int x7), none] [.ref as0, .ref as1, .ref as2] h := by
  refine k_VV (As := [.ref as1, .ref as0]) (stk := []) hp cv_X0_739 dX0_layJoined_294 rfl (Nat.le_of_ble_eq_true rfl) ts2 (H.mono (fun h1 H => ?_)) ⟨Nat.le_refl _, Nat.le_refl _⟩
  exact H
theorem s_X0_layJoined_297 {g : GX} {d : Nat} {av : List Value} {Q : QT} {n : Nat} {h : Hp} {x1 : Int32} {a2 : Nat} {a3 : Nat} {a4 : Nat} {x6 : Int32} {x7 : Int32} (hp : g.2.2.2.2 = true) (t2 : lay a2 = (0, 9, 8)) (t3 : lay a3 = (0, 9, 8)) (t4 : lay a4 = (0, 3, 2)) (H : W_X0_layJoined g d av Q n 161 [some (.ref 0), some (.int x1), some (.ref a2), some (.ref a3), some (.ref a4), none, some (.int x6), some (.int (x7 + (1 : Int32))), none] [] h) : W_X0_layJoined g d av Q n 297 [some (.ref 0), some (.int x1), some (.ref a2), some (.ref a3), some (.ref a4), none, some (.int x6), some (.int x7), none] [] h := by
  refine r_iinc (v := (x7 + (1 : Int32))) (ls2 := [some (.ref 0), some (.int x1), some (.ref a2), some (.ref a3), some (.ref a4), none, some (.int x6), some (.int (x7 + (1 : Int32))), none]) dX0_layJoined_297 rfl rfl (by decide) rfl ?_
  refine r_goto (tgt := 161) dX0_layJoined_300 rfl ?_
  exact H
theorem s_X0_layJoined_306 {g : GX} {d : Nat} {av : List Value} {Q : QT} {n : Nat} {h : Hp} {x1 : Int32} {a2 : Nat} {a3 : Nat} {a4 : Nat} {x6 : Int32} {x7 : Int32} (hp : g.2.2.2.2 = true) (t2 : lay a2 = (0, 9, 8)) (t3 : lay a3 = (0, 9, 8)) (t4 : lay a4 = (0, 3, 2)) (H : (((2 : Int32) ≤ x1) → (W_X0_layJoined g d av Q n 401 [some (.ref 0), some (.int x1), some (.ref a2), some (.ref a3), some (.ref a4), none, some (.int x6), none, none] [] h)) ∧ ((¬ (2 : Int32) ≤ x1) → ((((ri h a3 3) ≤ x7) → (W_X0_layJoined g d av Q n 401 [some (.ref 0), some (.int x1), some (.ref a2), some (.ref a3), some (.ref a4), none, some (.int x6), none, none] [] h)) ∧ ((¬ (ri h a3 3) ≤ x7) → (vp_in ((ri h a2 3) + x7) 24 ∧ ∃ r1 Lr1, rr h 114 (((ri h a2 3) + x7)).toNatClampNeg = some r1 ∧ (lay r1 = (2, Lr1, 3) ∧ r1 < N0) ∧ (vp_in x6 Lr1 ∧ ∃ r2, rr h r1 (x6).toNatClampNeg = some r2 ∧ lay r2 = (0, 3, 2) ∧ (vp_in x6 7 ∧ ∀ r3, r3 = 985 + 1 * (x6).toNatClampNeg → (vp_in x7 6 ∧ ∃ r4, rr h r3 (x7).toNatClampNeg = some r4 ∧ lay r4 = (0, 3, 2) ∧ (vp_in x6 7 ∧ ∀ r5, r5 = 871 + 16 * (x6).toNatClampNeg → (CallV g m_X3_product d [.ref r2, .ref r4, .ref r5] n h (fun h6 => (vp_in ((ri h6 a2 3) + x7) 24 ∧ ∃ r7 Lr7, rr h6 114 (((ri h6 a2 3) + x7)).toNatClampNeg = some r7 ∧ (lay r7 = (2, Lr7, 3) ∧ r7 < N0) ∧ (vp_in x6 Lr7 ∧ ∃ r8, rr h6 r7 (x6).toNatClampNeg = some r8 ∧ lay r8 = (0, 3, 2) ∧ (((¬ x1 = (0 : Int32)) → (W_X0_layJoined g d av Q n 392 [some (.ref 0), some (.int x1), some (.ref a2), some (.ref a3), some (.ref a4), none, some (.int x6), some (.int x7), none] [.int (2147483646 : Int32), .ref r8] h6)) ∧ ((x1 = (0 : Int32)) → (W_X0_layJoined g d av Q n 392 [some (.ref 0), some (.int x1), some (.ref a2), some (.ref a3), some (.ref a4), none, some (.int x6), some (.int x7), none] [.int (1 : Int32), .ref r8] h6)))))))))))))))) : W_X0_layJoined g d av Q n 306 [some (.ref 0), some (.int x1), some (.ref a2), some (.ref a3), some (.ref a4), none, some (.int x6), some (.int x7), none] [] h := by
  refine r_iload_n dX0_layJoined_306 rfl rfl ?_
  refine r_iconst (v := (2 : Int32)) dX0_layJoined_307 rfl ?_
  refine r_icmp_ge (tgt := 401) dX0_layJoined_308 rfl (fun cH => ?_) (fun cH => ?_)
  · replace H := H.1 cH
    refine r_prune [true, true, true, true, true, false, true, false, false] (ls2 := [some (.ref 0), some (.int x1), some (.ref a2), some (.ref a3), some (.ref a4), none, some (.int x6), none, none]) rfl ?_
    exact H
  · replace H := H.2 cH
    refine r_iload dX0_layJoined_311 rfl ?_
    refine r_aload_n dX0_layJoined_313 rfl rfl ?_
    refine m_getI hp fw_X0_575 dX0_layJoined_314 rfl t3 ?_
    refine r_icmp_ge (tgt := 401) dX0_layJoined_317 rfl (fun cH => ?_) (fun cH => ?_)
    · replace H := H.1 cH
      refine r_prune [true, true, true, true, true, false, true, false, false] (ls2 := [some (.ref 0), some (.int x1), some (.ref a2), some (.ref a3), some (.ref a4), none, some (.int x6), none, none]) rfl ?_
      exact H
    · replace H := H.2 cH
      refine r_aload_n dX0_layJoined_320 rfl rfl ?_
      refine m_getF (x := 113) hp fw_X0_382 dX0_layJoined_321 rfl ly_0 (ff_0_37 ly_0) ?_
      refine m_getF (x := 114) hp fw_X0_694 dX0_layJoined_324 rfl (lf_0_37 ly_0) (ff_7_1 (lf_0_37 ly_0)) ?_
      refine r_aload_n dX0_layJoined_327 rfl rfl ?_
      refine m_getI hp fw_X0_575 dX0_layJoined_328 rfl t2 ?_
      refine r_iload dX0_layJoined_331 rfl ?_
      refine r_iadd dX0_layJoined_333 ?_
      have hir1 := H.1
      obtain ⟨r1, Lr1, er1, tr1, H⟩ := H.2
      refine m_aalM (x := r1) hp dX0_layJoined_334 (lf_7_1 (lf_0_37 ly_0)) rfl rfl (lu_7_1 (lf_0_37 ly_0)) hir1 er1 ?_
      refine r_iload dX0_layJoined_335 rfl ?_
      have hir2 := H.1
      obtain ⟨r2, er2, tr2, H⟩ := H.2
      refine m_aalM (x := r2) hp dX0_layJoined_337 tr1.1 rfl rfl tr1.2 hir2 er2 ?_
      refine r_aload_n dX0_layJoined_338 rfl rfl ?_
      refine m_getF (x := 983) hp fw_X0_467 dX0_layJoined_339 rfl ly_0 (ff_0_64 ly_0) ?_
      refine m_getF (x := 984) hp fw_X0_824 dX0_layJoined_342 rfl (lf_0_64 ly_0) (ff_8_0 (Or.inr rfl)) ?_
      refine r_iload dX0_layJoined_345 rfl ?_
      obtain ⟨r3, er3⟩ : ∃ y, y = 985 + 1 * (x6).toNatClampNeg := ⟨_, rfl⟩
      have hir3 := H.1
      replace H := H.2 r3 er3
      have tLr3 := la_984 hir3 er3
      have tUr3 := lau_984 hir3 er3
      refine m_aalF (x := r3) hp dX0_layJoined_347 (lf_8_0 (Or.inr rfl)) rfl rfl (lu_8_0 (Or.inr rfl)) hir3 (fa_984 hir3 er3) ?_
      refine r_iload dX0_layJoined_348 rfl ?_
      have hir4 := H.1
      obtain ⟨r4, er4, tr4, H⟩ := H.2
      refine m_aalM (x := r4) hp dX0_layJoined_350 tLr3 rfl rfl tUr3 hir4 er4 ?_
      refine r_aload_n dX0_layJoined_351 rfl rfl ?_
      refine m_getF (x := 856) hp fw_X0_463 dX0_layJoined_352 rfl ly_0 (ff_0_63 ly_0) ?_
      refine m_getF (x := 865) hp fw_X0_822 dX0_layJoined_355 rfl (lf_0_63 ly_0) (ff_8_1 (Or.inl rfl)) ?_
      refine r_iload dX0_layJoined_358 rfl ?_
      obtain ⟨r5, er5⟩ : ∃ y, y = 871 + 16 * (x6).toNatClampNeg := ⟨_, rfl⟩
      have hir5 := H.1
      replace H := H.2 r5 er5
      have tLr5 := la_865 hir5 er5
      refine m_aalF (x := r5) hp dX0_layJoined_360 (lf_8_1 (Or.inl rfl)) rfl rfl (lu_8_1 (Or.inl rfl)) hir5 (fa_865 hir5 er5) ?_
      refine k_VV (As := [.ref r4, .ref r5]) (stk := []) hp cv_X0_739 dX0_layJoined_361 rfl (Nat.le_of_ble_eq_true rfl) tr2 (H.mono (fun h6 H => ?_)) ⟨Nat.le_refl _, Nat.le_refl _⟩
      refine r_aload_n dX0_layJoined_364 rfl rfl ?_
      refine m_getF (x := 113) hp fw_X0_382 dX0_layJoined_365 rfl ly_0 (ff_0_37 ly_0) ?_
      refine m_getF (x := 114) hp fw_X0_694 dX0_layJoined_368 rfl (lf_0_37 ly_0) (ff_7_1 (lf_0_37 ly_0)) ?_
      refine r_aload_n dX0_layJoined_371 rfl rfl ?_
      refine m_getI hp fw_X0_575 dX0_layJoined_372 rfl t2 ?_
      refine r_iload dX0_layJoined_375 rfl ?_
      refine r_iadd dX0_layJoined_377 ?_
      have hir7 := H.1
      obtain ⟨r7, Lr7, er7, tr7, H⟩ := H.2
      refine m_aalM (x := r7) hp dX0_layJoined_378 (lf_7_1 (lf_0_37 ly_0)) rfl rfl (lu_7_1 (lf_0_37 ly_0)) hir7 er7 ?_
      refine r_iload dX0_layJoined_379 rfl ?_
      have hir8 := H.1
      obtain ⟨r8, er8, tr8, H⟩ := H.2
      refine m_aalM (x := r8) hp dX0_layJoined_381 tr7.1 rfl rfl tr7.2 hir8 er8 ?_
      refine r_iload_n dX0_layJoined_382 rfl rfl ?_
      refine r_if_ne (tgt := 390) dX0_layJoined_383 rfl (fun cH => ?_) (fun cH => ?_)
      · replace H := H.1 cH
        refine r_ldc (own := "") (v := (2147483646 : Int32)) dX0_layJoined_390 q1022 ?_
        exact H
      · replace H := H.2 cH
        refine r_iconst (v := (1 : Int32)) dX0_layJoined_386 rfl ?_
        refine r_goto (tgt := 392) dX0_layJoined_387 rfl ?_
        exact H
theorem s_X0_layJoined_392 {g : GX} {d : Nat} {av : List Value} {Q : QT} {n : Nat} {h : Hp} {x1 : Int32} {a2 : Nat} {a3 : Nat} {a4 : Nat} {x6 : Int32} {x7 : Int32} {xs0 : Int32} {as1 : Nat} (hp : g.2.2.2.2 = true) (t2 : lay a2 = (0, 9, 8)) (t3 : lay a3 = (0, 9, 8)) (t4 : lay a4 = (0, 3, 2)) (ts1 : lay as1 = (0, 3, 2)) (H : CallV g m_X3_scale d [.ref as1, .int xs0] n h (fun h1 => (W_X0_layJoined g d av Q n 306 [some (.ref 0), some (.int x1), some (.ref a2), some (.ref a3), some (.ref a4), none, some (.int x6), some (.int (x7 + (1 : Int32))), none] [] h1))) : W_X0_layJoined g d av Q n 392 [some (.ref 0), some (.int x1), some (.ref a2), some (.ref a3), some (.ref a4), none, some (.int x6), some (.int x7), none] [.int xs0, .ref as1] h := by
  refine k_VV (As := [.int xs0]) (stk := []) hp cv_X0_697 dX0_layJoined_392 rfl (Nat.le_of_ble_eq_true rfl) ts1 (H.mono (fun h1 H => ?_)) ⟨Nat.le_refl _, Nat.le_refl _⟩
  refine r_iinc (v := (x7 + (1 : Int32))) (ls2 := [some (.ref 0), some (.int x1), some (.ref a2), some (.ref a3), some (.ref a4), none, some (.int x6), some (.int (x7 + (1 : Int32))), none]) dX0_layJoined_395 rfl rfl (by decide) rfl ?_
  refine r_goto (tgt := 306) dX0_layJoined_398 rfl ?_
  exact H
theorem s_X0_layJoined_401 {g : GX} {d : Nat} {av : List Value} {Q : QT} {n : Nat} {h : Hp} {x1 : Int32} {a2 : Nat} {a3 : Nat} {a4 : Nat} {x6 : Int32} (hp : g.2.2.2.2 = true) (t2 : lay a2 = (0, 9, 8)) (t3 : lay a3 = (0, 9, 8)) (t4 : lay a4 = (0, 3, 2)) (H : W_X0_layJoined g d av Q n 75 [some (.ref 0), some (.int x1), some (.ref a2), some (.ref a3), some (.ref a4), none, some (.int (x6 + (1 : Int32))), none, none] [] h) : W_X0_layJoined g d av Q n 401 [some (.ref 0), some (.int x1), some (.ref a2), some (.ref a3), some (.ref a4), none, some (.int x6), none, none] [] h := by
  refine r_iinc (v := (x6 + (1 : Int32))) (ls2 := [some (.ref 0), some (.int x1), some (.ref a2), some (.ref a3), some (.ref a4), none, some (.int (x6 + (1 : Int32))), none, none]) dX0_layJoined_401 rfl rfl (by decide) rfl ?_
  refine r_goto (tgt := 75) dX0_layJoined_404 rfl ?_
  exact H
abbrev W_X0_findJoined (g : GX) (d : Nat) (av : List Value) (Q : QT) (n : Nat) (pc : Nat) (ls : LV) (stk : List Value) (h : Hp) : Prop := RJ g m_X0_findJoined (d + 1) 0 0 av Q pc ls stk n h 0 0
theorem s_X0_findJoined_0 {g : GX} {d : Nat} {av : List Value} {Q : QT} {n : Nat} {h : Hp}  (hp : g.2.2.2.2 = true)  (H : CallI g m_X7_clear d [.ref 113, .int (1 : Int32)] n h (fun v1 h1 => ((((0 : Int32) ≤ v1) → (W_X0_findJoined g d av Q n 17 [some (.ref 0), some (.int v1), some (.int (0 : Int32))] [] h1)) ∧ ((¬ (0 : Int32) ≤ v1) → (Q (some (.int (0 : Int32))) n h1))))) : W_X0_findJoined g d av Q n 0 [some (.ref 0), none, none] [] h := by
  refine r_aload_n dX0_findJoined_0 rfl rfl ?_
  refine m_getF (x := 113) hp fw_X0_382 dX0_findJoined_1 rfl ly_0 (ff_0_37 ly_0) ?_
  refine r_iconst (v := (1 : Int32)) dX0_findJoined_4 rfl ?_
  refine k_VI (As := [.int (1 : Int32)]) (stk := []) hp cv_X0_703 dX0_findJoined_5 rfl (Nat.le_of_ble_eq_true rfl) (lf_0_37 ly_0) (H.mono (fun v1 h1 H => ?_)) ⟨Nat.le_refl _, Nat.le_refl _⟩
  refine r_istore_n (ls2 := [some (.ref 0), some (.int v1), none]) dX0_findJoined_8 rfl (by decide) rfl ?_
  refine r_iload_n dX0_findJoined_9 rfl rfl ?_
  refine r_if_ge (tgt := 15) dX0_findJoined_10 rfl (fun cH => ?_) (fun cH => ?_)
  · replace H := H.1 cH
    refine r_iconst (v := (0 : Int32)) dX0_findJoined_15 rfl ?_
    refine r_istore_n (ls2 := [some (.ref 0), some (.int v1), some (.int (0 : Int32))]) dX0_findJoined_16 rfl (by decide) rfl ?_
    exact H
  · replace H := H.2 cH
    refine r_iconst (v := (0 : Int32)) dX0_findJoined_13 rfl ?_
    exact r_zret dX0_findJoined_14 rfl rfl (Nat.le_refl _) (Nat.le_refl _) H
theorem s_X0_findJoined_17 {g : GX} {d : Nat} {av : List Value} {Q : QT} {n : Nat} {h : Hp} {x1 : Int32} {x2 : Int32} (hp : g.2.2.2.2 = true)  (H : ((x1 < x2) → (∀ h1, h1 = wi h 0 62 x1 → (Q (some (.int (1 : Int32))) n h1))) ∧ ((¬ x1 < x2) → (CallV g m_X7_number d [.ref 113, .int x2, .int x1, .ref 832] n h (fun h2 => (vp_in x2 8 ∧ ∀ r3, r3 = 2601 + 2 * (x2).toNatClampNeg → (vp_in x2 7 ∧ ∀ r4, r4 = 2617 + 2 * (x2).toNatClampNeg → (CallV g m_X3_product d [.ref r3, .ref 832, .ref r4] n h2 (fun h5 => (W_X0_findJoined g d av Q n 17 [some (.ref 0), some (.int x1), some (.int (x2 + (1 : Int32)))] [] h5))))))))) : W_X0_findJoined g d av Q n 17 [some (.ref 0), some (.int x1), some (.int x2)] [] h := by
  refine r_iload_n dX0_findJoined_17 rfl rfl ?_
  refine r_iload_n dX0_findJoined_18 rfl rfl ?_
  refine r_icmp_gt (tgt := 60) dX0_findJoined_19 rfl (fun cH => ?_) (fun cH => ?_)
  · replace H := H.1 cH
    refine r_aload_n dX0_findJoined_60 rfl rfl ?_
    refine r_iload_n dX0_findJoined_61 rfl rfl ?_
    refine m_putI hp fw_X0_787 dX0_findJoined_62 rfl rfl ly_0 (fun h1 eh1 => ?_)
    replace H := H h1 eh1
    refine r_iconst (v := (1 : Int32)) dX0_findJoined_65 rfl ?_
    exact r_zret dX0_findJoined_66 rfl rfl (Nat.le_refl _) (Nat.le_refl _) H
  · replace H := H.2 cH
    refine r_aload_n dX0_findJoined_22 rfl rfl ?_
    refine m_getF (x := 113) hp fw_X0_382 dX0_findJoined_23 rfl ly_0 (ff_0_37 ly_0) ?_
    refine r_iload_n dX0_findJoined_26 rfl rfl ?_
    refine r_iload_n dX0_findJoined_27 rfl rfl ?_
    refine r_aload_n dX0_findJoined_28 rfl rfl ?_
    refine m_getF (x := 832) hp fw_X0_411 dX0_findJoined_29 rfl ly_0 (ff_0_46 ly_0) ?_
    refine k_VV (As := [.int x2, .int x1, .ref 832]) (stk := []) hp cv_X0_711 dX0_findJoined_32 rfl (Nat.le_of_ble_eq_true rfl) (lf_0_37 ly_0) (H.mono (fun h2 H => ?_)) ⟨Nat.le_refl _, Nat.le_refl _⟩
    refine r_aload_n dX0_findJoined_35 rfl rfl ?_
    refine m_getF (x := 855) hp fw_X0_455 dX0_findJoined_36 rfl ly_0 (ff_0_61 ly_0) ?_
    refine r_iload_n dX0_findJoined_39 rfl rfl ?_
    obtain ⟨r3, er3⟩ : ∃ y, y = 2601 + 2 * (x2).toNatClampNeg := ⟨_, rfl⟩
    have hir3 := H.1
    replace H := H.2 r3 er3
    have tLr3 := la_855 hir3 er3
    refine m_aalF (x := r3) hp dX0_findJoined_40 (lf_0_61 ly_0) rfl rfl (lu_0_61 ly_0) hir3 (fa_855 hir3 er3) ?_
    refine r_aload_n dX0_findJoined_41 rfl rfl ?_
    refine m_getF (x := 832) hp fw_X0_411 dX0_findJoined_42 rfl ly_0 (ff_0_46 ly_0) ?_
    refine r_aload_n dX0_findJoined_45 rfl rfl ?_
    refine m_getF (x := 1110) hp fw_X0_470 dX0_findJoined_46 rfl ly_0 (ff_0_65 ly_0) ?_
    refine r_iload_n dX0_findJoined_49 rfl rfl ?_
    obtain ⟨r4, er4⟩ : ∃ y, y = 2617 + 2 * (x2).toNatClampNeg := ⟨_, rfl⟩
    have hir4 := H.1
    replace H := H.2 r4 er4
    have tLr4 := la_1110 hir4 er4
    refine m_aalF (x := r4) hp dX0_findJoined_50 (lf_0_65 ly_0) rfl rfl (lu_0_65 ly_0) hir4 (fa_1110 hir4 er4) ?_
    refine k_VV (As := [.ref 832, .ref r4]) (stk := []) hp cv_X0_739 dX0_findJoined_51 rfl (Nat.le_of_ble_eq_true rfl) tLr3 (H.mono (fun h5 H => ?_)) ⟨Nat.le_refl _, Nat.le_refl _⟩
    refine r_iinc (v := (x2 + (1 : Int32))) (ls2 := [some (.ref 0), some (.int x1), some (.int (x2 + (1 : Int32)))]) dX0_findJoined_54 rfl rfl (by decide) rfl ?_
    refine r_goto (tgt := 17) dX0_findJoined_57 rfl ?_
    exact H
abbrev W_X0_keepJoined (g : GX) (d : Nat) (av : List Value) (Q : QT) (n : Nat) (pc : Nat) (ls : LV) (stk : List Value) (h : Hp) : Prop := RJ g m_X0_keepJoined (d + 1) 0 0 av Q pc ls stk n h 0 0
theorem s_X0_keepJoined_0 {g : GX} {d : Nat} {av : List Value} {Q : QT} {n : Nat} {h : Hp} {x1 : Int32} {a2 : Nat} {a3 : Nat} {x4 : Int32} {x5 : Int32} (hp : g.2.2.2.2 = true) (t2 : lay a2 = (0, 9, 8)) (t3 : lay a3 = (0, 9, 8)) (H : CallI g m_X0_needsOf d [.ref 855, .int (ri h 0 62)] n h (fun v1 h1 => (CallI g m_J3_max d [.int x5, .int v1] n h1 (fun v2 h2 => (((v2 ≤ (60 : Int32)) → (W_X0_keepJoined g d av Q n 31 [some (.ref 0), some (.int x1), some (.ref a2), some (.ref a3), some (.int x4), some (.int x5), some (.int v2), some (.int (0 : Int32)), none] [] h2)) ∧ ((¬ v2 ≤ (60 : Int32)) → (Q (some (.int (-2 : Int32))) n h2))))))) : W_X0_keepJoined g d av Q n 0 [some (.ref 0), some (.int x1), some (.ref a2), some (.ref a3), some (.int x4), some (.int x5), none, none, none] [] h := by
  refine r_iload dX0_keepJoined_0 rfl ?_
  refine r_aload_n dX0_keepJoined_2 rfl rfl ?_
  refine m_getF (x := 855) hp fw_X0_455 dX0_keepJoined_3 rfl ly_0 (ff_0_61 ly_0) ?_
  refine r_aload_n dX0_keepJoined_6 rfl rfl ?_
  refine m_getI hp fw_X0_787 dX0_keepJoined_7 rfl ly_0 ?_
  refine k_SI (As := [.ref 855, .int (ri h 0 62)]) (stk := [.int x5]) cs_X0_790 dX0_keepJoined_10 rfl (Nat.le_of_ble_eq_true rfl) (H.mono (fun v1 h1 H => ?_)) ⟨Nat.le_refl _, Nat.le_refl _⟩
  refine k_SI (As := [.int x5, .int v1]) (stk := []) cs_X0_679 dX0_keepJoined_13 rfl (Nat.le_of_ble_eq_true rfl) (H.mono (fun v2 h2 H => ?_)) ⟨Nat.le_refl _, Nat.le_refl _⟩
  refine r_istore (ls2 := [some (.ref 0), some (.int x1), some (.ref a2), some (.ref a3), some (.int x4), some (.int x5), some (.int v2), none, none]) dX0_keepJoined_16 (by decide) rfl ?_
  refine r_iload dX0_keepJoined_18 rfl ?_
  refine r_bipush (v := (60 : Int32)) dX0_keepJoined_20 rfl ?_
  refine r_icmp_le (tgt := 28) dX0_keepJoined_22 rfl (fun cH => ?_) (fun cH => ?_)
  · replace H := H.1 cH
    refine r_iconst (v := (0 : Int32)) dX0_keepJoined_28 rfl ?_
    refine r_istore (ls2 := [some (.ref 0), some (.int x1), some (.ref a2), some (.ref a3), some (.int x4), some (.int x5), some (.int v2), some (.int (0 : Int32)), none]) dX0_keepJoined_29 (by decide) rfl ?_
    exact H
  · replace H := H.2 cH
    refine r_bipush (v := (-2 : Int32)) dX0_keepJoined_25 rfl ?_
    exact r_zret dX0_keepJoined_27 rfl rfl (Nat.le_refl _) (Nat.le_refl _) H
theorem s_X0_keepJoined_31 {g : GX} {d : Nat} {av : List Value} {Q : QT} {n : Nat} {h : Hp} {x1 : Int32} {a2 : Nat} {a3 : Nat} {x4 : Int32} {x5 : Int32} {x6 : Int32} {x7 : Int32} (hp : g.2.2.2.2 = true) (t2 : lay a2 = (0, 9, 8)) (t3 : lay a3 = (0, 9, 8)) (H : ((x6 ≤ x7) → (CallI g m_X0_keepRow d [.ref 0, .int x4, .int x5] n h (fun v1 h1 => (W_X0_keepJoined g d av Q n 77 [some (.ref 0), none, none, none, some (.int x4), none, some (.int x6), some (.int v1), some (.int (0 : Int32))] [] h1)))) ∧ ((¬ x6 ≤ x7) → (CallI g m_X0_joinedAt d [.ref 0, .int x1, .ref a2, .ref a3, .ref 1112, .int x7] n h (fun v2 h2 => (vp_in x7 60 ∧ ∀ h3, h3 = wi h2 1111 (x7).toNatClampNeg v2 → (W_X0_keepJoined g d av Q n 31 [some (.ref 0), some (.int x1), some (.ref a2), some (.ref a3), some (.int x4), some (.int x5), some (.int x6), some (.int (x7 + (1 : Int32))), none] [] h3)))))) : W_X0_keepJoined g d av Q n 31 [some (.ref 0), some (.int x1), some (.ref a2), some (.ref a3), some (.int x4), some (.int x5), some (.int x6), some (.int x7), none] [] h := by
  refine r_iload dX0_keepJoined_31 rfl ?_
  refine r_iload dX0_keepJoined_33 rfl ?_
  refine r_icmp_ge (tgt := 64) dX0_keepJoined_35 rfl (fun cH => ?_) (fun cH => ?_)
  · replace H := H.1 cH
    refine r_aload_n dX0_keepJoined_64 rfl rfl ?_
    refine r_iload dX0_keepJoined_65 rfl ?_
    refine r_iload dX0_keepJoined_67 rfl ?_
    refine k_VI (As := [.int x4, .int x5]) (stk := []) hp cv_X0_804 dX0_keepJoined_69 rfl (Nat.le_of_ble_eq_true rfl) ly_0 (H.mono (fun v1 h1 H => ?_)) ⟨Nat.le_refl _, Nat.le_refl _⟩
    refine r_istore (ls2 := [some (.ref 0), some (.int x1), some (.ref a2), some (.ref a3), some (.int x4), some (.int x5), some (.int x6), some (.int v1), none]) dX0_keepJoined_72 (by decide) rfl ?_
    refine r_iconst (v := (0 : Int32)) dX0_keepJoined_74 rfl ?_
    refine r_istore (ls2 := [some (.ref 0), some (.int x1), some (.ref a2), some (.ref a3), some (.int x4), some (.int x5), some (.int x6), some (.int v1), some (.int (0 : Int32))]) dX0_keepJoined_75 (by decide) rfl ?_
    refine r_prune [true, false, false, false, true, false, true, true, true] (ls2 := [some (.ref 0), none, none, none, some (.int x4), none, some (.int x6), some (.int v1), some (.int (0 : Int32))]) rfl ?_
    exact H
  · replace H := H.2 cH
    refine r_aload_n dX0_keepJoined_38 rfl rfl ?_
    refine m_getF (x := 1111) hp fw_X0_473 dX0_keepJoined_39 rfl ly_0 (ff_0_66 ly_0) ?_
    refine r_iload dX0_keepJoined_42 rfl ?_
    refine r_aload_n dX0_keepJoined_44 rfl rfl ?_
    refine r_iload_n dX0_keepJoined_45 rfl rfl ?_
    refine r_aload_n dX0_keepJoined_46 rfl rfl ?_
    refine r_aload_n dX0_keepJoined_47 rfl rfl ?_
    refine r_aload_n dX0_keepJoined_48 rfl rfl ?_
    refine m_getF (x := 1112) hp fw_X0_476 dX0_keepJoined_49 rfl ly_0 (ff_0_67 ly_0) ?_
    refine r_iload dX0_keepJoined_52 rfl ?_
    refine k_VI (As := [.int x1, .ref a2, .ref a3, .ref 1112, .int x7]) (stk := [.int x7, .ref 1111]) hp cv_X0_850 dX0_keepJoined_54 rfl (Nat.le_of_ble_eq_true rfl) ly_0 (H.mono (fun v2 h2 H => ?_)) ⟨Nat.le_refl _, Nat.le_refl _⟩
    refine m_iast hp dX0_keepJoined_57 (lf_0_66 ly_0) H.1 (fun h3 eh3 => ?_)
    replace H := H.2 h3 eh3
    refine r_iinc (v := (x7 + (1 : Int32))) (ls2 := [some (.ref 0), some (.int x1), some (.ref a2), some (.ref a3), some (.int x4), some (.int x5), some (.int x6), some (.int (x7 + (1 : Int32))), none]) dX0_keepJoined_58 rfl rfl (by decide) rfl ?_
    refine r_goto (tgt := 31) dX0_keepJoined_61 rfl ?_
    exact H
theorem s_X0_keepJoined_77 {g : GX} {d : Nat} {av : List Value} {Q : QT} {n : Nat} {h : Hp} {x4 : Int32} {x6 : Int32} {x7 : Int32} {x8 : Int32} (hp : g.2.2.2.2 = true)  (H : ((x6 ≤ x8) → (W_X0_keepJoined g d av Q n 115 [some (.ref 0), none, none, none, some (.int x4), none, some (.int x6), some (.int x7), none] [] h)) ∧ ((¬ x6 ≤ x8) → (((x7 ≤ (0 : Int32)) → (W_X0_keepJoined g d av Q n 115 [some (.ref 0), none, none, none, some (.int x4), none, some (.int x6), some (.int x7), none] [] h)) ∧ ((¬ x7 ≤ (0 : Int32)) → (vp_in x4 12 ∧ ∀ r1, r1 = 1185 + 27 * (x4).toNatClampNeg → (vp_in x8 60 ∧ (vp_in x8 301 ∧ ∀ h2, h2 = wi h (r1 + 12) (x8).toNatClampNeg (ri h 1111 (x8).toNatClampNeg) → (W_X0_keepJoined g d av Q n 77 [some (.ref 0), none, none, none, some (.int x4), none, some (.int x6), some (.int x7), some (.int (x8 + (1 : Int32)))] [] h2)))))))) : W_X0_keepJoined g d av Q n 77 [some (.ref 0), none, none, none, some (.int x4), none, some (.int x6), some (.int x7), some (.int x8)] [] h := by
  refine r_iload dX0_keepJoined_77 rfl ?_
  refine r_iload dX0_keepJoined_79 rfl ?_
  refine r_icmp_ge (tgt := 115) dX0_keepJoined_81 rfl (fun cH => ?_) (fun cH => ?_)
  · replace H := H.1 cH
    refine r_prune [true, false, false, false, true, false, true, true, false] (ls2 := [some (.ref 0), none, none, none, some (.int x4), none, some (.int x6), some (.int x7), none]) rfl ?_
    exact H
  · replace H := H.2 cH
    refine r_iload dX0_keepJoined_84 rfl ?_
    refine r_if_le (tgt := 115) dX0_keepJoined_86 rfl (fun cH => ?_) (fun cH => ?_)
    · replace H := H.1 cH
      refine r_prune [true, false, false, false, true, false, true, true, false] (ls2 := [some (.ref 0), none, none, none, some (.int x4), none, some (.int x6), some (.int x7), none]) rfl ?_
      exact H
    · replace H := H.2 cH
      refine r_aload_n dX0_keepJoined_89 rfl rfl ?_
      refine m_getF (x := 79) hp fw_X0_326 dX0_keepJoined_90 rfl ly_0 (ff_0_20 ly_0) ?_
      refine r_iload dX0_keepJoined_93 rfl ?_
      obtain ⟨r1, er1⟩ : ∃ y, y = 1185 + 27 * (x4).toNatClampNeg := ⟨_, rfl⟩
      have hir1 := H.1
      replace H := H.2 r1 er1
      have tLr1 := la_79 hir1 er1
      refine m_aalF (x := r1) hp dX0_keepJoined_95 (lf_0_20 ly_0) rfl rfl (lu_0_20 ly_0) hir1 (fa_79 hir1 er1) ?_
      refine m_getF (x := (r1 + 12)) hp fw_X0_807 dX0_keepJoined_96 rfl tLr1 (ff_9_6 tLr1) ?_
      refine r_iload dX0_keepJoined_99 rfl ?_
      refine r_aload_n dX0_keepJoined_101 rfl rfl ?_
      refine m_getF (x := 1111) hp fw_X0_473 dX0_keepJoined_102 rfl ly_0 (ff_0_66 ly_0) ?_
      refine r_iload dX0_keepJoined_105 rfl ?_
      refine m_iald hp dX0_keepJoined_107 (lf_0_66 ly_0) H.1 ?_
      replace H := H.2
      refine m_iast hp dX0_keepJoined_108 (lf_9_6 tLr1) H.1 (fun h2 eh2 => ?_)
      replace H := H.2 h2 eh2
      refine r_iinc (v := (x8 + (1 : Int32))) (ls2 := [some (.ref 0), none, none, none, some (.int x4), none, some (.int x6), some (.int x7), some (.int (x8 + (1 : Int32)))]) dX0_keepJoined_109 rfl rfl (by decide) rfl ?_
      refine r_goto (tgt := 77) dX0_keepJoined_112 rfl ?_
      exact H
theorem s_X0_keepJoined_115 {g : GX} {d : Nat} {av : List Value} {Q : QT} {n : Nat} {h : Hp} {x4 : Int32} {x6 : Int32} {x7 : Int32} (hp : g.2.2.2.2 = true)  (H : ((x7 ≤ (0 : Int32)) → (Q (some (.int x7)) n h)) ∧ ((¬ x7 ≤ (0 : Int32)) → (vp_in x4 12 ∧ ∀ r1, r1 = 1185 + 27 * (x4).toNatClampNeg → (∀ h2, h2 = wi h r1 5 x6 → (vp_in x4 12 ∧ ∀ r3, r3 = 1185 + 27 * (x4).toNatClampNeg → (∀ h4, h4 = wi h2 r3 7 x6 → (Q (some (.int x7)) n h4))))))) : W_X0_keepJoined g d av Q n 115 [some (.ref 0), none, none, none, some (.int x4), none, some (.int x6), some (.int x7), none] [] h := by
  refine r_iload dX0_keepJoined_115 rfl ?_
  refine r_if_le (tgt := 144) dX0_keepJoined_117 rfl (fun cH => ?_) (fun cH => ?_)
  · replace H := H.1 cH
    refine r_iload dX0_keepJoined_144 rfl ?_
    exact r_zret dX0_keepJoined_146 rfl rfl (Nat.le_refl _) (Nat.le_refl _) H
  · replace H := H.2 cH
    refine r_aload_n dX0_keepJoined_120 rfl rfl ?_
    refine m_getF (x := 79) hp fw_X0_326 dX0_keepJoined_121 rfl ly_0 (ff_0_20 ly_0) ?_
    refine r_iload dX0_keepJoined_124 rfl ?_
    obtain ⟨r1, er1⟩ : ∃ y, y = 1185 + 27 * (x4).toNatClampNeg := ⟨_, rfl⟩
    have hir1 := H.1
    replace H := H.2 r1 er1
    have tLr1 := la_79 hir1 er1
    refine m_aalF (x := r1) hp dX0_keepJoined_126 (lf_0_20 ly_0) rfl rfl (lu_0_20 ly_0) hir1 (fa_79 hir1 er1) ?_
    refine r_iload dX0_keepJoined_127 rfl ?_
    refine m_putI hp fw_X0_794 dX0_keepJoined_129 rfl rfl tLr1 (fun h2 eh2 => ?_)
    replace H := H h2 eh2
    refine r_aload_n dX0_keepJoined_132 rfl rfl ?_
    refine m_getF (x := 79) hp fw_X0_326 dX0_keepJoined_133 rfl ly_0 (ff_0_20 ly_0) ?_
    refine r_iload dX0_keepJoined_136 rfl ?_
    obtain ⟨r3, er3⟩ : ∃ y, y = 1185 + 27 * (x4).toNatClampNeg := ⟨_, rfl⟩
    have hir3 := H.1
    replace H := H.2 r3 er3
    have tLr3 := la_79 hir3 er3
    refine m_aalF (x := r3) hp dX0_keepJoined_138 (lf_0_20 ly_0) rfl rfl (lu_0_20 ly_0) hir3 (fa_79 hir3 er3) ?_
    refine r_iload dX0_keepJoined_139 rfl ?_
    refine m_putI hp fw_X0_797 dX0_keepJoined_141 rfl rfl tLr3 (fun h4 eh4 => ?_)
    replace H := H h4 eh4
    refine r_iload dX0_keepJoined_144 rfl ?_
    exact r_zret dX0_keepJoined_146 rfl rfl (Nat.le_refl _) (Nat.le_refl _) H
abbrev W_X0_joinedAt (g : GX) (d : Nat) (av : List Value) (Q : QT) (n : Nat) (pc : Nat) (ls : LV) (stk : List Value) (h : Hp) : Prop := RJ g m_X0_joinedAt (d + 1) 0 0 av Q pc ls stk n h 0 0
theorem s_X0_joinedAt_0 {g : GX} {d : Nat} {av : List Value} {Q : QT} {n : Nat} {h : Hp} {x1 : Int32} {a2 : Nat} {a3 : Nat} {a4 : Nat} {x5 : Int32} (hp : g.2.2.2.2 = true) (t2 : lay a2 = (0, 9, 8)) (t3 : lay a3 = (0, 9, 8)) (t4 : lay a4 = (0, 3, 2)) (H : ((¬ x1 = (4 : Int32)) → (W_X0_joinedAt g d av Q n 16 [some (.ref 0), some (.int x1), none, some (.ref a3), some (.ref a4), some (.int x5), none] [.int x5, .ref a2, .ref 0] h)) ∧ ((x1 = (4 : Int32)) → (W_X0_joinedAt g d av Q n 16 [some (.ref 0), some (.int x1), none, some (.ref a3), some (.ref a4), some (.int x5), none] [.int (x5 + (1 : Int32)), .ref a2, .ref 0] h))) : W_X0_joinedAt g d av Q n 0 [some (.ref 0), some (.int x1), some (.ref a2), some (.ref a3), some (.ref a4), some (.int x5), none] [] h := by
  refine r_aload_n dX0_joinedAt_0 rfl rfl ?_
  refine r_aload_n dX0_joinedAt_1 rfl rfl ?_
  refine r_iload_n dX0_joinedAt_2 rfl rfl ?_
  refine r_iconst (v := (4 : Int32)) dX0_joinedAt_3 rfl ?_
  refine r_icmp_ne (tgt := 14) dX0_joinedAt_4 rfl (fun cH => ?_) (fun cH => ?_)
  · replace H := H.1 cH
    refine r_iload dX0_joinedAt_14 rfl ?_
    refine r_prune [true, true, false, true, true, true, false] (ls2 := [some (.ref 0), some (.int x1), none, some (.ref a3), some (.ref a4), some (.int x5), none]) rfl ?_
    exact H
  · replace H := H.2 cH
    refine r_iload dX0_joinedAt_7 rfl ?_
    refine r_iconst (v := (1 : Int32)) dX0_joinedAt_9 rfl ?_
    refine r_iadd dX0_joinedAt_10 ?_
    refine r_goto (tgt := 16) dX0_joinedAt_11 rfl ?_
    refine r_prune [true, true, false, true, true, true, false] (ls2 := [some (.ref 0), some (.int x1), none, some (.ref a3), some (.ref a4), some (.int x5), none]) rfl ?_
    exact H
theorem s_X0_joinedAt_16 {g : GX} {d : Nat} {av : List Value} {Q : QT} {n : Nat} {h : Hp} {x1 : Int32} {a3 : Nat} {a4 : Nat} {x5 : Int32} {xs0 : Int32} {as1 : Nat} {as2 : Nat} (hp : g.2.2.2.2 = true) (t3 : lay a3 = (0, 9, 8)) (t4 : lay a4 = (0, 3, 2)) (ts1 : lay as1 = (0, 9, 8)) (ts2 : lay as2 = (0, 0, 80)) (H : CallI g m_X0_numberAt d [.ref as2, .ref as1, .int xs0] n h (fun v1 h1 => (((x1).toInt = 0 → (CallI g m_X0_numberAt d [.ref 0, .ref a3, .int x5] n h1 (fun v2 h2 => (CallI g m_X0_sum d [.int v1, .int v2] n h2 (fun v3 h3 => (Q (some (.int v3)) n h3)))))) ∧ ((x1).toInt = 1 → (CallI g m_X0_numberAt d [.ref 0, .ref a3, .int x5] n h1 (fun v4 h4 => (CallI g m_X0_less d [.int v1, .int v4] n h4 (fun v5 h5 => (Q (some (.int v5)) n h5)))))) ∧ ((x1).toInt = 2 → (CallI g m_X0_numberAt d [.ref 0, .ref a3, .int x5] n h1 (fun v6 h6 => (CallI g m_X0_times d [.int v1, .int v6] n h6 (fun v7 h7 => (Q (some (.int v7)) n h7)))))) ∧ ((x1).toInt = 3 → (((¬ x5 = (0 : Int32)) → (vp_in (x5 - (1 : Int32)) 60 ∧ (CallI g m_X0_sum d [.int (ri h1 1111 ((x5 - (1 : Int32))).toNatClampNeg), .int v1] n h1 (fun v8 h8 => (Q (some (.int v8)) n h8))))) ∧ ((x5 = (0 : Int32)) → (Q (some (.int v1)) n h1)))) ∧ ((x1).toInt = 4 → (Q (some (.int v1)) n h1)) ∧ (((x1).toInt < 0 ∨ 4 < (x1).toInt) → (CallI g m_X3_value d [.ref a4, .int x5] n h1 (fun v9 h9 => (CallI g m_X0_times d [.int v1, .int v9] n h9 (fun v10 h10 => (Q (some (.int v10)) n h10))))))))) : W_X0_joinedAt g d av Q n 16 [some (.ref 0), some (.int x1), none, some (.ref a3), some (.ref a4), some (.int x5), none] [.int xs0, .ref as1, .ref as2] h := by
  refine k_VI (As := [.ref as1, .int xs0]) (stk := []) hp cv_X0_814 dX0_joinedAt_16 rfl (Nat.le_of_ble_eq_true rfl) ts2 (H.mono (fun v1 h1 H => ?_)) ⟨Nat.le_refl _, Nat.le_refl _⟩
  refine r_istore (ls2 := [some (.ref 0), some (.int x1), none, some (.ref a3), some (.ref a4), some (.int x5), some (.int v1)]) dX0_joinedAt_19 (by decide) rfl ?_
  refine r_iload_n dX0_joinedAt_21 rfl rfl ?_
  by_cases c0 : (x1).toInt = 0
  · replace H := H.1 c0
    refine r_tableIn (tgt := 56) dX0_joinedAt_22 (by omega) (by omega) (by rw [c0]; rfl) rfl ?_
    refine r_iload dX0_joinedAt_56 rfl ?_
    refine r_aload_n dX0_joinedAt_58 rfl rfl ?_
    refine r_aload_n dX0_joinedAt_59 rfl rfl ?_
    refine r_iload dX0_joinedAt_60 rfl ?_
    refine k_VI (As := [.ref a3, .int x5]) (stk := [.int v1]) hp cv_X0_814 dX0_joinedAt_62 rfl (Nat.le_of_ble_eq_true rfl) ly_0 (H.mono (fun v2 h2 H => ?_)) ⟨Nat.le_refl _, Nat.le_refl _⟩
    refine k_SI (As := [.int v1, .int v2]) (stk := []) cs_X0_598 dX0_joinedAt_65 rfl (Nat.le_of_ble_eq_true rfl) (H.mono (fun v3 h3 H => ?_)) ⟨Nat.le_refl _, Nat.le_refl _⟩
    exact r_zret dX0_joinedAt_68 rfl rfl (Nat.le_refl _) (Nat.le_refl _) H
  by_cases c1 : (x1).toInt = 1
  · replace H := H.2.1 c1
    refine r_tableIn (tgt := 69) dX0_joinedAt_22 (by omega) (by omega) (by rw [c1]; rfl) rfl ?_
    refine r_iload dX0_joinedAt_69 rfl ?_
    refine r_aload_n dX0_joinedAt_71 rfl rfl ?_
    refine r_aload_n dX0_joinedAt_72 rfl rfl ?_
    refine r_iload dX0_joinedAt_73 rfl ?_
    refine k_VI (As := [.ref a3, .int x5]) (stk := [.int v1]) hp cv_X0_814 dX0_joinedAt_75 rfl (Nat.le_of_ble_eq_true rfl) ly_0 (H.mono (fun v4 h4 H => ?_)) ⟨Nat.le_refl _, Nat.le_refl _⟩
    refine k_SI (As := [.int v1, .int v4]) (stk := []) cs_X0_784 dX0_joinedAt_78 rfl (Nat.le_of_ble_eq_true rfl) (H.mono (fun v5 h5 H => ?_)) ⟨Nat.le_refl _, Nat.le_refl _⟩
    exact r_zret dX0_joinedAt_81 rfl rfl (Nat.le_refl _) (Nat.le_refl _) H
  by_cases c2 : (x1).toInt = 2
  · replace H := H.2.2.1 c2
    refine r_tableIn (tgt := 82) dX0_joinedAt_22 (by omega) (by omega) (by rw [c2]; rfl) rfl ?_
    refine r_iload dX0_joinedAt_82 rfl ?_
    refine r_aload_n dX0_joinedAt_84 rfl rfl ?_
    refine r_aload_n dX0_joinedAt_85 rfl rfl ?_
    refine r_iload dX0_joinedAt_86 rfl ?_
    refine k_VI (As := [.ref a3, .int x5]) (stk := [.int v1]) hp cv_X0_814 dX0_joinedAt_88 rfl (Nat.le_of_ble_eq_true rfl) ly_0 (H.mono (fun v6 h6 H => ?_)) ⟨Nat.le_refl _, Nat.le_refl _⟩
    refine k_SI (As := [.int v1, .int v6]) (stk := []) cs_X0_6 dX0_joinedAt_91 rfl (Nat.le_of_ble_eq_true rfl) (H.mono (fun v7 h7 H => ?_)) ⟨Nat.le_refl _, Nat.le_refl _⟩
    exact r_zret dX0_joinedAt_94 rfl rfl (Nat.le_refl _) (Nat.le_refl _) H
  by_cases c3 : (x1).toInt = 3
  · replace H := H.2.2.2.1 c3
    refine r_tableIn (tgt := 95) dX0_joinedAt_22 (by omega) (by omega) (by rw [c3]; rfl) rfl ?_
    refine r_iload dX0_joinedAt_95 rfl ?_
    refine r_if_ne (tgt := 105) dX0_joinedAt_97 rfl (fun cH => ?_) (fun cH => ?_)
    · replace H := H.1 cH
      refine r_aload_n dX0_joinedAt_105 rfl rfl ?_
      refine m_getF (x := 1111) hp fw_X0_473 dX0_joinedAt_106 rfl ly_0 (ff_0_66 ly_0) ?_
      refine r_iload dX0_joinedAt_109 rfl ?_
      refine r_iconst (v := (1 : Int32)) dX0_joinedAt_111 rfl ?_
      refine r_isub dX0_joinedAt_112 ?_
      refine m_iald hp dX0_joinedAt_113 (lf_0_66 ly_0) H.1 ?_
      replace H := H.2
      refine r_iload dX0_joinedAt_114 rfl ?_
      refine k_SI (As := [.int (ri h1 1111 ((x5 - (1 : Int32))).toNatClampNeg), .int v1]) (stk := []) cs_X0_598 dX0_joinedAt_116 rfl (Nat.le_of_ble_eq_true rfl) (H.mono (fun v8 h8 H => ?_)) ⟨Nat.le_refl _, Nat.le_refl _⟩
      exact r_zret dX0_joinedAt_119 rfl rfl (Nat.le_refl _) (Nat.le_refl _) H
    · replace H := H.2 cH
      refine r_iload dX0_joinedAt_100 rfl ?_
      refine r_goto (tgt := 119) dX0_joinedAt_102 rfl ?_
      exact r_zret dX0_joinedAt_119 rfl rfl (Nat.le_refl _) (Nat.le_refl _) H
  by_cases c4 : (x1).toInt = 4
  · replace H := H.2.2.2.2.1 c4
    refine r_tableIn (tgt := 120) dX0_joinedAt_22 (by omega) (by omega) (by rw [c4]; rfl) rfl ?_
    refine r_iload dX0_joinedAt_120 rfl ?_
    exact r_zret dX0_joinedAt_122 rfl rfl (Nat.le_refl _) (Nat.le_refl _) H
  have cD : (x1).toInt < 0 ∨ 4 < (x1).toInt := by omega
  replace H := H.2.2.2.2.2 cD
  refine r_tableOut (tgt := 123) dX0_joinedAt_22 cD rfl ?_
  refine r_iload dX0_joinedAt_123 rfl ?_
  refine r_aload dX0_joinedAt_125 rfl ?_
  refine r_iload dX0_joinedAt_127 rfl ?_
  refine k_VI (As := [.int x5]) (stk := [.int v1]) hp cv_X0_765 dX0_joinedAt_129 rfl (Nat.le_of_ble_eq_true rfl) t4 (H.mono (fun v9 h9 H => ?_)) ⟨Nat.le_refl _, Nat.le_refl _⟩
  refine k_SI (As := [.int v1, .int v9]) (stk := []) cs_X0_6 dX0_joinedAt_132 rfl (Nat.le_of_ble_eq_true rfl) (H.mono (fun v10 h10 H => ?_)) ⟨Nat.le_refl _, Nat.le_refl _⟩
  exact r_zret dX0_joinedAt_135 rfl rfl (Nat.le_refl _) (Nat.le_refl _) H
abbrev W_X0_feed (g : GX) (d : Nat) (av : List Value) (Q : QT) (n : Nat) (pc : Nat) (ls : LV) (stk : List Value) (h : Hp) : Prop := RJ g m_X0_feed (d + 1) 0 0 av Q pc ls stk n h 0 0
theorem s_X0_feed_0 {g : GX} {d : Nat} {av : List Value} {Q : QT} {n : Nat} {h : Hp} {x1 : Int32} (hp : g.2.2.2.2 = true)  (H : ((¬ (ri h 0 69) = (60 : Int32)) → (∀ h1, h1 = wi h 0 69 ((ri h 0 69) + (1 : Int32)) → (CallI g m_X0_rest d [.int x1] n h1 (fun v2 h2 => (vp_in (ri h 0 69) 60 ∧ ∀ h3, h3 = wi h2 1114 ((ri h 0 69)).toNatClampNeg v2 → (Q (some (.int (ri h3 0 69))) n h3)))))) ∧ (((ri h 0 69) = (60 : Int32)) → (Q (some (.int (-2 : Int32))) n h))) : W_X0_feed g d av Q n 0 [some (.ref 0), some (.int x1)] [] h := by
  refine r_aload_n dX0_feed_0 rfl rfl ?_
  refine m_getI hp fw_X0_854 dX0_feed_1 rfl ly_0 ?_
  refine r_bipush (v := (60 : Int32)) dX0_feed_4 rfl ?_
  refine r_icmp_ne (tgt := 12) dX0_feed_6 rfl (fun cH => ?_) (fun cH => ?_)
  · replace H := H.1 cH
    refine r_aload_n dX0_feed_12 rfl rfl ?_
    refine m_getF (x := 1114) hp fw_X0_479 dX0_feed_13 rfl ly_0 (ff_0_68 ly_0) ?_
    refine r_aload_n dX0_feed_16 rfl rfl ?_
    refine r_dup dX0_feed_17 rfl ?_
    refine m_getI hp fw_X0_854 dX0_feed_18 rfl ly_0 ?_
    refine r_dup_x1 dX0_feed_21 rfl rfl ?_
    refine r_iconst (v := (1 : Int32)) dX0_feed_22 rfl ?_
    refine r_iadd dX0_feed_23 ?_
    refine m_putI hp fw_X0_854 dX0_feed_24 rfl rfl ly_0 (fun h1 eh1 => ?_)
    replace H := H h1 eh1
    refine r_iload_n dX0_feed_27 rfl rfl ?_
    refine k_SI (As := [.int x1]) (stk := [.int (ri h 0 69), .ref 1114]) cs_X0_543 dX0_feed_28 rfl (Nat.le_of_ble_eq_true rfl) (H.mono (fun v2 h2 H => ?_)) ⟨Nat.le_refl _, Nat.le_refl _⟩
    refine m_iast hp dX0_feed_31 (lf_0_68 ly_0) H.1 (fun h3 eh3 => ?_)
    replace H := H.2 h3 eh3
    refine r_aload_n dX0_feed_32 rfl rfl ?_
    refine m_getI hp fw_X0_854 dX0_feed_33 rfl ly_0 ?_
    exact r_zret dX0_feed_36 rfl rfl (Nat.le_refl _) (Nat.le_refl _) H
  · replace H := H.2 cH
    refine r_bipush (v := (-2 : Int32)) dX0_feed_9 rfl ?_
    exact r_zret dX0_feed_11 rfl rfl (Nat.le_refl _) (Nat.le_refl _) H
abbrev W_X0_clear (g : GX) (d : Nat) (av : List Value) (Q : QT) (n : Nat) (pc : Nat) (ls : LV) (stk : List Value) (h : Hp) : Prop := RJ g m_X0_clear d 0 0 av Q pc ls stk n h 0 0
theorem s_X0_clear_0 {g : GX} {d : Nat} {av : List Value} {Q : QT} {n : Nat} {h : Hp}  (hp : g.2.2.2.2 = true)  (H : ∀ h1, h1 = wi h 0 69 (0 : Int32) → (Q (some (.int (ri h 0 69))) n h1)) : W_X0_clear g d av Q n 0 [some (.ref 0), none] [] h := by
  refine r_aload_n dX0_clear_0 rfl rfl ?_
  refine m_getI hp fw_X0_854 dX0_clear_1 rfl ly_0 ?_
  refine r_istore_n (ls2 := [some (.ref 0), some (.int (ri h 0 69))]) dX0_clear_4 rfl (by decide) rfl ?_
  refine r_aload_n dX0_clear_5 rfl rfl ?_
  refine r_iconst (v := (0 : Int32)) dX0_clear_6 rfl ?_
  refine m_putI hp fw_X0_854 dX0_clear_7 rfl rfl ly_0 (fun h1 eh1 => ?_)
  replace H := H h1 eh1
  refine r_iload_n dX0_clear_10 rfl rfl ?_
  exact r_zret dX0_clear_11 rfl rfl (Nat.le_refl _) (Nat.le_refl _) H
abbrev W_X0_guess (g : GX) (d : Nat) (av : List Value) (Q : QT) (n : Nat) (pc : Nat) (ls : LV) (stk : List Value) (h : Hp) : Prop := RJ g m_X0_guess (d + 1) 0 0 av Q pc ls stk n h 0 0
theorem s_X0_guess_0 {g : GX} {d : Nat} {av : List Value} {Q : QT} {n : Nat} {h : Hp} {x1 : Int32} (hp : g.2.2.2.2 = true)  (H : CallI g m_X0_isSlot d [.int x1] n h (fun v1 h1 => (((¬ v1 = (0 : Int32)) → (W_X0_guess g d av Q n 11 [some (.ref 0), some (.int x1), some (.int (1 : Int32)), none, none] [] h1)) ∧ ((v1 = (0 : Int32)) → (Q (some (.int (-1 : Int32))) n h1))))) : W_X0_guess g d av Q n 0 [some (.ref 0), some (.int x1), none, none, none] [] h := by
  refine r_iload_n dX0_guess_0 rfl rfl ?_
  refine k_SI (As := [.int x1]) (stk := []) cs_X0_519 dX0_guess_1 rfl (Nat.le_of_ble_eq_true rfl) (H.mono (fun v1 h1 H => ?_)) ⟨Nat.le_refl _, Nat.le_refl _⟩
  refine r_if_ne (tgt := 9) dX0_guess_4 rfl (fun cH => ?_) (fun cH => ?_)
  · replace H := H.1 cH
    refine r_iconst (v := (1 : Int32)) dX0_guess_9 rfl ?_
    refine r_istore_n (ls2 := [some (.ref 0), some (.int x1), some (.int (1 : Int32)), none, none]) dX0_guess_10 rfl (by decide) rfl ?_
    exact H
  · replace H := H.2 cH
    refine r_iconst (v := (-1 : Int32)) dX0_guess_7 rfl ?_
    exact r_zret dX0_guess_8 rfl rfl (Nat.le_refl _) (Nat.le_refl _) H
theorem s_X0_guess_11 {g : GX} {d : Nat} {av : List Value} {Q : QT} {n : Nat} {h : Hp} {x1 : Int32} {x2 : Int32} (hp : g.2.2.2.2 = true)  (H : (((4 : Int32) < x2) → (Q (some (.int (-1 : Int32))) n h)) ∧ ((¬ (4 : Int32) < x2) → (W_X0_guess g d av Q n 18 [some (.ref 0), some (.int x1), some (.int x2), some (.int (0 : Int32)), none] [] h))) : W_X0_guess g d av Q n 11 [some (.ref 0), some (.int x1), some (.int x2), none, none] [] h := by
  refine r_iload_n dX0_guess_11 rfl rfl ?_
  refine r_iconst (v := (4 : Int32)) dX0_guess_12 rfl ?_
  refine r_icmp_gt (tgt := 77) dX0_guess_13 rfl (fun cH => ?_) (fun cH => ?_)
  · replace H := H.1 cH
    refine r_iconst (v := (-1 : Int32)) dX0_guess_77 rfl ?_
    exact r_zret dX0_guess_78 rfl rfl (Nat.le_refl _) (Nat.le_refl _) H
  · replace H := H.2 cH
    refine r_iconst (v := (0 : Int32)) dX0_guess_16 rfl ?_
    refine r_istore_n (ls2 := [some (.ref 0), some (.int x1), some (.int x2), some (.int (0 : Int32)), none]) dX0_guess_17 rfl (by decide) rfl ?_
    exact H
theorem s_X0_guess_18 {g : GX} {d : Nat} {av : List Value} {Q : QT} {n : Nat} {h : Hp} {x1 : Int32} {x2 : Int32} {x3 : Int32} (hp : g.2.2.2.2 = true)  (H : (((8 : Int32) < x3) → (W_X0_guess g d av Q n 71 [some (.ref 0), some (.int x1), some (.int x2), none, none] [] h)) ∧ ((¬ (8 : Int32) < x3) → (((((ri h 0 69) - x2) < (((x2 + (1 : Int32)) * (x3 + (1 : Int32))) + (4 : Int32))) → (W_X0_guess g d av Q n 71 [some (.ref 0), some (.int x1), some (.int x2), none, none] [] h)) ∧ ((¬ ((ri h 0 69) - x2) < (((x2 + (1 : Int32)) * (x3 + (1 : Int32))) + (4 : Int32))) → (CallI g m_X0_hanging d [.ref 0, .int x2, .int x3] n h (fun v1 h1 => (((v1 < (0 : Int32)) → (W_X0_guess g d av Q n 18 [some (.ref 0), some (.int x1), some (.int x2), some (.int (x3 + (1 : Int32))), none] [] h1)) ∧ ((¬ v1 < (0 : Int32)) → (CallI g m_X0_keepGuess d [.ref 0, .int x2, .int x3, .int v1, .int x1] n h1 (fun v2 h2 => (Q (some (.int v2)) n h2))))))))))) : W_X0_guess g d av Q n 18 [some (.ref 0), some (.int x1), some (.int x2), some (.int x3), none] [] h := by
  refine r_iload_n dX0_guess_18 rfl rfl ?_
  refine r_bipush (v := (8 : Int32)) dX0_guess_19 rfl ?_
  refine r_icmp_gt (tgt := 71) dX0_guess_21 rfl (fun cH => ?_) (fun cH => ?_)
  · replace H := H.1 cH
    refine r_prune [true, true, true, false, false] (ls2 := [some (.ref 0), some (.int x1), some (.int x2), none, none]) rfl ?_
    exact H
  · replace H := H.2 cH
    refine r_iload_n dX0_guess_24 rfl rfl ?_
    refine r_iconst (v := (1 : Int32)) dX0_guess_25 rfl ?_
    refine r_iadd dX0_guess_26 ?_
    refine r_iload_n dX0_guess_27 rfl rfl ?_
    refine r_iconst (v := (1 : Int32)) dX0_guess_28 rfl ?_
    refine r_iadd dX0_guess_29 ?_
    refine r_imul dX0_guess_30 ?_
    refine r_iconst (v := (4 : Int32)) dX0_guess_31 rfl ?_
    refine r_iadd dX0_guess_32 ?_
    refine r_aload_n dX0_guess_33 rfl rfl ?_
    refine m_getI hp fw_X0_854 dX0_guess_34 rfl ly_0 ?_
    refine r_iload_n dX0_guess_37 rfl rfl ?_
    refine r_isub dX0_guess_38 ?_
    refine r_icmp_gt (tgt := 71) dX0_guess_39 rfl (fun cH => ?_) (fun cH => ?_)
    · replace H := H.1 cH
      refine r_prune [true, true, true, false, false] (ls2 := [some (.ref 0), some (.int x1), some (.int x2), none, none]) rfl ?_
      exact H
    · replace H := H.2 cH
      refine r_aload_n dX0_guess_42 rfl rfl ?_
      refine r_iload_n dX0_guess_43 rfl rfl ?_
      refine r_iload_n dX0_guess_44 rfl rfl ?_
      refine k_VI (As := [.int x2, .int x3]) (stk := []) hp cv_X0_860 dX0_guess_45 rfl (Nat.le_of_ble_eq_true rfl) ly_0 (H.mono (fun v1 h1 H => ?_)) ⟨Nat.le_refl _, Nat.le_refl _⟩
      refine r_istore (ls2 := [some (.ref 0), some (.int x1), some (.int x2), some (.int x3), some (.int v1)]) dX0_guess_48 (by decide) rfl ?_
      refine r_iload dX0_guess_50 rfl ?_
      refine r_if_lt (tgt := 65) dX0_guess_52 rfl (fun cH => ?_) (fun cH => ?_)
      · replace H := H.1 cH
        refine r_iinc (v := (x3 + (1 : Int32))) (ls2 := [some (.ref 0), some (.int x1), some (.int x2), some (.int (x3 + (1 : Int32))), some (.int v1)]) dX0_guess_65 rfl rfl (by decide) rfl ?_
        refine r_goto (tgt := 18) dX0_guess_68 rfl ?_
        refine r_prune [true, true, true, true, false] (ls2 := [some (.ref 0), some (.int x1), some (.int x2), some (.int (x3 + (1 : Int32))), none]) rfl ?_
        exact H
      · replace H := H.2 cH
        refine r_aload_n dX0_guess_55 rfl rfl ?_
        refine r_iload_n dX0_guess_56 rfl rfl ?_
        refine r_iload_n dX0_guess_57 rfl rfl ?_
        refine r_iload dX0_guess_58 rfl ?_
        refine r_iload_n dX0_guess_60 rfl rfl ?_
        refine k_VI (As := [.int x2, .int x3, .int v1, .int x1]) (stk := []) hp cv_X0_863 dX0_guess_61 rfl (Nat.le_of_ble_eq_true rfl) ly_0 (H.mono (fun v2 h2 H => ?_)) ⟨Nat.le_refl _, Nat.le_refl _⟩
        exact r_zret dX0_guess_64 rfl rfl (Nat.le_refl _) (Nat.le_refl _) H
theorem s_X0_guess_71 {g : GX} {d : Nat} {av : List Value} {Q : QT} {n : Nat} {h : Hp} {x1 : Int32} {x2 : Int32} (hp : g.2.2.2.2 = true)  (H : W_X0_guess g d av Q n 11 [some (.ref 0), some (.int x1), some (.int (x2 + (1 : Int32))), none, none] [] h) : W_X0_guess g d av Q n 71 [some (.ref 0), some (.int x1), some (.int x2), none, none] [] h := by
  refine r_iinc (v := (x2 + (1 : Int32))) (ls2 := [some (.ref 0), some (.int x1), some (.int (x2 + (1 : Int32))), none, none]) dX0_guess_71 rfl rfl (by decide) rfl ?_
  refine r_goto (tgt := 11) dX0_guess_74 rfl ?_
  exact H
abbrev W_X0_clearColumn (g : GX) (d : Nat) (av : List Value) (Q : QT) (n : Nat) (pc : Nat) (ls : LV) (stk : List Value) (h : Hp) : Prop := RJ g m_X0_clearColumn (d + 1) 0 0 av Q pc ls stk n h 0 0
theorem s_X0_clearColumn_0 {g : GX} {d : Nat} {av : List Value} {Q : QT} {n : Nat} {h : Hp} {x1 : Int32} {x2 : Int32} {x3 : Int32} {x4 : Int32} (hp : g.2.2.2.2 = true)  (H : vp_in x1 60 ∧ ∃ r1 Lr1, rr h 1115 (x1).toNatClampNeg = some r1 ∧ lay r1 = (1, Lr1, 0) ∧ (vp_in x2 Lr1 ∧ (CallI g m_X0_inverse d [.int (ri h r1 (x2).toNatClampNeg)] n h (fun v2 h2 => (W_X0_clearColumn g d av Q n 16 [some (.ref 0), some (.int x1), some (.int x2), some (.int x3), some (.int x4), some (.int v2), some (.int x2), none, none] [] h2))))) : W_X0_clearColumn g d av Q n 0 [some (.ref 0), some (.int x1), some (.int x2), some (.int x3), some (.int x4), none, none, none, none] [] h := by
  refine r_aload_n dX0_clearColumn_0 rfl rfl ?_
  refine m_getF (x := 1115) hp fw_X0_484 dX0_clearColumn_1 rfl ly_0 (ff_0_70 ly_0) ?_
  refine r_iload_n dX0_clearColumn_4 rfl rfl ?_
  have hir1 := H.1
  obtain ⟨r1, Lr1, er1, tr1, H⟩ := H.2
  refine m_aalM (x := r1) hp dX0_clearColumn_5 (lf_0_70 ly_0) rfl rfl (lu_0_70 ly_0) hir1 er1 ?_
  refine r_iload_n dX0_clearColumn_6 rfl rfl ?_
  refine m_iald hp dX0_clearColumn_7 tr1 H.1 ?_
  replace H := H.2
  refine k_SI (As := [.int (ri h r1 (x2).toNatClampNeg)]) (stk := []) cs_X0_74 dX0_clearColumn_8 rfl (Nat.le_of_ble_eq_true rfl) (H.mono (fun v2 h2 H => ?_)) ⟨Nat.le_refl _, Nat.le_refl _⟩
  refine r_istore (ls2 := [some (.ref 0), some (.int x1), some (.int x2), some (.int x3), some (.int x4), some (.int v2), none, none, none]) dX0_clearColumn_11 (by decide) rfl ?_
  refine r_iload_n dX0_clearColumn_13 rfl rfl ?_
  refine r_istore (ls2 := [some (.ref 0), some (.int x1), some (.int x2), some (.int x3), some (.int x4), some (.int v2), some (.int x2), none, none]) dX0_clearColumn_14 (by decide) rfl ?_
  exact H
theorem s_X0_clearColumn_16 {g : GX} {d : Nat} {av : List Value} {Q : QT} {n : Nat} {h : Hp} {x1 : Int32} {x2 : Int32} {x3 : Int32} {x4 : Int32} {x5 : Int32} {x6 : Int32} (hp : g.2.2.2.2 = true)  (H : ((x4 ≤ x6) → (W_X0_clearColumn g d av Q n 55 [some (.ref 0), some (.int x1), some (.int x2), some (.int x3), some (.int x4), none, some (.int (0 : Int32)), none, none] [] h)) ∧ ((¬ x4 ≤ x6) → (vp_in x1 60 ∧ ∃ r1 Lr1, rr h 1115 (x1).toNatClampNeg = some r1 ∧ lay r1 = (1, Lr1, 0) ∧ (vp_in x1 60 ∧ ∃ r2 Lr2, rr h 1115 (x1).toNatClampNeg = some r2 ∧ lay r2 = (1, Lr2, 0) ∧ (vp_in x6 Lr2 ∧ (CallI g m_X0_times d [.int (ri h r2 (x6).toNatClampNeg), .int x5] n h (fun v3 h3 => (vp_in x6 Lr1 ∧ ∀ h4, h4 = wi h3 r1 (x6).toNatClampNeg v3 → (W_X0_clearColumn g d av Q n 16 [some (.ref 0), some (.int x1), some (.int x2), some (.int x3), some (.int x4), some (.int x5), some (.int (x6 + (1 : Int32))), none, none] [] h4))))))))) : W_X0_clearColumn g d av Q n 16 [some (.ref 0), some (.int x1), some (.int x2), some (.int x3), some (.int x4), some (.int x5), some (.int x6), none, none] [] h := by
  refine r_iload dX0_clearColumn_16 rfl ?_
  refine r_iload dX0_clearColumn_18 rfl ?_
  refine r_icmp_ge (tgt := 52) dX0_clearColumn_20 rfl (fun cH => ?_) (fun cH => ?_)
  · replace H := H.1 cH
    refine r_iconst (v := (0 : Int32)) dX0_clearColumn_52 rfl ?_
    refine r_istore (ls2 := [some (.ref 0), some (.int x1), some (.int x2), some (.int x3), some (.int x4), some (.int x5), some (.int (0 : Int32)), none, none]) dX0_clearColumn_53 (by decide) rfl ?_
    refine r_prune [true, true, true, true, true, false, true, false, false] (ls2 := [some (.ref 0), some (.int x1), some (.int x2), some (.int x3), some (.int x4), none, some (.int (0 : Int32)), none, none]) rfl ?_
    exact H
  · replace H := H.2 cH
    refine r_aload_n dX0_clearColumn_23 rfl rfl ?_
    refine m_getF (x := 1115) hp fw_X0_484 dX0_clearColumn_24 rfl ly_0 (ff_0_70 ly_0) ?_
    refine r_iload_n dX0_clearColumn_27 rfl rfl ?_
    have hir1 := H.1
    obtain ⟨r1, Lr1, er1, tr1, H⟩ := H.2
    refine m_aalM (x := r1) hp dX0_clearColumn_28 (lf_0_70 ly_0) rfl rfl (lu_0_70 ly_0) hir1 er1 ?_
    refine r_iload dX0_clearColumn_29 rfl ?_
    refine r_aload_n dX0_clearColumn_31 rfl rfl ?_
    refine m_getF (x := 1115) hp fw_X0_484 dX0_clearColumn_32 rfl ly_0 (ff_0_70 ly_0) ?_
    refine r_iload_n dX0_clearColumn_35 rfl rfl ?_
    have hir2 := H.1
    obtain ⟨r2, Lr2, er2, tr2, H⟩ := H.2
    refine m_aalM (x := r2) hp dX0_clearColumn_36 (lf_0_70 ly_0) rfl rfl (lu_0_70 ly_0) hir2 er2 ?_
    refine r_iload dX0_clearColumn_37 rfl ?_
    refine m_iald hp dX0_clearColumn_39 tr2 H.1 ?_
    replace H := H.2
    refine r_iload dX0_clearColumn_40 rfl ?_
    refine k_SI (As := [.int (ri h r2 (x6).toNatClampNeg), .int x5]) (stk := [.int x6, .ref r1]) cs_X0_6 dX0_clearColumn_42 rfl (Nat.le_of_ble_eq_true rfl) (H.mono (fun v3 h3 H => ?_)) ⟨Nat.le_refl _, Nat.le_refl _⟩
    refine m_iast hp dX0_clearColumn_45 tr1 H.1 (fun h4 eh4 => ?_)
    replace H := H.2 h4 eh4
    refine r_iinc (v := (x6 + (1 : Int32))) (ls2 := [some (.ref 0), some (.int x1), some (.int x2), some (.int x3), some (.int x4), some (.int x5), some (.int (x6 + (1 : Int32))), none, none]) dX0_clearColumn_46 rfl rfl (by decide) rfl ?_
    refine r_goto (tgt := 16) dX0_clearColumn_49 rfl ?_
    exact H
theorem s_X0_clearColumn_55 {g : GX} {d : Nat} {av : List Value} {Q : QT} {n : Nat} {h : Hp} {x1 : Int32} {x2 : Int32} {x3 : Int32} {x4 : Int32} {x6 : Int32} (hp : g.2.2.2.2 = true)  (H : ((x3 ≤ x6) → (Q none n h)) ∧ ((¬ x3 ≤ x6) → (vp_in x6 60 ∧ ∃ r1 Lr1, rr h 1115 (x6).toNatClampNeg = some r1 ∧ lay r1 = (1, Lr1, 0) ∧ (vp_in x2 Lr1 ∧ (W_X0_clearColumn g d av Q n 75 [some (.ref 0), some (.int x1), some (.int x2), some (.int x3), some (.int x4), none, some (.int x6), some (.int (ri h r1 (x2).toNatClampNeg)), some (.int x2)] [] h))))) : W_X0_clearColumn g d av Q n 55 [some (.ref 0), some (.int x1), some (.int x2), some (.int x3), some (.int x4), none, some (.int x6), none, none] [] h := by
  refine r_iload dX0_clearColumn_55 rfl ?_
  refine r_iload_n dX0_clearColumn_57 rfl rfl ?_
  refine r_icmp_ge (tgt := 142) dX0_clearColumn_58 rfl (fun cH => ?_) (fun cH => ?_)
  · replace H := H.1 cH
    exact r_vret dX0_clearColumn_142 rfl (Nat.le_refl _) (Nat.le_refl _) H
  · replace H := H.2 cH
    refine r_aload_n dX0_clearColumn_61 rfl rfl ?_
    refine m_getF (x := 1115) hp fw_X0_484 dX0_clearColumn_62 rfl ly_0 (ff_0_70 ly_0) ?_
    refine r_iload dX0_clearColumn_65 rfl ?_
    have hir1 := H.1
    obtain ⟨r1, Lr1, er1, tr1, H⟩ := H.2
    refine m_aalM (x := r1) hp dX0_clearColumn_67 (lf_0_70 ly_0) rfl rfl (lu_0_70 ly_0) hir1 er1 ?_
    refine r_iload_n dX0_clearColumn_68 rfl rfl ?_
    refine m_iald hp dX0_clearColumn_69 tr1 H.1 ?_
    replace H := H.2
    refine r_istore (ls2 := [some (.ref 0), some (.int x1), some (.int x2), some (.int x3), some (.int x4), none, some (.int x6), some (.int (ri h r1 (x2).toNatClampNeg)), none]) dX0_clearColumn_70 (by decide) rfl ?_
    refine r_iload_n dX0_clearColumn_72 rfl rfl ?_
    refine r_istore (ls2 := [some (.ref 0), some (.int x1), some (.int x2), some (.int x3), some (.int x4), none, some (.int x6), some (.int (ri h r1 (x2).toNatClampNeg)), some (.int x2)]) dX0_clearColumn_73 (by decide) rfl ?_
    exact H
theorem s_X0_clearColumn_75 {g : GX} {d : Nat} {av : List Value} {Q : QT} {n : Nat} {h : Hp} {x1 : Int32} {x2 : Int32} {x3 : Int32} {x4 : Int32} {x6 : Int32} {x7 : Int32} {x8 : Int32} (hp : g.2.2.2.2 = true)  (H : ((x4 ≤ x8) → (W_X0_clearColumn g d av Q n 136 [some (.ref 0), some (.int x1), some (.int x2), some (.int x3), some (.int x4), none, some (.int x6), none, none] [] h)) ∧ ((¬ x4 ≤ x8) → (((x6 = x1) → (W_X0_clearColumn g d av Q n 136 [some (.ref 0), some (.int x1), some (.int x2), some (.int x3), some (.int x4), none, some (.int x6), none, none] [] h)) ∧ ((¬ x6 = x1) → (((x7 = (0 : Int32)) → (W_X0_clearColumn g d av Q n 136 [some (.ref 0), some (.int x1), some (.int x2), some (.int x3), some (.int x4), none, some (.int x6), none, none] [] h)) ∧ ((¬ x7 = (0 : Int32)) → (vp_in x6 60 ∧ ∃ r1 Lr1, rr h 1115 (x6).toNatClampNeg = some r1 ∧ lay r1 = (1, Lr1, 0) ∧ (vp_in x6 60 ∧ ∃ r2 Lr2, rr h 1115 (x6).toNatClampNeg = some r2 ∧ lay r2 = (1, Lr2, 0) ∧ (vp_in x8 Lr2 ∧ (vp_in x1 60 ∧ ∃ r3 Lr3, rr h 1115 (x1).toNatClampNeg = some r3 ∧ lay r3 = (1, Lr3, 0) ∧ (vp_in x8 Lr3 ∧ (CallI g m_X0_times d [.int x7, .int (ri h r3 (x8).toNatClampNeg)] n h (fun v4 h4 => (CallI g m_X0_less d [.int (ri h r2 (x8).toNatClampNeg), .int v4] n h4 (fun v5 h5 => (vp_in x8 Lr1 ∧ ∀ h6, h6 = wi h5 r1 (x8).toNatClampNeg v5 → (W_X0_clearColumn g d av Q n 75 [some (.ref 0), some (.int x1), some (.int x2), some (.int x3), some (.int x4), none, some (.int x6), some (.int x7), some (.int (x8 + (1 : Int32)))] [] h6))))))))))))))))) : W_X0_clearColumn g d av Q n 75 [some (.ref 0), some (.int x1), some (.int x2), some (.int x3), some (.int x4), none, some (.int x6), some (.int x7), some (.int x8)] [] h := by
  refine r_iload dX0_clearColumn_75 rfl ?_
  refine r_iload dX0_clearColumn_77 rfl ?_
  refine r_icmp_ge (tgt := 136) dX0_clearColumn_79 rfl (fun cH => ?_) (fun cH => ?_)
  · replace H := H.1 cH
    refine r_prune [true, true, true, true, true, false, true, false, false] (ls2 := [some (.ref 0), some (.int x1), some (.int x2), some (.int x3), some (.int x4), none, some (.int x6), none, none]) rfl ?_
    exact H
  · replace H := H.2 cH
    refine r_iload dX0_clearColumn_82 rfl ?_
    refine r_iload_n dX0_clearColumn_84 rfl rfl ?_
    refine r_icmp_eq (tgt := 136) dX0_clearColumn_85 rfl (fun cH => ?_) (fun cH => ?_)
    · replace H := H.1 cH
      refine r_prune [true, true, true, true, true, false, true, false, false] (ls2 := [some (.ref 0), some (.int x1), some (.int x2), some (.int x3), some (.int x4), none, some (.int x6), none, none]) rfl ?_
      exact H
    · replace H := H.2 cH
      refine r_iload dX0_clearColumn_88 rfl ?_
      refine r_if_eq (tgt := 136) dX0_clearColumn_90 rfl (fun cH => ?_) (fun cH => ?_)
      · replace H := H.1 cH
        refine r_prune [true, true, true, true, true, false, true, false, false] (ls2 := [some (.ref 0), some (.int x1), some (.int x2), some (.int x3), some (.int x4), none, some (.int x6), none, none]) rfl ?_
        exact H
      · replace H := H.2 cH
        refine r_aload_n dX0_clearColumn_93 rfl rfl ?_
        refine m_getF (x := 1115) hp fw_X0_484 dX0_clearColumn_94 rfl ly_0 (ff_0_70 ly_0) ?_
        refine r_iload dX0_clearColumn_97 rfl ?_
        have hir1 := H.1
        obtain ⟨r1, Lr1, er1, tr1, H⟩ := H.2
        refine m_aalM (x := r1) hp dX0_clearColumn_99 (lf_0_70 ly_0) rfl rfl (lu_0_70 ly_0) hir1 er1 ?_
        refine r_iload dX0_clearColumn_100 rfl ?_
        refine r_aload_n dX0_clearColumn_102 rfl rfl ?_
        refine m_getF (x := 1115) hp fw_X0_484 dX0_clearColumn_103 rfl ly_0 (ff_0_70 ly_0) ?_
        refine r_iload dX0_clearColumn_106 rfl ?_
        have hir2 := H.1
        obtain ⟨r2, Lr2, er2, tr2, H⟩ := H.2
        refine m_aalM (x := r2) hp dX0_clearColumn_108 (lf_0_70 ly_0) rfl rfl (lu_0_70 ly_0) hir2 er2 ?_
        refine r_iload dX0_clearColumn_109 rfl ?_
        refine m_iald hp dX0_clearColumn_111 tr2 H.1 ?_
        replace H := H.2
        refine r_iload dX0_clearColumn_112 rfl ?_
        refine r_aload_n dX0_clearColumn_114 rfl rfl ?_
        refine m_getF (x := 1115) hp fw_X0_484 dX0_clearColumn_115 rfl ly_0 (ff_0_70 ly_0) ?_
        refine r_iload_n dX0_clearColumn_118 rfl rfl ?_
        have hir3 := H.1
        obtain ⟨r3, Lr3, er3, tr3, H⟩ := H.2
        refine m_aalM (x := r3) hp dX0_clearColumn_119 (lf_0_70 ly_0) rfl rfl (lu_0_70 ly_0) hir3 er3 ?_
        refine r_iload dX0_clearColumn_120 rfl ?_
        refine m_iald hp dX0_clearColumn_122 tr3 H.1 ?_
        replace H := H.2
        refine k_SI (As := [.int x7, .int (ri h r3 (x8).toNatClampNeg)]) (stk := [.int (ri h r2 (x8).toNatClampNeg), .int x8, .ref r1]) cs_X0_6 dX0_clearColumn_123 rfl (Nat.le_of_ble_eq_true rfl) (H.mono (fun v4 h4 H => ?_)) ⟨Nat.le_refl _, Nat.le_refl _⟩
        refine k_SI (As := [.int (ri h r2 (x8).toNatClampNeg), .int v4]) (stk := [.int x8, .ref r1]) cs_X0_784 dX0_clearColumn_126 rfl (Nat.le_of_ble_eq_true rfl) (H.mono (fun v5 h5 H => ?_)) ⟨Nat.le_refl _, Nat.le_refl _⟩
        refine m_iast hp dX0_clearColumn_129 tr1 H.1 (fun h6 eh6 => ?_)
        replace H := H.2 h6 eh6
        refine r_iinc (v := (x8 + (1 : Int32))) (ls2 := [some (.ref 0), some (.int x1), some (.int x2), some (.int x3), some (.int x4), none, some (.int x6), some (.int x7), some (.int (x8 + (1 : Int32)))]) dX0_clearColumn_130 rfl rfl (by decide) rfl ?_
        refine r_goto (tgt := 75) dX0_clearColumn_133 rfl ?_
        exact H
theorem s_X0_clearColumn_136 {g : GX} {d : Nat} {av : List Value} {Q : QT} {n : Nat} {h : Hp} {x1 : Int32} {x2 : Int32} {x3 : Int32} {x4 : Int32} {x6 : Int32} (hp : g.2.2.2.2 = true)  (H : W_X0_clearColumn g d av Q n 55 [some (.ref 0), some (.int x1), some (.int x2), some (.int x3), some (.int x4), none, some (.int (x6 + (1 : Int32))), none, none] [] h) : W_X0_clearColumn g d av Q n 136 [some (.ref 0), some (.int x1), some (.int x2), some (.int x3), some (.int x4), none, some (.int x6), none, none] [] h := by
  refine r_iinc (v := (x6 + (1 : Int32))) (ls2 := [some (.ref 0), some (.int x1), some (.int x2), some (.int x3), some (.int x4), none, some (.int (x6 + (1 : Int32))), none, none]) dX0_clearColumn_136 rfl rfl (by decide) rfl ?_
  refine r_goto (tgt := 55) dX0_clearColumn_139 rfl ?_
  exact H
abbrev W_X0_keepGuess (g : GX) (d : Nat) (av : List Value) (Q : QT) (n : Nat) (pc : Nat) (ls : LV) (stk : List Value) (h : Hp) : Prop := RJ g m_X0_keepGuess (d + 1) 0 0 av Q pc ls stk n h 0 0
theorem s_X0_keepGuess_0 {g : GX} {d : Nat} {av : List Value} {Q : QT} {n : Nat} {h : Hp} {x1 : Int32} {x2 : Int32} {x3 : Int32} {x4 : Int32} (hp : g.2.2.2.2 = true)  (H : W_X0_keepGuess g d av Q n 3 [some (.ref 0), some (.int x1), some (.int x2), some (.int x3), some (.int x4), some (.int (0 : Int32)), none, none] [] h) : W_X0_keepGuess g d av Q n 0 [some (.ref 0), some (.int x1), some (.int x2), some (.int x3), some (.int x4), none, none, none] [] h := by
  refine r_iconst (v := (0 : Int32)) dX0_keepGuess_0 rfl ?_
  refine r_istore (ls2 := [some (.ref 0), some (.int x1), some (.int x2), some (.int x3), some (.int x4), some (.int (0 : Int32)), none, none]) dX0_keepGuess_1 (by decide) rfl ?_
  exact H
theorem s_X0_keepGuess_3 {g : GX} {d : Nat} {av : List Value} {Q : QT} {n : Nat} {h : Hp} {x1 : Int32} {x2 : Int32} {x3 : Int32} {x4 : Int32} {x5 : Int32} (hp : g.2.2.2.2 = true)  (H : ((x1 < x5) → (W_X0_keepGuess g d av Q n 28 [some (.ref 0), some (.int x1), some (.int x2), some (.int x3), some (.int x4), some (.int (0 : Int32)), none, none] [] h)) ∧ ((¬ x1 < x5) → (vp_in x5 8 ∧ ∀ r1, r1 = 2601 + 2 * (x5).toNatClampNeg → (CallV g m_X3_clear d [.ref r1] n h (fun h2 => (W_X0_keepGuess g d av Q n 3 [some (.ref 0), some (.int x1), some (.int x2), some (.int x3), some (.int x4), some (.int (x5 + (1 : Int32))), none, none] [] h2)))))) : W_X0_keepGuess g d av Q n 3 [some (.ref 0), some (.int x1), some (.int x2), some (.int x3), some (.int x4), some (.int x5), none, none] [] h := by
  refine r_iload dX0_keepGuess_3 rfl ?_
  refine r_iload_n dX0_keepGuess_5 rfl rfl ?_
  refine r_icmp_gt (tgt := 25) dX0_keepGuess_6 rfl (fun cH => ?_) (fun cH => ?_)
  · replace H := H.1 cH
    refine r_iconst (v := (0 : Int32)) dX0_keepGuess_25 rfl ?_
    refine r_istore (ls2 := [some (.ref 0), some (.int x1), some (.int x2), some (.int x3), some (.int x4), some (.int (0 : Int32)), none, none]) dX0_keepGuess_26 (by decide) rfl ?_
    exact H
  · replace H := H.2 cH
    refine r_aload_n dX0_keepGuess_9 rfl rfl ?_
    refine m_getF (x := 855) hp fw_X0_455 dX0_keepGuess_10 rfl ly_0 (ff_0_61 ly_0) ?_
    refine r_iload dX0_keepGuess_13 rfl ?_
    obtain ⟨r1, er1⟩ : ∃ y, y = 2601 + 2 * (x5).toNatClampNeg := ⟨_, rfl⟩
    have hir1 := H.1
    replace H := H.2 r1 er1
    have tLr1 := la_855 hir1 er1
    refine m_aalF (x := r1) hp dX0_keepGuess_15 (lf_0_61 ly_0) rfl rfl (lu_0_61 ly_0) hir1 (fa_855 hir1 er1) ?_
    refine k_VV (As := []) (stk := []) hp cv_X0_709 dX0_keepGuess_16 rfl (Nat.le_of_ble_eq_true rfl) tLr1 (H.mono (fun h2 H => ?_)) ⟨Nat.le_refl _, Nat.le_refl _⟩
    refine r_iinc (v := (x5 + (1 : Int32))) (ls2 := [some (.ref 0), some (.int x1), some (.int x2), some (.int x3), some (.int x4), some (.int (x5 + (1 : Int32))), none, none]) dX0_keepGuess_19 rfl rfl (by decide) rfl ?_
    refine r_goto (tgt := 3) dX0_keepGuess_22 rfl ?_
    exact H
theorem s_X0_keepGuess_28 {g : GX} {d : Nat} {av : List Value} {Q : QT} {n : Nat} {h : Hp} {x1 : Int32} {x2 : Int32} {x3 : Int32} {x4 : Int32} {x5 : Int32} (hp : g.2.2.2.2 = true)  (H : ((x3 < x5) → (vp_in x1 8 ∧ ∀ r1, r1 = 2601 + 2 * (x1).toNatClampNeg → (CallI g m_X3_isZero d [.ref r1] n h (fun v2 h2 => (((v2 = (0 : Int32)) → (∀ h3, h3 = wi h2 0 62 x1 → (CallV g m_X0_tidy d [.ref 0, .ref 855, .int x1] n h3 (fun h4 => (CallI g m_X0_needsOf d [.ref 855, .int x1] n h4 (fun v5 h5 => (((v5 ≤ (ri h5 0 69)) → (CallI g m_X0_keepRow d [.ref 0, .int x4, .int (0 : Int32)] n h5 (fun v6 h6 => (vp_in x4 12 ∧ ∀ r7, r7 = 1185 + 27 * (x4).toNatClampNeg → (¬ (0 : Int32) < 0 ∧ ¬ (0 : Int32) < 0 ∧ ¬ v5 < 0 ∧ ((0 : Int32)).toNatClampNeg + (v5).toNatClampNeg ≤ 60 ∧ ((0 : Int32)).toNatClampNeg + (v5).toNatClampNeg ≤ 301 ∧ ∀ h8, h8 = cpy h6 1114 ((0 : Int32)).toNatClampNeg (r7 + 12) ((0 : Int32)).toNatClampNeg (v5).toNatClampNeg → (∀ h9, h9 = wi h8 r7 5 v5 → (∀ h10, h10 = wi h9 r7 7 v5 → (Q (some (.int v6)) n h10)))))))) ∧ ((¬ v5 ≤ (ri h5 0 69)) → (Q (some (.int (-1 : Int32))) n h5))))))))) ∧ ((¬ v2 = (0 : Int32)) → (Q (some (.int (-1 : Int32))) n h2))))))) ∧ ((¬ x3 < x5) → (((¬ x5 = x3) → (vp_in x5 45 ∧ (vp_in (ri h 1176 (x5).toNatClampNeg) 60 ∧ ∃ r11 Lr11, rr h 1115 ((ri h 1176 (x5).toNatClampNeg)).toNatClampNeg = some r11 ∧ lay r11 = (1, Lr11, 0) ∧ (vp_in x3 Lr11 ∧ (CallI g m_X0_less d [.int (0 : Int32), .int (ri h r11 (x3).toNatClampNeg)] n h (fun v12 h12 => (W_X0_keepGuess g d av Q n 62 [some (.ref 0), some (.int x1), some (.int x2), some (.int x3), some (.int x4), some (.int x5), none, none] [.int v12] h12))))))) ∧ ((x5 = x3) → (W_X0_keepGuess g d av Q n 62 [some (.ref 0), some (.int x1), some (.int x2), some (.int x3), some (.int x4), some (.int x5), none, none] [.int (1 : Int32)] h))))) : W_X0_keepGuess g d av Q n 28 [some (.ref 0), some (.int x1), some (.int x2), some (.int x3), some (.int x4), some (.int x5), none, none] [] h := by
  refine r_iload dX0_keepGuess_28 rfl ?_
  refine r_iload_n dX0_keepGuess_30 rfl rfl ?_
  refine r_icmp_gt (tgt := 97) dX0_keepGuess_31 rfl (fun cH => ?_) (fun cH => ?_)
  · replace H := H.1 cH
    refine r_aload_n dX0_keepGuess_97 rfl rfl ?_
    refine m_getF (x := 855) hp fw_X0_455 dX0_keepGuess_98 rfl ly_0 (ff_0_61 ly_0) ?_
    refine r_iload_n dX0_keepGuess_101 rfl rfl ?_
    obtain ⟨r1, er1⟩ : ∃ y, y = 2601 + 2 * (x1).toNatClampNeg := ⟨_, rfl⟩
    have hir1 := H.1
    replace H := H.2 r1 er1
    have tLr1 := la_855 hir1 er1
    refine m_aalF (x := r1) hp dX0_keepGuess_102 (lf_0_61 ly_0) rfl rfl (lu_0_61 ly_0) hir1 (fa_855 hir1 er1) ?_
    refine k_VI (As := []) (stk := []) hp cv_X0_692 dX0_keepGuess_103 rfl (Nat.le_of_ble_eq_true rfl) tLr1 (H.mono (fun v2 h2 H => ?_)) ⟨Nat.le_refl _, Nat.le_refl _⟩
    refine r_if_eq (tgt := 111) dX0_keepGuess_106 rfl (fun cH => ?_) (fun cH => ?_)
    · replace H := H.1 cH
      refine r_aload_n dX0_keepGuess_111 rfl rfl ?_
      refine r_iload_n dX0_keepGuess_112 rfl rfl ?_
      refine m_putI hp fw_X0_787 dX0_keepGuess_113 rfl rfl ly_0 (fun h3 eh3 => ?_)
      replace H := H h3 eh3
      refine r_aload_n dX0_keepGuess_116 rfl rfl ?_
      refine r_aload_n dX0_keepGuess_117 rfl rfl ?_
      refine m_getF (x := 855) hp fw_X0_455 dX0_keepGuess_118 rfl ly_0 (ff_0_61 ly_0) ?_
      refine r_iload_n dX0_keepGuess_121 rfl rfl ?_
      refine k_VV (As := [.ref 855, .int x1]) (stk := []) hp cv_X0_800 dX0_keepGuess_122 rfl (Nat.le_of_ble_eq_true rfl) ly_0 (H.mono (fun h4 H => ?_)) ⟨Nat.le_refl _, Nat.le_refl _⟩
      refine r_aload_n dX0_keepGuess_125 rfl rfl ?_
      refine m_getF (x := 855) hp fw_X0_455 dX0_keepGuess_126 rfl ly_0 (ff_0_61 ly_0) ?_
      refine r_iload_n dX0_keepGuess_129 rfl rfl ?_
      refine k_SI (As := [.ref 855, .int x1]) (stk := []) cs_X0_790 dX0_keepGuess_130 rfl (Nat.le_of_ble_eq_true rfl) (H.mono (fun v5 h5 H => ?_)) ⟨Nat.le_refl _, Nat.le_refl _⟩
      refine r_istore (ls2 := [some (.ref 0), some (.int x1), some (.int x2), some (.int x3), some (.int x4), some (.int v5), none, none]) dX0_keepGuess_133 (by decide) rfl ?_
      refine r_iload dX0_keepGuess_135 rfl ?_
      refine r_aload_n dX0_keepGuess_137 rfl rfl ?_
      refine m_getI hp fw_X0_854 dX0_keepGuess_138 rfl ly_0 ?_
      refine r_icmp_le (tgt := 146) dX0_keepGuess_141 rfl (fun cH => ?_) (fun cH => ?_)
      · replace H := H.1 cH
        refine r_aload_n dX0_keepGuess_146 rfl rfl ?_
        refine r_iload dX0_keepGuess_147 rfl ?_
        refine r_iconst (v := (0 : Int32)) dX0_keepGuess_149 rfl ?_
        refine k_VI (As := [.int x4, .int (0 : Int32)]) (stk := []) hp cv_X0_804 dX0_keepGuess_150 rfl (Nat.le_of_ble_eq_true rfl) ly_0 (H.mono (fun v6 h6 H => ?_)) ⟨Nat.le_refl _, Nat.le_refl _⟩
        refine r_istore (ls2 := [some (.ref 0), some (.int x1), some (.int x2), some (.int x3), some (.int x4), some (.int v5), some (.int v6), none]) dX0_keepGuess_153 (by decide) rfl ?_
        refine r_aload_n dX0_keepGuess_155 rfl rfl ?_
        refine m_getF (x := 79) hp fw_X0_326 dX0_keepGuess_156 rfl ly_0 (ff_0_20 ly_0) ?_
        refine r_iload dX0_keepGuess_159 rfl ?_
        obtain ⟨r7, er7⟩ : ∃ y, y = 1185 + 27 * (x4).toNatClampNeg := ⟨_, rfl⟩
        have hir7 := H.1
        replace H := H.2 r7 er7
        have tLr7 := la_79 hir7 er7
        refine m_aalF (x := r7) hp dX0_keepGuess_161 (lf_0_20 ly_0) rfl rfl (lu_0_20 ly_0) hir7 (fa_79 hir7 er7) ?_
        refine r_astore (ls2 := [some (.ref 0), some (.int x1), some (.int x2), some (.int x3), some (.int x4), some (.int v5), some (.int v6), some (.ref r7)]) dX0_keepGuess_162 (by decide) rfl ?_
        refine r_aload_n dX0_keepGuess_164 rfl rfl ?_
        refine m_getF (x := 1114) hp fw_X0_479 dX0_keepGuess_165 rfl ly_0 (ff_0_68 ly_0) ?_
        refine r_iconst (v := (0 : Int32)) dX0_keepGuess_168 rfl ?_
        refine r_aload dX0_keepGuess_169 rfl ?_
        refine m_getF (x := (r7 + 12)) hp fw_X0_807 dX0_keepGuess_171 rfl tLr7 (ff_9_6 tLr7) ?_
        refine r_iconst (v := (0 : Int32)) dX0_keepGuess_174 rfl ?_
        refine r_iload dX0_keepGuess_175 rfl ?_
        obtain ⟨c1, c2, c3, c4, c5, H⟩ := H
        refine m_copy hp ar_X0_560 dX0_keepGuess_177 rfl rfl (lf_0_68 ly_0) (lf_9_6 tLr7) c1 c2 c3 c4 c5 (fun _ _ => rfl) (Nat.le_of_ble_eq_true rfl) (Nat.le_add_left 1 d) (fun h8 eh8 => ?_)
        replace H := H h8 eh8
        refine r_aload dX0_keepGuess_180 rfl ?_
        refine r_iload dX0_keepGuess_182 rfl ?_
        refine m_putI hp fw_X0_794 dX0_keepGuess_184 rfl rfl tLr7 (fun h9 eh9 => ?_)
        replace H := H h9 eh9
        refine r_aload dX0_keepGuess_187 rfl ?_
        refine r_iload dX0_keepGuess_189 rfl ?_
        refine m_putI hp fw_X0_797 dX0_keepGuess_191 rfl rfl tLr7 (fun h10 eh10 => ?_)
        replace H := H h10 eh10
        refine r_iload dX0_keepGuess_194 rfl ?_
        exact r_zret dX0_keepGuess_196 rfl rfl (Nat.le_refl _) (Nat.le_refl _) H
      · replace H := H.2 cH
        refine r_iconst (v := (-1 : Int32)) dX0_keepGuess_144 rfl ?_
        exact r_zret dX0_keepGuess_145 rfl rfl (Nat.le_refl _) (Nat.le_refl _) H
    · replace H := H.2 cH
      refine r_iconst (v := (-1 : Int32)) dX0_keepGuess_109 rfl ?_
      exact r_zret dX0_keepGuess_110 rfl rfl (Nat.le_refl _) (Nat.le_refl _) H
  · replace H := H.2 cH
    refine r_iload dX0_keepGuess_34 rfl ?_
    refine r_iload_n dX0_keepGuess_36 rfl rfl ?_
    refine r_icmp_ne (tgt := 44) dX0_keepGuess_37 rfl (fun cH => ?_) (fun cH => ?_)
    · replace H := H.1 cH
      refine r_iconst (v := (0 : Int32)) dX0_keepGuess_44 rfl ?_
      refine r_aload_n dX0_keepGuess_45 rfl rfl ?_
      refine m_getF (x := 1115) hp fw_X0_484 dX0_keepGuess_46 rfl ly_0 (ff_0_70 ly_0) ?_
      refine r_aload_n dX0_keepGuess_49 rfl rfl ?_
      refine m_getF (x := 1176) hp fw_X0_487 dX0_keepGuess_50 rfl ly_0 (ff_0_71 ly_0) ?_
      refine r_iload dX0_keepGuess_53 rfl ?_
      refine m_iald hp dX0_keepGuess_55 (lf_0_71 ly_0) H.1 ?_
      replace H := H.2
      have hir11 := H.1
      obtain ⟨r11, Lr11, er11, tr11, H⟩ := H.2
      refine m_aalM (x := r11) hp dX0_keepGuess_56 (lf_0_70 ly_0) rfl rfl (lu_0_70 ly_0) hir11 er11 ?_
      refine r_iload_n dX0_keepGuess_57 rfl rfl ?_
      refine m_iald hp dX0_keepGuess_58 tr11 H.1 ?_
      replace H := H.2
      refine k_SI (As := [.int (0 : Int32), .int (ri h r11 (x3).toNatClampNeg)]) (stk := []) cs_X0_784 dX0_keepGuess_59 rfl (Nat.le_of_ble_eq_true rfl) (H.mono (fun v12 h12 H => ?_)) ⟨Nat.le_refl _, Nat.le_refl _⟩
      exact H
    · replace H := H.2 cH
      refine r_iconst (v := (1 : Int32)) dX0_keepGuess_40 rfl ?_
      refine r_goto (tgt := 62) dX0_keepGuess_41 rfl ?_
      exact H
theorem s_X0_keepGuess_62 {g : GX} {d : Nat} {av : List Value} {Q : QT} {n : Nat} {h : Hp} {x1 : Int32} {x2 : Int32} {x3 : Int32} {x4 : Int32} {x5 : Int32} {xs0 : Int32} (hp : g.2.2.2.2 = true)  (H : ((xs0 = (0 : Int32)) → (W_X0_keepGuess g d av Q n 91 [some (.ref 0), some (.int x1), some (.int x2), some (.int x3), some (.int x4), some (.int x5), none, none] [] h)) ∧ ((¬ xs0 = (0 : Int32)) → ((¬ (x2 + (1 : Int32)) = 0) ∧ (vp_in (x5 / (x2 + (1 : Int32))) 8 ∧ ∀ r1, r1 = 2601 + 2 * ((x5 / (x2 + (1 : Int32)))).toNatClampNeg → ((¬ (x2 + (1 : Int32)) = 0) ∧ (CallV g m_X3_put d [.ref r1, .int (x5 - x5 / (x2 + (1 : Int32)) * (x2 + (1 : Int32))), .int xs0] n h (fun h2 => (W_X0_keepGuess g d av Q n 91 [some (.ref 0), some (.int x1), some (.int x2), some (.int x3), some (.int x4), some (.int x5), none, none] [] h2)))))))) : W_X0_keepGuess g d av Q n 62 [some (.ref 0), some (.int x1), some (.int x2), some (.int x3), some (.int x4), some (.int x5), none, none] [.int xs0] h := by
  refine r_istore (ls2 := [some (.ref 0), some (.int x1), some (.int x2), some (.int x3), some (.int x4), some (.int x5), some (.int xs0), none]) dX0_keepGuess_62 (by decide) rfl ?_
  refine r_iload dX0_keepGuess_64 rfl ?_
  refine r_if_eq (tgt := 91) dX0_keepGuess_66 rfl (fun cH => ?_) (fun cH => ?_)
  · replace H := H.1 cH
    refine r_prune [true, true, true, true, true, true, false, false] (ls2 := [some (.ref 0), some (.int x1), some (.int x2), some (.int x3), some (.int x4), some (.int x5), none, none]) rfl ?_
    exact H
  · replace H := H.2 cH
    refine r_aload_n dX0_keepGuess_69 rfl rfl ?_
    refine m_getF (x := 855) hp fw_X0_455 dX0_keepGuess_70 rfl ly_0 (ff_0_61 ly_0) ?_
    refine r_iload dX0_keepGuess_73 rfl ?_
    refine r_iload_n dX0_keepGuess_75 rfl rfl ?_
    refine r_iconst (v := (1 : Int32)) dX0_keepGuess_76 rfl ?_
    refine r_iadd dX0_keepGuess_77 ?_
    refine r_idiv dX0_keepGuess_78 H.1 ?_
    replace H := H.2
    obtain ⟨r1, er1⟩ : ∃ y, y = 2601 + 2 * ((x5 / (x2 + (1 : Int32)))).toNatClampNeg := ⟨_, rfl⟩
    have hir1 := H.1
    replace H := H.2 r1 er1
    have tLr1 := la_855 hir1 er1
    refine m_aalF (x := r1) hp dX0_keepGuess_79 (lf_0_61 ly_0) rfl rfl (lu_0_61 ly_0) hir1 (fa_855 hir1 er1) ?_
    refine r_iload dX0_keepGuess_80 rfl ?_
    refine r_iload_n dX0_keepGuess_82 rfl rfl ?_
    refine r_iconst (v := (1 : Int32)) dX0_keepGuess_83 rfl ?_
    refine r_iadd dX0_keepGuess_84 ?_
    refine r_irem dX0_keepGuess_85 H.1 ?_
    replace H := H.2
    refine r_iload dX0_keepGuess_86 rfl ?_
    refine k_VV (As := [.int (x5 - x5 / (x2 + (1 : Int32)) * (x2 + (1 : Int32))), .int xs0]) (stk := []) hp cv_X0_774 dX0_keepGuess_88 rfl (Nat.le_of_ble_eq_true rfl) tLr1 (H.mono (fun h2 H => ?_)) ⟨Nat.le_refl _, Nat.le_refl _⟩
    refine r_prune [true, true, true, true, true, true, false, false] (ls2 := [some (.ref 0), some (.int x1), some (.int x2), some (.int x3), some (.int x4), some (.int x5), none, none]) rfl ?_
    exact H
theorem s_X0_keepGuess_91 {g : GX} {d : Nat} {av : List Value} {Q : QT} {n : Nat} {h : Hp} {x1 : Int32} {x2 : Int32} {x3 : Int32} {x4 : Int32} {x5 : Int32} (hp : g.2.2.2.2 = true)  (H : W_X0_keepGuess g d av Q n 28 [some (.ref 0), some (.int x1), some (.int x2), some (.int x3), some (.int x4), some (.int (x5 + (1 : Int32))), none, none] [] h) : W_X0_keepGuess g d av Q n 91 [some (.ref 0), some (.int x1), some (.int x2), some (.int x3), some (.int x4), some (.int x5), none, none] [] h := by
  refine r_iinc (v := (x5 + (1 : Int32))) (ls2 := [some (.ref 0), some (.int x1), some (.int x2), some (.int x3), some (.int x4), some (.int (x5 + (1 : Int32))), none, none]) dX0_keepGuess_91 rfl rfl (by decide) rfl ?_
  refine r_goto (tgt := 28) dX0_keepGuess_94 rfl ?_
  exact H
abbrev W_X0_roots (g : GX) (d : Nat) (av : List Value) (Q : QT) (n : Nat) (pc : Nat) (ls : LV) (stk : List Value) (h : Hp) : Prop := RJ g m_X0_roots (d + 1) 0 0 av Q pc ls stk n h 0 0
theorem s_X0_roots_0 {g : GX} {d : Nat} {av : List Value} {Q : QT} {n : Nat} {h : Hp} {x1 : Int32} (hp : g.2.2.2.2 = true)  (H : CallI g m_X0_isSlot d [.int x1] n h (fun v1 h1 => (((¬ v1 = (0 : Int32)) → (vp_in x1 12 ∧ ∀ r2, r2 = 1185 + 27 * (x1).toNatClampNeg → (CallI g m_X0_isPolynomialInN d [.ref 0, .ref r2] n h1 (fun v3 h3 => (((¬ v3 = (0 : Int32)) → (vp_in x1 12 ∧ ∀ r4, r4 = 1185 + 27 * (x1).toNatClampNeg → (CallV g m_X4_row d [.ref (r4 + 3), .int (0 : Int32), .ref 1178] n h3 (fun h5 => (CallV g m_X3_monic d [.ref 1178] n h5 (fun h6 => (∀ h7, h7 = wi h6 0 73 (0 : Int32) → (∀ h8, h8 = wi h7 0 77 (0 : Int32) → ((((ri h8 1178 1) ≤ (1 : Int32)) → (W_X0_roots g d av Q n 168 [some (.ref 0), none] [] h8)) ∧ ((¬ (ri h8 1178 1) ≤ (1 : Int32)) → (CallV g m_X0_powerBy d [.ref 0, .int (0 : Int32), .long (2147483647 : Int64), .ref 1178, .ref 105] n h8 (fun h9 => (CallV g m_X3_clear d [.ref 832] n h9 (fun h10 => (CallV g m_X3_put d [.ref 832, .int (1 : Int32), .int (2147483646 : Int32)] n h10 (fun h11 => (CallV g m_X3_add d [.ref 832, .ref 105, .int (1 : Int32), .int (0 : Int32)] n h11 (fun h12 => (vp_in (0 : Int32) 64 ∧ ∀ r13, r13 = 2631 + 2 * ((0 : Int32)).toNatClampNeg → (CallV g m_X2_common d [.ref 2, .ref 1178, .ref 832, .ref r13] n h12 (fun h14 => (vp_in (0 : Int32) 64 ∧ ∀ r15, r15 = 2631 + 2 * ((0 : Int32)).toNatClampNeg → ((((ri h14 r15 1) ≤ (1 : Int32)) → (W_X0_roots g d av Q n 165 [some (.ref 0), none] [.int (0 : Int32), .ref 0] h14)) ∧ ((¬ (ri h14 r15 1) ≤ (1 : Int32)) → (W_X0_roots g d av Q n 165 [some (.ref 0), none] [.int (1 : Int32), .ref 0] h14))))))))))))))))))))))))) ∧ ((v3 = (0 : Int32)) → (Q (some (.int (-3 : Int32))) n h3))))))) ∧ ((v1 = (0 : Int32)) → (Q (some (.int (-1 : Int32))) n h1))))) : W_X0_roots g d av Q n 0 [some (.ref 0), some (.int x1)] [] h := by
  refine r_iload_n dX0_roots_0 rfl rfl ?_
  refine k_SI (As := [.int x1]) (stk := []) cs_X0_519 dX0_roots_1 rfl (Nat.le_of_ble_eq_true rfl) (H.mono (fun v1 h1 H => ?_)) ⟨Nat.le_refl _, Nat.le_refl _⟩
  refine r_if_ne (tgt := 9) dX0_roots_4 rfl (fun cH => ?_) (fun cH => ?_)
  · replace H := H.1 cH
    refine r_aload_n dX0_roots_9 rfl rfl ?_
    refine r_aload_n dX0_roots_10 rfl rfl ?_
    refine m_getF (x := 79) hp fw_X0_326 dX0_roots_11 rfl ly_0 (ff_0_20 ly_0) ?_
    refine r_iload_n dX0_roots_14 rfl rfl ?_
    obtain ⟨r2, er2⟩ : ∃ y, y = 1185 + 27 * (x1).toNatClampNeg := ⟨_, rfl⟩
    have hir2 := H.1
    replace H := H.2 r2 er2
    have tLr2 := la_79 hir2 er2
    refine m_aalF (x := r2) hp dX0_roots_15 (lf_0_20 ly_0) rfl rfl (lu_0_20 ly_0) hir2 (fa_79 hir2 er2) ?_
    refine k_VI (As := [.ref r2]) (stk := []) hp cv_X0_829 dX0_roots_16 rfl (Nat.le_of_ble_eq_true rfl) ly_0 (H.mono (fun v3 h3 H => ?_)) ⟨Nat.le_refl _, Nat.le_refl _⟩
    refine r_if_ne (tgt := 25) dX0_roots_19 rfl (fun cH => ?_) (fun cH => ?_)
    · replace H := H.1 cH
      refine r_aload_n dX0_roots_25 rfl rfl ?_
      refine m_getF (x := 79) hp fw_X0_326 dX0_roots_26 rfl ly_0 (ff_0_20 ly_0) ?_
      refine r_iload_n dX0_roots_29 rfl rfl ?_
      obtain ⟨r4, er4⟩ : ∃ y, y = 1185 + 27 * (x1).toNatClampNeg := ⟨_, rfl⟩
      have hir4 := H.1
      replace H := H.2 r4 er4
      have tLr4 := la_79 hir4 er4
      refine m_aalF (x := r4) hp dX0_roots_30 (lf_0_20 ly_0) rfl rfl (lu_0_20 ly_0) hir4 (fa_79 hir4 er4) ?_
      refine m_getF (x := (r4 + 1)) hp fw_X0_512 dX0_roots_31 rfl tLr4 (ff_9_1 tLr4) ?_
      refine m_getF (x := (r4 + 2)) hp fw_X0_110 dX0_roots_34 rfl (lf_9_1 tLr4) (ff_5_0 (lf_9_1 tLr4)) ?_
      refine m_getF (x := (r4 + 3)) hp fw_X0_89 dX0_roots_37 rfl (lf_5_0 (lf_9_1 tLr4)) (ff_6_0 (lf_5_0 (lf_9_1 tLr4))) ?_
      refine r_iconst (v := (0 : Int32)) dX0_roots_40 rfl ?_
      refine r_aload_n dX0_roots_41 rfl rfl ?_
      refine m_getF (x := 1178) hp fw_X0_493 dX0_roots_42 rfl ly_0 (ff_0_74 ly_0) ?_
      refine k_VV (As := [.int (0 : Int32), .ref 1178]) (stk := []) hp cv_X0_661 dX0_roots_45 rfl (Nat.le_of_ble_eq_true rfl) (lf_6_0 (lf_5_0 (lf_9_1 tLr4))) (H.mono (fun h5 H => ?_)) ⟨Nat.le_refl _, Nat.le_refl _⟩
      refine r_aload_n dX0_roots_48 rfl rfl ?_
      refine m_getF (x := 1178) hp fw_X0_493 dX0_roots_49 rfl ly_0 (ff_0_74 ly_0) ?_
      refine k_VV (As := []) (stk := []) hp cv_X0_870 dX0_roots_52 rfl (Nat.le_of_ble_eq_true rfl) (lf_0_74 ly_0) (H.mono (fun h6 H => ?_)) ⟨Nat.le_refl _, Nat.le_refl _⟩
      refine r_aload_n dX0_roots_55 rfl rfl ?_
      refine r_iconst (v := (0 : Int32)) dX0_roots_56 rfl ?_
      refine m_putI hp fw_X0_873 dX0_roots_57 rfl rfl ly_0 (fun h7 eh7 => ?_)
      replace H := H h7 eh7
      refine r_aload_n dX0_roots_60 rfl rfl ?_
      refine r_iconst (v := (0 : Int32)) dX0_roots_61 rfl ?_
      refine m_putI hp fw_X0_876 dX0_roots_62 rfl rfl ly_0 (fun h8 eh8 => ?_)
      replace H := H h8 eh8
      refine r_aload_n dX0_roots_65 rfl rfl ?_
      refine m_getF (x := 1178) hp fw_X0_493 dX0_roots_66 rfl ly_0 (ff_0_74 ly_0) ?_
      refine m_getI hp fw_X0_636 dX0_roots_69 rfl (lf_0_74 ly_0) ?_
      refine r_iconst (v := (1 : Int32)) dX0_roots_72 rfl ?_
      refine r_icmp_le (tgt := 168) dX0_roots_73 rfl (fun cH => ?_) (fun cH => ?_)
      · replace H := H.1 cH
        refine r_prune [true, false] (ls2 := [some (.ref 0), none]) rfl ?_
        exact H
      · replace H := H.2 cH
        refine r_aload_n dX0_roots_76 rfl rfl ?_
        refine r_iconst (v := (0 : Int32)) dX0_roots_77 rfl ?_
        refine r_ldc2 (own := "") (v := (2147483647 : Int64)) dX0_roots_78 q867 ?_
        refine r_aload_n dX0_roots_81 rfl rfl ?_
        refine m_getF (x := 1178) hp fw_X0_493 dX0_roots_82 rfl ly_0 (ff_0_74 ly_0) ?_
        refine r_aload_n dX0_roots_85 rfl rfl ?_
        refine m_getF (x := 105) hp fw_X0_365 dX0_roots_86 rfl ly_0 (ff_0_33 ly_0) ?_
        refine k_VV (As := [.int (0 : Int32), .long (2147483647 : Int64), .ref 1178, .ref 105]) (stk := []) hp cv_X0_879 dX0_roots_89 rfl (Nat.le_of_ble_eq_true rfl) ly_0 (H.mono (fun h9 H => ?_)) ⟨Nat.le_refl _, Nat.le_refl _⟩
        refine r_aload_n dX0_roots_92 rfl rfl ?_
        refine m_getF (x := 832) hp fw_X0_411 dX0_roots_93 rfl ly_0 (ff_0_46 ly_0) ?_
        refine k_VV (As := []) (stk := []) hp cv_X0_709 dX0_roots_96 rfl (Nat.le_of_ble_eq_true rfl) (lf_0_46 ly_0) (H.mono (fun h10 H => ?_)) ⟨Nat.le_refl _, Nat.le_refl _⟩
        refine r_aload_n dX0_roots_99 rfl rfl ?_
        refine m_getF (x := 832) hp fw_X0_411 dX0_roots_100 rfl ly_0 (ff_0_46 ly_0) ?_
        refine r_iconst (v := (1 : Int32)) dX0_roots_103 rfl ?_
        refine r_ldc (own := "") (v := (2147483646 : Int32)) dX0_roots_104 q1022 ?_
        refine k_VV (As := [.int (1 : Int32), .int (2147483646 : Int32)]) (stk := []) hp cv_X0_774 dX0_roots_106 rfl (Nat.le_of_ble_eq_true rfl) (lf_0_46 ly_0) (H.mono (fun h11 H => ?_)) ⟨Nat.le_refl _, Nat.le_refl _⟩
        refine r_aload_n dX0_roots_109 rfl rfl ?_
        refine m_getF (x := 832) hp fw_X0_411 dX0_roots_110 rfl ly_0 (ff_0_46 ly_0) ?_
        refine r_aload_n dX0_roots_113 rfl rfl ?_
        refine m_getF (x := 105) hp fw_X0_365 dX0_roots_114 rfl ly_0 (ff_0_33 ly_0) ?_
        refine r_iconst (v := (1 : Int32)) dX0_roots_117 rfl ?_
        refine r_iconst (v := (0 : Int32)) dX0_roots_118 rfl ?_
        refine k_VV (As := [.ref 105, .int (1 : Int32), .int (0 : Int32)]) (stk := []) hp cv_X0_689 dX0_roots_119 rfl (Nat.le_of_ble_eq_true rfl) (lf_0_46 ly_0) (H.mono (fun h12 H => ?_)) ⟨Nat.le_refl _, Nat.le_refl _⟩
        refine r_aload_n dX0_roots_122 rfl rfl ?_
        refine m_getF (x := 1) hp fw_X0_46 dX0_roots_123 rfl ly_0 (ff_0_0 ly_0) ?_
        refine m_getF (x := 2) hp fw_X0_642 dX0_roots_126 rfl (lf_0_0 ly_0) (ff_1_0 (lf_0_0 ly_0)) ?_
        refine r_aload_n dX0_roots_129 rfl rfl ?_
        refine m_getF (x := 1178) hp fw_X0_493 dX0_roots_130 rfl ly_0 (ff_0_74 ly_0) ?_
        refine r_aload_n dX0_roots_133 rfl rfl ?_
        refine m_getF (x := 832) hp fw_X0_411 dX0_roots_134 rfl ly_0 (ff_0_46 ly_0) ?_
        refine r_aload_n dX0_roots_137 rfl rfl ?_
        refine m_getF (x := 1182) hp fw_X0_499 dX0_roots_138 rfl ly_0 (ff_0_76 ly_0) ?_
        refine r_iconst (v := (0 : Int32)) dX0_roots_141 rfl ?_
        obtain ⟨r13, er13⟩ : ∃ y, y = 2631 + 2 * ((0 : Int32)).toNatClampNeg := ⟨_, rfl⟩
        have hir13 := H.1
        replace H := H.2 r13 er13
        have tLr13 := la_1182 hir13 er13
        refine m_aalF (x := r13) hp dX0_roots_142 (lf_0_76 ly_0) rfl rfl (lu_0_76 ly_0) hir13 (fa_1182 hir13 er13) ?_
        refine k_VV (As := [.ref 1178, .ref 832, .ref r13]) (stk := []) hp cv_X0_646 dX0_roots_143 rfl (Nat.le_of_ble_eq_true rfl) (lf_1_0 (lf_0_0 ly_0)) (H.mono (fun h14 H => ?_)) ⟨Nat.le_refl _, Nat.le_refl _⟩
        refine r_aload_n dX0_roots_146 rfl rfl ?_
        refine r_aload_n dX0_roots_147 rfl rfl ?_
        refine m_getF (x := 1182) hp fw_X0_499 dX0_roots_148 rfl ly_0 (ff_0_76 ly_0) ?_
        refine r_iconst (v := (0 : Int32)) dX0_roots_151 rfl ?_
        obtain ⟨r15, er15⟩ : ∃ y, y = 2631 + 2 * ((0 : Int32)).toNatClampNeg := ⟨_, rfl⟩
        have hir15 := H.1
        replace H := H.2 r15 er15
        have tLr15 := la_1182 hir15 er15
        refine m_aalF (x := r15) hp dX0_roots_152 (lf_0_76 ly_0) rfl rfl (lu_0_76 ly_0) hir15 (fa_1182 hir15 er15) ?_
        refine m_getI hp fw_X0_636 dX0_roots_153 rfl tLr15 ?_
        refine r_iconst (v := (1 : Int32)) dX0_roots_156 rfl ?_
        refine r_icmp_le (tgt := 164) dX0_roots_157 rfl (fun cH => ?_) (fun cH => ?_)
        · replace H := H.1 cH
          refine r_iconst (v := (0 : Int32)) dX0_roots_164 rfl ?_
          refine r_prune [true, false] (ls2 := [some (.ref 0), none]) rfl ?_
          exact H
        · replace H := H.2 cH
          refine r_iconst (v := (1 : Int32)) dX0_roots_160 rfl ?_
          refine r_goto (tgt := 165) dX0_roots_161 rfl ?_
          refine r_prune [true, false] (ls2 := [some (.ref 0), none]) rfl ?_
          exact H
    · replace H := H.2 cH
      refine r_bipush (v := (-3 : Int32)) dX0_roots_22 rfl ?_
      exact r_zret dX0_roots_24 rfl rfl (Nat.le_refl _) (Nat.le_refl _) H
  · replace H := H.2 cH
    refine r_iconst (v := (-1 : Int32)) dX0_roots_7 rfl ?_
    exact r_zret dX0_roots_8 rfl rfl (Nat.le_refl _) (Nat.le_refl _) H
theorem s_X0_roots_165 {g : GX} {d : Nat} {av : List Value} {Q : QT} {n : Nat} {h : Hp} {xs0 : Int32} {as1 : Nat} (hp : g.2.2.2.2 = true) (ts1 : lay as1 = (0, 0, 80)) (H : ∀ h1, h1 = wi h as1 77 xs0 → (W_X0_roots g d av Q n 168 [some (.ref 0), none] [] h1)) : W_X0_roots g d av Q n 165 [some (.ref 0), none] [.int xs0, .ref as1] h := by
  refine m_putI hp fw_X0_876 dX0_roots_165 rfl rfl ts1 (fun h1 eh1 => ?_)
  replace H := H h1 eh1
  exact H
theorem s_X0_roots_168 {g : GX} {d : Nat} {av : List Value} {Q : QT} {n : Nat} {h : Hp}  (hp : g.2.2.2.2 = true)  (H : (((ri h 0 77) ≤ (0 : Int32)) → (CallV g m_X0_sortRoots d [.ref 0] n h (fun h1 => (Q (some (.int (ri h1 0 73))) n h1)))) ∧ ((¬ (ri h 0 77) ≤ (0 : Int32)) → (∀ h2, h2 = wi h 0 77 ((ri h 0 77) - (1 : Int32)) → (vp_in (ri h2 0 77) 64 ∧ ∀ r3, r3 = 2631 + 2 * ((ri h2 0 77)).toNatClampNeg → (CallV g m_X0_split d [.ref 0, .ref r3] n h2 (fun h4 => (W_X0_roots g d av Q n 168 [some (.ref 0), none] [] h4))))))) : W_X0_roots g d av Q n 168 [some (.ref 0), none] [] h := by
  refine r_aload_n dX0_roots_168 rfl rfl ?_
  refine m_getI hp fw_X0_876 dX0_roots_169 rfl ly_0 ?_
  refine r_if_le (tgt := 201) dX0_roots_172 rfl (fun cH => ?_) (fun cH => ?_)
  · replace H := H.1 cH
    refine r_aload_n dX0_roots_201 rfl rfl ?_
    refine k_VV (As := []) (stk := []) hp cv_X0_886 dX0_roots_202 rfl (Nat.le_of_ble_eq_true rfl) ly_0 (H.mono (fun h1 H => ?_)) ⟨Nat.le_refl _, Nat.le_refl _⟩
    refine r_aload_n dX0_roots_205 rfl rfl ?_
    refine m_getI hp fw_X0_873 dX0_roots_206 rfl ly_0 ?_
    exact r_zret dX0_roots_209 rfl rfl (Nat.le_refl _) (Nat.le_refl _) H
  · replace H := H.2 cH
    refine r_aload_n dX0_roots_175 rfl rfl ?_
    refine r_dup dX0_roots_176 rfl ?_
    refine m_getI hp fw_X0_876 dX0_roots_177 rfl ly_0 ?_
    refine r_iconst (v := (1 : Int32)) dX0_roots_180 rfl ?_
    refine r_isub dX0_roots_181 ?_
    refine m_putI hp fw_X0_876 dX0_roots_182 rfl rfl ly_0 (fun h2 eh2 => ?_)
    replace H := H h2 eh2
    refine r_aload_n dX0_roots_185 rfl rfl ?_
    refine r_aload_n dX0_roots_186 rfl rfl ?_
    refine m_getF (x := 1182) hp fw_X0_499 dX0_roots_187 rfl ly_0 (ff_0_76 ly_0) ?_
    refine r_aload_n dX0_roots_190 rfl rfl ?_
    refine m_getI hp fw_X0_876 dX0_roots_191 rfl ly_0 ?_
    obtain ⟨r3, er3⟩ : ∃ y, y = 2631 + 2 * ((ri h2 0 77)).toNatClampNeg := ⟨_, rfl⟩
    have hir3 := H.1
    replace H := H.2 r3 er3
    have tLr3 := la_1182 hir3 er3
    refine m_aalF (x := r3) hp dX0_roots_194 (lf_0_76 ly_0) rfl rfl (lu_0_76 ly_0) hir3 (fa_1182 hir3 er3) ?_
    refine k_VV (As := [.ref r3]) (stk := []) hp cv_X0_883 dX0_roots_195 rfl (Nat.le_of_ble_eq_true rfl) ly_0 (H.mono (fun h4 H => ?_)) ⟨Nat.le_refl _, Nat.le_refl _⟩
    refine r_goto (tgt := 168) dX0_roots_198 rfl ?_
    exact H
abbrev W_X0_powerBy (g : GX) (d : Nat) (av : List Value) (Q : QT) (n : Nat) (pc : Nat) (ls : LV) (stk : List Value) (h : Hp) : Prop := RJ g m_X0_powerBy (d + 1) 0 0 av Q pc ls stk n h 0 0
theorem s_X0_powerBy_0 {g : GX} {d : Nat} {av : List Value} {Q : QT} {n : Nat} {h : Hp} {x1 : Int32} {y2 : Int64} {a4 : Nat} {a5 : Nat} (hp : g.2.2.2.2 = true) (t4 : lay a4 = (0, 3, 2)) (t5 : lay a5 = (0, 3, 2)) (H : CallV g m_X3_set d [.ref a5, .int (1 : Int32)] n h (fun h1 => (CallV g m_X3_set d [.ref 103, .int x1] n h1 (fun h2 => (CallV g m_X3_put d [.ref 103, .int (1 : Int32), .int (1 : Int32)] n h2 (fun h3 => (CallV g m_X3_divide d [.ref 103, .ref a4, .null] n h3 (fun h4 => (W_X0_powerBy g d av Q n 36 [some (.ref 0), none, none, none, some (.ref a4), some (.ref a5), some (.long y2), none] [] h4))))))))) : W_X0_powerBy g d av Q n 0 [some (.ref 0), some (.int x1), some (.long y2), none, some (.ref a4), some (.ref a5), none, none] [] h := by
  refine r_aload dX0_powerBy_0 rfl ?_
  refine r_iconst (v := (1 : Int32)) dX0_powerBy_2 rfl ?_
  refine k_VV (As := [.int (1 : Int32)]) (stk := []) hp cv_X0_734 dX0_powerBy_3 rfl (Nat.le_of_ble_eq_true rfl) t5 (H.mono (fun h1 H => ?_)) ⟨Nat.le_refl _, Nat.le_refl _⟩
  refine r_aload_n dX0_powerBy_6 rfl rfl ?_
  refine m_getF (x := 103) hp fw_X0_361 dX0_powerBy_7 rfl ly_0 (ff_0_32 ly_0) ?_
  refine r_iload_n dX0_powerBy_10 rfl rfl ?_
  refine k_VV (As := [.int x1]) (stk := []) hp cv_X0_734 dX0_powerBy_11 rfl (Nat.le_of_ble_eq_true rfl) (lf_0_32 ly_0) (H.mono (fun h2 H => ?_)) ⟨Nat.le_refl _, Nat.le_refl _⟩
  refine r_aload_n dX0_powerBy_14 rfl rfl ?_
  refine m_getF (x := 103) hp fw_X0_361 dX0_powerBy_15 rfl ly_0 (ff_0_32 ly_0) ?_
  refine r_iconst (v := (1 : Int32)) dX0_powerBy_18 rfl ?_
  refine r_iconst (v := (1 : Int32)) dX0_powerBy_19 rfl ?_
  refine k_VV (As := [.int (1 : Int32), .int (1 : Int32)]) (stk := []) hp cv_X0_774 dX0_powerBy_20 rfl (Nat.le_of_ble_eq_true rfl) (lf_0_32 ly_0) (H.mono (fun h3 H => ?_)) ⟨Nat.le_refl _, Nat.le_refl _⟩
  refine r_aload_n dX0_powerBy_23 rfl rfl ?_
  refine m_getF (x := 103) hp fw_X0_361 dX0_powerBy_24 rfl ly_0 (ff_0_32 ly_0) ?_
  refine r_aload dX0_powerBy_27 rfl ?_
  refine r_null dX0_powerBy_29 ?_
  refine k_VV (As := [.ref a4, .null]) (stk := []) hp cv_X0_867 dX0_powerBy_30 rfl (Nat.le_of_ble_eq_true rfl) (lf_0_32 ly_0) (H.mono (fun h4 H => ?_)) ⟨Nat.le_refl _, Nat.le_refl _⟩
  refine r_lload_n dX0_powerBy_33 rfl rfl ?_
  refine r_lstore (ls2 := [some (.ref 0), some (.int x1), some (.long y2), none, some (.ref a4), some (.ref a5), some (.long y2), none]) dX0_powerBy_34 (by decide) rfl ?_
  refine r_prune [true, false, false, false, true, true, true, false] (ls2 := [some (.ref 0), none, none, none, some (.ref a4), some (.ref a5), some (.long y2), none]) rfl ?_
  exact H
theorem s_X0_powerBy_36 {g : GX} {d : Nat} {av : List Value} {Q : QT} {n : Nat} {h : Hp} {a4 : Nat} {a5 : Nat} {y6 : Int64} (hp : g.2.2.2.2 = true) (t4 : lay a4 = (0, 3, 2)) (t5 : lay a5 = (0, 3, 2)) (H : (((lg_cmp y6 (0 : Int64)) ≤ (0 : Int32)) → (Q none n h)) ∧ ((¬ (lg_cmp y6 (0 : Int64)) ≤ (0 : Int32)) → (((¬ (lg_cmp (y6 &&& (1 : Int64)) (1 : Int64)) = (0 : Int32)) → (W_X0_powerBy g d av Q n 84 [some (.ref 0), none, none, none, some (.ref a4), some (.ref a5), some (.long y6), none] [] h)) ∧ (((lg_cmp (y6 &&& (1 : Int64)) (1 : Int64)) = (0 : Int32)) → (CallV g m_X3_product d [.ref 1180, .ref a5, .ref 103] n h (fun h1 => (CallV g m_X3_divide d [.ref 1180, .ref a4, .null] n h1 (fun h2 => (CallV g m_X3_copy d [.ref a5, .ref 1180] n h2 (fun h3 => (W_X0_powerBy g d av Q n 84 [some (.ref 0), none, none, none, some (.ref a4), some (.ref a5), some (.long y6), none] [] h3))))))))))) : W_X0_powerBy g d av Q n 36 [some (.ref 0), none, none, none, some (.ref a4), some (.ref a5), some (.long y6), none] [] h := by
  refine r_lload dX0_powerBy_36 rfl ?_
  refine r_lconst (v := (0 : Int64)) dX0_powerBy_38 rfl ?_
  refine r_lcmp dX0_powerBy_39 ?_
  refine r_if_le (tgt := 129) dX0_powerBy_40 rfl (fun cH => ?_) (fun cH => ?_)
  · replace H := H.1 cH
    exact r_vret dX0_powerBy_129 rfl (Nat.le_refl _) (Nat.le_refl _) H
  · replace H := H.2 cH
    refine r_lload dX0_powerBy_43 rfl ?_
    refine r_lconst (v := (1 : Int64)) dX0_powerBy_45 rfl ?_
    refine r_land dX0_powerBy_46 ?_
    refine r_lconst (v := (1 : Int64)) dX0_powerBy_47 rfl ?_
    refine r_lcmp dX0_powerBy_48 ?_
    refine r_if_ne (tgt := 84) dX0_powerBy_49 rfl (fun cH => ?_) (fun cH => ?_)
    · replace H := H.1 cH
      exact H
    · replace H := H.2 cH
      refine r_aload_n dX0_powerBy_52 rfl rfl ?_
      refine m_getF (x := 1180) hp fw_X0_496 dX0_powerBy_53 rfl ly_0 (ff_0_75 ly_0) ?_
      refine r_aload dX0_powerBy_56 rfl ?_
      refine r_aload_n dX0_powerBy_58 rfl rfl ?_
      refine m_getF (x := 103) hp fw_X0_361 dX0_powerBy_59 rfl ly_0 (ff_0_32 ly_0) ?_
      refine k_VV (As := [.ref a5, .ref 103]) (stk := []) hp cv_X0_739 dX0_powerBy_62 rfl (Nat.le_of_ble_eq_true rfl) (lf_0_75 ly_0) (H.mono (fun h1 H => ?_)) ⟨Nat.le_refl _, Nat.le_refl _⟩
      refine r_aload_n dX0_powerBy_65 rfl rfl ?_
      refine m_getF (x := 1180) hp fw_X0_496 dX0_powerBy_66 rfl ly_0 (ff_0_75 ly_0) ?_
      refine r_aload dX0_powerBy_69 rfl ?_
      refine r_null dX0_powerBy_71 ?_
      refine k_VV (As := [.ref a4, .null]) (stk := []) hp cv_X0_867 dX0_powerBy_72 rfl (Nat.le_of_ble_eq_true rfl) (lf_0_75 ly_0) (H.mono (fun h2 H => ?_)) ⟨Nat.le_refl _, Nat.le_refl _⟩
      refine r_aload dX0_powerBy_75 rfl ?_
      refine r_aload_n dX0_powerBy_77 rfl rfl ?_
      refine m_getF (x := 1180) hp fw_X0_496 dX0_powerBy_78 rfl ly_0 (ff_0_75 ly_0) ?_
      refine k_VV (As := [.ref 1180]) (stk := []) hp cv_X0_686 dX0_powerBy_81 rfl (Nat.le_of_ble_eq_true rfl) t5 (H.mono (fun h3 H => ?_)) ⟨Nat.le_refl _, Nat.le_refl _⟩
      exact H
theorem s_X0_powerBy_84 {g : GX} {d : Nat} {av : List Value} {Q : QT} {n : Nat} {h : Hp} {a4 : Nat} {a5 : Nat} {y6 : Int64} (hp : g.2.2.2.2 = true) (t4 : lay a4 = (0, 3, 2)) (t5 : lay a5 = (0, 3, 2)) (H : CallV g m_X3_product d [.ref 1180, .ref 103, .ref 103] n h (fun h1 => (CallV g m_X3_divide d [.ref 1180, .ref a4, .null] n h1 (fun h2 => (CallV g m_X3_copy d [.ref 103, .ref 1180] n h2 (fun h3 => (W_X0_powerBy g d av Q n 36 [some (.ref 0), none, none, none, some (.ref a4), some (.ref a5), some (.long (y6 >>> (((1 : Int32)).toInt64 &&& 63))), none] [] h3))))))) : W_X0_powerBy g d av Q n 84 [some (.ref 0), none, none, none, some (.ref a4), some (.ref a5), some (.long y6), none] [] h := by
  refine r_aload_n dX0_powerBy_84 rfl rfl ?_
  refine m_getF (x := 1180) hp fw_X0_496 dX0_powerBy_85 rfl ly_0 (ff_0_75 ly_0) ?_
  refine r_aload_n dX0_powerBy_88 rfl rfl ?_
  refine m_getF (x := 103) hp fw_X0_361 dX0_powerBy_89 rfl ly_0 (ff_0_32 ly_0) ?_
  refine r_aload_n dX0_powerBy_92 rfl rfl ?_
  refine m_getF (x := 103) hp fw_X0_361 dX0_powerBy_93 rfl ly_0 (ff_0_32 ly_0) ?_
  refine k_VV (As := [.ref 103, .ref 103]) (stk := []) hp cv_X0_739 dX0_powerBy_96 rfl (Nat.le_of_ble_eq_true rfl) (lf_0_75 ly_0) (H.mono (fun h1 H => ?_)) ⟨Nat.le_refl _, Nat.le_refl _⟩
  refine r_aload_n dX0_powerBy_99 rfl rfl ?_
  refine m_getF (x := 1180) hp fw_X0_496 dX0_powerBy_100 rfl ly_0 (ff_0_75 ly_0) ?_
  refine r_aload dX0_powerBy_103 rfl ?_
  refine r_null dX0_powerBy_105 ?_
  refine k_VV (As := [.ref a4, .null]) (stk := []) hp cv_X0_867 dX0_powerBy_106 rfl (Nat.le_of_ble_eq_true rfl) (lf_0_75 ly_0) (H.mono (fun h2 H => ?_)) ⟨Nat.le_refl _, Nat.le_refl _⟩
  refine r_aload_n dX0_powerBy_109 rfl rfl ?_
  refine m_getF (x := 103) hp fw_X0_361 dX0_powerBy_110 rfl ly_0 (ff_0_32 ly_0) ?_
  refine r_aload_n dX0_powerBy_113 rfl rfl ?_
  refine m_getF (x := 1180) hp fw_X0_496 dX0_powerBy_114 rfl ly_0 (ff_0_75 ly_0) ?_
  refine k_VV (As := [.ref 1180]) (stk := []) hp cv_X0_686 dX0_powerBy_117 rfl (Nat.le_of_ble_eq_true rfl) (lf_0_32 ly_0) (H.mono (fun h3 H => ?_)) ⟨Nat.le_refl _, Nat.le_refl _⟩
  refine r_lload dX0_powerBy_120 rfl ?_
  refine r_iconst (v := (1 : Int32)) dX0_powerBy_122 rfl ?_
  refine r_lshr dX0_powerBy_123 ?_
  refine r_lstore (ls2 := [some (.ref 0), none, none, none, some (.ref a4), some (.ref a5), some (.long (y6 >>> (((1 : Int32)).toInt64 &&& 63))), none]) dX0_powerBy_124 (by decide) rfl ?_
  refine r_goto (tgt := 36) dX0_powerBy_126 rfl ?_
  exact H
abbrev W_X0_split (g : GX) (d : Nat) (av : List Value) (Q : QT) (n : Nat) (pc : Nat) (ls : LV) (stk : List Value) (h : Hp) : Prop := RJ g m_X0_split (d + 1) 0 0 av Q pc ls stk n h 0 0
theorem s_X0_split_0 {g : GX} {d : Nat} {av : List Value} {Q : QT} {n : Nat} {h : Hp} {a1 : Nat} (hp : g.2.2.2.2 = true) (t1 : lay a1 = (0, 3, 2)) (H : ((¬ (ri h a1 1) = (2 : Int32)) → (CallV g m_X3_copy d [.ref 830, .ref a1] n h (fun h1 => (W_X0_split g d av Q n 47 [some (.ref 0), none, some (.int (0 : Int32)), some (.int (0 : Int32))] [] h1)))) ∧ (((ri h a1 1) = (2 : Int32)) → (vp_in (0 : Int32) (rm (a1 + 1)) ∧ (vp_in (1 : Int32) (rm (a1 + 1)) ∧ (CallI g m_X0_inverse d [.int (ri h (a1 + 1) ((1 : Int32)).toNatClampNeg)] n h (fun v2 h2 => (CallI g m_X0_times d [.int (ri h (a1 + 1) ((0 : Int32)).toNatClampNeg), .int v2] n h2 (fun v3 h3 => (CallI g m_X0_less d [.int (0 : Int32), .int v3] n h3 (fun v4 h4 => (CallV g m_X0_addRoot d [.ref 0, .int v4] n h4 (fun h5 => (Q none n h5))))))))))))) : W_X0_split g d av Q n 0 [some (.ref 0), some (.ref a1), none, none] [] h := by
  refine r_aload_n dX0_split_0 rfl rfl ?_
  refine m_getI hp fw_X0_636 dX0_split_1 rfl t1 ?_
  refine r_iconst (v := (2 : Int32)) dX0_split_4 rfl ?_
  refine r_icmp_ne (tgt := 35) dX0_split_5 rfl (fun cH => ?_) (fun cH => ?_)
  · replace H := H.1 cH
    refine r_aload_n dX0_split_35 rfl rfl ?_
    refine m_getF (x := 830) hp fw_X0_408 dX0_split_36 rfl ly_0 (ff_0_45 ly_0) ?_
    refine r_aload_n dX0_split_39 rfl rfl ?_
    refine k_VV (As := [.ref a1]) (stk := []) hp cv_X0_686 dX0_split_40 rfl (Nat.le_of_ble_eq_true rfl) (lf_0_45 ly_0) (H.mono (fun h1 H => ?_)) ⟨Nat.le_refl _, Nat.le_refl _⟩
    refine r_iconst (v := (0 : Int32)) dX0_split_43 rfl ?_
    refine r_istore_n (ls2 := [some (.ref 0), some (.ref a1), some (.int (0 : Int32)), none]) dX0_split_44 rfl (by decide) rfl ?_
    refine r_iconst (v := (0 : Int32)) dX0_split_45 rfl ?_
    refine r_istore_n (ls2 := [some (.ref 0), some (.ref a1), some (.int (0 : Int32)), some (.int (0 : Int32))]) dX0_split_46 rfl (by decide) rfl ?_
    refine r_prune [true, false, true, true] (ls2 := [some (.ref 0), none, some (.int (0 : Int32)), some (.int (0 : Int32))]) rfl ?_
    exact H
  · replace H := H.2 cH
    refine r_aload_n dX0_split_8 rfl rfl ?_
    refine r_iconst (v := (0 : Int32)) dX0_split_9 rfl ?_
    refine r_aload_n dX0_split_10 rfl rfl ?_
    refine m_getF (x := (a1 + 1)) hp fw_X0_889 dX0_split_11 rfl t1 (ff_3_0 t1) ?_
    refine r_iconst (v := (0 : Int32)) dX0_split_14 rfl ?_
    refine m_iald hp dX0_split_15 (lf_3_0 t1) H.1 ?_
    replace H := H.2
    refine r_aload_n dX0_split_16 rfl rfl ?_
    refine m_getF (x := (a1 + 1)) hp fw_X0_889 dX0_split_17 rfl t1 (ff_3_0 t1) ?_
    refine r_iconst (v := (1 : Int32)) dX0_split_20 rfl ?_
    refine m_iald hp dX0_split_21 (lf_3_0 t1) H.1 ?_
    replace H := H.2
    refine k_SI (As := [.int (ri h (a1 + 1) ((1 : Int32)).toNatClampNeg)]) (stk := [.int (ri h (a1 + 1) ((0 : Int32)).toNatClampNeg), .int (0 : Int32), .ref 0]) cs_X0_74 dX0_split_22 rfl (Nat.le_of_ble_eq_true rfl) (H.mono (fun v2 h2 H => ?_)) ⟨Nat.le_refl _, Nat.le_refl _⟩
    refine k_SI (As := [.int (ri h (a1 + 1) ((0 : Int32)).toNatClampNeg), .int v2]) (stk := [.int (0 : Int32), .ref 0]) cs_X0_6 dX0_split_25 rfl (Nat.le_of_ble_eq_true rfl) (H.mono (fun v3 h3 H => ?_)) ⟨Nat.le_refl _, Nat.le_refl _⟩
    refine k_SI (As := [.int (0 : Int32), .int v3]) (stk := [.ref 0]) cs_X0_784 dX0_split_28 rfl (Nat.le_of_ble_eq_true rfl) (H.mono (fun v4 h4 H => ?_)) ⟨Nat.le_refl _, Nat.le_refl _⟩
    refine k_VV (As := [.int v4]) (stk := []) hp cv_X0_890 dX0_split_31 rfl (Nat.le_of_ble_eq_true rfl) ly_0 (H.mono (fun h5 H => ?_)) ⟨Nat.le_refl _, Nat.le_refl _⟩
    exact r_vret dX0_split_34 rfl (Nat.le_refl _) (Nat.le_refl _) H
theorem s_X0_split_47 {g : GX} {d : Nat} {av : List Value} {Q : QT} {n : Nat} {h : Hp} {x2 : Int32} {x3 : Int32} (hp : g.2.2.2.2 = true)  (H : ((¬ x3 = (0 : Int32)) → (vp_in (ri h 0 77) 64 ∧ ∀ r1, r1 = 2631 + 2 * ((ri h 0 77)).toNatClampNeg → (CallV g m_X3_copy d [.ref r1, .ref 828] n h (fun h2 => (CallV g m_X2_divideExactly d [.ref 2, .ref 830, .ref 828] n h2 (fun h3 => (vp_in ((ri h3 0 77) + (1 : Int32)) 64 ∧ ∀ r4, r4 = 2631 + 2 * (((ri h3 0 77) + (1 : Int32))).toNatClampNeg → (CallV g m_X3_copy d [.ref r4, .ref 830] n h3 (fun h5 => (∀ h6, h6 = wi h5 0 77 ((ri h5 0 77) + (2 : Int32)) → (Q none n h6))))))))))) ∧ ((x3 = (0 : Int32)) → (CallV g m_X0_powerBy d [.ref 0, .int x2, .long (1073741823 : Int64), .ref 830, .ref 105] n h (fun h7 => (CallV g m_X3_set d [.ref 832, .int (2147483646 : Int32)] n h7 (fun h8 => (CallV g m_X3_add d [.ref 832, .ref 105, .int (1 : Int32), .int (0 : Int32)] n h8 (fun h9 => (CallV g m_X2_common d [.ref 2, .ref 830, .ref 832, .ref 828] n h9 (fun h10 => ((((ri h10 828 1) ≤ (1 : Int32)) → (W_X0_split g d av Q n 143 [some (.ref 0), none, some (.int x2), none] [] h10)) ∧ ((¬ (ri h10 828 1) ≤ (1 : Int32)) → ((((ri h10 830 1) ≤ (ri h10 828 1)) → (W_X0_split g d av Q n 143 [some (.ref 0), none, some (.int x2), none] [] h10)) ∧ ((¬ (ri h10 830 1) ≤ (ri h10 828 1)) → (W_X0_split g d av Q n 144 [some (.ref 0), none, some (.int x2), none] [.int (1 : Int32)] h10))))))))))))))) : W_X0_split g d av Q n 47 [some (.ref 0), none, some (.int x2), some (.int x3)] [] h := by
  refine r_iload_n dX0_split_47 rfl rfl ?_
  refine r_if_ne (tgt := 151) dX0_split_48 rfl (fun cH => ?_) (fun cH => ?_)
  · replace H := H.1 cH
    refine r_aload_n dX0_split_151 rfl rfl ?_
    refine m_getF (x := 1182) hp fw_X0_499 dX0_split_152 rfl ly_0 (ff_0_76 ly_0) ?_
    refine r_aload_n dX0_split_155 rfl rfl ?_
    refine m_getI hp fw_X0_876 dX0_split_156 rfl ly_0 ?_
    obtain ⟨r1, er1⟩ : ∃ y, y = 2631 + 2 * ((ri h 0 77)).toNatClampNeg := ⟨_, rfl⟩
    have hir1 := H.1
    replace H := H.2 r1 er1
    have tLr1 := la_1182 hir1 er1
    refine m_aalF (x := r1) hp dX0_split_159 (lf_0_76 ly_0) rfl rfl (lu_0_76 ly_0) hir1 (fa_1182 hir1 er1) ?_
    refine r_aload_n dX0_split_160 rfl rfl ?_
    refine m_getF (x := 828) hp fw_X0_406 dX0_split_161 rfl ly_0 (ff_0_44 ly_0) ?_
    refine k_VV (As := [.ref 828]) (stk := []) hp cv_X0_686 dX0_split_164 rfl (Nat.le_of_ble_eq_true rfl) tLr1 (H.mono (fun h2 H => ?_)) ⟨Nat.le_refl _, Nat.le_refl _⟩
    refine r_aload_n dX0_split_167 rfl rfl ?_
    refine m_getF (x := 1) hp fw_X0_46 dX0_split_168 rfl ly_0 (ff_0_0 ly_0) ?_
    refine m_getF (x := 2) hp fw_X0_642 dX0_split_171 rfl (lf_0_0 ly_0) (ff_1_0 (lf_0_0 ly_0)) ?_
    refine r_aload_n dX0_split_174 rfl rfl ?_
    refine m_getF (x := 830) hp fw_X0_408 dX0_split_175 rfl ly_0 (ff_0_45 ly_0) ?_
    refine r_aload_n dX0_split_178 rfl rfl ?_
    refine m_getF (x := 828) hp fw_X0_406 dX0_split_179 rfl ly_0 (ff_0_44 ly_0) ?_
    refine k_VV (As := [.ref 830, .ref 828]) (stk := []) hp cv_X0_718 dX0_split_182 rfl (Nat.le_of_ble_eq_true rfl) (lf_1_0 (lf_0_0 ly_0)) (H.mono (fun h3 H => ?_)) ⟨Nat.le_refl _, Nat.le_refl _⟩
    refine r_aload_n dX0_split_185 rfl rfl ?_
    refine m_getF (x := 1182) hp fw_X0_499 dX0_split_186 rfl ly_0 (ff_0_76 ly_0) ?_
    refine r_aload_n dX0_split_189 rfl rfl ?_
    refine m_getI hp fw_X0_876 dX0_split_190 rfl ly_0 ?_
    refine r_iconst (v := (1 : Int32)) dX0_split_193 rfl ?_
    refine r_iadd dX0_split_194 ?_
    obtain ⟨r4, er4⟩ : ∃ y, y = 2631 + 2 * (((ri h3 0 77) + (1 : Int32))).toNatClampNeg := ⟨_, rfl⟩
    have hir4 := H.1
    replace H := H.2 r4 er4
    have tLr4 := la_1182 hir4 er4
    refine m_aalF (x := r4) hp dX0_split_195 (lf_0_76 ly_0) rfl rfl (lu_0_76 ly_0) hir4 (fa_1182 hir4 er4) ?_
    refine r_aload_n dX0_split_196 rfl rfl ?_
    refine m_getF (x := 830) hp fw_X0_408 dX0_split_197 rfl ly_0 (ff_0_45 ly_0) ?_
    refine k_VV (As := [.ref 830]) (stk := []) hp cv_X0_686 dX0_split_200 rfl (Nat.le_of_ble_eq_true rfl) tLr4 (H.mono (fun h5 H => ?_)) ⟨Nat.le_refl _, Nat.le_refl _⟩
    refine r_aload_n dX0_split_203 rfl rfl ?_
    refine r_dup dX0_split_204 rfl ?_
    refine m_getI hp fw_X0_876 dX0_split_205 rfl ly_0 ?_
    refine r_iconst (v := (2 : Int32)) dX0_split_208 rfl ?_
    refine r_iadd dX0_split_209 ?_
    refine m_putI hp fw_X0_876 dX0_split_210 rfl rfl ly_0 (fun h6 eh6 => ?_)
    replace H := H h6 eh6
    exact r_vret dX0_split_213 rfl (Nat.le_refl _) (Nat.le_refl _) H
  · replace H := H.2 cH
    refine r_aload_n dX0_split_51 rfl rfl ?_
    refine r_iload_n dX0_split_52 rfl rfl ?_
    refine r_ldc2 (own := "") (v := (1073741823 : Int64)) dX0_split_53 q1679 ?_
    refine r_aload_n dX0_split_56 rfl rfl ?_
    refine m_getF (x := 830) hp fw_X0_408 dX0_split_57 rfl ly_0 (ff_0_45 ly_0) ?_
    refine r_aload_n dX0_split_60 rfl rfl ?_
    refine m_getF (x := 105) hp fw_X0_365 dX0_split_61 rfl ly_0 (ff_0_33 ly_0) ?_
    refine k_VV (As := [.int x2, .long (1073741823 : Int64), .ref 830, .ref 105]) (stk := []) hp cv_X0_879 dX0_split_64 rfl (Nat.le_of_ble_eq_true rfl) ly_0 (H.mono (fun h7 H => ?_)) ⟨Nat.le_refl _, Nat.le_refl _⟩
    refine r_aload_n dX0_split_67 rfl rfl ?_
    refine m_getF (x := 832) hp fw_X0_411 dX0_split_68 rfl ly_0 (ff_0_46 ly_0) ?_
    refine r_ldc (own := "") (v := (2147483646 : Int32)) dX0_split_71 q1022 ?_
    refine k_VV (As := [.int (2147483646 : Int32)]) (stk := []) hp cv_X0_734 dX0_split_73 rfl (Nat.le_of_ble_eq_true rfl) (lf_0_46 ly_0) (H.mono (fun h8 H => ?_)) ⟨Nat.le_refl _, Nat.le_refl _⟩
    refine r_aload_n dX0_split_76 rfl rfl ?_
    refine m_getF (x := 832) hp fw_X0_411 dX0_split_77 rfl ly_0 (ff_0_46 ly_0) ?_
    refine r_aload_n dX0_split_80 rfl rfl ?_
    refine m_getF (x := 105) hp fw_X0_365 dX0_split_81 rfl ly_0 (ff_0_33 ly_0) ?_
    refine r_iconst (v := (1 : Int32)) dX0_split_84 rfl ?_
    refine r_iconst (v := (0 : Int32)) dX0_split_85 rfl ?_
    refine k_VV (As := [.ref 105, .int (1 : Int32), .int (0 : Int32)]) (stk := []) hp cv_X0_689 dX0_split_86 rfl (Nat.le_of_ble_eq_true rfl) (lf_0_46 ly_0) (H.mono (fun h9 H => ?_)) ⟨Nat.le_refl _, Nat.le_refl _⟩
    refine r_aload_n dX0_split_89 rfl rfl ?_
    refine m_getF (x := 1) hp fw_X0_46 dX0_split_90 rfl ly_0 (ff_0_0 ly_0) ?_
    refine m_getF (x := 2) hp fw_X0_642 dX0_split_93 rfl (lf_0_0 ly_0) (ff_1_0 (lf_0_0 ly_0)) ?_
    refine r_aload_n dX0_split_96 rfl rfl ?_
    refine m_getF (x := 830) hp fw_X0_408 dX0_split_97 rfl ly_0 (ff_0_45 ly_0) ?_
    refine r_aload_n dX0_split_100 rfl rfl ?_
    refine m_getF (x := 832) hp fw_X0_411 dX0_split_101 rfl ly_0 (ff_0_46 ly_0) ?_
    refine r_aload_n dX0_split_104 rfl rfl ?_
    refine m_getF (x := 828) hp fw_X0_406 dX0_split_105 rfl ly_0 (ff_0_44 ly_0) ?_
    refine k_VV (As := [.ref 830, .ref 832, .ref 828]) (stk := []) hp cv_X0_646 dX0_split_108 rfl (Nat.le_of_ble_eq_true rfl) (lf_1_0 (lf_0_0 ly_0)) (H.mono (fun h10 H => ?_)) ⟨Nat.le_refl _, Nat.le_refl _⟩
    refine r_aload_n dX0_split_111 rfl rfl ?_
    refine m_getF (x := 828) hp fw_X0_406 dX0_split_112 rfl ly_0 (ff_0_44 ly_0) ?_
    refine m_getI hp fw_X0_636 dX0_split_115 rfl (lf_0_44 ly_0) ?_
    refine r_iconst (v := (1 : Int32)) dX0_split_118 rfl ?_
    refine r_icmp_le (tgt := 143) dX0_split_119 rfl (fun cH => ?_) (fun cH => ?_)
    · replace H := H.1 cH
      refine r_prune [true, false, true, false] (ls2 := [some (.ref 0), none, some (.int x2), none]) rfl ?_
      exact H
    · replace H := H.2 cH
      refine r_aload_n dX0_split_122 rfl rfl ?_
      refine m_getF (x := 828) hp fw_X0_406 dX0_split_123 rfl ly_0 (ff_0_44 ly_0) ?_
      refine m_getI hp fw_X0_636 dX0_split_126 rfl (lf_0_44 ly_0) ?_
      refine r_aload_n dX0_split_129 rfl rfl ?_
      refine m_getF (x := 830) hp fw_X0_408 dX0_split_130 rfl ly_0 (ff_0_45 ly_0) ?_
      refine m_getI hp fw_X0_636 dX0_split_133 rfl (lf_0_45 ly_0) ?_
      refine r_icmp_ge (tgt := 143) dX0_split_136 rfl (fun cH => ?_) (fun cH => ?_)
      · replace H := H.1 cH
        refine r_prune [true, false, true, false] (ls2 := [some (.ref 0), none, some (.int x2), none]) rfl ?_
        exact H
      · replace H := H.2 cH
        refine r_iconst (v := (1 : Int32)) dX0_split_139 rfl ?_
        refine r_goto (tgt := 144) dX0_split_140 rfl ?_
        refine r_prune [true, false, true, false] (ls2 := [some (.ref 0), none, some (.int x2), none]) rfl ?_
        exact H
theorem s_X0_split_143 {g : GX} {d : Nat} {av : List Value} {Q : QT} {n : Nat} {h : Hp} {x2 : Int32} (hp : g.2.2.2.2 = true)  (H : W_X0_split g d av Q n 144 [some (.ref 0), none, some (.int x2), none] [.int (0 : Int32)] h) : W_X0_split g d av Q n 143 [some (.ref 0), none, some (.int x2), none] [] h := by
  refine r_iconst (v := (0 : Int32)) dX0_split_143 rfl ?_
  exact H
theorem s_X0_split_144 {g : GX} {d : Nat} {av : List Value} {Q : QT} {n : Nat} {h : Hp} {x2 : Int32} {xs0 : Int32} (hp : g.2.2.2.2 = true)  (H : W_X0_split g d av Q n 47 [some (.ref 0), none, some (.int (x2 + (1 : Int32))), some (.int xs0)] [] h) : W_X0_split g d av Q n 144 [some (.ref 0), none, some (.int x2), none] [.int xs0] h := by
  refine r_istore_n (ls2 := [some (.ref 0), none, some (.int x2), some (.int xs0)]) dX0_split_144 rfl (by decide) rfl ?_
  refine r_iinc (v := (x2 + (1 : Int32))) (ls2 := [some (.ref 0), none, some (.int (x2 + (1 : Int32))), some (.int xs0)]) dX0_split_145 rfl rfl (by decide) rfl ?_
  refine r_goto (tgt := 47) dX0_split_148 rfl ?_
  exact H
