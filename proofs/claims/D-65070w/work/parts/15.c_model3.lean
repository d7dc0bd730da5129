set_option maxRecDepth 100000
theorem dX10_lineInto_0 : decode cX10_lineInto 0 = .ok (.aload_n 0, 1) := by decide +kernel
theorem dX10_lineInto_1 : decode cX10_lineInto 1 = .ok (.getfield 90, 3) := by decide +kernel
theorem dX10_lineInto_4 : decode cX10_lineInto 4 = .ok (.istore 4, 2) := by decide +kernel
theorem dX10_lineInto_6 : decode cX10_lineInto 6 = .ok (.aload_n 0, 1) := by decide +kernel
theorem dX10_lineInto_7 : decode cX10_lineInto 7 = .ok (.invokevirtual 140, 3) := by decide +kernel
theorem dX10_lineInto_10 : decode cX10_lineInto 10 = .ok (.astore 5, 2) := by decide +kernel
theorem dX10_lineInto_12 : decode cX10_lineInto 12 = .ok (.aload_n 0, 1) := by decide +kernel
theorem dX10_lineInto_13 : decode cX10_lineInto 13 = .ok (.invokevirtual 140, 3) := by decide +kernel
theorem dX10_lineInto_16 : decode cX10_lineInto 16 = .ok (.astore 6, 2) := by decide +kernel
theorem dX10_lineInto_18 : decode cX10_lineInto 18 = .ok (.aload 5, 2) := by decide +kernel
theorem dX10_lineInto_20 : decode cX10_lineInto 20 = .ok (.getfield 98, 3) := by decide +kernel
theorem dX10_lineInto_23 : decode cX10_lineInto 23 = .ok (.iconst 0, 1) := by decide +kernel
theorem dX10_lineInto_24 : decode cX10_lineInto 24 = .ok (.aaload, 1) := by decide +kernel
theorem dX10_lineInto_25 : decode cX10_lineInto 25 = .ok (.getfield 30, 3) := by decide +kernel
theorem dX10_lineInto_28 : decode cX10_lineInto 28 = .ok (.iconst 0, 1) := by decide +kernel
theorem dX10_lineInto_29 : decode cX10_lineInto 29 = .ok (.aload_n 0, 1) := by decide +kernel
theorem dX10_lineInto_30 : decode cX10_lineInto 30 = .ok (.getfield 477, 3) := by decide +kernel
theorem dX10_lineInto_33 : decode cX10_lineInto 33 = .ok (.iload_n 3, 1) := by decide +kernel
theorem dX10_lineInto_34 : decode cX10_lineInto 34 = .ok (.iaload, 1) := by decide +kernel
theorem dX10_lineInto_35 : decode cX10_lineInto 35 = .ok (.iastore, 1) := by decide +kernel
theorem dX10_lineInto_36 : decode cX10_lineInto 36 = .ok (.aload 5, 2) := by decide +kernel
theorem dX10_lineInto_38 : decode cX10_lineInto 38 = .ok (.getfield 98, 3) := by decide +kernel
theorem dX10_lineInto_41 : decode cX10_lineInto 41 = .ok (.iconst 0, 1) := by decide +kernel
theorem dX10_lineInto_42 : decode cX10_lineInto 42 = .ok (.aaload, 1) := by decide +kernel
theorem dX10_lineInto_43 : decode cX10_lineInto 43 = .ok (.getfield 30, 3) := by decide +kernel
theorem dX10_lineInto_46 : decode cX10_lineInto 46 = .ok (.iconst 1, 1) := by decide +kernel
theorem dX10_lineInto_47 : decode cX10_lineInto 47 = .ok (.aload_n 0, 1) := by decide +kernel
theorem dX10_lineInto_48 : decode cX10_lineInto 48 = .ok (.getfield 471, 3) := by decide +kernel
theorem dX10_lineInto_51 : decode cX10_lineInto 51 = .ok (.iload_n 3, 1) := by decide +kernel
theorem dX10_lineInto_52 : decode cX10_lineInto 52 = .ok (.iaload, 1) := by decide +kernel
theorem dX10_lineInto_53 : decode cX10_lineInto 53 = .ok (.iastore, 1) := by decide +kernel
theorem dX10_lineInto_54 : decode cX10_lineInto 54 = .ok (.aload 5, 2) := by decide +kernel
theorem dX10_lineInto_56 : decode cX10_lineInto 56 = .ok (.getfield 98, 3) := by decide +kernel
theorem dX10_lineInto_59 : decode cX10_lineInto 59 = .ok (.iconst 0, 1) := by decide +kernel
theorem dX10_lineInto_60 : decode cX10_lineInto 60 = .ok (.aaload, 1) := by decide +kernel
theorem dX10_lineInto_61 : decode cX10_lineInto 61 = .ok (.iconst 2, 1) := by decide +kernel
theorem dX10_lineInto_62 : decode cX10_lineInto 62 = .ok (.putfield 25, 3) := by decide +kernel
theorem dX10_lineInto_65 : decode cX10_lineInto 65 = .ok (.aload 5, 2) := by decide +kernel
theorem dX10_lineInto_67 : decode cX10_lineInto 67 = .ok (.getfield 98, 3) := by decide +kernel
theorem dX10_lineInto_70 : decode cX10_lineInto 70 = .ok (.iconst 0, 1) := by decide +kernel
theorem dX10_lineInto_71 : decode cX10_lineInto 71 = .ok (.aaload, 1) := by decide +kernel
theorem dX10_lineInto_72 : decode cX10_lineInto 72 = .ok (.invokevirtual 52, 3) := by decide +kernel
theorem dX10_lineInto_75 : decode cX10_lineInto 75 = .ok (.aload 5, 2) := by decide +kernel
theorem dX10_lineInto_77 : decode cX10_lineInto 77 = .ok (.iconst 1, 1) := by decide +kernel
theorem dX10_lineInto_78 : decode cX10_lineInto 78 = .ok (.putfield 93, 3) := by decide +kernel
theorem dX10_lineInto_81 : decode cX10_lineInto 81 = .ok (.aload_n 0, 1) := by decide +kernel
theorem dX10_lineInto_82 : decode cX10_lineInto 82 = .ok (.getfield 474, 3) := by decide +kernel
theorem dX10_lineInto_85 : decode cX10_lineInto 85 = .ok (.iload_n 3, 1) := by decide +kernel
theorem dX10_lineInto_86 : decode cX10_lineInto 86 = .ok (.iaload, 1) := by decide +kernel
theorem dX10_lineInto_87 : decode cX10_lineInto 87 = .ok (.ifCond .eq 25, 3) := by decide +kernel
theorem dX10_lineInto_90 : decode cX10_lineInto 90 = .ok (.aload 5, 2) := by decide +kernel
theorem dX10_lineInto_92 : decode cX10_lineInto 92 = .ok (.getfield 98, 3) := by decide +kernel
theorem dX10_lineInto_95 : decode cX10_lineInto 95 = .ok (.iconst 1, 1) := by decide +kernel
theorem dX10_lineInto_96 : decode cX10_lineInto 96 = .ok (.aaload, 1) := by decide +kernel
theorem dX10_lineInto_97 : decode cX10_lineInto 97 = .ok (.aload_n 0, 1) := by decide +kernel
theorem dX10_lineInto_98 : decode cX10_lineInto 98 = .ok (.getfield 474, 3) := by decide +kernel
theorem dX10_lineInto_101 : decode cX10_lineInto 101 = .ok (.iload_n 3, 1) := by decide +kernel
theorem dX10_lineInto_102 : decode cX10_lineInto 102 = .ok (.iaload, 1) := by decide +kernel
theorem dX10_lineInto_103 : decode cX10_lineInto 103 = .ok (.invokevirtual 147, 3) := by decide +kernel
theorem dX10_lineInto_106 : decode cX10_lineInto 106 = .ok (.aload 5, 2) := by decide +kernel
theorem dX10_lineInto_108 : decode cX10_lineInto 108 = .ok (.iconst 2, 1) := by decide +kernel
theorem dX10_lineInto_109 : decode cX10_lineInto 109 = .ok (.putfield 93, 3) := by decide +kernel
theorem dX10_lineInto_112 : decode cX10_lineInto 112 = .ok (.iconst 1, 1) := by decide +kernel
theorem dX10_lineInto_113 : decode cX10_lineInto 113 = .ok (.istore 7, 2) := by decide +kernel
theorem dX10_lineInto_115 : decode cX10_lineInto 115 = .ok (.aload_n 0, 1) := by decide +kernel
theorem dX10_lineInto_116 : decode cX10_lineInto 116 = .ok (.getfield 480, 3) := by decide +kernel
theorem dX10_lineInto_119 : decode cX10_lineInto 119 = .ok (.iload_n 3, 1) := by decide +kernel
theorem dX10_lineInto_120 : decode cX10_lineInto 120 = .ok (.iaload, 1) := by decide +kernel
theorem dX10_lineInto_121 : decode cX10_lineInto 121 = .ok (.invokestatic 273, 3) := by decide +kernel
theorem dX10_lineInto_124 : decode cX10_lineInto 124 = .ok (.istore 8, 2) := by decide +kernel
theorem dX10_lineInto_126 : decode cX10_lineInto 126 = .ok (.iload 8, 2) := by decide +kernel
theorem dX10_lineInto_128 : decode cX10_lineInto 128 = .ok (.ifCond .le 113, 3) := by decide +kernel
theorem dX10_lineInto_131 : decode cX10_lineInto 131 = .ok (.iload 7, 2) := by decide +kernel
theorem dX10_lineInto_133 : decode cX10_lineInto 133 = .ok (.ifCond .eq 108, 3) := by decide +kernel
theorem dX10_lineInto_136 : decode cX10_lineInto 136 = .ok (.aload_n 0, 1) := by decide +kernel
theorem dX10_lineInto_137 : decode cX10_lineInto 137 = .ok (.getfield 480, 3) := by decide +kernel
theorem dX10_lineInto_140 : decode cX10_lineInto 140 = .ok (.iload_n 3, 1) := by decide +kernel
theorem dX10_lineInto_141 : decode cX10_lineInto 141 = .ok (.iaload, 1) := by decide +kernel
theorem dX10_lineInto_142 : decode cX10_lineInto 142 = .ok (.ifCond .le 7, 3) := by decide +kernel
theorem dX10_lineInto_145 : decode cX10_lineInto 145 = .ok (.aload_n 1, 1) := by decide +kernel
theorem dX10_lineInto_146 : decode cX10_lineInto 146 = .ok (.goto 4, 3) := by decide +kernel
theorem dX10_lineInto_149 : decode cX10_lineInto 149 = .ok (.aload_n 2, 1) := by decide +kernel
theorem dX10_lineInto_150 : decode cX10_lineInto 150 = .ok (.astore 9, 2) := by decide +kernel
theorem dX10_lineInto_152 : decode cX10_lineInto 152 = .ok (.aload_n 0, 1) := by decide +kernel
theorem dX10_lineInto_153 : decode cX10_lineInto 153 = .ok (.getfield 480, 3) := by decide +kernel
theorem dX10_lineInto_156 : decode cX10_lineInto 156 = .ok (.iload_n 3, 1) := by decide +kernel
theorem dX10_lineInto_157 : decode cX10_lineInto 157 = .ok (.iaload, 1) := by decide +kernel
theorem dX10_lineInto_158 : decode cX10_lineInto 158 = .ok (.ifCond .le 7, 3) := by decide +kernel
theorem dX10_lineInto_161 : decode cX10_lineInto 161 = .ok (.aload_n 2, 1) := by decide +kernel
theorem dX10_lineInto_162 : decode cX10_lineInto 162 = .ok (.goto 4, 3) := by decide +kernel
theorem dX10_lineInto_165 : decode cX10_lineInto 165 = .ok (.aload_n 1, 1) := by decide +kernel
theorem dX10_lineInto_166 : decode cX10_lineInto 166 = .ok (.astore 10, 2) := by decide +kernel
theorem dX10_lineInto_168 : decode cX10_lineInto 168 = .ok (.aload_n 0, 1) := by decide +kernel
theorem dX10_lineInto_169 : decode cX10_lineInto 169 = .ok (.aload 6, 2) := by decide +kernel
theorem dX10_lineInto_171 : decode cX10_lineInto 171 = .ok (.aload 10, 2) := by decide +kernel
theorem dX10_lineInto_173 : decode cX10_lineInto 173 = .ok (.aload 5, 2) := by decide +kernel
theorem dX10_lineInto_175 : decode cX10_lineInto 175 = .ok (.invokevirtual 170, 3) := by decide +kernel
theorem dX10_lineInto_178 : decode cX10_lineInto 178 = .ok (.ifCond .eq 13, 3) := by decide +kernel
theorem dX10_lineInto_181 : decode cX10_lineInto 181 = .ok (.aload 10, 2) := by decide +kernel
theorem dX10_lineInto_183 : decode cX10_lineInto 183 = .ok (.aload 6, 2) := by decide +kernel
theorem dX10_lineInto_185 : decode cX10_lineInto 185 = .ok (.invokestatic 113, 3) := by decide +kernel
theorem dX10_lineInto_188 : decode cX10_lineInto 188 = .ok (.goto 47, 3) := by decide +kernel
theorem dX10_lineInto_191 : decode cX10_lineInto 191 = .ok (.aload_n 0, 1) := by decide +kernel
theorem dX10_lineInto_192 : decode cX10_lineInto 192 = .ok (.aload 6, 2) := by decide +kernel
theorem dX10_lineInto_194 : decode cX10_lineInto 194 = .ok (.aload 9, 2) := by decide +kernel
theorem dX10_lineInto_196 : decode cX10_lineInto 196 = .ok (.aload 5, 2) := by decide +kernel
theorem dX10_lineInto_198 : decode cX10_lineInto 198 = .ok (.invokevirtual 197, 3) := by decide +kernel
theorem dX10_lineInto_201 : decode cX10_lineInto 201 = .ok (.aload 9, 2) := by decide +kernel
theorem dX10_lineInto_203 : decode cX10_lineInto 203 = .ok (.aload 6, 2) := by decide +kernel
theorem dX10_lineInto_205 : decode cX10_lineInto 205 = .ok (.invokestatic 113, 3) := by decide +kernel
theorem dX10_lineInto_208 : decode cX10_lineInto 208 = .ok (.aload 9, 2) := by decide +kernel
theorem dX10_lineInto_210 : decode cX10_lineInto 210 = .ok (.getfield 93, 3) := by decide +kernel
theorem dX10_lineInto_213 : decode cX10_lineInto 213 = .ok (.bipush 50, 2) := by decide +kernel
theorem dX10_lineInto_215 : decode cX10_lineInto 215 = .ok (.if_icmp .gt 17, 3) := by decide +kernel
theorem dX10_lineInto_218 : decode cX10_lineInto 218 = .ok (.aload 9, 2) := by decide +kernel
theorem dX10_lineInto_220 : decode cX10_lineInto 220 = .ok (.invokevirtual 119, 3) := by decide +kernel
theorem dX10_lineInto_223 : decode cX10_lineInto 223 = .ok (.bipush 110, 2) := by decide +kernel
theorem dX10_lineInto_225 : decode cX10_lineInto 225 = .ok (.if_icmp .gt 7, 3) := by decide +kernel
theorem dX10_lineInto_228 : decode cX10_lineInto 228 = .ok (.iconst 1, 1) := by decide +kernel
theorem dX10_lineInto_229 : decode cX10_lineInto 229 = .ok (.goto 4, 3) := by decide +kernel
theorem dX10_lineInto_232 : decode cX10_lineInto 232 = .ok (.iconst 0, 1) := by decide +kernel
theorem dX10_lineInto_233 : decode cX10_lineInto 233 = .ok (.istore 7, 2) := by decide +kernel
theorem dX10_lineInto_235 : decode cX10_lineInto 235 = .ok (.iinc 8 (-1), 3) := by decide +kernel
theorem dX10_lineInto_238 : decode cX10_lineInto 238 = .ok (.goto (-112), 3) := by decide +kernel
theorem dX10_lineInto_241 : decode cX10_lineInto 241 = .ok (.aload_n 0, 1) := by decide +kernel
theorem dX10_lineInto_242 : decode cX10_lineInto 242 = .ok (.iload 4, 2) := by decide +kernel
theorem dX10_lineInto_244 : decode cX10_lineInto 244 = .ok (.putfield 90, 3) := by decide +kernel
theorem dX10_lineInto_247 : decode cX10_lineInto 247 = .ok (.iload 7, 2) := by decide +kernel
theorem dX10_lineInto_249 : decode cX10_lineInto 249 = .ok (.ireturn, 1) := by decide +kernel
theorem dX10_work_0 : decode cX10_work 0 = .ok (.iload_n 2, 1) := by decide +kernel
theorem dX10_work_1 : decode cX10_work 1 = .ok (.invokestatic 551, 3) := by decide +kernel
theorem dX10_work_4 : decode cX10_work 4 = .ok (.ifCond .eq 18, 3) := by decide +kernel
theorem dX10_work_7 : decode cX10_work 7 = .ok (.iload_n 3, 1) := by decide +kernel
theorem dX10_work_8 : decode cX10_work 8 = .ok (.invokestatic 551, 3) := by decide +kernel
theorem dX10_work_11 : decode cX10_work 11 = .ok (.ifCond .eq 11, 3) := by decide +kernel
theorem dX10_work_14 : decode cX10_work 14 = .ok (.iload 4, 2) := by decide +kernel
theorem dX10_work_16 : decode cX10_work 16 = .ok (.invokestatic 551, 3) := by decide +kernel
theorem dX10_work_19 : decode cX10_work 19 = .ok (.ifCond .ne 5, 3) := by decide +kernel
theorem dX10_work_22 : decode cX10_work 22 = .ok (.iconst (-1), 1) := by decide +kernel
theorem dX10_work_23 : decode cX10_work 23 = .ok (.ireturn, 1) := by decide +kernel
theorem dX10_work_24 : decode cX10_work 24 = .ok (.aload_n 0, 1) := by decide +kernel
theorem dX10_work_25 : decode cX10_work 25 = .ok (.getfield 450, 3) := by decide +kernel
theorem dX10_work_28 : decode cX10_work 28 = .ok (.iload_n 2, 1) := by decide +kernel
theorem dX10_work_29 : decode cX10_work 29 = .ok (.aaload, 1) := by decide +kernel
theorem dX10_work_30 : decode cX10_work 30 = .ok (.astore 5, 2) := by decide +kernel
theorem dX10_work_32 : decode cX10_work 32 = .ok (.aload_n 0, 1) := by decide +kernel
theorem dX10_work_33 : decode cX10_work 33 = .ok (.getfield 450, 3) := by decide +kernel
theorem dX10_work_36 : decode cX10_work 36 = .ok (.iload_n 3, 1) := by decide +kernel
theorem dX10_work_37 : decode cX10_work 37 = .ok (.aaload, 1) := by decide +kernel
theorem dX10_work_38 : decode cX10_work 38 = .ok (.astore 6, 2) := by decide +kernel
theorem dX10_work_40 : decode cX10_work 40 = .ok (.aload 5, 2) := by decide +kernel
theorem dX10_work_42 : decode cX10_work 42 = .ok (.getfield 202, 3) := by decide +kernel
theorem dX10_work_45 : decode cX10_work 45 = .ok (.iconst 1, 1) := by decide +kernel
theorem dX10_work_46 : decode cX10_work 46 = .ok (.if_icmp .eq 12, 3) := by decide +kernel
theorem dX10_work_49 : decode cX10_work 49 = .ok (.aload 5, 2) := by decide +kernel
theorem dX10_work_51 : decode cX10_work 51 = .ok (.getfield 202, 3) := by decide +kernel
theorem dX10_work_54 : decode cX10_work 54 = .ok (.iconst 2, 1) := by decide +kernel
theorem dX10_work_55 : decode cX10_work 55 = .ok (.if_icmp .ne 21, 3) := by decide +kernel
theorem dX10_work_58 : decode cX10_work 58 = .ok (.aload 6, 2) := by decide +kernel
theorem dX10_work_60 : decode cX10_work 60 = .ok (.getfield 202, 3) := by decide +kernel
theorem dX10_work_63 : decode cX10_work 63 = .ok (.iconst 1, 1) := by decide +kernel
theorem dX10_work_64 : decode cX10_work 64 = .ok (.if_icmp .eq 15, 3) := by decide +kernel
theorem dX10_work_67 : decode cX10_work 67 = .ok (.aload 6, 2) := by decide +kernel
theorem dX10_work_69 : decode cX10_work 69 = .ok (.getfield 202, 3) := by decide +kernel
theorem dX10_work_72 : decode cX10_work 72 = .ok (.iconst 2, 1) := by decide +kernel
theorem dX10_work_73 : decode cX10_work 73 = .ok (.if_icmp .eq 6, 3) := by decide +kernel
theorem dX10_work_76 : decode cX10_work 76 = .ok (.bipush (-3), 2) := by decide +kernel
theorem dX10_work_78 : decode cX10_work 78 = .ok (.ireturn, 1) := by decide +kernel
theorem dX10_work_79 : decode cX10_work 79 = .ok (.iload_n 1, 1) := by decide +kernel
theorem dX10_work_80 : decode cX10_work 80 = .ok (.ifCond .lt 9, 3) := by decide +kernel
theorem dX10_work_83 : decode cX10_work 83 = .ok (.iload_n 1, 1) := by decide +kernel
theorem dX10_work_84 : decode cX10_work 84 = .ok (.bipush 6, 2) := by decide +kernel
theorem dX10_work_86 : decode cX10_work 86 = .ok (.if_icmp .le 5, 3) := by decide +kernel
theorem dX10_work_89 : decode cX10_work 89 = .ok (.iconst (-1), 1) := by decide +kernel
theorem dX10_work_90 : decode cX10_work 90 = .ok (.ireturn, 1) := by decide +kernel
theorem dX10_work_91 : decode cX10_work 91 = .ok (.iload_n 1, 1) := by decide +kernel
theorem dX10_work_92 : decode cX10_work 92 = .ok (.iconst 2, 1) := by decide +kernel
theorem dX10_work_93 : decode cX10_work 93 = .ok (.if_icmp .ge 21, 3) := by decide +kernel
theorem dX10_work_96 : decode cX10_work 96 = .ok (.aload 5, 2) := by decide +kernel
theorem dX10_work_98 : decode cX10_work 98 = .ok (.getfield 202, 3) := by decide +kernel
theorem dX10_work_101 : decode cX10_work 101 = .ok (.iconst 2, 1) := by decide +kernel
theorem dX10_work_102 : decode cX10_work 102 = .ok (.if_icmp .eq 33, 3) := by decide +kernel
theorem dX10_work_105 : decode cX10_work 105 = .ok (.aload 6, 2) := by decide +kernel
theorem dX10_work_107 : decode cX10_work 107 = .ok (.getfield 202, 3) := by decide +kernel
theorem dX10_work_110 : decode cX10_work 110 = .ok (.iconst 2, 1) := by decide +kernel
theorem dX10_work_111 : decode cX10_work 111 = .ok (.if_icmp .eq 24, 3) := by decide +kernel
theorem dX10_work_114 : decode cX10_work 114 = .ok (.iload_n 1, 1) := by decide +kernel
theorem dX10_work_115 : decode cX10_work 115 = .ok (.iconst 3, 1) := by decide +kernel
theorem dX10_work_116 : decode cX10_work 116 = .ok (.if_icmp .le 22, 3) := by decide +kernel
theorem dX10_work_119 : decode cX10_work 119 = .ok (.aload 5, 2) := by decide +kernel
theorem dX10_work_121 : decode cX10_work 121 = .ok (.invokestatic 637, 3) := by decide +kernel
theorem dX10_work_124 : decode cX10_work 124 = .ok (.ifCond .eq 11, 3) := by decide +kernel
theorem dX10_work_127 : decode cX10_work 127 = .ok (.aload 6, 2) := by decide +kernel
theorem dX10_work_129 : decode cX10_work 129 = .ok (.invokestatic 637, 3) := by decide +kernel
theorem dX10_work_132 : decode cX10_work 132 = .ok (.ifCond .ne 6, 3) := by decide +kernel
theorem dX10_work_135 : decode cX10_work 135 = .ok (.bipush (-3), 2) := by decide +kernel
theorem dX10_work_137 : decode cX10_work 137 = .ok (.ireturn, 1) := by decide +kernel
theorem dX10_work_138 : decode cX10_work 138 = .ok (.aload_n 0, 1) := by decide +kernel
theorem dX10_work_139 : decode cX10_work 139 = .ok (.invokevirtual 555, 3) := by decide +kernel
theorem dX10_work_142 : decode cX10_work 142 = .ok (.aload_n 0, 1) := by decide +kernel
theorem dX10_work_143 : decode cX10_work 143 = .ok (.getfield 453, 3) := by decide +kernel
theorem dX10_work_146 : decode cX10_work 146 = .ok (.aload 5, 2) := by decide +kernel
theorem dX10_work_148 : decode cX10_work 148 = .ok (.invokestatic 547, 3) := by decide +kernel
theorem dX10_work_151 : decode cX10_work 151 = .ok (.iload_n 1, 1) := by decide +kernel
theorem dX10_work_152 : decode cX10_work 152 = .ok (.iconst 2, 1) := by decide +kernel
theorem dX10_work_153 : decode cX10_work 153 = .ok (.if_icmp .ge 38, 3) := by decide +kernel
theorem dX10_work_156 : decode cX10_work 156 = .ok (.aload_n 0, 1) := by decide +kernel
theorem dX10_work_157 : decode cX10_work 157 = .ok (.aload_n 0, 1) := by decide +kernel
theorem dX10_work_158 : decode cX10_work 158 = .ok (.getfield 453, 3) := by decide +kernel
theorem dX10_work_161 : decode cX10_work 161 = .ok (.aload 6, 2) := by decide +kernel
theorem dX10_work_163 : decode cX10_work 163 = .ok (.iload_n 1, 1) := by decide +kernel
theorem dX10_work_164 : decode cX10_work 164 = .ok (.iconst 1, 1) := by decide +kernel
theorem dX10_work_165 : decode cX10_work 165 = .ok (.if_icmp .ne 7, 3) := by decide +kernel
theorem dX10_work_168 : decode cX10_work 168 = .ok (.iconst 1, 1) := by decide +kernel
theorem dX10_work_169 : decode cX10_work 169 = .ok (.goto 4, 3) := by decide +kernel
theorem dX10_work_172 : decode cX10_work 172 = .ok (.iconst 0, 1) := by decide +kernel
theorem dX10_work_173 : decode cX10_work 173 = .ok (.invokevirtual 382, 3) := by decide +kernel
theorem dX10_work_176 : decode cX10_work 176 = .ok (.ifCond .eq 12, 3) := by decide +kernel
theorem dX10_work_179 : decode cX10_work 179 = .ok (.aload_n 0, 1) := by decide +kernel
theorem dX10_work_180 : decode cX10_work 180 = .ok (.iload 4, 2) := by decide +kernel
theorem dX10_work_182 : decode cX10_work 182 = .ok (.invokevirtual 558, 3) := by decide +kernel
theorem dX10_work_185 : decode cX10_work 185 = .ok (.goto 5, 3) := by decide +kernel
theorem dX10_work_188 : decode cX10_work 188 = .ok (.bipush (-2), 2) := by decide +kernel
theorem dX10_work_190 : decode cX10_work 190 = .ok (.ireturn, 1) := by decide +kernel
theorem dX10_work_191 : decode cX10_work 191 = .ok (.iload_n 1, 1) := by decide +kernel
theorem dX10_work_192 : decode cX10_work 192 = .ok (.iconst 4, 1) := by decide +kernel
theorem dX10_work_193 : decode cX10_work 193 = .ok (.if_icmp .ge 53, 3) := by decide +kernel
theorem dX10_work_196 : decode cX10_work 196 = .ok (.iload_n 1, 1) := by decide +kernel
theorem dX10_work_197 : decode cX10_work 197 = .ok (.iconst 3, 1) := by decide +kernel
theorem dX10_work_198 : decode cX10_work 198 = .ok (.if_icmp .ne 13, 3) := by decide +kernel
theorem dX10_work_201 : decode cX10_work 201 = .ok (.aload 6, 2) := by decide +kernel
theorem dX10_work_203 : decode cX10_work 203 = .ok (.invokestatic 288, 3) := by decide +kernel
theorem dX10_work_206 : decode cX10_work 206 = .ok (.ifCond .eq 5, 3) := by decide +kernel
theorem dX10_work_209 : decode cX10_work 209 = .ok (.iconst (-1), 1) := by decide +kernel
theorem dX10_work_210 : decode cX10_work 210 = .ok (.ireturn, 1) := by decide +kernel
theorem dX10_work_211 : decode cX10_work 211 = .ok (.aload_n 0, 1) := by decide +kernel
theorem dX10_work_212 : decode cX10_work 212 = .ok (.aload_n 0, 1) := by decide +kernel
theorem dX10_work_213 : decode cX10_work 213 = .ok (.getfield 453, 3) := by decide +kernel
theorem dX10_work_216 : decode cX10_work 216 = .ok (.aload 6, 2) := by decide +kernel
theorem dX10_work_218 : decode cX10_work 218 = .ok (.iload_n 1, 1) := by decide +kernel
theorem dX10_work_219 : decode cX10_work 219 = .ok (.iconst 3, 1) := by decide +kernel
theorem dX10_work_220 : decode cX10_work 220 = .ok (.if_icmp .ne 7, 3) := by decide +kernel
theorem dX10_work_223 : decode cX10_work 223 = .ok (.iconst 1, 1) := by decide +kernel
theorem dX10_work_224 : decode cX10_work 224 = .ok (.goto 4, 3) := by decide +kernel
theorem dX10_work_227 : decode cX10_work 227 = .ok (.iconst 0, 1) := by decide +kernel
theorem dX10_work_228 : decode cX10_work 228 = .ok (.invokevirtual 388, 3) := by decide +kernel
theorem dX10_work_231 : decode cX10_work 231 = .ok (.ifCond .eq 12, 3) := by decide +kernel
theorem dX10_work_234 : decode cX10_work 234 = .ok (.aload_n 0, 1) := by decide +kernel
theorem dX10_work_235 : decode cX10_work 235 = .ok (.iload 4, 2) := by decide +kernel
theorem dX10_work_237 : decode cX10_work 237 = .ok (.invokevirtual 558, 3) := by decide +kernel
theorem dX10_work_240 : decode cX10_work 240 = .ok (.goto 5, 3) := by decide +kernel
theorem dX10_work_243 : decode cX10_work 243 = .ok (.bipush (-2), 2) := by decide +kernel
theorem dX10_work_245 : decode cX10_work 245 = .ok (.ireturn, 1) := by decide +kernel
theorem dX10_work_246 : decode cX10_work 246 = .ok (.aload_n 0, 1) := by decide +kernel
theorem dX10_work_247 : decode cX10_work 247 = .ok (.invokevirtual 140, 3) := by decide +kernel
theorem dX10_work_250 : decode cX10_work 250 = .ok (.astore 7, 2) := by decide +kernel
theorem dX10_work_252 : decode cX10_work 252 = .ok (.aload_n 0, 1) := by decide +kernel
theorem dX10_work_253 : decode cX10_work 253 = .ok (.invokevirtual 140, 3) := by decide +kernel
theorem dX10_work_256 : decode cX10_work 256 = .ok (.astore 8, 2) := by decide +kernel
theorem dX10_work_258 : decode cX10_work 258 = .ok (.aload_n 0, 1) := by decide +kernel
theorem dX10_work_259 : decode cX10_work 259 = .ok (.invokevirtual 140, 3) := by decide +kernel
theorem dX10_work_262 : decode cX10_work 262 = .ok (.astore 9, 2) := by decide +kernel
theorem dX10_work_264 : decode cX10_work 264 = .ok (.aload_n 0, 1) := by decide +kernel
theorem dX10_work_265 : decode cX10_work 265 = .ok (.invokevirtual 140, 3) := by decide +kernel
theorem dX10_work_268 : decode cX10_work 268 = .ok (.astore 10, 2) := by decide +kernel
theorem dX10_work_270 : decode cX10_work 270 = .ok (.aload 7, 2) := by decide +kernel
theorem dX10_work_272 : decode cX10_work 272 = .ok (.aload 5, 2) := by decide +kernel
theorem dX10_work_274 : decode cX10_work 274 = .ok (.getfield 207, 3) := by decide +kernel
theorem dX10_work_277 : decode cX10_work 277 = .ok (.invokestatic 295, 3) := by decide +kernel
theorem dX10_work_280 : decode cX10_work 280 = .ok (.aload 8, 2) := by decide +kernel
theorem dX10_work_282 : decode cX10_work 282 = .ok (.aload 6, 2) := by decide +kernel
theorem dX10_work_284 : decode cX10_work 284 = .ok (.getfield 207, 3) := by decide +kernel
theorem dX10_work_287 : decode cX10_work 287 = .ok (.invokestatic 295, 3) := by decide +kernel
theorem dX10_work_290 : decode cX10_work 290 = .ok (.aload 10, 2) := by decide +kernel
theorem dX10_work_292 : decode cX10_work 292 = .ok (.iconst 1, 1) := by decide +kernel
theorem dX10_work_293 : decode cX10_work 293 = .ok (.invokevirtual 158, 3) := by decide +kernel
theorem dX10_work_296 : decode cX10_work 296 = .ok (.iconst 1, 1) := by decide +kernel
theorem dX10_work_297 : decode cX10_work 297 = .ok (.istore 11, 2) := by decide +kernel
theorem dX10_work_299 : decode cX10_work 299 = .ok (.iload_n 1, 1) := by decide +kernel
theorem dX10_work_300 : decode cX10_work 300 = .ok (.iconst 4, 1) := by decide +kernel
theorem dX10_work_301 : decode cX10_work 301 = .ok (.if_icmp .ne 16, 3) := by decide +kernel
theorem dX10_work_304 : decode cX10_work 304 = .ok (.aload_n 0, 1) := by decide +kernel
theorem dX10_work_305 : decode cX10_work 305 = .ok (.aload 9, 2) := by decide +kernel
theorem dX10_work_307 : decode cX10_work 307 = .ok (.aload 7, 2) := by decide +kernel
theorem dX10_work_309 : decode cX10_work 309 = .ok (.aload 8, 2) := by decide +kernel
theorem dX10_work_311 : decode cX10_work 311 = .ok (.invokevirtual 185, 3) := by decide +kernel
theorem dX10_work_314 : decode cX10_work 314 = .ok (.goto 26, 3) := by decide +kernel
theorem dX10_work_317 : decode cX10_work 317 = .ok (.aload_n 0, 1) := by decide +kernel
theorem dX10_work_318 : decode cX10_work 318 = .ok (.aload 9, 2) := by decide +kernel
theorem dX10_work_320 : decode cX10_work 320 = .ok (.aload 7, 2) := by decide +kernel
theorem dX10_work_322 : decode cX10_work 322 = .ok (.aload 8, 2) := by decide +kernel
theorem dX10_work_324 : decode cX10_work 324 = .ok (.iload_n 1, 1) := by decide +kernel
theorem dX10_work_325 : decode cX10_work 325 = .ok (.bipush 6, 2) := by decide +kernel
theorem dX10_work_327 : decode cX10_work 327 = .ok (.if_icmp .ne 7, 3) := by decide +kernel
theorem dX10_work_330 : decode cX10_work 330 = .ok (.iconst 1, 1) := by decide +kernel
theorem dX10_work_331 : decode cX10_work 331 = .ok (.goto 4, 3) := by decide +kernel
theorem dX10_work_334 : decode cX10_work 334 = .ok (.iconst 0, 1) := by decide +kernel
theorem dX10_work_335 : decode cX10_work 335 = .ok (.invokevirtual 640, 3) := by decide +kernel
theorem dX10_work_338 : decode cX10_work 338 = .ok (.istore 11, 2) := by decide +kernel
theorem dX10_work_340 : decode cX10_work 340 = .ok (.iload 11, 2) := by decide +kernel
theorem dX10_work_342 : decode cX10_work 342 = .ok (.ifCond .eq 26, 3) := by decide +kernel
theorem dX10_work_345 : decode cX10_work 345 = .ok (.aload_n 0, 1) := by decide +kernel
theorem dX10_work_346 : decode cX10_work 346 = .ok (.getfield 453, 3) := by decide +kernel
theorem dX10_work_349 : decode cX10_work 349 = .ok (.aload 9, 2) := by decide +kernel
theorem dX10_work_351 : decode cX10_work 351 = .ok (.aload 10, 2) := by decide +kernel
theorem dX10_work_353 : decode cX10_work 353 = .ok (.invokestatic 261, 3) := by decide +kernel
theorem dX10_work_356 : decode cX10_work 356 = .ok (.ifCond .eq 12, 3) := by decide +kernel
theorem dX10_work_359 : decode cX10_work 359 = .ok (.aload_n 0, 1) := by decide +kernel
theorem dX10_work_360 : decode cX10_work 360 = .ok (.iload 4, 2) := by decide +kernel
theorem dX10_work_362 : decode cX10_work 362 = .ok (.invokevirtual 558, 3) := by decide +kernel
theorem dX10_work_365 : decode cX10_work 365 = .ok (.goto 5, 3) := by decide +kernel
theorem dX10_work_368 : decode cX10_work 368 = .ok (.bipush (-2), 2) := by decide +kernel
theorem dX10_work_370 : decode cX10_work 370 = .ok (.ireturn, 1) := by decide +kernel
theorem dX10_isPolynomial_0 : decode cX10_isPolynomial 0 = .ok (.aload_n 0, 1) := by decide +kernel
theorem dX10_isPolynomial_1 : decode cX10_isPolynomial 1 = .ok (.getfield 202, 3) := by decide +kernel
theorem dX10_isPolynomial_4 : decode cX10_isPolynomial 4 = .ok (.iconst 1, 1) := by decide +kernel
theorem dX10_isPolynomial_5 : decode cX10_isPolynomial 5 = .ok (.if_icmp .ne 17, 3) := by decide +kernel
theorem dX10_isPolynomial_8 : decode cX10_isPolynomial 8 = .ok (.aload_n 0, 1) := by decide +kernel
theorem dX10_isPolynomial_9 : decode cX10_isPolynomial 9 = .ok (.getfield 210, 3) := by decide +kernel
theorem dX10_isPolynomial_12 : decode cX10_isPolynomial 12 = .ok (.invokestatic 265, 3) := by decide +kernel
theorem dX10_isPolynomial_15 : decode cX10_isPolynomial 15 = .ok (.ifCond .eq 7, 3) := by decide +kernel
theorem dX10_isPolynomial_18 : decode cX10_isPolynomial 18 = .ok (.iconst 1, 1) := by decide +kernel
theorem dX10_isPolynomial_19 : decode cX10_isPolynomial 19 = .ok (.goto 4, 3) := by decide +kernel
theorem dX10_isPolynomial_22 : decode cX10_isPolynomial 22 = .ok (.iconst 0, 1) := by decide +kernel
theorem dX10_isPolynomial_23 : decode cX10_isPolynomial 23 = .ok (.ireturn, 1) := by decide +kernel
theorem dX10_resultant_0 : decode cX10_resultant 0 = .ok (.aload_n 0, 1) := by decide +kernel
theorem dX10_resultant_1 : decode cX10_resultant 1 = .ok (.invokevirtual 140, 3) := by decide +kernel
theorem dX10_resultant_4 : decode cX10_resultant 4 = .ok (.astore 5, 2) := by decide +kernel
theorem dX10_resultant_6 : decode cX10_resultant 6 = .ok (.aload_n 0, 1) := by decide +kernel
theorem dX10_resultant_7 : decode cX10_resultant 7 = .ok (.invokevirtual 140, 3) := by decide +kernel
theorem dX10_resultant_10 : decode cX10_resultant 10 = .ok (.astore 6, 2) := by decide +kernel
theorem dX10_resultant_12 : decode cX10_resultant 12 = .ok (.iload 4, 2) := by decide +kernel
theorem dX10_resultant_14 : decode cX10_resultant 14 = .ok (.ifCond .eq 18, 3) := by decide +kernel
theorem dX10_resultant_17 : decode cX10_resultant 17 = .ok (.aload 5, 2) := by decide +kernel
theorem dX10_resultant_19 : decode cX10_resultant 19 = .ok (.aload_n 2, 1) := by decide +kernel
theorem dX10_resultant_20 : decode cX10_resultant 20 = .ok (.invokestatic 644, 3) := by decide +kernel
theorem dX10_resultant_23 : decode cX10_resultant 23 = .ok (.aload 6, 2) := by decide +kernel
theorem dX10_resultant_25 : decode cX10_resultant 25 = .ok (.aload_n 3, 1) := by decide +kernel
theorem dX10_resultant_26 : decode cX10_resultant 26 = .ok (.invokestatic 644, 3) := by decide +kernel
theorem dX10_resultant_29 : decode cX10_resultant 29 = .ok (.goto 15, 3) := by decide +kernel
theorem dX10_resultant_32 : decode cX10_resultant 32 = .ok (.aload 5, 2) := by decide +kernel
theorem dX10_resultant_34 : decode cX10_resultant 34 = .ok (.aload_n 2, 1) := by decide +kernel
theorem dX10_resultant_35 : decode cX10_resultant 35 = .ok (.invokestatic 113, 3) := by decide +kernel
theorem dX10_resultant_38 : decode cX10_resultant 38 = .ok (.aload 6, 2) := by decide +kernel
theorem dX10_resultant_40 : decode cX10_resultant 40 = .ok (.aload_n 3, 1) := by decide +kernel
theorem dX10_resultant_41 : decode cX10_resultant 41 = .ok (.invokestatic 113, 3) := by decide +kernel
theorem dX10_resultant_44 : decode cX10_resultant 44 = .ok (.aload 5, 2) := by decide +kernel
theorem dX10_resultant_46 : decode cX10_resultant 46 = .ok (.getfield 93, 3) := by decide +kernel
theorem dX10_resultant_49 : decode cX10_resultant 49 = .ok (.ifCond .eq 11, 3) := by decide +kernel
theorem dX10_resultant_52 : decode cX10_resultant 52 = .ok (.aload 6, 2) := by decide +kernel
theorem dX10_resultant_54 : decode cX10_resultant 54 = .ok (.getfield 93, 3) := by decide +kernel
theorem dX10_resultant_57 : decode cX10_resultant 57 = .ok (.ifCond .ne 10, 3) := by decide +kernel
theorem dX10_resultant_60 : decode cX10_resultant 60 = .ok (.aload_n 1, 1) := by decide +kernel
theorem dX10_resultant_61 : decode cX10_resultant 61 = .ok (.iconst 0, 1) := by decide +kernel
theorem dX10_resultant_62 : decode cX10_resultant 62 = .ok (.invokevirtual 158, 3) := by decide +kernel
theorem dX10_resultant_65 : decode cX10_resultant 65 = .ok (.iconst 1, 1) := by decide +kernel
theorem dX10_resultant_66 : decode cX10_resultant 66 = .ok (.ireturn, 1) := by decide +kernel
theorem dX10_resultant_67 : decode cX10_resultant 67 = .ok (.aload 5, 2) := by decide +kernel
theorem dX10_resultant_69 : decode cX10_resultant 69 = .ok (.getfield 93, 3) := by decide +kernel
theorem dX10_resultant_72 : decode cX10_resultant 72 = .ok (.iconst 1, 1) := by decide +kernel
theorem dX10_resultant_73 : decode cX10_resultant 73 = .ok (.isub, 1) := by decide +kernel
theorem dX10_resultant_74 : decode cX10_resultant 74 = .ok (.istore 7, 2) := by decide +kernel
theorem dX10_resultant_76 : decode cX10_resultant 76 = .ok (.aload 6, 2) := by decide +kernel
theorem dX10_resultant_78 : decode cX10_resultant 78 = .ok (.getfield 93, 3) := by decide +kernel
theorem dX10_resultant_81 : decode cX10_resultant 81 = .ok (.iconst 1, 1) := by decide +kernel
theorem dX10_resultant_82 : decode cX10_resultant 82 = .ok (.isub, 1) := by decide +kernel
theorem dX10_resultant_83 : decode cX10_resultant 83 = .ok (.istore 8, 2) := by decide +kernel
theorem dX10_resultant_85 : decode cX10_resultant 85 = .ok (.aload 5, 2) := by decide +kernel
theorem dX10_resultant_87 : decode cX10_resultant 87 = .ok (.invokevirtual 119, 3) := by decide +kernel
theorem dX10_resultant_90 : decode cX10_resultant 90 = .ok (.iload 8, 2) := by decide +kernel
theorem dX10_resultant_92 : decode cX10_resultant 92 = .ok (.imul, 1) := by decide +kernel
theorem dX10_resultant_93 : decode cX10_resultant 93 = .ok (.aload 6, 2) := by decide +kernel
theorem dX10_resultant_95 : decode cX10_resultant 95 = .ok (.invokevirtual 119, 3) := by decide +kernel
theorem dX10_resultant_98 : decode cX10_resultant 98 = .ok (.iload 7, 2) := by decide +kernel
theorem dX10_resultant_100 : decode cX10_resultant 100 = .ok (.imul, 1) := by decide +kernel
theorem dX10_resultant_101 : decode cX10_resultant 101 = .ok (.iadd, 1) := by decide +kernel
theorem dX10_resultant_102 : decode cX10_resultant 102 = .ok (.iconst 1, 1) := by decide +kernel
theorem dX10_resultant_103 : decode cX10_resultant 103 = .ok (.iadd, 1) := by decide +kernel
theorem dX10_resultant_104 : decode cX10_resultant 104 = .ok (.istore 9, 2) := by decide +kernel
theorem dX10_resultant_106 : decode cX10_resultant 106 = .ok (.iconst 0, 1) := by decide +kernel
theorem dX10_resultant_107 : decode cX10_resultant 107 = .ok (.istore 10, 2) := by decide +kernel
theorem dX10_resultant_109 : decode cX10_resultant 109 = .ok (.iload 10, 2) := by decide +kernel
theorem dX10_resultant_111 : decode cX10_resultant 111 = .ok (.iload 9, 2) := by decide +kernel
theorem dX10_resultant_113 : decode cX10_resultant 113 = .ok (.if_icmp .ge 41, 3) := by decide +kernel
theorem dX10_resultant_116 : decode cX10_resultant 116 = .ok (.aload_n 0, 1) := by decide +kernel
theorem dX10_resultant_117 : decode cX10_resultant 117 = .ok (.getfield 151, 3) := by decide +kernel
theorem dX10_resultant_120 : decode cX10_resultant 120 = .ok (.iload 10, 2) := by decide +kernel
theorem dX10_resultant_122 : decode cX10_resultant 122 = .ok (.iload 10, 2) := by decide +kernel
theorem dX10_resultant_124 : decode cX10_resultant 124 = .ok (.iastore, 1) := by decide +kernel
theorem dX10_resultant_125 : decode cX10_resultant 125 = .ok (.aload_n 0, 1) := by decide +kernel
theorem dX10_resultant_126 : decode cX10_resultant 126 = .ok (.getfield 159, 3) := by decide +kernel
theorem dX10_resultant_129 : decode cX10_resultant 129 = .ok (.iconst 0, 1) := by decide +kernel
theorem dX10_resultant_130 : decode cX10_resultant 130 = .ok (.aaload, 1) := by decide +kernel
theorem dX10_resultant_131 : decode cX10_resultant 131 = .ok (.iload 10, 2) := by decide +kernel
theorem dX10_resultant_133 : decode cX10_resultant 133 = .ok (.aload_n 0, 1) := by decide +kernel
theorem dX10_resultant_134 : decode cX10_resultant 134 = .ok (.aload 5, 2) := by decide +kernel
theorem dX10_resultant_136 : decode cX10_resultant 136 = .ok (.aload 6, 2) := by decide +kernel
theorem dX10_resultant_138 : decode cX10_resultant 138 = .ok (.iload 7, 2) := by decide +kernel
theorem dX10_resultant_140 : decode cX10_resultant 140 = .ok (.iload 8, 2) := by decide +kernel
theorem dX10_resultant_142 : decode cX10_resultant 142 = .ok (.iload 10, 2) := by decide +kernel
theorem dX10_resultant_144 : decode cX10_resultant 144 = .ok (.invokevirtual 647, 3) := by decide +kernel
theorem dX10_resultant_147 : decode cX10_resultant 147 = .ok (.iastore, 1) := by decide +kernel
theorem dX10_resultant_148 : decode cX10_resultant 148 = .ok (.iinc 10 1, 3) := by decide +kernel
theorem dX10_resultant_151 : decode cX10_resultant 151 = .ok (.goto (-42), 3) := by decide +kernel
theorem dX10_resultant_154 : decode cX10_resultant 154 = .ok (.aload_n 0, 1) := by decide +kernel
theorem dX10_resultant_155 : decode cX10_resultant 155 = .ok (.invokevirtual 74, 3) := by decide +kernel
theorem dX10_resultant_158 : decode cX10_resultant 158 = .ok (.astore 10, 2) := by decide +kernel
theorem dX10_resultant_160 : decode cX10_resultant 160 = .ok (.aload_n 0, 1) := by decide +kernel
theorem dX10_resultant_161 : decode cX10_resultant 161 = .ok (.aload 10, 2) := by decide +kernel
theorem dX10_resultant_163 : decode cX10_resultant 163 = .ok (.aload_n 0, 1) := by decide +kernel
theorem dX10_resultant_164 : decode cX10_resultant 164 = .ok (.getfield 159, 3) := by decide +kernel
theorem dX10_resultant_167 : decode cX10_resultant 167 = .ok (.iconst 0, 1) := by decide +kernel
theorem dX10_resultant_168 : decode cX10_resultant 168 = .ok (.aaload, 1) := by decide +kernel
theorem dX10_resultant_169 : decode cX10_resultant 169 = .ok (.iload 9, 2) := by decide +kernel
theorem dX10_resultant_171 : decode cX10_resultant 171 = .ok (.invokevirtual 163, 3) := by decide +kernel
theorem dX10_resultant_174 : decode cX10_resultant 174 = .ok (.aload 10, 2) := by decide +kernel
theorem dX10_resultant_176 : decode cX10_resultant 176 = .ok (.getfield 25, 3) := by decide +kernel
theorem dX10_resultant_179 : decode cX10_resultant 179 = .ok (.iload 4, 2) := by decide +kernel
theorem dX10_resultant_181 : decode cX10_resultant 181 = .ok (.ifCond .eq 8, 3) := by decide +kernel
theorem dX10_resultant_184 : decode cX10_resultant 184 = .ok (.bipush 13, 2) := by decide +kernel
theorem dX10_resultant_186 : decode cX10_resultant 186 = .ok (.goto 5, 3) := by decide +kernel
theorem dX10_resultant_189 : decode cX10_resultant 189 = .ok (.bipush 25, 2) := by decide +kernel
theorem dX10_resultant_191 : decode cX10_resultant 191 = .ok (.if_icmp .le 5, 3) := by decide +kernel
theorem dX10_resultant_194 : decode cX10_resultant 194 = .ok (.iconst 0, 1) := by decide +kernel
theorem dX10_resultant_195 : decode cX10_resultant 195 = .ok (.ireturn, 1) := by decide +kernel
theorem dX10_resultant_196 : decode cX10_resultant 196 = .ok (.iload 4, 2) := by decide +kernel
theorem dX10_resultant_198 : decode cX10_resultant 198 = .ok (.ifCond .ne 26, 3) := by decide +kernel
theorem dX10_resultant_201 : decode cX10_resultant 201 = .ok (.aload_n 1, 1) := by decide +kernel
theorem dX10_resultant_202 : decode cX10_resultant 202 = .ok (.getfield 98, 3) := by decide +kernel
theorem dX10_resultant_205 : decode cX10_resultant 205 = .ok (.iconst 0, 1) := by decide +kernel
theorem dX10_resultant_206 : decode cX10_resultant 206 = .ok (.aaload, 1) := by decide +kernel
theorem dX10_resultant_207 : decode cX10_resultant 207 = .ok (.aload 10, 2) := by decide +kernel
theorem dX10_resultant_209 : decode cX10_resultant 209 = .ok (.invokestatic 62, 3) := by decide +kernel
theorem dX10_resultant_212 : decode cX10_resultant 212 = .ok (.aload_n 1, 1) := by decide +kernel
theorem dX10_resultant_213 : decode cX10_resultant 213 = .ok (.iconst 1, 1) := by decide +kernel
theorem dX10_resultant_214 : decode cX10_resultant 214 = .ok (.putfield 93, 3) := by decide +kernel
theorem dX10_resultant_217 : decode cX10_resultant 217 = .ok (.aload_n 1, 1) := by decide +kernel
theorem dX10_resultant_218 : decode cX10_resultant 218 = .ok (.invokevirtual 105, 3) := by decide +kernel
theorem dX10_resultant_221 : decode cX10_resultant 221 = .ok (.goto 49, 3) := by decide +kernel
theorem dX10_resultant_224 : decode cX10_resultant 224 = .ok (.iconst 0, 1) := by decide +kernel
theorem dX10_resultant_225 : decode cX10_resultant 225 = .ok (.istore 11, 2) := by decide +kernel
theorem dX10_resultant_227 : decode cX10_resultant 227 = .ok (.iload 11, 2) := by decide +kernel
theorem dX10_resultant_229 : decode cX10_resultant 229 = .ok (.aload 10, 2) := by decide +kernel
theorem dX10_resultant_231 : decode cX10_resultant 231 = .ok (.getfield 25, 3) := by decide +kernel
theorem dX10_resultant_234 : decode cX10_resultant 234 = .ok (.if_icmp .ge 27, 3) := by decide +kernel
theorem dX10_resultant_237 : decode cX10_resultant 237 = .ok (.aload_n 1, 1) := by decide +kernel
theorem dX10_resultant_238 : decode cX10_resultant 238 = .ok (.getfield 98, 3) := by decide +kernel
theorem dX10_resultant_241 : decode cX10_resultant 241 = .ok (.iload 11, 2) := by decide +kernel
theorem dX10_resultant_243 : decode cX10_resultant 243 = .ok (.aaload, 1) := by decide +kernel
theorem dX10_resultant_244 : decode cX10_resultant 244 = .ok (.aload 10, 2) := by decide +kernel
theorem dX10_resultant_246 : decode cX10_resultant 246 = .ok (.getfield 30, 3) := by decide +kernel
theorem dX10_resultant_249 : decode cX10_resultant 249 = .ok (.iload 11, 2) := by decide +kernel
theorem dX10_resultant_251 : decode cX10_resultant 251 = .ok (.iaload, 1) := by decide +kernel
theorem dX10_resultant_252 : decode cX10_resultant 252 = .ok (.invokevirtual 147, 3) := by decide +kernel
theorem dX10_resultant_255 : decode cX10_resultant 255 = .ok (.iinc 11 1, 3) := by decide +kernel
theorem dX10_resultant_258 : decode cX10_resultant 258 = .ok (.goto (-31), 3) := by decide +kernel
theorem dX10_resultant_261 : decode cX10_resultant 261 = .ok (.aload_n 1, 1) := by decide +kernel
theorem dX10_resultant_262 : decode cX10_resultant 262 = .ok (.aload 10, 2) := by decide +kernel
theorem dX10_resultant_264 : decode cX10_resultant 264 = .ok (.getfield 25, 3) := by decide +kernel
theorem dX10_resultant_267 : decode cX10_resultant 267 = .ok (.putfield 93, 3) := by decide +kernel
theorem dX10_resultant_270 : decode cX10_resultant 270 = .ok (.iconst 1, 1) := by decide +kernel
theorem dX10_resultant_271 : decode cX10_resultant 271 = .ok (.ireturn, 1) := by decide +kernel
theorem dX10_turn_0 : decode cX10_turn 0 = .ok (.aload_n 1, 1) := by decide +kernel
theorem dX10_turn_1 : decode cX10_turn 1 = .ok (.getfield 93, 3) := by decide +kernel
theorem dX10_turn_4 : decode cX10_turn 4 = .ok (.ifCond .ne 7, 3) := by decide +kernel
theorem dX10_turn_7 : decode cX10_turn 7 = .ok (.iconst 0, 1) := by decide +kernel
theorem dX10_turn_8 : decode cX10_turn 8 = .ok (.goto 9, 3) := by decide +kernel
theorem dX10_turn_11 : decode cX10_turn 11 = .ok (.aload_n 1, 1) := by decide +kernel
theorem dX10_turn_12 : decode cX10_turn 12 = .ok (.invokevirtual 119, 3) := by decide +kernel
theorem dX10_turn_15 : decode cX10_turn 15 = .ok (.iconst 1, 1) := by decide +kernel
theorem dX10_turn_16 : decode cX10_turn 16 = .ok (.iadd, 1) := by decide +kernel
theorem dX10_turn_17 : decode cX10_turn 17 = .ok (.istore_n 2, 1) := by decide +kernel
theorem dX10_turn_18 : decode cX10_turn 18 = .ok (.iconst 0, 1) := by decide +kernel
theorem dX10_turn_19 : decode cX10_turn 19 = .ok (.istore_n 3, 1) := by decide +kernel
theorem dX10_turn_20 : decode cX10_turn 20 = .ok (.iload_n 3, 1) := by decide +kernel
theorem dX10_turn_21 : decode cX10_turn 21 = .ok (.iload_n 2, 1) := by decide +kernel
theorem dX10_turn_22 : decode cX10_turn 22 = .ok (.if_icmp .ge 72, 3) := by decide +kernel
theorem dX10_turn_25 : decode cX10_turn 25 = .ok (.iconst 0, 1) := by decide +kernel
theorem dX10_turn_26 : decode cX10_turn 26 = .ok (.istore 4, 2) := by decide +kernel
theorem dX10_turn_28 : decode cX10_turn 28 = .ok (.iload 4, 2) := by decide +kernel
theorem dX10_turn_30 : decode cX10_turn 30 = .ok (.aload_n 1, 1) := by decide +kernel
theorem dX10_turn_31 : decode cX10_turn 31 = .ok (.getfield 93, 3) := by decide +kernel
theorem dX10_turn_34 : decode cX10_turn 34 = .ok (.if_icmp .ge 32, 3) := by decide +kernel
theorem dX10_turn_37 : decode cX10_turn 37 = .ok (.aload_n 0, 1) := by decide +kernel
theorem dX10_turn_38 : decode cX10_turn 38 = .ok (.getfield 98, 3) := by decide +kernel
theorem dX10_turn_41 : decode cX10_turn 41 = .ok (.iload_n 3, 1) := by decide +kernel
theorem dX10_turn_42 : decode cX10_turn 42 = .ok (.aaload, 1) := by decide +kernel
theorem dX10_turn_43 : decode cX10_turn 43 = .ok (.getfield 30, 3) := by decide +kernel
theorem dX10_turn_46 : decode cX10_turn 46 = .ok (.iload 4, 2) := by decide +kernel
theorem dX10_turn_48 : decode cX10_turn 48 = .ok (.aload_n 1, 1) := by decide +kernel
theorem dX10_turn_49 : decode cX10_turn 49 = .ok (.getfield 98, 3) := by decide +kernel
theorem dX10_turn_52 : decode cX10_turn 52 = .ok (.iload 4, 2) := by decide +kernel
theorem dX10_turn_54 : decode cX10_turn 54 = .ok (.aaload, 1) := by decide +kernel
theorem dX10_turn_55 : decode cX10_turn 55 = .ok (.iload_n 3, 1) := by decide +kernel
theorem dX10_turn_56 : decode cX10_turn 56 = .ok (.invokevirtual 122, 3) := by decide +kernel
theorem dX10_turn_59 : decode cX10_turn 59 = .ok (.iastore, 1) := by decide +kernel
theorem dX10_turn_60 : decode cX10_turn 60 = .ok (.iinc 4 1, 3) := by decide +kernel
theorem dX10_turn_63 : decode cX10_turn 63 = .ok (.goto (-35), 3) := by decide +kernel
theorem dX10_turn_66 : decode cX10_turn 66 = .ok (.aload_n 0, 1) := by decide +kernel
theorem dX10_turn_67 : decode cX10_turn 67 = .ok (.getfield 98, 3) := by decide +kernel
theorem dX10_turn_70 : decode cX10_turn 70 = .ok (.iload_n 3, 1) := by decide +kernel
theorem dX10_turn_71 : decode cX10_turn 71 = .ok (.aaload, 1) := by decide +kernel
theorem dX10_turn_72 : decode cX10_turn 72 = .ok (.aload_n 1, 1) := by decide +kernel
theorem dX10_turn_73 : decode cX10_turn 73 = .ok (.getfield 93, 3) := by decide +kernel
theorem dX10_turn_76 : decode cX10_turn 76 = .ok (.putfield 25, 3) := by decide +kernel
theorem dX10_turn_79 : decode cX10_turn 79 = .ok (.aload_n 0, 1) := by decide +kernel
theorem dX10_turn_80 : decode cX10_turn 80 = .ok (.getfield 98, 3) := by decide +kernel
theorem dX10_turn_83 : decode cX10_turn 83 = .ok (.iload_n 3, 1) := by decide +kernel
theorem dX10_turn_84 : decode cX10_turn 84 = .ok (.aaload, 1) := by decide +kernel
theorem dX10_turn_85 : decode cX10_turn 85 = .ok (.invokevirtual 52, 3) := by decide +kernel
theorem dX10_turn_88 : decode cX10_turn 88 = .ok (.iinc 3 1, 3) := by decide +kernel
theorem dX10_turn_91 : decode cX10_turn 91 = .ok (.goto (-71), 3) := by decide +kernel
theorem dX10_turn_94 : decode cX10_turn 94 = .ok (.aload_n 0, 1) := by decide +kernel
theorem dX10_turn_95 : decode cX10_turn 95 = .ok (.iload_n 2, 1) := by decide +kernel
theorem dX10_turn_96 : decode cX10_turn 96 = .ok (.putfield 93, 3) := by decide +kernel
theorem dX10_turn_99 : decode cX10_turn 99 = .ok (.aload_n 0, 1) := by decide +kernel
theorem dX10_turn_100 : decode cX10_turn 100 = .ok (.invokevirtual 105, 3) := by decide +kernel
theorem dX10_turn_103 : decode cX10_turn 103 = .ok (.return_, 1) := by decide +kernel
theorem dX10_change_0 : decode cX10_change 0 = .ok (.iload_n 2, 1) := by decide +kernel
theorem dX10_change_1 : decode cX10_change 1 = .ok (.invokestatic 551, 3) := by decide +kernel
theorem dX10_change_4 : decode cX10_change 4 = .ok (.ifCond .eq 11, 3) := by decide +kernel
theorem dX10_change_7 : decode cX10_change 7 = .ok (.iload 4, 2) := by decide +kernel
theorem dX10_change_9 : decode cX10_change 9 = .ok (.invokestatic 551, 3) := by decide +kernel
theorem dX10_change_12 : decode cX10_change 12 = .ok (.ifCond .ne 5, 3) := by decide +kernel
theorem dX10_change_15 : decode cX10_change 15 = .ok (.iconst (-1), 1) := by decide +kernel
theorem dX10_change_16 : decode cX10_change 16 = .ok (.ireturn, 1) := by decide +kernel
theorem dX10_change_17 : decode cX10_change 17 = .ok (.aload_n 0, 1) := by decide +kernel
theorem dX10_change_18 : decode cX10_change 18 = .ok (.getfield 450, 3) := by decide +kernel
theorem dX10_change_21 : decode cX10_change 21 = .ok (.iload_n 2, 1) := by decide +kernel
theorem dX10_change_22 : decode cX10_change 22 = .ok (.aaload, 1) := by decide +kernel
theorem dX10_change_23 : decode cX10_change 23 = .ok (.astore 5, 2) := by decide +kernel
theorem dX10_change_25 : decode cX10_change 25 = .ok (.aload_n 0, 1) := by decide +kernel
theorem dX10_change_26 : decode cX10_change 26 = .ok (.invokevirtual 555, 3) := by decide +kernel
theorem dX10_change_29 : decode cX10_change 29 = .ok (.iload_n 1, 1) := by decide +kernel
theorem dX10_change_30 : decode cX10_change 30 = .ok (.bipush 10, 2) := by decide +kernel
theorem dX10_change_32 : decode cX10_change 32 = .ok (.if_icmp .ne 22, 3) := by decide +kernel
theorem dX10_change_35 : decode cX10_change 35 = .ok (.aload_n 0, 1) := by decide +kernel
theorem dX10_change_36 : decode cX10_change 36 = .ok (.aload_n 0, 1) := by decide +kernel
theorem dX10_change_37 : decode cX10_change 37 = .ok (.getfield 453, 3) := by decide +kernel
theorem dX10_change_40 : decode cX10_change 40 = .ok (.iload_n 3, 1) := by decide +kernel
theorem dX10_change_41 : decode cX10_change 41 = .ok (.invokestatic 600, 3) := by decide +kernel
theorem dX10_change_44 : decode cX10_change 44 = .ok (.invokevirtual 292, 3) := by decide +kernel
theorem dX10_change_47 : decode cX10_change 47 = .ok (.aload_n 0, 1) := by decide +kernel
theorem dX10_change_48 : decode cX10_change 48 = .ok (.iload 4, 2) := by decide +kernel
theorem dX10_change_50 : decode cX10_change 50 = .ok (.invokevirtual 558, 3) := by decide +kernel
theorem dX10_change_53 : decode cX10_change 53 = .ok (.ireturn, 1) := by decide +kernel
theorem dX10_change_54 : decode cX10_change 54 = .ok (.aload 5, 2) := by decide +kernel
theorem dX10_change_56 : decode cX10_change 56 = .ok (.getfield 202, 3) := by decide +kernel
theorem dX10_change_59 : decode cX10_change 59 = .ok (.iconst 1, 1) := by decide +kernel
theorem dX10_change_60 : decode cX10_change 60 = .ok (.if_icmp .eq 15, 3) := by decide +kernel
theorem dX10_change_63 : decode cX10_change 63 = .ok (.aload 5, 2) := by decide +kernel
theorem dX10_change_65 : decode cX10_change 65 = .ok (.getfield 202, 3) := by decide +kernel
theorem dX10_change_68 : decode cX10_change 68 = .ok (.iconst 2, 1) := by decide +kernel
theorem dX10_change_69 : decode cX10_change 69 = .ok (.if_icmp .eq 6, 3) := by decide +kernel
theorem dX10_change_72 : decode cX10_change 72 = .ok (.bipush (-3), 2) := by decide +kernel
theorem dX10_change_74 : decode cX10_change 74 = .ok (.ireturn, 1) := by decide +kernel
theorem dX10_change_75 : decode cX10_change 75 = .ok (.iload_n 1, 1) := by decide +kernel
theorem dX10_change_76 : decode cX10_change 76 = .ok (.ifCond .lt 9, 3) := by decide +kernel
theorem dX10_change_79 : decode cX10_change 79 = .ok (.iload_n 1, 1) := by decide +kernel
theorem dX10_change_80 : decode cX10_change 80 = .ok (.bipush 11, 2) := by decide +kernel
theorem dX10_change_82 : decode cX10_change 82 = .ok (.if_icmp .le 5, 3) := by decide +kernel
theorem dX10_change_85 : decode cX10_change 85 = .ok (.iconst (-1), 1) := by decide +kernel
theorem dX10_change_86 : decode cX10_change 86 = .ok (.ireturn, 1) := by decide +kernel
theorem dX10_change_87 : decode cX10_change 87 = .ok (.aload 5, 2) := by decide +kernel
theorem dX10_change_89 : decode cX10_change 89 = .ok (.getfield 202, 3) := by decide +kernel
theorem dX10_change_92 : decode cX10_change 92 = .ok (.iconst 2, 1) := by decide +kernel
theorem dX10_change_93 : decode cX10_change 93 = .ok (.if_icmp .ne 23, 3) := by decide +kernel
theorem dX10_change_96 : decode cX10_change 96 = .ok (.iload_n 1, 1) := by decide +kernel
theorem dX10_change_97 : decode cX10_change 97 = .ok (.iconst 1, 1) := by decide +kernel
theorem dX10_change_98 : decode cX10_change 98 = .ok (.if_icmp .le 27, 3) := by decide +kernel
theorem dX10_change_101 : decode cX10_change 101 = .ok (.iload_n 1, 1) := by decide +kernel
theorem dX10_change_102 : decode cX10_change 102 = .ok (.bipush 9, 2) := by decide +kernel
theorem dX10_change_104 : decode cX10_change 104 = .ok (.if_icmp .eq 21, 3) := by decide +kernel
theorem dX10_change_107 : decode cX10_change 107 = .ok (.iload_n 1, 1) := by decide +kernel
theorem dX10_change_108 : decode cX10_change 108 = .ok (.bipush 11, 2) := by decide +kernel
theorem dX10_change_110 : decode cX10_change 110 = .ok (.if_icmp .eq 15, 3) := by decide +kernel
theorem dX10_change_113 : decode cX10_change 113 = .ok (.goto 9, 3) := by decide +kernel
theorem dX10_change_116 : decode cX10_change 116 = .ok (.iload_n 1, 1) := by decide +kernel
theorem dX10_change_117 : decode cX10_change 117 = .ok (.bipush 11, 2) := by decide +kernel
theorem dX10_change_119 : decode cX10_change 119 = .ok (.if_icmp .ne 6, 3) := by decide +kernel
theorem dX10_change_122 : decode cX10_change 122 = .ok (.bipush (-3), 2) := by decide +kernel
theorem dX10_change_124 : decode cX10_change 124 = .ok (.ireturn, 1) := by decide +kernel
theorem dX10_change_125 : decode cX10_change 125 = .ok (.aload_n 0, 1) := by decide +kernel
theorem dX10_change_126 : decode cX10_change 126 = .ok (.getfield 453, 3) := by decide +kernel
theorem dX10_change_129 : decode cX10_change 129 = .ok (.aload 5, 2) := by decide +kernel
theorem dX10_change_131 : decode cX10_change 131 = .ok (.invokestatic 547, 3) := by decide +kernel
theorem dX10_change_134 : decode cX10_change 134 = .ok (.iload_n 1, 1) := by decide +kernel
theorem dX10_change_135 : decode cX10_change 135 = .ok (.bipush 9, 2) := by decide +kernel
theorem dX10_change_137 : decode cX10_change 137 = .ok (.if_icmp .ne 53, 3) := by decide +kernel
theorem dX10_change_140 : decode cX10_change 140 = .ok (.iload_n 3, 1) := by decide +kernel
theorem dX10_change_141 : decode cX10_change 141 = .ok (.bipush (-12), 2) := by decide +kernel
theorem dX10_change_143 : decode cX10_change 143 = .ok (.if_icmp .lt 21, 3) := by decide +kernel
theorem dX10_change_146 : decode cX10_change 146 = .ok (.iload_n 3, 1) := by decide +kernel
theorem dX10_change_147 : decode cX10_change 147 = .ok (.bipush 12, 2) := by decide +kernel
theorem dX10_change_149 : decode cX10_change 149 = .ok (.if_icmp .gt 15, 3) := by decide +kernel
theorem dX10_change_152 : decode cX10_change 152 = .ok (.aload 5, 2) := by decide +kernel
theorem dX10_change_154 : decode cX10_change 154 = .ok (.invokestatic 288, 3) := by decide +kernel
theorem dX10_change_157 : decode cX10_change 157 = .ok (.ifCond .eq 9, 3) := by decide +kernel
theorem dX10_change_160 : decode cX10_change 160 = .ok (.iload_n 3, 1) := by decide +kernel
theorem dX10_change_161 : decode cX10_change 161 = .ok (.ifCond .ge 5, 3) := by decide +kernel
theorem dX10_change_164 : decode cX10_change 164 = .ok (.iconst (-1), 1) := by decide +kernel
theorem dX10_change_165 : decode cX10_change 165 = .ok (.ireturn, 1) := by decide +kernel
theorem dX10_change_166 : decode cX10_change 166 = .ok (.aload_n 0, 1) := by decide +kernel
theorem dX10_change_167 : decode cX10_change 167 = .ok (.aload_n 0, 1) := by decide +kernel
theorem dX10_change_168 : decode cX10_change 168 = .ok (.getfield 453, 3) := by decide +kernel
theorem dX10_change_171 : decode cX10_change 171 = .ok (.iload_n 3, 1) := by decide +kernel
theorem dX10_change_172 : decode cX10_change 172 = .ok (.invokevirtual 417, 3) := by decide +kernel
theorem dX10_change_175 : decode cX10_change 175 = .ok (.ifCond .eq 12, 3) := by decide +kernel
theorem dX10_change_178 : decode cX10_change 178 = .ok (.aload_n 0, 1) := by decide +kernel
theorem dX10_change_179 : decode cX10_change 179 = .ok (.iload 4, 2) := by decide +kernel
theorem dX10_change_181 : decode cX10_change 181 = .ok (.invokevirtual 558, 3) := by decide +kernel
theorem dX10_change_184 : decode cX10_change 184 = .ok (.goto 5, 3) := by decide +kernel
theorem dX10_change_187 : decode cX10_change 187 = .ok (.bipush (-2), 2) := by decide +kernel
theorem dX10_change_189 : decode cX10_change 189 = .ok (.ireturn, 1) := by decide +kernel
theorem dX10_change_190 : decode cX10_change 190 = .ok (.iload_n 1, 1) := by decide +kernel
theorem dX10_change_191 : decode cX10_change 191 = .ok (.bipush 11, 2) := by decide +kernel
theorem dX10_change_193 : decode cX10_change 193 = .ok (.if_icmp .ne 17, 3) := by decide +kernel
theorem dX10_change_196 : decode cX10_change 196 = .ok (.aload_n 0, 1) := by decide +kernel
theorem dX10_change_197 : decode cX10_change 197 = .ok (.getfield 453, 3) := by decide +kernel
theorem dX10_change_200 : decode cX10_change 200 = .ok (.invokestatic 257, 3) := by decide +kernel
theorem dX10_change_203 : decode cX10_change 203 = .ok (.aload_n 0, 1) := by decide +kernel
theorem dX10_change_204 : decode cX10_change 204 = .ok (.iload 4, 2) := by decide +kernel
theorem dX10_change_206 : decode cX10_change 206 = .ok (.invokevirtual 558, 3) := by decide +kernel
theorem dX10_change_209 : decode cX10_change 209 = .ok (.ireturn, 1) := by decide +kernel
theorem dX10_change_210 : decode cX10_change 210 = .ok (.aload_n 0, 1) := by decide +kernel
theorem dX10_change_211 : decode cX10_change 211 = .ok (.invokevirtual 140, 3) := by decide +kernel
theorem dX10_change_214 : decode cX10_change 214 = .ok (.astore 6, 2) := by decide +kernel
theorem dX10_change_216 : decode cX10_change 216 = .ok (.aload_n 0, 1) := by decide +kernel
theorem dX10_change_217 : decode cX10_change 217 = .ok (.invokevirtual 140, 3) := by decide +kernel
theorem dX10_change_220 : decode cX10_change 220 = .ok (.astore 7, 2) := by decide +kernel
theorem dX10_change_222 : decode cX10_change 222 = .ok (.aload 6, 2) := by decide +kernel
theorem dX10_change_224 : decode cX10_change 224 = .ok (.aload 5, 2) := by decide +kernel
theorem dX10_change_226 : decode cX10_change 226 = .ok (.getfield 207, 3) := by decide +kernel
theorem dX10_change_229 : decode cX10_change 229 = .ok (.invokestatic 295, 3) := by decide +kernel
theorem dX10_change_232 : decode cX10_change 232 = .ok (.aload 7, 2) := by decide +kernel
theorem dX10_change_234 : decode cX10_change 234 = .ok (.aload 5, 2) := by decide +kernel
theorem dX10_change_236 : decode cX10_change 236 = .ok (.getfield 210, 3) := by decide +kernel
theorem dX10_change_239 : decode cX10_change 239 = .ok (.invokestatic 295, 3) := by decide +kernel
theorem dX10_change_242 : decode cX10_change 242 = .ok (.iload_n 3, 1) := by decide +kernel
theorem dX10_change_243 : decode cX10_change 243 = .ok (.invokestatic 600, 3) := by decide +kernel
theorem dX10_change_246 : decode cX10_change 246 = .ok (.istore 8, 2) := by decide +kernel
theorem dX10_change_248 : decode cX10_change 248 = .ok (.iload_n 1, 1) := by decide +kernel
theorem dX10_change_249 : decode cX10_change 249 = .ok (.iconst 2, 1) := by decide +kernel
theorem dX10_change_250 : decode cX10_change 250 = .ok (.if_icmp .ge 17, 3) := by decide +kernel
theorem dX10_change_253 : decode cX10_change 253 = .ok (.aload_n 0, 1) := by decide +kernel
theorem dX10_change_254 : decode cX10_change 254 = .ok (.iload_n 1, 1) := by decide +kernel
theorem dX10_change_255 : decode cX10_change 255 = .ok (.aload 6, 2) := by decide +kernel
theorem dX10_change_257 : decode cX10_change 257 = .ok (.aload 7, 2) := by decide +kernel
theorem dX10_change_259 : decode cX10_change 259 = .ok (.iload 8, 2) := by decide +kernel
theorem dX10_change_261 : decode cX10_change 261 = .ok (.iload 4, 2) := by decide +kernel
theorem dX10_change_263 : decode cX10_change 263 = .ok (.invokevirtual 651, 3) := by decide +kernel
theorem dX10_change_266 : decode cX10_change 266 = .ok (.ireturn, 1) := by decide +kernel
theorem dX10_change_267 : decode cX10_change 267 = .ok (.aload_n 0, 1) := by decide +kernel
theorem dX10_change_268 : decode cX10_change 268 = .ok (.invokevirtual 140, 3) := by decide +kernel
theorem dX10_change_271 : decode cX10_change 271 = .ok (.astore 9, 2) := by decide +kernel
theorem dX10_change_273 : decode cX10_change 273 = .ok (.aload_n 0, 1) := by decide +kernel
theorem dX10_change_274 : decode cX10_change 274 = .ok (.invokevirtual 140, 3) := by decide +kernel
theorem dX10_change_277 : decode cX10_change 277 = .ok (.astore 10, 2) := by decide +kernel
theorem dX10_change_279 : decode cX10_change 279 = .ok (.aload_n 0, 1) := by decide +kernel
theorem dX10_change_280 : decode cX10_change 280 = .ok (.invokevirtual 140, 3) := by decide +kernel
theorem dX10_change_283 : decode cX10_change 283 = .ok (.astore 11, 2) := by decide +kernel
theorem dX10_change_285 : decode cX10_change 285 = .ok (.aload 11, 2) := by decide +kernel
theorem dX10_change_287 : decode cX10_change 287 = .ok (.iconst 1, 1) := by decide +kernel
theorem dX10_change_288 : decode cX10_change 288 = .ok (.invokevirtual 158, 3) := by decide +kernel
theorem dX10_change_291 : decode cX10_change 291 = .ok (.iload_n 1, 1) := by decide +kernel
theorem dX10_change_292 : decode cX10_change 292 = .ok (.tableswitch 167 2 7 #[40, 40, 101, 101, 126, 150], 40) := by decide +kernel
theorem dX10_change_332 : decode cX10_change 332 = .ok (.aload_n 0, 1) := by decide +kernel
theorem dX10_change_333 : decode cX10_change 333 = .ok (.aload 9, 2) := by decide +kernel
theorem dX10_change_335 : decode cX10_change 335 = .ok (.aload 6, 2) := by decide +kernel
theorem dX10_change_337 : decode cX10_change 337 = .ok (.iload 8, 2) := by decide +kernel
theorem dX10_change_339 : decode cX10_change 339 = .ok (.iload_n 1, 1) := by decide +kernel
theorem dX10_change_340 : decode cX10_change 340 = .ok (.iconst 2, 1) := by decide +kernel
theorem dX10_change_341 : decode cX10_change 341 = .ok (.if_icmp .ne 7, 3) := by decide +kernel
theorem dX10_change_344 : decode cX10_change 344 = .ok (.iconst 1, 1) := by decide +kernel
theorem dX10_change_345 : decode cX10_change 345 = .ok (.goto 4, 3) := by decide +kernel
theorem dX10_change_348 : decode cX10_change 348 = .ok (.iconst 0, 1) := by decide +kernel
theorem dX10_change_349 : decode cX10_change 349 = .ok (.invokevirtual 655, 3) := by decide +kernel
theorem dX10_change_352 : decode cX10_change 352 = .ok (.aload_n 0, 1) := by decide +kernel
theorem dX10_change_353 : decode cX10_change 353 = .ok (.aload 10, 2) := by decide +kernel
theorem dX10_change_355 : decode cX10_change 355 = .ok (.aload 7, 2) := by decide +kernel
theorem dX10_change_357 : decode cX10_change 357 = .ok (.iload 8, 2) := by decide +kernel
theorem dX10_change_359 : decode cX10_change 359 = .ok (.iload_n 1, 1) := by decide +kernel
theorem dX10_change_360 : decode cX10_change 360 = .ok (.iconst 2, 1) := by decide +kernel
theorem dX10_change_361 : decode cX10_change 361 = .ok (.if_icmp .ne 7, 3) := by decide +kernel
theorem dX10_change_364 : decode cX10_change 364 = .ok (.iconst 1, 1) := by decide +kernel
theorem dX10_change_365 : decode cX10_change 365 = .ok (.goto 4, 3) := by decide +kernel
theorem dX10_change_368 : decode cX10_change 368 = .ok (.iconst 0, 1) := by decide +kernel
theorem dX10_change_369 : decode cX10_change 369 = .ok (.invokevirtual 655, 3) := by decide +kernel
theorem dX10_change_372 : decode cX10_change 372 = .ok (.aload 10, 2) := by decide +kernel
theorem dX10_change_374 : decode cX10_change 374 = .ok (.getfield 93, 3) := by decide +kernel
theorem dX10_change_377 : decode cX10_change 377 = .ok (.ifCond .ne 5, 3) := by decide +kernel
theorem dX10_change_380 : decode cX10_change 380 = .ok (.iconst (-1), 1) := by decide +kernel
theorem dX10_change_381 : decode cX10_change 381 = .ok (.ireturn, 1) := by decide +kernel
theorem dX10_change_382 : decode cX10_change 382 = .ok (.aload_n 0, 1) := by decide +kernel
theorem dX10_change_383 : decode cX10_change 383 = .ok (.aload 9, 2) := by decide +kernel
theorem dX10_change_385 : decode cX10_change 385 = .ok (.aload 10, 2) := by decide +kernel
theorem dX10_change_387 : decode cX10_change 387 = .ok (.invokevirtual 659, 3) := by decide +kernel
theorem dX10_change_390 : decode cX10_change 390 = .ok (.goto 83, 3) := by decide +kernel
theorem dX10_change_393 : decode cX10_change 393 = .ok (.aload_n 0, 1) := by decide +kernel
theorem dX10_change_394 : decode cX10_change 394 = .ok (.aload 9, 2) := by decide +kernel
theorem dX10_change_396 : decode cX10_change 396 = .ok (.aload 10, 2) := by decide +kernel
theorem dX10_change_398 : decode cX10_change 398 = .ok (.aload 6, 2) := by decide +kernel
theorem dX10_change_400 : decode cX10_change 400 = .ok (.aload 7, 2) := by decide +kernel
theorem dX10_change_402 : decode cX10_change 402 = .ok (.iload_n 1, 1) := by decide +kernel
theorem dX10_change_403 : decode cX10_change 403 = .ok (.iconst 4, 1) := by decide +kernel
theorem dX10_change_404 : decode cX10_change 404 = .ok (.if_icmp .ne 7, 3) := by decide +kernel
theorem dX10_change_407 : decode cX10_change 407 = .ok (.iconst 1, 1) := by decide +kernel
theorem dX10_change_408 : decode cX10_change 408 = .ok (.goto 4, 3) := by decide +kernel
theorem dX10_change_411 : decode cX10_change 411 = .ok (.iconst 0, 1) := by decide +kernel
theorem dX10_change_412 : decode cX10_change 412 = .ok (.invokevirtual 662, 3) := by decide +kernel
theorem dX10_change_415 : decode cX10_change 415 = .ok (.goto 58, 3) := by decide +kernel
theorem dX10_change_418 : decode cX10_change 418 = .ok (.aload 9, 2) := by decide +kernel
theorem dX10_change_420 : decode cX10_change 420 = .ok (.aload 6, 2) := by decide +kernel
theorem dX10_change_422 : decode cX10_change 422 = .ok (.invokestatic 644, 3) := by decide +kernel
theorem dX10_change_425 : decode cX10_change 425 = .ok (.aload 10, 2) := by decide +kernel
theorem dX10_change_427 : decode cX10_change 427 = .ok (.aload 7, 2) := by decide +kernel
theorem dX10_change_429 : decode cX10_change 429 = .ok (.invokestatic 644, 3) := by decide +kernel
theorem dX10_change_432 : decode cX10_change 432 = .ok (.aload 9, 2) := by decide +kernel
theorem dX10_change_434 : decode cX10_change 434 = .ok (.aload 10, 2) := by decide +kernel
theorem dX10_change_436 : decode cX10_change 436 = .ok (.invokestatic 191, 3) := by decide +kernel
theorem dX10_change_439 : decode cX10_change 439 = .ok (.goto 34, 3) := by decide +kernel
theorem dX10_change_442 : decode cX10_change 442 = .ok (.aload 9, 2) := by decide +kernel
theorem dX10_change_444 : decode cX10_change 444 = .ok (.aload 6, 2) := by decide +kernel
theorem dX10_change_446 : decode cX10_change 446 = .ok (.invokestatic 113, 3) := by decide +kernel
theorem dX10_change_449 : decode cX10_change 449 = .ok (.aload 10, 2) := by decide +kernel
theorem dX10_change_451 : decode cX10_change 451 = .ok (.aload 11, 2) := by decide +kernel
theorem dX10_change_453 : decode cX10_change 453 = .ok (.invokestatic 113, 3) := by decide +kernel
theorem dX10_change_456 : decode cX10_change 456 = .ok (.goto 17, 3) := by decide +kernel
theorem dX10_change_459 : decode cX10_change 459 = .ok (.aload 9, 2) := by decide +kernel
theorem dX10_change_461 : decode cX10_change 461 = .ok (.aload 7, 2) := by decide +kernel
theorem dX10_change_463 : decode cX10_change 463 = .ok (.invokestatic 113, 3) := by decide +kernel
theorem dX10_change_466 : decode cX10_change 466 = .ok (.aload 10, 2) := by decide +kernel
theorem dX10_change_468 : decode cX10_change 468 = .ok (.aload 11, 2) := by decide +kernel
theorem dX10_change_470 : decode cX10_change 470 = .ok (.invokestatic 113, 3) := by decide +kernel
theorem dX10_change_473 : decode cX10_change 473 = .ok (.aload_n 0, 1) := by decide +kernel
theorem dX10_change_474 : decode cX10_change 474 = .ok (.getfield 453, 3) := by decide +kernel
theorem dX10_change_477 : decode cX10_change 477 = .ok (.aload 9, 2) := by decide +kernel
theorem dX10_change_479 : decode cX10_change 479 = .ok (.aload 10, 2) := by decide +kernel
theorem dX10_change_481 : decode cX10_change 481 = .ok (.invokestatic 261, 3) := by decide +kernel
theorem dX10_change_484 : decode cX10_change 484 = .ok (.ifCond .eq 12, 3) := by decide +kernel
theorem dX10_change_487 : decode cX10_change 487 = .ok (.aload_n 0, 1) := by decide +kernel
theorem dX10_change_488 : decode cX10_change 488 = .ok (.iload 4, 2) := by decide +kernel
theorem dX10_change_490 : decode cX10_change 490 = .ok (.invokevirtual 558, 3) := by decide +kernel
theorem dX10_change_493 : decode cX10_change 493 = .ok (.goto 5, 3) := by decide +kernel
theorem dX10_change_496 : decode cX10_change 496 = .ok (.bipush (-2), 2) := by decide +kernel
theorem dX10_change_498 : decode cX10_change 498 = .ok (.ireturn, 1) := by decide +kernel
theorem dX10_moved_0 : decode cX10_moved 0 = .ok (.iload_n 1, 1) := by decide +kernel
theorem dX10_moved_1 : decode cX10_moved 1 = .ok (.ifCond .ne 20, 3) := by decide +kernel
theorem dX10_moved_4 : decode cX10_moved 4 = .ok (.aload_n 2, 1) := by decide +kernel
theorem dX10_moved_5 : decode cX10_moved 5 = .ok (.aload_n 2, 1) := by decide +kernel
theorem dX10_moved_6 : decode cX10_moved 6 = .ok (.iload 4, 2) := by decide +kernel
theorem dX10_moved_8 : decode cX10_moved 8 = .ok (.invokestatic 623, 3) := by decide +kernel
theorem dX10_moved_11 : decode cX10_moved 11 = .ok (.aload_n 3, 1) := by decide +kernel
theorem dX10_moved_12 : decode cX10_moved 12 = .ok (.aload_n 3, 1) := by decide +kernel
theorem dX10_moved_13 : decode cX10_moved 13 = .ok (.iload 4, 2) := by decide +kernel
theorem dX10_moved_15 : decode cX10_moved 15 = .ok (.invokestatic 623, 3) := by decide +kernel
theorem dX10_moved_18 : decode cX10_moved 18 = .ok (.goto 17, 3) := by decide +kernel
theorem dX10_moved_21 : decode cX10_moved 21 = .ok (.aload_n 2, 1) := by decide +kernel
theorem dX10_moved_22 : decode cX10_moved 22 = .ok (.aload_n 2, 1) := by decide +kernel
theorem dX10_moved_23 : decode cX10_moved 23 = .ok (.iload 4, 2) := by decide +kernel
theorem dX10_moved_25 : decode cX10_moved 25 = .ok (.invokestatic 626, 3) := by decide +kernel
theorem dX10_moved_28 : decode cX10_moved 28 = .ok (.aload_n 3, 1) := by decide +kernel
theorem dX10_moved_29 : decode cX10_moved 29 = .ok (.aload_n 3, 1) := by decide +kernel
theorem dX10_moved_30 : decode cX10_moved 30 = .ok (.iload 4, 2) := by decide +kernel
theorem dX10_moved_32 : decode cX10_moved 32 = .ok (.invokestatic 626, 3) := by decide +kernel
theorem dX10_moved_35 : decode cX10_moved 35 = .ok (.aload_n 0, 1) := by decide +kernel
theorem dX10_moved_36 : decode cX10_moved 36 = .ok (.getfield 453, 3) := by decide +kernel
theorem dX10_moved_39 : decode cX10_moved 39 = .ok (.getfield 202, 3) := by decide +kernel
theorem dX10_moved_42 : decode cX10_moved 42 = .ok (.iconst 2, 1) := by decide +kernel
theorem dX10_moved_43 : decode cX10_moved 43 = .ok (.if_icmp .ne 142, 3) := by decide +kernel
theorem dX10_moved_46 : decode cX10_moved 46 = .ok (.iload 4, 2) := by decide +kernel
theorem dX10_moved_48 : decode cX10_moved 48 = .ok (.invokestatic 390, 3) := by decide +kernel
theorem dX10_moved_51 : decode cX10_moved 51 = .ok (.istore 6, 2) := by decide +kernel
theorem dX10_moved_53 : decode cX10_moved 53 = .ok (.aload_n 2, 1) := by decide +kernel
theorem dX10_moved_54 : decode cX10_moved 54 = .ok (.aload_n 2, 1) := by decide +kernel
theorem dX10_moved_55 : decode cX10_moved 55 = .ok (.iload_n 1, 1) := by decide +kernel
theorem dX10_moved_56 : decode cX10_moved 56 = .ok (.ifCond .ne 13, 3) := by decide +kernel
theorem dX10_moved_59 : decode cX10_moved 59 = .ok (.aload_n 0, 1) := by decide +kernel
theorem dX10_moved_60 : decode cX10_moved 60 = .ok (.getfield 453, 3) := by decide +kernel
theorem dX10_moved_63 : decode cX10_moved 63 = .ok (.getfield 213, 3) := by decide +kernel
theorem dX10_moved_66 : decode cX10_moved 66 = .ok (.goto 10, 3) := by decide +kernel
theorem dX10_moved_69 : decode cX10_moved 69 = .ok (.aload_n 0, 1) := by decide +kernel
theorem dX10_moved_70 : decode cX10_moved 70 = .ok (.getfield 453, 3) := by decide +kernel
theorem dX10_moved_73 : decode cX10_moved 73 = .ok (.getfield 216, 3) := by decide +kernel
theorem dX10_moved_76 : decode cX10_moved 76 = .ok (.iload 6, 2) := by decide +kernel
theorem dX10_moved_78 : decode cX10_moved 78 = .ok (.invokestatic 317, 3) := by decide +kernel
theorem dX10_moved_81 : decode cX10_moved 81 = .ok (.invokestatic 182, 3) := by decide +kernel
theorem dX10_moved_84 : decode cX10_moved 84 = .ok (.iconst 0, 1) := by decide +kernel
theorem dX10_moved_85 : decode cX10_moved 85 = .ok (.istore 7, 2) := by decide +kernel
theorem dX10_moved_87 : decode cX10_moved 87 = .ok (.iload 7, 2) := by decide +kernel
theorem dX10_moved_89 : decode cX10_moved 89 = .ok (.aload_n 0, 1) := by decide +kernel
theorem dX10_moved_90 : decode cX10_moved 90 = .ok (.getfield 453, 3) := by decide +kernel
theorem dX10_moved_93 : decode cX10_moved 93 = .ok (.getfield 219, 3) := by decide +kernel
theorem dX10_moved_96 : decode cX10_moved 96 = .ok (.if_icmp .ge 89, 3) := by decide +kernel
theorem dX10_moved_99 : decode cX10_moved 99 = .ok (.aload_n 0, 1) := by decide +kernel
theorem dX10_moved_100 : decode cX10_moved 100 = .ok (.getfield 453, 3) := by decide +kernel
theorem dX10_moved_103 : decode cX10_moved 103 = .ok (.getfield 228, 3) := by decide +kernel
theorem dX10_moved_106 : decode cX10_moved 106 = .ok (.iload 7, 2) := by decide +kernel
theorem dX10_moved_108 : decode cX10_moved 108 = .ok (.iaload, 1) := by decide +kernel
theorem dX10_moved_109 : decode cX10_moved 109 = .ok (.i2l, 1) := by decide +kernel
theorem dX10_moved_110 : decode cX10_moved 110 = .ok (.iload_n 1, 1) := by decide +kernel
theorem dX10_moved_111 : decode cX10_moved 111 = .ok (.ifCond .ne 16, 3) := by decide +kernel
theorem dX10_moved_114 : decode cX10_moved 114 = .ok (.aload_n 0, 1) := by decide +kernel
theorem dX10_moved_115 : decode cX10_moved 115 = .ok (.getfield 453, 3) := by decide +kernel
theorem dX10_moved_118 : decode cX10_moved 118 = .ok (.getfield 222, 3) := by decide +kernel
theorem dX10_moved_121 : decode cX10_moved 121 = .ok (.iload 7, 2) := by decide +kernel
theorem dX10_moved_123 : decode cX10_moved 123 = .ok (.iaload, 1) := by decide +kernel
theorem dX10_moved_124 : decode cX10_moved 124 = .ok (.goto 13, 3) := by decide +kernel
theorem dX10_moved_127 : decode cX10_moved 127 = .ok (.aload_n 0, 1) := by decide +kernel
theorem dX10_moved_128 : decode cX10_moved 128 = .ok (.getfield 453, 3) := by decide +kernel
theorem dX10_moved_131 : decode cX10_moved 131 = .ok (.getfield 225, 3) := by decide +kernel
theorem dX10_moved_134 : decode cX10_moved 134 = .ok (.iload 7, 2) := by decide +kernel
theorem dX10_moved_136 : decode cX10_moved 136 = .ok (.iaload, 1) := by decide +kernel
theorem dX10_moved_137 : decode cX10_moved 137 = .ok (.i2l, 1) := by decide +kernel
theorem dX10_moved_138 : decode cX10_moved 138 = .ok (.iload 6, 2) := by decide +kernel
theorem dX10_moved_140 : decode cX10_moved 140 = .ok (.i2l, 1) := by decide +kernel
theorem dX10_moved_141 : decode cX10_moved 141 = .ok (.lmul, 1) := by decide +kernel
theorem dX10_moved_142 : decode cX10_moved 142 = .ok (.ladd, 1) := by decide +kernel
theorem dX10_moved_143 : decode cX10_moved 143 = .ok (.lstore 8, 2) := by decide +kernel
theorem dX10_moved_145 : decode cX10_moved 145 = .ok (.lload 8, 2) := by decide +kernel
theorem dX10_moved_147 : decode cX10_moved 147 = .ok (.ldc2_w 666, 3) := by decide +kernel
theorem dX10_moved_150 : decode cX10_moved 150 = .ok (.lcmp, 1) := by decide +kernel
theorem dX10_moved_151 : decode cX10_moved 151 = .ok (.ifCond .lt 12, 3) := by decide +kernel
theorem dX10_moved_154 : decode cX10_moved 154 = .ok (.lload 8, 2) := by decide +kernel
theorem dX10_moved_156 : decode cX10_moved 156 = .ok (.ldc2_w 668, 3) := by decide +kernel
theorem dX10_moved_159 : decode cX10_moved 159 = .ok (.lcmp, 1) := by decide +kernel
theorem dX10_moved_160 : decode cX10_moved 160 = .ok (.ifCond .le 6, 3) := by decide +kernel
theorem dX10_moved_163 : decode cX10_moved 163 = .ok (.bipush (-2), 2) := by decide +kernel
theorem dX10_moved_165 : decode cX10_moved 165 = .ok (.ireturn, 1) := by decide +kernel
theorem dX10_moved_166 : decode cX10_moved 166 = .ok (.aload_n 0, 1) := by decide +kernel
theorem dX10_moved_167 : decode cX10_moved 167 = .ok (.getfield 453, 3) := by decide +kernel
theorem dX10_moved_170 : decode cX10_moved 170 = .ok (.getfield 228, 3) := by decide +kernel
theorem dX10_moved_173 : decode cX10_moved 173 = .ok (.iload 7, 2) := by decide +kernel
theorem dX10_moved_175 : decode cX10_moved 175 = .ok (.lload 8, 2) := by decide +kernel
theorem dX10_moved_177 : decode cX10_moved 177 = .ok (.l2i, 1) := by decide +kernel
theorem dX10_moved_178 : decode cX10_moved 178 = .ok (.iastore, 1) := by decide +kernel
theorem dX10_moved_179 : decode cX10_moved 179 = .ok (.iinc 7 1, 3) := by decide +kernel
theorem dX10_moved_182 : decode cX10_moved 182 = .ok (.goto (-95), 3) := by decide +kernel
theorem dX10_moved_185 : decode cX10_moved 185 = .ok (.aload_n 2, 1) := by decide +kernel
theorem dX10_moved_186 : decode cX10_moved 186 = .ok (.aload_n 3, 1) := by decide +kernel
theorem dX10_moved_187 : decode cX10_moved 187 = .ok (.invokestatic 191, 3) := by decide +kernel
theorem dX10_moved_190 : decode cX10_moved 190 = .ok (.aload_n 0, 1) := by decide +kernel
theorem dX10_moved_191 : decode cX10_moved 191 = .ok (.getfield 453, 3) := by decide +kernel
theorem dX10_moved_194 : decode cX10_moved 194 = .ok (.aload_n 2, 1) := by decide +kernel
theorem dX10_moved_195 : decode cX10_moved 195 = .ok (.aload_n 3, 1) := by decide +kernel
theorem dX10_moved_196 : decode cX10_moved 196 = .ok (.invokestatic 261, 3) := by decide +kernel
theorem dX10_moved_199 : decode cX10_moved 199 = .ok (.ifCond .eq 12, 3) := by decide +kernel
theorem dX10_moved_202 : decode cX10_moved 202 = .ok (.aload_n 0, 1) := by decide +kernel
theorem dX10_moved_203 : decode cX10_moved 203 = .ok (.iload 5, 2) := by decide +kernel
theorem dX10_moved_205 : decode cX10_moved 205 = .ok (.invokevirtual 558, 3) := by decide +kernel
theorem dX10_moved_208 : decode cX10_moved 208 = .ok (.goto 5, 3) := by decide +kernel
theorem dX10_moved_211 : decode cX10_moved 211 = .ok (.bipush (-2), 2) := by decide +kernel
theorem dX10_moved_213 : decode cX10_moved 213 = .ok (.ireturn, 1) := by decide +kernel
theorem dX10_fixed_0 : decode cX10_fixed 0 = .ok (.aload_n 0, 1) := by decide +kernel
theorem dX10_fixed_1 : decode cX10_fixed 1 = .ok (.getfield 21, 3) := by decide +kernel
theorem dX10_fixed_4 : decode cX10_fixed 4 = .ok (.istore 5, 2) := by decide +kernel
theorem dX10_fixed_6 : decode cX10_fixed 6 = .ok (.aload_n 0, 1) := by decide +kernel
theorem dX10_fixed_7 : decode cX10_fixed 7 = .ok (.invokevirtual 74, 3) := by decide +kernel
theorem dX10_fixed_10 : decode cX10_fixed 10 = .ok (.astore 6, 2) := by decide +kernel
theorem dX10_fixed_12 : decode cX10_fixed 12 = .ok (.aload_n 0, 1) := by decide +kernel
theorem dX10_fixed_13 : decode cX10_fixed 13 = .ok (.invokevirtual 74, 3) := by decide +kernel
theorem dX10_fixed_16 : decode cX10_fixed 16 = .ok (.astore 7, 2) := by decide +kernel
theorem dX10_fixed_18 : decode cX10_fixed 18 = .ok (.iload 4, 2) := by decide +kernel
theorem dX10_fixed_20 : decode cX10_fixed 20 = .ok (.ifCond .eq 57, 3) := by decide +kernel
theorem dX10_fixed_23 : decode cX10_fixed 23 = .ok (.iconst 0, 1) := by decide +kernel
theorem dX10_fixed_24 : decode cX10_fixed 24 = .ok (.istore 8, 2) := by decide +kernel
theorem dX10_fixed_26 : decode cX10_fixed 26 = .ok (.iload 8, 2) := by decide +kernel
theorem dX10_fixed_28 : decode cX10_fixed 28 = .ok (.aload_n 2, 1) := by decide +kernel
theorem dX10_fixed_29 : decode cX10_fixed 29 = .ok (.getfield 93, 3) := by decide +kernel
theorem dX10_fixed_32 : decode cX10_fixed 32 = .ok (.if_icmp .ge 30, 3) := by decide +kernel
theorem dX10_fixed_35 : decode cX10_fixed 35 = .ok (.aload_n 1, 1) := by decide +kernel
theorem dX10_fixed_36 : decode cX10_fixed 36 = .ok (.getfield 98, 3) := by decide +kernel
theorem dX10_fixed_39 : decode cX10_fixed 39 = .ok (.iload 8, 2) := by decide +kernel
theorem dX10_fixed_41 : decode cX10_fixed 41 = .ok (.aaload, 1) := by decide +kernel
theorem dX10_fixed_42 : decode cX10_fixed 42 = .ok (.aload_n 2, 1) := by decide +kernel
theorem dX10_fixed_43 : decode cX10_fixed 43 = .ok (.getfield 98, 3) := by decide +kernel
theorem dX10_fixed_46 : decode cX10_fixed 46 = .ok (.iload 8, 2) := by decide +kernel
theorem dX10_fixed_48 : decode cX10_fixed 48 = .ok (.aaload, 1) := by decide +kernel
theorem dX10_fixed_49 : decode cX10_fixed 49 = .ok (.iload_n 3, 1) := by decide +kernel
theorem dX10_fixed_50 : decode cX10_fixed 50 = .ok (.invokestatic 136, 3) := by decide +kernel
theorem dX10_fixed_53 : decode cX10_fixed 53 = .ok (.invokevirtual 147, 3) := by decide +kernel
theorem dX10_fixed_56 : decode cX10_fixed 56 = .ok (.iinc 8 1, 3) := by decide +kernel
theorem dX10_fixed_59 : decode cX10_fixed 59 = .ok (.goto (-33), 3) := by decide +kernel
theorem dX10_fixed_62 : decode cX10_fixed 62 = .ok (.aload_n 1, 1) := by decide +kernel
theorem dX10_fixed_63 : decode cX10_fixed 63 = .ok (.aload_n 2, 1) := by decide +kernel
theorem dX10_fixed_64 : decode cX10_fixed 64 = .ok (.getfield 93, 3) := by decide +kernel
theorem dX10_fixed_67 : decode cX10_fixed 67 = .ok (.putfield 93, 3) := by decide +kernel
theorem dX10_fixed_70 : decode cX10_fixed 70 = .ok (.aload_n 1, 1) := by decide +kernel
theorem dX10_fixed_71 : decode cX10_fixed 71 = .ok (.invokevirtual 105, 3) := by decide +kernel
theorem dX10_fixed_74 : decode cX10_fixed 74 = .ok (.goto 71, 3) := by decide +kernel
theorem dX10_fixed_77 : decode cX10_fixed 77 = .ok (.aload 6, 2) := by decide +kernel
theorem dX10_fixed_79 : decode cX10_fixed 79 = .ok (.iconst 0, 1) := by decide +kernel
theorem dX10_fixed_80 : decode cX10_fixed 80 = .ok (.putfield 25, 3) := by decide +kernel
theorem dX10_fixed_83 : decode cX10_fixed 83 = .ok (.aload_n 2, 1) := by decide +kernel
theorem dX10_fixed_84 : decode cX10_fixed 84 = .ok (.getfield 93, 3) := by decide +kernel
theorem dX10_fixed_87 : decode cX10_fixed 87 = .ok (.iconst 1, 1) := by decide +kernel
theorem dX10_fixed_88 : decode cX10_fixed 88 = .ok (.isub, 1) := by decide +kernel
theorem dX10_fixed_89 : decode cX10_fixed 89 = .ok (.istore 8, 2) := by decide +kernel
theorem dX10_fixed_91 : decode cX10_fixed 91 = .ok (.iload 8, 2) := by decide +kernel
theorem dX10_fixed_93 : decode cX10_fixed 93 = .ok (.ifCond .lt 32, 3) := by decide +kernel
theorem dX10_fixed_96 : decode cX10_fixed 96 = .ok (.aload 7, 2) := by decide +kernel
theorem dX10_fixed_98 : decode cX10_fixed 98 = .ok (.aload 6, 2) := by decide +kernel
theorem dX10_fixed_100 : decode cX10_fixed 100 = .ok (.iload_n 3, 1) := by decide +kernel
theorem dX10_fixed_101 : decode cX10_fixed 101 = .ok (.invokestatic 70, 3) := by decide +kernel
theorem dX10_fixed_104 : decode cX10_fixed 104 = .ok (.aload 6, 2) := by decide +kernel
theorem dX10_fixed_106 : decode cX10_fixed 106 = .ok (.aload 7, 2) := by decide +kernel
theorem dX10_fixed_108 : decode cX10_fixed 108 = .ok (.aload_n 2, 1) := by decide +kernel
theorem dX10_fixed_109 : decode cX10_fixed 109 = .ok (.getfield 98, 3) := by decide +kernel
theorem dX10_fixed_112 : decode cX10_fixed 112 = .ok (.iload 8, 2) := by decide +kernel
theorem dX10_fixed_114 : decode cX10_fixed 114 = .ok (.aaload, 1) := by decide +kernel
theorem dX10_fixed_115 : decode cX10_fixed 115 = .ok (.iconst 0, 1) := by decide +kernel
theorem dX10_fixed_116 : decode cX10_fixed 116 = .ok (.invokestatic 101, 3) := by decide +kernel
theorem dX10_fixed_119 : decode cX10_fixed 119 = .ok (.iinc 8 (-1), 3) := by decide +kernel
theorem dX10_fixed_122 : decode cX10_fixed 122 = .ok (.goto (-31), 3) := by decide +kernel
theorem dX10_fixed_125 : decode cX10_fixed 125 = .ok (.aload_n 1, 1) := by decide +kernel
theorem dX10_fixed_126 : decode cX10_fixed 126 = .ok (.getfield 98, 3) := by decide +kernel
theorem dX10_fixed_129 : decode cX10_fixed 129 = .ok (.iconst 0, 1) := by decide +kernel
theorem dX10_fixed_130 : decode cX10_fixed 130 = .ok (.aaload, 1) := by decide +kernel
theorem dX10_fixed_131 : decode cX10_fixed 131 = .ok (.aload 6, 2) := by decide +kernel
theorem dX10_fixed_133 : decode cX10_fixed 133 = .ok (.invokestatic 62, 3) := by decide +kernel
theorem dX10_fixed_136 : decode cX10_fixed 136 = .ok (.aload_n 1, 1) := by decide +kernel
theorem dX10_fixed_137 : decode cX10_fixed 137 = .ok (.iconst 1, 1) := by decide +kernel
theorem dX10_fixed_138 : decode cX10_fixed 138 = .ok (.putfield 93, 3) := by decide +kernel
theorem dX10_fixed_141 : decode cX10_fixed 141 = .ok (.aload_n 1, 1) := by decide +kernel
theorem dX10_fixed_142 : decode cX10_fixed 142 = .ok (.invokevirtual 105, 3) := by decide +kernel
theorem dX10_fixed_145 : decode cX10_fixed 145 = .ok (.aload_n 0, 1) := by decide +kernel
theorem dX10_fixed_146 : decode cX10_fixed 146 = .ok (.iload 5, 2) := by decide +kernel
theorem dX10_fixed_148 : decode cX10_fixed 148 = .ok (.putfield 21, 3) := by decide +kernel
theorem dX10_fixed_151 : decode cX10_fixed 151 = .ok (.return_, 1) := by decide +kernel
theorem dX10_reduce_0 : decode cX10_reduce 0 = .ok (.aload_n 0, 1) := by decide +kernel
theorem dX10_reduce_1 : decode cX10_reduce 1 = .ok (.getfield 90, 3) := by decide +kernel
theorem dX10_reduce_4 : decode cX10_reduce 4 = .ok (.istore_n 3, 1) := by decide +kernel
theorem dX10_reduce_5 : decode cX10_reduce 5 = .ok (.aload_n 0, 1) := by decide +kernel
theorem dX10_reduce_6 : decode cX10_reduce 6 = .ok (.invokevirtual 140, 3) := by decide +kernel
theorem dX10_reduce_9 : decode cX10_reduce 9 = .ok (.astore 4, 2) := by decide +kernel
theorem dX10_reduce_11 : decode cX10_reduce 11 = .ok (.aload_n 0, 1) := by decide +kernel
theorem dX10_reduce_12 : decode cX10_reduce 12 = .ok (.invokevirtual 140, 3) := by decide +kernel
theorem dX10_reduce_15 : decode cX10_reduce 15 = .ok (.astore 5, 2) := by decide +kernel
theorem dX10_reduce_17 : decode cX10_reduce 17 = .ok (.aload_n 1, 1) := by decide +kernel
theorem dX10_reduce_18 : decode cX10_reduce 18 = .ok (.getfield 93, 3) := by decide +kernel
theorem dX10_reduce_21 : decode cX10_reduce 21 = .ok (.ifCond .le 53, 3) := by decide +kernel
theorem dX10_reduce_24 : decode cX10_reduce 24 = .ok (.aload_n 0, 1) := by decide +kernel
theorem dX10_reduce_25 : decode cX10_reduce 25 = .ok (.aload 4, 2) := by decide +kernel
theorem dX10_reduce_27 : decode cX10_reduce 27 = .ok (.aload_n 1, 1) := by decide +kernel
theorem dX10_reduce_28 : decode cX10_reduce 28 = .ok (.aload_n 2, 1) := by decide +kernel
theorem dX10_reduce_29 : decode cX10_reduce 29 = .ok (.invokevirtual 185, 3) := by decide +kernel
theorem dX10_reduce_32 : decode cX10_reduce 32 = .ok (.aload 4, 2) := by decide +kernel
theorem dX10_reduce_34 : decode cX10_reduce 34 = .ok (.invokevirtual 187, 3) := by decide +kernel
theorem dX10_reduce_37 : decode cX10_reduce 37 = .ok (.ifCond .ne 37, 3) := by decide +kernel
theorem dX10_reduce_40 : decode cX10_reduce 40 = .ok (.aload_n 0, 1) := by decide +kernel
theorem dX10_reduce_41 : decode cX10_reduce 41 = .ok (.aload 5, 2) := by decide +kernel
theorem dX10_reduce_43 : decode cX10_reduce 43 = .ok (.aload_n 1, 1) := by decide +kernel
theorem dX10_reduce_44 : decode cX10_reduce 44 = .ok (.aload 4, 2) := by decide +kernel
theorem dX10_reduce_46 : decode cX10_reduce 46 = .ok (.invokevirtual 170, 3) := by decide +kernel
theorem dX10_reduce_49 : decode cX10_reduce 49 = .ok (.istore 6, 2) := by decide +kernel
theorem dX10_reduce_51 : decode cX10_reduce 51 = .ok (.aload_n 1, 1) := by decide +kernel
theorem dX10_reduce_52 : decode cX10_reduce 52 = .ok (.aload 5, 2) := by decide +kernel
theorem dX10_reduce_54 : decode cX10_reduce 54 = .ok (.invokestatic 113, 3) := by decide +kernel
theorem dX10_reduce_57 : decode cX10_reduce 57 = .ok (.aload_n 0, 1) := by decide +kernel
theorem dX10_reduce_58 : decode cX10_reduce 58 = .ok (.aload 5, 2) := by decide +kernel
theorem dX10_reduce_60 : decode cX10_reduce 60 = .ok (.aload_n 2, 1) := by decide +kernel
theorem dX10_reduce_61 : decode cX10_reduce 61 = .ok (.aload 4, 2) := by decide +kernel
theorem dX10_reduce_63 : decode cX10_reduce 63 = .ok (.invokevirtual 170, 3) := by decide +kernel
theorem dX10_reduce_66 : decode cX10_reduce 66 = .ok (.istore 6, 2) := by decide +kernel
theorem dX10_reduce_68 : decode cX10_reduce 68 = .ok (.aload_n 2, 1) := by decide +kernel
theorem dX10_reduce_69 : decode cX10_reduce 69 = .ok (.aload 5, 2) := by decide +kernel
theorem dX10_reduce_71 : decode cX10_reduce 71 = .ok (.invokestatic 113, 3) := by decide +kernel
theorem dX10_reduce_74 : decode cX10_reduce 74 = .ok (.aload_n 1, 1) := by decide +kernel
theorem dX10_reduce_75 : decode cX10_reduce 75 = .ok (.aload_n 2, 1) := by decide +kernel
theorem dX10_reduce_76 : decode cX10_reduce 76 = .ok (.invokestatic 191, 3) := by decide +kernel
theorem dX10_reduce_79 : decode cX10_reduce 79 = .ok (.aload_n 0, 1) := by decide +kernel
theorem dX10_reduce_80 : decode cX10_reduce 80 = .ok (.iload_n 3, 1) := by decide +kernel
theorem dX10_reduce_81 : decode cX10_reduce 81 = .ok (.putfield 90, 3) := by decide +kernel
theorem dX10_reduce_84 : decode cX10_reduce 84 = .ok (.return_, 1) := by decide +kernel
theorem dX10_derivative_0 : decode cX10_derivative 0 = .ok (.aload_n 0, 1) := by decide +kernel
theorem dX10_derivative_1 : decode cX10_derivative 1 = .ok (.getfield 90, 3) := by decide +kernel
theorem dX10_derivative_4 : decode cX10_derivative 4 = .ok (.istore 6, 2) := by decide +kernel
theorem dX10_derivative_6 : decode cX10_derivative 6 = .ok (.aload_n 0, 1) := by decide +kernel
theorem dX10_derivative_7 : decode cX10_derivative 7 = .ok (.invokevirtual 140, 3) := by decide +kernel
theorem dX10_derivative_10 : decode cX10_derivative 10 = .ok (.astore 7, 2) := by decide +kernel
theorem dX10_derivative_12 : decode cX10_derivative 12 = .ok (.aload_n 0, 1) := by decide +kernel
theorem dX10_derivative_13 : decode cX10_derivative 13 = .ok (.invokevirtual 140, 3) := by decide +kernel
theorem dX10_derivative_16 : decode cX10_derivative 16 = .ok (.astore 8, 2) := by decide +kernel
theorem dX10_derivative_18 : decode cX10_derivative 18 = .ok (.aload 7, 2) := by decide +kernel
theorem dX10_derivative_20 : decode cX10_derivative 20 = .ok (.aload_n 3, 1) := by decide +kernel
theorem dX10_derivative_21 : decode cX10_derivative 21 = .ok (.iload 5, 2) := by decide +kernel
theorem dX10_derivative_23 : decode cX10_derivative 23 = .ok (.invokestatic 670, 3) := by decide +kernel
theorem dX10_derivative_26 : decode cX10_derivative 26 = .ok (.aload_n 0, 1) := by decide +kernel
theorem dX10_derivative_27 : decode cX10_derivative 27 = .ok (.aload_n 1, 1) := by decide +kernel
theorem dX10_derivative_28 : decode cX10_derivative 28 = .ok (.aload 7, 2) := by decide +kernel
theorem dX10_derivative_30 : decode cX10_derivative 30 = .ok (.aload 4, 2) := by decide +kernel
theorem dX10_derivative_32 : decode cX10_derivative 32 = .ok (.invokevirtual 197, 3) := by decide +kernel
theorem dX10_derivative_35 : decode cX10_derivative 35 = .ok (.aload 7, 2) := by decide +kernel
theorem dX10_derivative_37 : decode cX10_derivative 37 = .ok (.aload 4, 2) := by decide +kernel
theorem dX10_derivative_39 : decode cX10_derivative 39 = .ok (.iload 5, 2) := by decide +kernel
theorem dX10_derivative_41 : decode cX10_derivative 41 = .ok (.invokestatic 670, 3) := by decide +kernel
theorem dX10_derivative_44 : decode cX10_derivative 44 = .ok (.aload_n 0, 1) := by decide +kernel
theorem dX10_derivative_45 : decode cX10_derivative 45 = .ok (.aload 8, 2) := by decide +kernel
theorem dX10_derivative_47 : decode cX10_derivative 47 = .ok (.aload 7, 2) := by decide +kernel
theorem dX10_derivative_49 : decode cX10_derivative 49 = .ok (.aload_n 3, 1) := by decide +kernel
theorem dX10_derivative_50 : decode cX10_derivative 50 = .ok (.invokevirtual 197, 3) := by decide +kernel
theorem dX10_derivative_53 : decode cX10_derivative 53 = .ok (.aload_n 1, 1) := by decide +kernel
theorem dX10_derivative_54 : decode cX10_derivative 54 = .ok (.aload_n 1, 1) := by decide +kernel
theorem dX10_derivative_55 : decode cX10_derivative 55 = .ok (.aload 8, 2) := by decide +kernel
theorem dX10_derivative_57 : decode cX10_derivative 57 = .ok (.iconst 1, 1) := by decide +kernel
theorem dX10_derivative_58 : decode cX10_derivative 58 = .ok (.invokestatic 199, 3) := by decide +kernel
theorem dX10_derivative_61 : decode cX10_derivative 61 = .ok (.aload_n 0, 1) := by decide +kernel
theorem dX10_derivative_62 : decode cX10_derivative 62 = .ok (.aload_n 2, 1) := by decide +kernel
theorem dX10_derivative_63 : decode cX10_derivative 63 = .ok (.aload 4, 2) := by decide +kernel
theorem dX10_derivative_65 : decode cX10_derivative 65 = .ok (.aload 4, 2) := by decide +kernel
theorem dX10_derivative_67 : decode cX10_derivative 67 = .ok (.invokevirtual 197, 3) := by decide +kernel
theorem dX10_derivative_70 : decode cX10_derivative 70 = .ok (.aload_n 0, 1) := by decide +kernel
theorem dX10_derivative_71 : decode cX10_derivative 71 = .ok (.aload_n 1, 1) := by decide +kernel
theorem dX10_derivative_72 : decode cX10_derivative 72 = .ok (.aload_n 2, 1) := by decide +kernel
theorem dX10_derivative_73 : decode cX10_derivative 73 = .ok (.invokevirtual 659, 3) := by decide +kernel
theorem dX10_derivative_76 : decode cX10_derivative 76 = .ok (.aload_n 0, 1) := by decide +kernel
theorem dX10_derivative_77 : decode cX10_derivative 77 = .ok (.iload 6, 2) := by decide +kernel
theorem dX10_derivative_79 : decode cX10_derivative 79 = .ok (.putfield 90, 3) := by decide +kernel
theorem dX10_derivative_82 : decode cX10_derivative 82 = .ok (.return_, 1) := by decide +kernel
theorem dX10_slope_0 : decode cX10_slope 0 = .ok (.iload_n 2, 1) := by decide +kernel
theorem dX10_slope_1 : decode cX10_slope 1 = .ok (.ifCond .eq 117, 3) := by decide +kernel
theorem dX10_slope_4 : decode cX10_slope 4 = .ok (.iconst 0, 1) := by decide +kernel
theorem dX10_slope_5 : decode cX10_slope 5 = .ok (.istore_n 3, 1) := by decide +kernel
theorem dX10_slope_6 : decode cX10_slope 6 = .ok (.iload_n 3, 1) := by decide +kernel
theorem dX10_slope_7 : decode cX10_slope 7 = .ok (.aload_n 1, 1) := by decide +kernel
theorem dX10_slope_8 : decode cX10_slope 8 = .ok (.getfield 93, 3) := by decide +kernel
theorem dX10_slope_11 : decode cX10_slope 11 = .ok (.if_icmp .ge 96, 3) := by decide +kernel
theorem dX10_slope_14 : decode cX10_slope 14 = .ok (.aload_n 0, 1) := by decide +kernel
theorem dX10_slope_15 : decode cX10_slope 15 = .ok (.getfield 98, 3) := by decide +kernel
theorem dX10_slope_18 : decode cX10_slope 18 = .ok (.iload_n 3, 1) := by decide +kernel
theorem dX10_slope_19 : decode cX10_slope 19 = .ok (.aaload, 1) := by decide +kernel
theorem dX10_slope_20 : decode cX10_slope 20 = .ok (.iconst 0, 1) := by decide +kernel
theorem dX10_slope_21 : decode cX10_slope 21 = .ok (.aload_n 1, 1) := by decide +kernel
theorem dX10_slope_22 : decode cX10_slope 22 = .ok (.getfield 98, 3) := by decide +kernel
theorem dX10_slope_25 : decode cX10_slope 25 = .ok (.iload_n 3, 1) := by decide +kernel
theorem dX10_slope_26 : decode cX10_slope 26 = .ok (.aaload, 1) := by decide +kernel
theorem dX10_slope_27 : decode cX10_slope 27 = .ok (.getfield 25, 3) := by decide +kernel
theorem dX10_slope_30 : decode cX10_slope 30 = .ok (.iconst 1, 1) := by decide +kernel
theorem dX10_slope_31 : decode cX10_slope 31 = .ok (.isub, 1) := by decide +kernel
theorem dX10_slope_32 : decode cX10_slope 32 = .ok (.invokestatic 40, 3) := by decide +kernel
theorem dX10_slope_35 : decode cX10_slope 35 = .ok (.putfield 25, 3) := by decide +kernel
theorem dX10_slope_38 : decode cX10_slope 38 = .ok (.iconst 1, 1) := by decide +kernel
theorem dX10_slope_39 : decode cX10_slope 39 = .ok (.istore 4, 2) := by decide +kernel
theorem dX10_slope_41 : decode cX10_slope 41 = .ok (.iload 4, 2) := by decide +kernel
theorem dX10_slope_43 : decode cX10_slope 43 = .ok (.aload_n 1, 1) := by decide +kernel
theorem dX10_slope_44 : decode cX10_slope 44 = .ok (.getfield 98, 3) := by decide +kernel
theorem dX10_slope_47 : decode cX10_slope 47 = .ok (.iload_n 3, 1) := by decide +kernel
theorem dX10_slope_48 : decode cX10_slope 48 = .ok (.aaload, 1) := by decide +kernel
theorem dX10_slope_49 : decode cX10_slope 49 = .ok (.getfield 25, 3) := by decide +kernel
theorem dX10_slope_52 : decode cX10_slope 52 = .ok (.if_icmp .ge 40, 3) := by decide +kernel
theorem dX10_slope_55 : decode cX10_slope 55 = .ok (.aload_n 0, 1) := by decide +kernel
theorem dX10_slope_56 : decode cX10_slope 56 = .ok (.getfield 98, 3) := by decide +kernel
theorem dX10_slope_59 : decode cX10_slope 59 = .ok (.iload_n 3, 1) := by decide +kernel
theorem dX10_slope_60 : decode cX10_slope 60 = .ok (.aaload, 1) := by decide +kernel
theorem dX10_slope_61 : decode cX10_slope 61 = .ok (.getfield 30, 3) := by decide +kernel
theorem dX10_slope_64 : decode cX10_slope 64 = .ok (.iload 4, 2) := by decide +kernel
theorem dX10_slope_66 : decode cX10_slope 66 = .ok (.iconst 1, 1) := by decide +kernel
theorem dX10_slope_67 : decode cX10_slope 67 = .ok (.isub, 1) := by decide +kernel
theorem dX10_slope_68 : decode cX10_slope 68 = .ok (.iload 4, 2) := by decide +kernel
theorem dX10_slope_70 : decode cX10_slope 70 = .ok (.aload_n 1, 1) := by decide +kernel
theorem dX10_slope_71 : decode cX10_slope 71 = .ok (.getfield 98, 3) := by decide +kernel
theorem dX10_slope_74 : decode cX10_slope 74 = .ok (.iload_n 3, 1) := by decide +kernel
theorem dX10_slope_75 : decode cX10_slope 75 = .ok (.aaload, 1) := by decide +kernel
theorem dX10_slope_76 : decode cX10_slope 76 = .ok (.getfield 30, 3) := by decide +kernel
theorem dX10_slope_79 : decode cX10_slope 79 = .ok (.iload 4, 2) := by decide +kernel
theorem dX10_slope_81 : decode cX10_slope 81 = .ok (.iaload, 1) := by decide +kernel
theorem dX10_slope_82 : decode cX10_slope 82 = .ok (.invokestatic 56, 3) := by decide +kernel
theorem dX10_slope_85 : decode cX10_slope 85 = .ok (.iastore, 1) := by decide +kernel
theorem dX10_slope_86 : decode cX10_slope 86 = .ok (.iinc 4 1, 3) := by decide +kernel
theorem dX10_slope_89 : decode cX10_slope 89 = .ok (.goto (-48), 3) := by decide +kernel
theorem dX10_slope_92 : decode cX10_slope 92 = .ok (.aload_n 0, 1) := by decide +kernel
theorem dX10_slope_93 : decode cX10_slope 93 = .ok (.getfield 98, 3) := by decide +kernel
theorem dX10_slope_96 : decode cX10_slope 96 = .ok (.iload_n 3, 1) := by decide +kernel
theorem dX10_slope_97 : decode cX10_slope 97 = .ok (.aaload, 1) := by decide +kernel
theorem dX10_slope_98 : decode cX10_slope 98 = .ok (.invokevirtual 52, 3) := by decide +kernel
theorem dX10_slope_101 : decode cX10_slope 101 = .ok (.iinc 3 1, 3) := by decide +kernel
theorem dX10_slope_104 : decode cX10_slope 104 = .ok (.goto (-98), 3) := by decide +kernel
theorem dX10_slope_107 : decode cX10_slope 107 = .ok (.aload_n 0, 1) := by decide +kernel
theorem dX10_slope_108 : decode cX10_slope 108 = .ok (.aload_n 1, 1) := by decide +kernel
theorem dX10_slope_109 : decode cX10_slope 109 = .ok (.getfield 93, 3) := by decide +kernel
theorem dX10_slope_112 : decode cX10_slope 112 = .ok (.putfield 93, 3) := by decide +kernel
theorem dX10_slope_115 : decode cX10_slope 115 = .ok (.goto 51, 3) := by decide +kernel
theorem dX10_slope_118 : decode cX10_slope 118 = .ok (.iconst 1, 1) := by decide +kernel
theorem dX10_slope_119 : decode cX10_slope 119 = .ok (.istore_n 3, 1) := by decide +kernel
theorem dX10_slope_120 : decode cX10_slope 120 = .ok (.iload_n 3, 1) := by decide +kernel
theorem dX10_slope_121 : decode cX10_slope 121 = .ok (.aload_n 1, 1) := by decide +kernel
theorem dX10_slope_122 : decode cX10_slope 122 = .ok (.getfield 93, 3) := by decide +kernel
theorem dX10_slope_125 : decode cX10_slope 125 = .ok (.if_icmp .ge 27, 3) := by decide +kernel
theorem dX10_slope_128 : decode cX10_slope 128 = .ok (.aload_n 0, 1) := by decide +kernel
theorem dX10_slope_129 : decode cX10_slope 129 = .ok (.getfield 98, 3) := by decide +kernel
theorem dX10_slope_132 : decode cX10_slope 132 = .ok (.iload_n 3, 1) := by decide +kernel
theorem dX10_slope_133 : decode cX10_slope 133 = .ok (.iconst 1, 1) := by decide +kernel
theorem dX10_slope_134 : decode cX10_slope 134 = .ok (.isub, 1) := by decide +kernel
theorem dX10_slope_135 : decode cX10_slope 135 = .ok (.aaload, 1) := by decide +kernel
theorem dX10_slope_136 : decode cX10_slope 136 = .ok (.aload_n 1, 1) := by decide +kernel
theorem dX10_slope_137 : decode cX10_slope 137 = .ok (.getfield 98, 3) := by decide +kernel
theorem dX10_slope_140 : decode cX10_slope 140 = .ok (.iload_n 3, 1) := by decide +kernel
theorem dX10_slope_141 : decode cX10_slope 141 = .ok (.aaload, 1) := by decide +kernel
theorem dX10_slope_142 : decode cX10_slope 142 = .ok (.iload_n 3, 1) := by decide +kernel
theorem dX10_slope_143 : decode cX10_slope 143 = .ok (.invokestatic 70, 3) := by decide +kernel
theorem dX10_slope_146 : decode cX10_slope 146 = .ok (.iinc 3 1, 3) := by decide +kernel
theorem dX10_slope_149 : decode cX10_slope 149 = .ok (.goto (-29), 3) := by decide +kernel
theorem dX10_slope_152 : decode cX10_slope 152 = .ok (.aload_n 0, 1) := by decide +kernel
theorem dX10_slope_153 : decode cX10_slope 153 = .ok (.iconst 0, 1) := by decide +kernel
theorem dX10_slope_154 : decode cX10_slope 154 = .ok (.aload_n 1, 1) := by decide +kernel
theorem dX10_slope_155 : decode cX10_slope 155 = .ok (.getfield 93, 3) := by decide +kernel
theorem dX10_slope_158 : decode cX10_slope 158 = .ok (.iconst 1, 1) := by decide +kernel
theorem dX10_slope_159 : decode cX10_slope 159 = .ok (.isub, 1) := by decide +kernel
theorem dX10_slope_160 : decode cX10_slope 160 = .ok (.invokestatic 40, 3) := by decide +kernel
theorem dX10_slope_163 : decode cX10_slope 163 = .ok (.putfield 93, 3) := by decide +kernel
theorem dX10_slope_166 : decode cX10_slope 166 = .ok (.aload_n 0, 1) := by decide +kernel
theorem dX10_slope_167 : decode cX10_slope 167 = .ok (.invokevirtual 105, 3) := by decide +kernel
theorem dX10_slope_170 : decode cX10_slope 170 = .ok (.return_, 1) := by decide +kernel
theorem dX10_value_0 : decode cX10_value 0 = .ok (.iload_n 1, 1) := by decide +kernel
theorem dX10_value_1 : decode cX10_value 1 = .ok (.invokestatic 551, 3) := by decide +kernel
theorem dX10_value_4 : decode cX10_value 4 = .ok (.ifCond .ne 5, 3) := by decide +kernel
theorem dX10_value_7 : decode cX10_value 7 = .ok (.iconst (-1), 1) := by decide +kernel
theorem dX10_value_8 : decode cX10_value 8 = .ok (.ireturn, 1) := by decide +kernel
theorem dX10_value_9 : decode cX10_value 9 = .ok (.aload_n 0, 1) := by decide +kernel
theorem dX10_value_10 : decode cX10_value 10 = .ok (.getfield 450, 3) := by decide +kernel
theorem dX10_value_13 : decode cX10_value 13 = .ok (.iload_n 1, 1) := by decide +kernel
theorem dX10_value_14 : decode cX10_value 14 = .ok (.aaload, 1) := by decide +kernel
theorem dX10_value_15 : decode cX10_value 15 = .ok (.astore 4, 2) := by decide +kernel
theorem dX10_value_17 : decode cX10_value 17 = .ok (.aload 4, 2) := by decide +kernel
theorem dX10_value_19 : decode cX10_value 19 = .ok (.getfield 202, 3) := by decide +kernel
theorem dX10_value_22 : decode cX10_value 22 = .ok (.iconst 1, 1) := by decide +kernel
theorem dX10_value_23 : decode cX10_value 23 = .ok (.if_icmp .eq 12, 3) := by decide +kernel
theorem dX10_value_26 : decode cX10_value 26 = .ok (.aload 4, 2) := by decide +kernel
theorem dX10_value_28 : decode cX10_value 28 = .ok (.getfield 202, 3) := by decide +kernel
theorem dX10_value_31 : decode cX10_value 31 = .ok (.iconst 2, 1) := by decide +kernel
theorem dX10_value_32 : decode cX10_value 32 = .ok (.if_icmp .ne 14, 3) := by decide +kernel
theorem dX10_value_35 : decode cX10_value 35 = .ok (.aload_n 0, 1) := by decide +kernel
theorem dX10_value_36 : decode cX10_value 36 = .ok (.aload 4, 2) := by decide +kernel
theorem dX10_value_38 : decode cX10_value 38 = .ok (.iload_n 2, 1) := by decide +kernel
theorem dX10_value_39 : decode cX10_value 39 = .ok (.iload_n 3, 1) := by decide +kernel
theorem dX10_value_40 : decode cX10_value 40 = .ok (.invokevirtual 688, 3) := by decide +kernel
theorem dX10_value_43 : decode cX10_value 43 = .ok (.goto 5, 3) := by decide +kernel
theorem dX10_value_46 : decode cX10_value 46 = .ok (.bipush (-3), 2) := by decide +kernel
theorem dX10_value_48 : decode cX10_value 48 = .ok (.ireturn, 1) := by decide +kernel
theorem dX10_valueAt_0 : decode cX10_valueAt 0 = .ok (.aload_n 1, 1) := by decide +kernel
theorem dX10_valueAt_1 : decode cX10_valueAt 1 = .ok (.getfield 202, 3) := by decide +kernel
theorem dX10_valueAt_4 : decode cX10_valueAt 4 = .ok (.iconst 1, 1) := by decide +kernel
theorem dX10_valueAt_5 : decode cX10_valueAt 5 = .ok (.if_icmp .ne 17, 3) := by decide +kernel
theorem dX10_valueAt_8 : decode cX10_valueAt 8 = .ok (.aload_n 0, 1) := by decide +kernel
theorem dX10_valueAt_9 : decode cX10_valueAt 9 = .ok (.aload_n 1, 1) := by decide +kernel
theorem dX10_valueAt_10 : decode cX10_valueAt 10 = .ok (.iload_n 2, 1) := by decide +kernel
theorem dX10_valueAt_11 : decode cX10_valueAt 11 = .ok (.invokestatic 600, 3) := by decide +kernel
theorem dX10_valueAt_14 : decode cX10_valueAt 14 = .ok (.iload_n 3, 1) := by decide +kernel
theorem dX10_valueAt_15 : decode cX10_valueAt 15 = .ok (.invokestatic 600, 3) := by decide +kernel
theorem dX10_valueAt_18 : decode cX10_valueAt 18 = .ok (.invokevirtual 678, 3) := by decide +kernel
theorem dX10_valueAt_21 : decode cX10_valueAt 21 = .ok (.ireturn, 1) := by decide +kernel
theorem dX10_valueAt_22 : decode cX10_valueAt 22 = .ok (.iload_n 2, 1) := by decide +kernel
theorem dX10_valueAt_23 : decode cX10_valueAt 23 = .ok (.invokestatic 682, 3) := by decide +kernel
theorem dX10_valueAt_26 : decode cX10_valueAt 26 = .ok (.ifCond .eq 10, 3) := by decide +kernel
theorem dX10_valueAt_29 : decode cX10_valueAt 29 = .ok (.iload_n 3, 1) := by decide +kernel
theorem dX10_valueAt_30 : decode cX10_valueAt 30 = .ok (.invokestatic 682, 3) := by decide +kernel
theorem dX10_valueAt_33 : decode cX10_valueAt 33 = .ok (.ifCond .ne 5, 3) := by decide +kernel
theorem dX10_valueAt_36 : decode cX10_valueAt 36 = .ok (.iconst (-1), 1) := by decide +kernel
theorem dX10_valueAt_37 : decode cX10_valueAt 37 = .ok (.ireturn, 1) := by decide +kernel
theorem dX10_valueAt_38 : decode cX10_valueAt 38 = .ok (.aload_n 0, 1) := by decide +kernel
theorem dX10_valueAt_39 : decode cX10_valueAt 39 = .ok (.aload_n 1, 1) := by decide +kernel
theorem dX10_valueAt_40 : decode cX10_valueAt 40 = .ok (.iload_n 2, 1) := by decide +kernel
theorem dX10_valueAt_41 : decode cX10_valueAt 41 = .ok (.iload_n 3, 1) := by decide +kernel
theorem dX10_valueAt_42 : decode cX10_valueAt 42 = .ok (.invokevirtual 678, 3) := by decide +kernel
theorem dX10_valueAt_45 : decode cX10_valueAt 45 = .ok (.istore 4, 2) := by decide +kernel
theorem dX10_valueAt_47 : decode cX10_valueAt 47 = .ok (.iconst 0, 1) := by decide +kernel
theorem dX10_valueAt_48 : decode cX10_valueAt 48 = .ok (.istore 5, 2) := by decide +kernel
theorem dX10_valueAt_50 : decode cX10_valueAt 50 = .ok (.iconst 0, 1) := by decide +kernel
theorem dX10_valueAt_51 : decode cX10_valueAt 51 = .ok (.istore 6, 2) := by decide +kernel
theorem dX10_valueAt_53 : decode cX10_valueAt 53 = .ok (.iload 6, 2) := by decide +kernel
theorem dX10_valueAt_55 : decode cX10_valueAt 55 = .ok (.aload_n 1, 1) := by decide +kernel
theorem dX10_valueAt_56 : decode cX10_valueAt 56 = .ok (.getfield 219, 3) := by decide +kernel
theorem dX10_valueAt_59 : decode cX10_valueAt 59 = .ok (.if_icmp .ge 77, 3) := by decide +kernel
theorem dX10_valueAt_62 : decode cX10_valueAt 62 = .ok (.iload 4, 2) := by decide +kernel
theorem dX10_valueAt_64 : decode cX10_valueAt 64 = .ok (.iconst (-1), 1) := by decide +kernel
theorem dX10_valueAt_65 : decode cX10_valueAt 65 = .ok (.if_icmp .eq 71, 3) := by decide +kernel
theorem dX10_valueAt_68 : decode cX10_valueAt 68 = .ok (.aload_n 1, 1) := by decide +kernel
theorem dX10_valueAt_69 : decode cX10_valueAt 69 = .ok (.getfield 222, 3) := by decide +kernel
theorem dX10_valueAt_72 : decode cX10_valueAt 72 = .ok (.iload 6, 2) := by decide +kernel
theorem dX10_valueAt_74 : decode cX10_valueAt 74 = .ok (.iaload, 1) := by decide +kernel
theorem dX10_valueAt_75 : decode cX10_valueAt 75 = .ok (.iload_n 2, 1) := by decide +kernel
theorem dX10_valueAt_76 : decode cX10_valueAt 76 = .ok (.imul, 1) := by decide +kernel
theorem dX10_valueAt_77 : decode cX10_valueAt 77 = .ok (.aload_n 1, 1) := by decide +kernel
theorem dX10_valueAt_78 : decode cX10_valueAt 78 = .ok (.getfield 225, 3) := by decide +kernel
theorem dX10_valueAt_81 : decode cX10_valueAt 81 = .ok (.iload 6, 2) := by decide +kernel
theorem dX10_valueAt_83 : decode cX10_valueAt 83 = .ok (.iaload, 1) := by decide +kernel
theorem dX10_valueAt_84 : decode cX10_valueAt 84 = .ok (.iload_n 3, 1) := by decide +kernel
theorem dX10_valueAt_85 : decode cX10_valueAt 85 = .ok (.imul, 1) := by decide +kernel
theorem dX10_valueAt_86 : decode cX10_valueAt 86 = .ok (.iadd, 1) := by decide +kernel
theorem dX10_valueAt_87 : decode cX10_valueAt 87 = .ok (.aload_n 1, 1) := by decide +kernel
theorem dX10_valueAt_88 : decode cX10_valueAt 88 = .ok (.getfield 228, 3) := by decide +kernel
theorem dX10_valueAt_91 : decode cX10_valueAt 91 = .ok (.iload 6, 2) := by decide +kernel
theorem dX10_valueAt_93 : decode cX10_valueAt 93 = .ok (.iaload, 1) := by decide +kernel
theorem dX10_valueAt_94 : decode cX10_valueAt 94 = .ok (.iadd, 1) := by decide +kernel
theorem dX10_valueAt_95 : decode cX10_valueAt 95 = .ok (.istore 7, 2) := by decide +kernel
theorem dX10_valueAt_97 : decode cX10_valueAt 97 = .ok (.iload 7, 2) := by decide +kernel
theorem dX10_valueAt_99 : decode cX10_valueAt 99 = .ok (.ifCond .ge 16, 3) := by decide +kernel
theorem dX10_valueAt_102 : decode cX10_valueAt 102 = .ok (.aload_n 1, 1) := by decide +kernel
theorem dX10_valueAt_103 : decode cX10_valueAt 103 = .ok (.getfield 231, 3) := by decide +kernel
theorem dX10_valueAt_106 : decode cX10_valueAt 106 = .ok (.iload 6, 2) := by decide +kernel
theorem dX10_valueAt_108 : decode cX10_valueAt 108 = .ok (.iaload, 1) := by decide +kernel
theorem dX10_valueAt_109 : decode cX10_valueAt 109 = .ok (.ifCond .le 6, 3) := by decide +kernel
theorem dX10_valueAt_112 : decode cX10_valueAt 112 = .ok (.iconst (-1), 1) := by decide +kernel
theorem dX10_valueAt_113 : decode cX10_valueAt 113 = .ok (.istore 4, 2) := by decide +kernel
theorem dX10_valueAt_115 : decode cX10_valueAt 115 = .ok (.iload 5, 2) := by decide +kernel
theorem dX10_valueAt_117 : decode cX10_valueAt 117 = .ok (.iload 7, 2) := by decide +kernel
theorem dX10_valueAt_119 : decode cX10_valueAt 119 = .ok (.ifCond .ge 7, 3) := by decide +kernel
theorem dX10_valueAt_122 : decode cX10_valueAt 122 = .ok (.iconst 1, 1) := by decide +kernel
theorem dX10_valueAt_123 : decode cX10_valueAt 123 = .ok (.goto 4, 3) := by decide +kernel
theorem dX10_valueAt_126 : decode cX10_valueAt 126 = .ok (.iconst 0, 1) := by decide +kernel
theorem dX10_valueAt_127 : decode cX10_valueAt 127 = .ok (.ior, 1) := by decide +kernel
theorem dX10_valueAt_128 : decode cX10_valueAt 128 = .ok (.istore 5, 2) := by decide +kernel
theorem dX10_valueAt_130 : decode cX10_valueAt 130 = .ok (.iinc 6 1, 3) := by decide +kernel
theorem dX10_valueAt_133 : decode cX10_valueAt 133 = .ok (.goto (-80), 3) := by decide +kernel
theorem dX10_valueAt_136 : decode cX10_valueAt 136 = .ok (.iload 4, 2) := by decide +kernel
theorem dX10_valueAt_138 : decode cX10_valueAt 138 = .ok (.iconst (-1), 1) := by decide +kernel
theorem dX10_valueAt_139 : decode cX10_valueAt 139 = .ok (.if_icmp .eq 8, 3) := by decide +kernel
theorem dX10_valueAt_142 : decode cX10_valueAt 142 = .ok (.iload 5, 2) := by decide +kernel
theorem dX10_valueAt_144 : decode cX10_valueAt 144 = .ok (.ifCond .eq 15, 3) := by decide +kernel
theorem dX10_valueAt_147 : decode cX10_valueAt 147 = .ok (.iload 4, 2) := by decide +kernel
theorem dX10_valueAt_149 : decode cX10_valueAt 149 = .ok (.iconst (-1), 1) := by decide +kernel
theorem dX10_valueAt_150 : decode cX10_valueAt 150 = .ok (.if_icmp .ne 7, 3) := by decide +kernel
theorem dX10_valueAt_153 : decode cX10_valueAt 153 = .ok (.iconst (-1), 1) := by decide +kernel
theorem dX10_valueAt_154 : decode cX10_valueAt 154 = .ok (.goto 4, 3) := by decide +kernel
theorem dX10_valueAt_157 : decode cX10_valueAt 157 = .ok (.iconst 0, 1) := by decide +kernel
theorem dX10_valueAt_158 : decode cX10_valueAt 158 = .ok (.ireturn, 1) := by decide +kernel
theorem dX10_valueAt_159 : decode cX10_valueAt 159 = .ok (.iload 4, 2) := by decide +kernel
theorem dX10_valueAt_161 : decode cX10_valueAt 161 = .ok (.aload_n 1, 1) := by decide +kernel
theorem dX10_valueAt_162 : decode cX10_valueAt 162 = .ok (.getfield 213, 3) := by decide +kernel
theorem dX10_valueAt_165 : decode cX10_valueAt 165 = .ok (.iload_n 2, 1) := by decide +kernel
theorem dX10_valueAt_166 : decode cX10_valueAt 166 = .ok (.i2l, 1) := by decide +kernel
theorem dX10_valueAt_167 : decode cX10_valueAt 167 = .ok (.invokestatic 8, 3) := by decide +kernel
theorem dX10_valueAt_170 : decode cX10_valueAt 170 = .ok (.aload_n 1, 1) := by decide +kernel
theorem dX10_valueAt_171 : decode cX10_valueAt 171 = .ok (.getfield 216, 3) := by decide +kernel
theorem dX10_valueAt_174 : decode cX10_valueAt 174 = .ok (.iload_n 3, 1) := by decide +kernel
theorem dX10_valueAt_175 : decode cX10_valueAt 175 = .ok (.i2l, 1) := by decide +kernel
theorem dX10_valueAt_176 : decode cX10_valueAt 176 = .ok (.invokestatic 8, 3) := by decide +kernel
theorem dX10_valueAt_179 : decode cX10_valueAt 179 = .ok (.invokestatic 56, 3) := by decide +kernel
theorem dX10_valueAt_182 : decode cX10_valueAt 182 = .ok (.invokestatic 56, 3) := by decide +kernel
theorem dX10_valueAt_185 : decode cX10_valueAt 185 = .ok (.istore 4, 2) := by decide +kernel
theorem dX10_valueAt_187 : decode cX10_valueAt 187 = .ok (.iconst 0, 1) := by decide +kernel
theorem dX10_valueAt_188 : decode cX10_valueAt 188 = .ok (.istore 6, 2) := by decide +kernel
theorem dX10_valueAt_190 : decode cX10_valueAt 190 = .ok (.iload 6, 2) := by decide +kernel
theorem dX10_valueAt_192 : decode cX10_valueAt 192 = .ok (.aload_n 1, 1) := by decide +kernel
theorem dX10_valueAt_193 : decode cX10_valueAt 193 = .ok (.getfield 219, 3) := by decide +kernel
theorem dX10_valueAt_196 : decode cX10_valueAt 196 = .ok (.if_icmp .ge 57, 3) := by decide +kernel
theorem dX10_valueAt_199 : decode cX10_valueAt 199 = .ok (.iload 4, 2) := by decide +kernel
theorem dX10_valueAt_201 : decode cX10_valueAt 201 = .ok (.aload_n 0, 1) := by decide +kernel
theorem dX10_valueAt_202 : decode cX10_valueAt 202 = .ok (.aload_n 1, 1) := by decide +kernel
theorem dX10_valueAt_203 : decode cX10_valueAt 203 = .ok (.getfield 222, 3) := by decide +kernel
theorem dX10_valueAt_206 : decode cX10_valueAt 206 = .ok (.iload 6, 2) := by decide +kernel
theorem dX10_valueAt_208 : decode cX10_valueAt 208 = .ok (.iaload, 1) := by decide +kernel
theorem dX10_valueAt_209 : decode cX10_valueAt 209 = .ok (.iload_n 2, 1) := by decide +kernel
theorem dX10_valueAt_210 : decode cX10_valueAt 210 = .ok (.imul, 1) := by decide +kernel
theorem dX10_valueAt_211 : decode cX10_valueAt 211 = .ok (.aload_n 1, 1) := by decide +kernel
theorem dX10_valueAt_212 : decode cX10_valueAt 212 = .ok (.getfield 225, 3) := by decide +kernel
theorem dX10_valueAt_215 : decode cX10_valueAt 215 = .ok (.iload 6, 2) := by decide +kernel
theorem dX10_valueAt_217 : decode cX10_valueAt 217 = .ok (.iaload, 1) := by decide +kernel
theorem dX10_valueAt_218 : decode cX10_valueAt 218 = .ok (.iload_n 3, 1) := by decide +kernel
theorem dX10_valueAt_219 : decode cX10_valueAt 219 = .ok (.imul, 1) := by decide +kernel
theorem dX10_valueAt_220 : decode cX10_valueAt 220 = .ok (.iadd, 1) := by decide +kernel
theorem dX10_valueAt_221 : decode cX10_valueAt 221 = .ok (.aload_n 1, 1) := by decide +kernel
theorem dX10_valueAt_222 : decode cX10_valueAt 222 = .ok (.getfield 228, 3) := by decide +kernel
theorem dX10_valueAt_225 : decode cX10_valueAt 225 = .ok (.iload 6, 2) := by decide +kernel
theorem dX10_valueAt_227 : decode cX10_valueAt 227 = .ok (.iaload, 1) := by decide +kernel
theorem dX10_valueAt_228 : decode cX10_valueAt 228 = .ok (.iadd, 1) := by decide +kernel
theorem dX10_valueAt_229 : decode cX10_valueAt 229 = .ok (.invokevirtual 685, 3) := by decide +kernel
theorem dX10_valueAt_232 : decode cX10_valueAt 232 = .ok (.aload_n 1, 1) := by decide +kernel
theorem dX10_valueAt_233 : decode cX10_valueAt 233 = .ok (.getfield 231, 3) := by decide +kernel
theorem dX10_valueAt_236 : decode cX10_valueAt 236 = .ok (.iload 6, 2) := by decide +kernel
theorem dX10_valueAt_238 : decode cX10_valueAt 238 = .ok (.iaload, 1) := by decide +kernel
theorem dX10_valueAt_239 : decode cX10_valueAt 239 = .ok (.invokestatic 317, 3) := by decide +kernel
theorem dX10_valueAt_242 : decode cX10_valueAt 242 = .ok (.invokestatic 56, 3) := by decide +kernel
theorem dX10_valueAt_245 : decode cX10_valueAt 245 = .ok (.istore 4, 2) := by decide +kernel
theorem dX10_valueAt_247 : decode cX10_valueAt 247 = .ok (.iinc 6 1, 3) := by decide +kernel
theorem dX10_valueAt_250 : decode cX10_valueAt 250 = .ok (.goto (-60), 3) := by decide +kernel
theorem dX10_valueAt_253 : decode cX10_valueAt 253 = .ok (.iload 4, 2) := by decide +kernel
theorem dX10_valueAt_255 : decode cX10_valueAt 255 = .ok (.ireturn, 1) := by decide +kernel
theorem dX10_ratioAt_0 : decode cX10_ratioAt 0 = .ok (.aload_n 0, 1) := by decide +kernel
theorem dX10_ratioAt_1 : decode cX10_ratioAt 1 = .ok (.aload_n 1, 1) := by decide +kernel
theorem dX10_ratioAt_2 : decode cX10_ratioAt 2 = .ok (.getfield 210, 3) := by decide +kernel
theorem dX10_ratioAt_5 : decode cX10_ratioAt 5 = .ok (.iload_n 2, 1) := by decide +kernel
theorem dX10_ratioAt_6 : decode cX10_ratioAt 6 = .ok (.iload_n 3, 1) := by decide +kernel
theorem dX10_ratioAt_7 : decode cX10_ratioAt 7 = .ok (.invokevirtual 674, 3) := by decide +kernel
theorem dX10_ratioAt_10 : decode cX10_ratioAt 10 = .ok (.istore 4, 2) := by decide +kernel
theorem dX10_ratioAt_12 : decode cX10_ratioAt 12 = .ok (.iload 4, 2) := by decide +kernel
theorem dX10_ratioAt_14 : decode cX10_ratioAt 14 = .ok (.ifCond .ne 7, 3) := by decide +kernel
theorem dX10_ratioAt_17 : decode cX10_ratioAt 17 = .ok (.iconst (-1), 1) := by decide +kernel
theorem dX10_ratioAt_18 : decode cX10_ratioAt 18 = .ok (.goto 21, 3) := by decide +kernel
theorem dX10_ratioAt_21 : decode cX10_ratioAt 21 = .ok (.aload_n 0, 1) := by decide +kernel
theorem dX10_ratioAt_22 : decode cX10_ratioAt 22 = .ok (.aload_n 1, 1) := by decide +kernel
theorem dX10_ratioAt_23 : decode cX10_ratioAt 23 = .ok (.getfield 207, 3) := by decide +kernel
theorem dX10_ratioAt_26 : decode cX10_ratioAt 26 = .ok (.iload_n 2, 1) := by decide +kernel
theorem dX10_ratioAt_27 : decode cX10_ratioAt 27 = .ok (.iload_n 3, 1) := by decide +kernel
theorem dX10_ratioAt_28 : decode cX10_ratioAt 28 = .ok (.invokevirtual 674, 3) := by decide +kernel
theorem dX10_ratioAt_31 : decode cX10_ratioAt 31 = .ok (.iload 4, 2) := by decide +kernel
theorem dX10_ratioAt_33 : decode cX10_ratioAt 33 = .ok (.invokestatic 13, 3) := by decide +kernel
theorem dX10_ratioAt_36 : decode cX10_ratioAt 36 = .ok (.invokestatic 56, 3) := by decide +kernel
theorem dX10_ratioAt_39 : decode cX10_ratioAt 39 = .ok (.ireturn, 1) := by decide +kernel
theorem dX10_cells_0 : decode cX10_cells 0 = .ok (.lconst 0, 1) := by decide +kernel
theorem dX10_cells_1 : decode cX10_cells 1 = .ok (.lstore 4, 2) := by decide +kernel
theorem dX10_cells_3 : decode cX10_cells 3 = .ok (.bipush 12, 2) := by decide +kernel
theorem dX10_cells_5 : decode cX10_cells 5 = .ok (.istore 6, 2) := by decide +kernel
theorem dX10_cells_7 : decode cX10_cells 7 = .ok (.iload 6, 2) := by decide +kernel
theorem dX10_cells_9 : decode cX10_cells 9 = .ok (.ifCond .lt 64, 3) := by decide +kernel
theorem dX10_cells_12 : decode cX10_cells 12 = .ok (.lconst 0, 1) := by decide +kernel
theorem dX10_cells_13 : decode cX10_cells 13 = .ok (.lstore 7, 2) := by decide +kernel
theorem dX10_cells_15 : decode cX10_cells 15 = .ok (.bipush 24, 2) := by decide +kernel
theorem dX10_cells_17 : decode cX10_cells 17 = .ok (.istore 9, 2) := by decide +kernel
theorem dX10_cells_19 : decode cX10_cells 19 = .ok (.iload 9, 2) := by decide +kernel
theorem dX10_cells_21 : decode cX10_cells 21 = .ok (.ifCond .lt 32, 3) := by decide +kernel
theorem dX10_cells_24 : decode cX10_cells 24 = .ok (.lload 7, 2) := by decide +kernel
theorem dX10_cells_26 : decode cX10_cells 26 = .ok (.iload_n 2, 1) := by decide +kernel
theorem dX10_cells_27 : decode cX10_cells 27 = .ok (.i2l, 1) := by decide +kernel
theorem dX10_cells_28 : decode cX10_cells 28 = .ok (.lmul, 1) := by decide +kernel
theorem dX10_cells_29 : decode cX10_cells 29 = .ok (.aload_n 1, 1) := by decide +kernel
theorem dX10_cells_30 : decode cX10_cells 30 = .ok (.bipush 25, 2) := by decide +kernel
theorem dX10_cells_32 : decode cX10_cells 32 = .ok (.iload 6, 2) := by decide +kernel
theorem dX10_cells_34 : decode cX10_cells 34 = .ok (.imul, 1) := by decide +kernel
theorem dX10_cells_35 : decode cX10_cells 35 = .ok (.iload 9, 2) := by decide +kernel
theorem dX10_cells_37 : decode cX10_cells 37 = .ok (.iadd, 1) := by decide +kernel
theorem dX10_cells_38 : decode cX10_cells 38 = .ok (.iaload, 1) := by decide +kernel
theorem dX10_cells_39 : decode cX10_cells 39 = .ok (.i2l, 1) := by decide +kernel
theorem dX10_cells_40 : decode cX10_cells 40 = .ok (.ladd, 1) := by decide +kernel
theorem dX10_cells_41 : decode cX10_cells 41 = .ok (.ldc2_w 3, 3) := by decide +kernel
theorem dX10_cells_44 : decode cX10_cells 44 = .ok (.lrem, 1) := by decide +kernel
theorem dX10_cells_45 : decode cX10_cells 45 = .ok (.lstore 7, 2) := by decide +kernel
theorem dX10_cells_47 : decode cX10_cells 47 = .ok (.iinc 9 (-1), 3) := by decide +kernel
theorem dX10_cells_50 : decode cX10_cells 50 = .ok (.goto (-31), 3) := by decide +kernel
theorem dX10_cells_53 : decode cX10_cells 53 = .ok (.lload 4, 2) := by decide +kernel
theorem dX10_cells_55 : decode cX10_cells 55 = .ok (.iload_n 3, 1) := by decide +kernel
theorem dX10_cells_56 : decode cX10_cells 56 = .ok (.i2l, 1) := by decide +kernel
theorem dX10_cells_57 : decode cX10_cells 57 = .ok (.lmul, 1) := by decide +kernel
theorem dX10_cells_58 : decode cX10_cells 58 = .ok (.lload 7, 2) := by decide +kernel
theorem dX10_cells_60 : decode cX10_cells 60 = .ok (.ladd, 1) := by decide +kernel
theorem dX10_cells_61 : decode cX10_cells 61 = .ok (.ldc2_w 3, 3) := by decide +kernel
theorem dX10_cells_64 : decode cX10_cells 64 = .ok (.lrem, 1) := by decide +kernel
theorem dX10_cells_65 : decode cX10_cells 65 = .ok (.lstore 4, 2) := by decide +kernel
theorem dX10_cells_67 : decode cX10_cells 67 = .ok (.iinc 6 (-1), 3) := by decide +kernel
theorem dX10_cells_70 : decode cX10_cells 70 = .ok (.goto (-63), 3) := by decide +kernel
theorem dX10_cells_73 : decode cX10_cells 73 = .ok (.lload 4, 2) := by decide +kernel
theorem dX10_cells_75 : decode cX10_cells 75 = .ok (.l2i, 1) := by decide +kernel
theorem dX10_cells_76 : decode cX10_cells 76 = .ok (.ireturn, 1) := by decide +kernel
theorem dX10_isWhole_0 : decode cX10_isWhole 0 = .ok (.iload_n 0, 1) := by decide +kernel
theorem dX10_isWhole_1 : decode cX10_isWhole 1 = .ok (.ifCond .lt 14, 3) := by decide +kernel
theorem dX10_isWhole_4 : decode cX10_isWhole 4 = .ok (.iload_n 0, 1) := by decide +kernel
theorem dX10_isWhole_5 : decode cX10_isWhole 5 = .ok (.sipush 500, 3) := by decide +kernel
theorem dX10_isWhole_8 : decode cX10_isWhole 8 = .ok (.if_icmp .gt 7, 3) := by decide +kernel
theorem dX10_isWhole_11 : decode cX10_isWhole 11 = .ok (.iconst 1, 1) := by decide +kernel
theorem dX10_isWhole_12 : decode cX10_isWhole 12 = .ok (.goto 4, 3) := by decide +kernel
theorem dX10_isWhole_15 : decode cX10_isWhole 15 = .ok (.iconst 0, 1) := by decide +kernel
theorem dX10_isWhole_16 : decode cX10_isWhole 16 = .ok (.ireturn, 1) := by decide +kernel
theorem dX10_factorialOf_0 : decode cX10_factorialOf 0 = .ok (.iconst 1, 1) := by decide +kernel
theorem dX10_factorialOf_1 : decode cX10_factorialOf 1 = .ok (.istore_n 2, 1) := by decide +kernel
theorem dX10_factorialOf_2 : decode cX10_factorialOf 2 = .ok (.iconst 2, 1) := by decide +kernel
theorem dX10_factorialOf_3 : decode cX10_factorialOf 3 = .ok (.istore_n 3, 1) := by decide +kernel
theorem dX10_factorialOf_4 : decode cX10_factorialOf 4 = .ok (.iload_n 3, 1) := by decide +kernel
theorem dX10_factorialOf_5 : decode cX10_factorialOf 5 = .ok (.iload_n 1, 1) := by decide +kernel
theorem dX10_factorialOf_6 : decode cX10_factorialOf 6 = .ok (.if_icmp .gt 15, 3) := by decide +kernel
theorem dX10_factorialOf_9 : decode cX10_factorialOf 9 = .ok (.iload_n 2, 1) := by decide +kernel
theorem dX10_factorialOf_10 : decode cX10_factorialOf 10 = .ok (.iload_n 3, 1) := by decide +kernel
theorem dX10_factorialOf_11 : decode cX10_factorialOf 11 = .ok (.invokestatic 56, 3) := by decide +kernel
theorem dX10_factorialOf_14 : decode cX10_factorialOf 14 = .ok (.istore_n 2, 1) := by decide +kernel
theorem dX10_factorialOf_15 : decode cX10_factorialOf 15 = .ok (.iinc 3 1, 3) := by decide +kernel
theorem dX10_factorialOf_18 : decode cX10_factorialOf 18 = .ok (.goto (-14), 3) := by decide +kernel
theorem dX10_factorialOf_21 : decode cX10_factorialOf 21 = .ok (.iload_n 2, 1) := by decide +kernel
theorem dX10_factorialOf_22 : decode cX10_factorialOf 22 = .ok (.ireturn, 1) := by decide +kernel
theorem dX10_sum_2_0 : decode cX10_sum_2 0 = .ok (.iload_n 1, 1) := by decide +kernel
theorem dX10_sum_2_1 : decode cX10_sum_2 1 = .ok (.invokestatic 551, 3) := by decide +kernel
theorem dX10_sum_2_4 : decode cX10_sum_2 4 = .ok (.ifCond .ne 5, 3) := by decide +kernel
theorem dX10_sum_2_7 : decode cX10_sum_2 7 = .ok (.iconst (-1), 1) := by decide +kernel
theorem dX10_sum_2_8 : decode cX10_sum_2 8 = .ok (.ireturn, 1) := by decide +kernel
theorem dX10_sum_2_9 : decode cX10_sum_2 9 = .ok (.aload_n 0, 1) := by decide +kernel
theorem dX10_sum_2_10 : decode cX10_sum_2 10 = .ok (.getfield 450, 3) := by decide +kernel
theorem dX10_sum_2_13 : decode cX10_sum_2 13 = .ok (.iload_n 1, 1) := by decide +kernel
theorem dX10_sum_2_14 : decode cX10_sum_2 14 = .ok (.aaload, 1) := by decide +kernel
theorem dX10_sum_2_15 : decode cX10_sum_2 15 = .ok (.astore 5, 2) := by decide +kernel
theorem dX10_sum_2_17 : decode cX10_sum_2 17 = .ok (.aload 5, 2) := by decide +kernel
theorem dX10_sum_2_19 : decode cX10_sum_2 19 = .ok (.getfield 202, 3) := by decide +kernel
theorem dX10_sum_2_22 : decode cX10_sum_2 22 = .ok (.iconst 1, 1) := by decide +kernel
theorem dX10_sum_2_23 : decode cX10_sum_2 23 = .ok (.if_icmp .eq 15, 3) := by decide +kernel
theorem dX10_sum_2_26 : decode cX10_sum_2 26 = .ok (.aload 5, 2) := by decide +kernel
theorem dX10_sum_2_28 : decode cX10_sum_2 28 = .ok (.getfield 202, 3) := by decide +kernel
theorem dX10_sum_2_31 : decode cX10_sum_2 31 = .ok (.iconst 2, 1) := by decide +kernel
theorem dX10_sum_2_32 : decode cX10_sum_2 32 = .ok (.if_icmp .eq 6, 3) := by decide +kernel
theorem dX10_sum_2_35 : decode cX10_sum_2 35 = .ok (.bipush (-3), 2) := by decide +kernel
theorem dX10_sum_2_37 : decode cX10_sum_2 37 = .ok (.ireturn, 1) := by decide +kernel
theorem dX10_sum_2_38 : decode cX10_sum_2 38 = .ok (.iload_n 2, 1) := by decide +kernel
theorem dX10_sum_2_39 : decode cX10_sum_2 39 = .ok (.invokestatic 682, 3) := by decide +kernel
theorem dX10_sum_2_42 : decode cX10_sum_2 42 = .ok (.ifCond .eq 31, 3) := by decide +kernel
theorem dX10_sum_2_45 : decode cX10_sum_2 45 = .ok (.iload_n 3, 1) := by decide +kernel
theorem dX10_sum_2_46 : decode cX10_sum_2 46 = .ok (.invokestatic 682, 3) := by decide +kernel
theorem dX10_sum_2_49 : decode cX10_sum_2 49 = .ok (.ifCond .eq 24, 3) := by decide +kernel
theorem dX10_sum_2_52 : decode cX10_sum_2 52 = .ok (.iload 4, 2) := by decide +kernel
theorem dX10_sum_2_54 : decode cX10_sum_2 54 = .ok (.invokestatic 682, 3) := by decide +kernel
theorem dX10_sum_2_57 : decode cX10_sum_2 57 = .ok (.ifCond .eq 16, 3) := by decide +kernel
theorem dX10_sum_2_60 : decode cX10_sum_2 60 = .ok (.aload_n 0, 1) := by decide +kernel
theorem dX10_sum_2_61 : decode cX10_sum_2 61 = .ok (.aload 5, 2) := by decide +kernel
theorem dX10_sum_2_63 : decode cX10_sum_2 63 = .ok (.iload_n 2, 1) := by decide +kernel
theorem dX10_sum_2_64 : decode cX10_sum_2 64 = .ok (.iload_n 3, 1) := by decide +kernel
theorem dX10_sum_2_65 : decode cX10_sum_2 65 = .ok (.iload 4, 2) := by decide +kernel
theorem dX10_sum_2_67 : decode cX10_sum_2 67 = .ok (.invokevirtual 691, 3) := by decide +kernel
theorem dX10_sum_2_70 : decode cX10_sum_2 70 = .ok (.goto 4, 3) := by decide +kernel
theorem dX10_sum_2_73 : decode cX10_sum_2 73 = .ok (.iconst (-1), 1) := by decide +kernel
theorem dX10_sum_2_74 : decode cX10_sum_2 74 = .ok (.ireturn, 1) := by decide +kernel
theorem dX10_sumOf_0 : decode cX10_sumOf 0 = .ok (.iconst 0, 1) := by decide +kernel
theorem dX10_sumOf_1 : decode cX10_sumOf 1 = .ok (.istore 5, 2) := by decide +kernel
theorem dX10_sumOf_3 : decode cX10_sumOf 3 = .ok (.iload_n 3, 1) := by decide +kernel
theorem dX10_sumOf_4 : decode cX10_sumOf 4 = .ok (.istore 6, 2) := by decide +kernel
theorem dX10_sumOf_6 : decode cX10_sumOf 6 = .ok (.iload 6, 2) := by decide +kernel
theorem dX10_sumOf_8 : decode cX10_sumOf 8 = .ok (.iload 4, 2) := by decide +kernel
theorem dX10_sumOf_10 : decode cX10_sumOf 10 = .ok (.if_icmp .gt 36, 3) := by decide +kernel
theorem dX10_sumOf_13 : decode cX10_sumOf 13 = .ok (.aload_n 0, 1) := by decide +kernel
theorem dX10_sumOf_14 : decode cX10_sumOf 14 = .ok (.aload_n 1, 1) := by decide +kernel
theorem dX10_sumOf_15 : decode cX10_sumOf 15 = .ok (.iload_n 2, 1) := by decide +kernel
theorem dX10_sumOf_16 : decode cX10_sumOf 16 = .ok (.iload 6, 2) := by decide +kernel
theorem dX10_sumOf_18 : decode cX10_sumOf 18 = .ok (.invokevirtual 688, 3) := by decide +kernel
theorem dX10_sumOf_21 : decode cX10_sumOf 21 = .ok (.istore 7, 2) := by decide +kernel
theorem dX10_sumOf_23 : decode cX10_sumOf 23 = .ok (.iload 7, 2) := by decide +kernel
theorem dX10_sumOf_25 : decode cX10_sumOf 25 = .ok (.iconst (-1), 1) := by decide +kernel
theorem dX10_sumOf_26 : decode cX10_sumOf 26 = .ok (.if_icmp .ne 5, 3) := by decide +kernel
theorem dX10_sumOf_29 : decode cX10_sumOf 29 = .ok (.iconst (-1), 1) := by decide +kernel
theorem dX10_sumOf_30 : decode cX10_sumOf 30 = .ok (.ireturn, 1) := by decide +kernel
theorem dX10_sumOf_31 : decode cX10_sumOf 31 = .ok (.iload 5, 2) := by decide +kernel
theorem dX10_sumOf_33 : decode cX10_sumOf 33 = .ok (.iload 7, 2) := by decide +kernel
theorem dX10_sumOf_35 : decode cX10_sumOf 35 = .ok (.invokestatic 49, 3) := by decide +kernel
theorem dX10_sumOf_38 : decode cX10_sumOf 38 = .ok (.istore 5, 2) := by decide +kernel
theorem dX10_sumOf_40 : decode cX10_sumOf 40 = .ok (.iinc 6 1, 3) := by decide +kernel
theorem dX10_sumOf_43 : decode cX10_sumOf 43 = .ok (.goto (-37), 3) := by decide +kernel
theorem dX10_sumOf_46 : decode cX10_sumOf 46 = .ok (.iload 5, 2) := by decide +kernel
theorem dX10_sumOf_48 : decode cX10_sumOf 48 = .ok (.ireturn, 1) := by decide +kernel
theorem dX10_form_0 : decode cX10_form 0 = .ok (.iload_n 1, 1) := by decide +kernel
theorem dX10_form_1 : decode cX10_form 1 = .ok (.invokestatic 551, 3) := by decide +kernel
theorem dX10_form_4 : decode cX10_form 4 = .ok (.ifCond .eq 10, 3) := by decide +kernel
theorem dX10_form_7 : decode cX10_form 7 = .ok (.iload_n 3, 1) := by decide +kernel
theorem dX10_form_8 : decode cX10_form 8 = .ok (.invokestatic 551, 3) := by decide +kernel
theorem dX10_form_11 : decode cX10_form 11 = .ok (.ifCond .ne 5, 3) := by decide +kernel
theorem dX10_form_14 : decode cX10_form 14 = .ok (.iconst (-1), 1) := by decide +kernel
theorem dX10_form_15 : decode cX10_form 15 = .ok (.ireturn, 1) := by decide +kernel
theorem dX10_form_16 : decode cX10_form 16 = .ok (.aload_n 0, 1) := by decide +kernel
theorem dX10_form_17 : decode cX10_form 17 = .ok (.getfield 450, 3) := by decide +kernel
theorem dX10_form_20 : decode cX10_form 20 = .ok (.iload_n 1, 1) := by decide +kernel
theorem dX10_form_21 : decode cX10_form 21 = .ok (.aaload, 1) := by decide +kernel
theorem dX10_form_22 : decode cX10_form 22 = .ok (.astore 4, 2) := by decide +kernel
theorem dX10_form_24 : decode cX10_form 24 = .ok (.aload 4, 2) := by decide +kernel
theorem dX10_form_26 : decode cX10_form 26 = .ok (.getfield 202, 3) := by decide +kernel
theorem dX10_form_29 : decode cX10_form 29 = .ok (.iconst 1, 1) := by decide +kernel
theorem dX10_form_30 : decode cX10_form 30 = .ok (.if_icmp .eq 6, 3) := by decide +kernel
theorem dX10_form_33 : decode cX10_form 33 = .ok (.bipush (-3), 2) := by decide +kernel
theorem dX10_form_35 : decode cX10_form 35 = .ok (.ireturn, 1) := by decide +kernel
theorem dX10_form_36 : decode cX10_form 36 = .ok (.iload_n 2, 1) := by decide +kernel
theorem dX10_form_37 : decode cX10_form 37 = .ok (.ifCond .lt 16, 3) := by decide +kernel
theorem dX10_form_40 : decode cX10_form 40 = .ok (.iload_n 2, 1) := by decide +kernel
theorem dX10_form_41 : decode cX10_form 41 = .ok (.iconst 2, 1) := by decide +kernel
theorem dX10_form_42 : decode cX10_form 42 = .ok (.if_icmp .gt 11, 3) := by decide +kernel
theorem dX10_form_45 : decode cX10_form 45 = .ok (.aload 4, 2) := by decide +kernel
theorem dX10_form_47 : decode cX10_form 47 = .ok (.invokestatic 288, 3) := by decide +kernel
theorem dX10_form_50 : decode cX10_form 50 = .ok (.ifCond .eq 5, 3) := by decide +kernel
theorem dX10_form_53 : decode cX10_form 53 = .ok (.iconst (-1), 1) := by decide +kernel
theorem dX10_form_54 : decode cX10_form 54 = .ok (.ireturn, 1) := by decide +kernel
theorem dX10_form_55 : decode cX10_form 55 = .ok (.aload_n 0, 1) := by decide +kernel
theorem dX10_form_56 : decode cX10_form 56 = .ok (.invokevirtual 555, 3) := by decide +kernel
theorem dX10_form_59 : decode cX10_form 59 = .ok (.aload_n 0, 1) := by decide +kernel
theorem dX10_form_60 : decode cX10_form 60 = .ok (.invokevirtual 140, 3) := by decide +kernel
theorem dX10_form_63 : decode cX10_form 63 = .ok (.astore 5, 2) := by decide +kernel
theorem dX10_form_65 : decode cX10_form 65 = .ok (.aload_n 0, 1) := by decide +kernel
theorem dX10_form_66 : decode cX10_form 66 = .ok (.invokevirtual 140, 3) := by decide +kernel
theorem dX10_form_69 : decode cX10_form 69 = .ok (.astore 6, 2) := by decide +kernel
theorem dX10_form_71 : decode cX10_form 71 = .ok (.aload 5, 2) := by decide +kernel
theorem dX10_form_73 : decode cX10_form 73 = .ok (.aload 4, 2) := by decide +kernel
theorem dX10_form_75 : decode cX10_form 75 = .ok (.getfield 207, 3) := by decide +kernel
theorem dX10_form_78 : decode cX10_form 78 = .ok (.invokestatic 295, 3) := by decide +kernel
theorem dX10_form_81 : decode cX10_form 81 = .ok (.aload 6, 2) := by decide +kernel
theorem dX10_form_83 : decode cX10_form 83 = .ok (.aload 4, 2) := by decide +kernel
theorem dX10_form_85 : decode cX10_form 85 = .ok (.getfield 210, 3) := by decide +kernel
theorem dX10_form_88 : decode cX10_form 88 = .ok (.invokestatic 295, 3) := by decide +kernel
theorem dX10_form_91 : decode cX10_form 91 = .ok (.aload_n 0, 1) := by decide +kernel
theorem dX10_form_92 : decode cX10_form 92 = .ok (.aload 5, 2) := by decide +kernel
theorem dX10_form_94 : decode cX10_form 94 = .ok (.aload 6, 2) := by decide +kernel
theorem dX10_form_96 : decode cX10_form 96 = .ok (.invokevirtual 712, 3) := by decide +kernel
theorem dX10_form_99 : decode cX10_form 99 = .ok (.ifCond .ne 6, 3) := by decide +kernel
theorem dX10_form_102 : decode cX10_form 102 = .ok (.bipush (-2), 2) := by decide +kernel
theorem dX10_form_104 : decode cX10_form 104 = .ok (.ireturn, 1) := by decide +kernel
theorem dX10_form_105 : decode cX10_form 105 = .ok (.aload_n 0, 1) := by decide +kernel
theorem dX10_form_106 : decode cX10_form 106 = .ok (.invokevirtual 140, 3) := by decide +kernel
theorem dX10_form_109 : decode cX10_form 109 = .ok (.astore 7, 2) := by decide +kernel
theorem dX10_form_111 : decode cX10_form 111 = .ok (.aload_n 0, 1) := by decide +kernel
theorem dX10_form_112 : decode cX10_form 112 = .ok (.invokevirtual 140, 3) := by decide +kernel
theorem dX10_form_115 : decode cX10_form 115 = .ok (.astore 8, 2) := by decide +kernel
theorem dX10_form_117 : decode cX10_form 117 = .ok (.iload_n 2, 1) := by decide +kernel
theorem dX10_form_118 : decode cX10_form 118 = .ok (.ifCond .ne 10, 3) := by decide +kernel
theorem dX10_form_121 : decode cX10_form 121 = .ok (.aload_n 0, 1) := by decide +kernel
theorem dX10_form_122 : decode cX10_form 122 = .ok (.getfield 695, 3) := by decide +kernel
theorem dX10_form_125 : decode cX10_form 125 = .ok (.goto 19, 3) := by decide +kernel
theorem dX10_form_128 : decode cX10_form 128 = .ok (.iload_n 2, 1) := by decide +kernel
theorem dX10_form_129 : decode cX10_form 129 = .ok (.iconst 1, 1) := by decide +kernel
theorem dX10_form_130 : decode cX10_form 130 = .ok (.if_icmp .ne 10, 3) := by decide +kernel
theorem dX10_form_133 : decode cX10_form 133 = .ok (.aload_n 0, 1) := by decide +kernel
theorem dX10_form_134 : decode cX10_form 134 = .ok (.getfield 699, 3) := by decide +kernel
theorem dX10_form_137 : decode cX10_form 137 = .ok (.goto 7, 3) := by decide +kernel
theorem dX10_form_140 : decode cX10_form 140 = .ok (.aload_n 0, 1) := by decide +kernel
theorem dX10_form_141 : decode cX10_form 141 = .ok (.getfield 702, 3) := by decide +kernel
theorem dX10_form_144 : decode cX10_form 144 = .ok (.astore 9, 2) := by decide +kernel
theorem dX10_form_146 : decode cX10_form 146 = .ok (.iload_n 2, 1) := by decide +kernel
theorem dX10_form_147 : decode cX10_form 147 = .ok (.ifCond .ne 32, 3) := by decide +kernel
theorem dX10_form_150 : decode cX10_form 150 = .ok (.aload_n 0, 1) := by decide +kernel
theorem dX10_form_151 : decode cX10_form 151 = .ok (.aload 7, 2) := by decide +kernel
theorem dX10_form_153 : decode cX10_form 153 = .ok (.aload 9, 2) := by decide +kernel
theorem dX10_form_155 : decode cX10_form 155 = .ok (.aload_n 0, 1) := by decide +kernel
theorem dX10_form_156 : decode cX10_form 156 = .ok (.getfield 705, 3) := by decide +kernel
theorem dX10_form_159 : decode cX10_form 159 = .ok (.invokevirtual 178, 3) := by decide +kernel
theorem dX10_form_162 : decode cX10_form 162 = .ok (.aload 8, 2) := by decide +kernel
theorem dX10_form_164 : decode cX10_form 164 = .ok (.getfield 98, 3) := by decide +kernel
theorem dX10_form_167 : decode cX10_form 167 = .ok (.iconst 0, 1) := by decide +kernel
theorem dX10_form_168 : decode cX10_form 168 = .ok (.aaload, 1) := by decide +kernel
theorem dX10_form_169 : decode cX10_form 169 = .ok (.aload_n 0, 1) := by decide +kernel
theorem dX10_form_170 : decode cX10_form 170 = .ok (.getfield 709, 3) := by decide +kernel
theorem dX10_form_173 : decode cX10_form 173 = .ok (.invokestatic 62, 3) := by decide +kernel
theorem dX10_form_176 : decode cX10_form 176 = .ok (.goto 25, 3) := by decide +kernel
theorem dX10_form_179 : decode cX10_form 179 = .ok (.aload 7, 2) := by decide +kernel
theorem dX10_form_181 : decode cX10_form 181 = .ok (.aload 9, 2) := by decide +kernel
theorem dX10_form_183 : decode cX10_form 183 = .ok (.invokestatic 113, 3) := by decide +kernel
theorem dX10_form_186 : decode cX10_form 186 = .ok (.aload 8, 2) := by decide +kernel
theorem dX10_form_188 : decode cX10_form 188 = .ok (.getfield 98, 3) := by decide +kernel
theorem dX10_form_191 : decode cX10_form 191 = .ok (.iconst 0, 1) := by decide +kernel
theorem dX10_form_192 : decode cX10_form 192 = .ok (.aaload, 1) := by decide +kernel
theorem dX10_form_193 : decode cX10_form 193 = .ok (.aload 9, 2) := by decide +kernel
theorem dX10_form_195 : decode cX10_form 195 = .ok (.invokevirtual 144, 3) := by decide +kernel
theorem dX10_form_198 : decode cX10_form 198 = .ok (.invokestatic 62, 3) := by decide +kernel
theorem dX10_form_201 : decode cX10_form 201 = .ok (.aload 8, 2) := by decide +kernel
theorem dX10_form_203 : decode cX10_form 203 = .ok (.iconst 1, 1) := by decide +kernel
theorem dX10_form_204 : decode cX10_form 204 = .ok (.putfield 93, 3) := by decide +kernel
theorem dX10_form_207 : decode cX10_form 207 = .ok (.aload 7, 2) := by decide +kernel
theorem dX10_form_209 : decode cX10_form 209 = .ok (.aload 8, 2) := by decide +kernel
theorem dX10_form_211 : decode cX10_form 211 = .ok (.invokestatic 191, 3) := by decide +kernel
theorem dX10_form_214 : decode cX10_form 214 = .ok (.aload_n 0, 1) := by decide +kernel
theorem dX10_form_215 : decode cX10_form 215 = .ok (.getfield 453, 3) := by decide +kernel
theorem dX10_form_218 : decode cX10_form 218 = .ok (.invokestatic 257, 3) := by decide +kernel
theorem dX10_form_221 : decode cX10_form 221 = .ok (.aload_n 0, 1) := by decide +kernel
theorem dX10_form_222 : decode cX10_form 222 = .ok (.getfield 453, 3) := by decide +kernel
theorem dX10_form_225 : decode cX10_form 225 = .ok (.aload 7, 2) := by decide +kernel
theorem dX10_form_227 : decode cX10_form 227 = .ok (.aload 8, 2) := by decide +kernel
theorem dX10_form_229 : decode cX10_form 229 = .ok (.invokestatic 261, 3) := by decide +kernel
theorem dX10_form_232 : decode cX10_form 232 = .ok (.ifCond .eq 11, 3) := by decide +kernel
theorem dX10_form_235 : decode cX10_form 235 = .ok (.aload_n 0, 1) := by decide +kernel
theorem dX10_form_236 : decode cX10_form 236 = .ok (.iload_n 3, 1) := by decide +kernel
theorem dX10_form_237 : decode cX10_form 237 = .ok (.invokevirtual 558, 3) := by decide +kernel
theorem dX10_form_240 : decode cX10_form 240 = .ok (.goto 5, 3) := by decide +kernel
theorem dX10_form_243 : decode cX10_form 243 = .ok (.bipush (-2), 2) := by decide +kernel
theorem dX10_form_245 : decode cX10_form 245 = .ok (.ireturn, 1) := by decide +kernel
theorem dX10_form_2_0 : decode cX10_form_2 0 = .ok (.aload_n 0, 1) := by decide +kernel
theorem dX10_form_2_1 : decode cX10_form_2 1 = .ok (.aload_n 0, 1) := by decide +kernel
theorem dX10_form_2_2 : decode cX10_form_2 2 = .ok (.invokevirtual 140, 3) := by decide +kernel
theorem dX10_form_2_5 : decode cX10_form_2 5 = .ok (.putfield 695, 3) := by decide +kernel
theorem dX10_form_2_8 : decode cX10_form_2 8 = .ok (.aload_n 0, 1) := by decide +kernel
theorem dX10_form_2_9 : decode cX10_form_2 9 = .ok (.aload_n 0, 1) := by decide +kernel
theorem dX10_form_2_10 : decode cX10_form_2 10 = .ok (.invokevirtual 140, 3) := by decide +kernel
theorem dX10_form_2_13 : decode cX10_form_2 13 = .ok (.putfield 699, 3) := by decide +kernel
theorem dX10_form_2_16 : decode cX10_form_2 16 = .ok (.aload_n 0, 1) := by decide +kernel
theorem dX10_form_2_17 : decode cX10_form_2 17 = .ok (.aload_n 0, 1) := by decide +kernel
theorem dX10_form_2_18 : decode cX10_form_2 18 = .ok (.invokevirtual 140, 3) := by decide +kernel
theorem dX10_form_2_21 : decode cX10_form_2 21 = .ok (.putfield 702, 3) := by decide +kernel
theorem dX10_form_2_24 : decode cX10_form_2 24 = .ok (.aload_n 0, 1) := by decide +kernel
theorem dX10_form_2_25 : decode cX10_form_2 25 = .ok (.aload_n 0, 1) := by decide +kernel
theorem dX10_form_2_26 : decode cX10_form_2 26 = .ok (.invokevirtual 74, 3) := by decide +kernel
theorem dX10_form_2_29 : decode cX10_form_2 29 = .ok (.putfield 705, 3) := by decide +kernel
theorem dX10_form_2_32 : decode cX10_form_2 32 = .ok (.aload_n 0, 1) := by decide +kernel
theorem dX10_form_2_33 : decode cX10_form_2 33 = .ok (.aload_n 0, 1) := by decide +kernel
theorem dX10_form_2_34 : decode cX10_form_2 34 = .ok (.invokevirtual 74, 3) := by decide +kernel
theorem dX10_form_2_37 : decode cX10_form_2 37 = .ok (.putfield 709, 3) := by decide +kernel
theorem dX10_form_2_40 : decode cX10_form_2 40 = .ok (.aload_n 0, 1) := by decide +kernel
theorem dX10_form_2_41 : decode cX10_form_2 41 = .ok (.getfield 21, 3) := by decide +kernel
theorem dX10_form_2_44 : decode cX10_form_2 44 = .ok (.istore_n 3, 1) := by decide +kernel
theorem dX10_form_2_45 : decode cX10_form_2 45 = .ok (.aload_n 0, 1) := by decide +kernel
theorem dX10_form_2_46 : decode cX10_form_2 46 = .ok (.getfield 90, 3) := by decide +kernel
theorem dX10_form_2_49 : decode cX10_form_2 49 = .ok (.istore 4, 2) := by decide +kernel
theorem dX10_form_2_51 : decode cX10_form_2 51 = .ok (.aload_n 0, 1) := by decide +kernel
theorem dX10_form_2_52 : decode cX10_form_2 52 = .ok (.invokevirtual 74, 3) := by decide +kernel
theorem dX10_form_2_55 : decode cX10_form_2 55 = .ok (.astore 5, 2) := by decide +kernel
theorem dX10_form_2_57 : decode cX10_form_2 57 = .ok (.aload_n 0, 1) := by decide +kernel
theorem dX10_form_2_58 : decode cX10_form_2 58 = .ok (.invokevirtual 74, 3) := by decide +kernel
theorem dX10_form_2_61 : decode cX10_form_2 61 = .ok (.astore 6, 2) := by decide +kernel
theorem dX10_form_2_63 : decode cX10_form_2 63 = .ok (.aload_n 0, 1) := by decide +kernel
theorem dX10_form_2_64 : decode cX10_form_2 64 = .ok (.invokevirtual 140, 3) := by decide +kernel
theorem dX10_form_2_67 : decode cX10_form_2 67 = .ok (.astore 7, 2) := by decide +kernel
theorem dX10_form_2_69 : decode cX10_form_2 69 = .ok (.aload_n 0, 1) := by decide +kernel
theorem dX10_form_2_70 : decode cX10_form_2 70 = .ok (.invokevirtual 140, 3) := by decide +kernel
theorem dX10_form_2_73 : decode cX10_form_2 73 = .ok (.astore 8, 2) := by decide +kernel
theorem dX10_form_2_75 : decode cX10_form_2 75 = .ok (.aload_n 0, 1) := by decide +kernel
theorem dX10_form_2_76 : decode cX10_form_2 76 = .ok (.invokevirtual 140, 3) := by decide +kernel
theorem dX10_form_2_79 : decode cX10_form_2 79 = .ok (.astore 9, 2) := by decide +kernel
theorem dX10_form_2_81 : decode cX10_form_2 81 = .ok (.aload_n 0, 1) := by decide +kernel
theorem dX10_form_2_82 : decode cX10_form_2 82 = .ok (.invokevirtual 140, 3) := by decide +kernel
theorem dX10_form_2_85 : decode cX10_form_2 85 = .ok (.astore 10, 2) := by decide +kernel
theorem dX10_form_2_87 : decode cX10_form_2 87 = .ok (.aload_n 0, 1) := by decide +kernel
theorem dX10_form_2_88 : decode cX10_form_2 88 = .ok (.aload_n 0, 1) := by decide +kernel
theorem dX10_form_2_89 : decode cX10_form_2 89 = .ok (.getfield 695, 3) := by decide +kernel
theorem dX10_form_2_92 : decode cX10_form_2 92 = .ok (.aload_n 1, 1) := by decide +kernel
theorem dX10_form_2_93 : decode cX10_form_2 93 = .ok (.aload 5, 2) := by decide +kernel
theorem dX10_form_2_95 : decode cX10_form_2 95 = .ok (.invokevirtual 167, 3) := by decide +kernel
theorem dX10_form_2_98 : decode cX10_form_2 98 = .ok (.aload_n 0, 1) := by decide +kernel
theorem dX10_form_2_99 : decode cX10_form_2 99 = .ok (.getfield 705, 3) := by decide +kernel
theorem dX10_form_2_102 : decode cX10_form_2 102 = .ok (.aload 5, 2) := by decide +kernel
theorem dX10_form_2_104 : decode cX10_form_2 104 = .ok (.invokestatic 62, 3) := by decide +kernel
theorem dX10_form_2_107 : decode cX10_form_2 107 = .ok (.aload_n 0, 1) := by decide +kernel
theorem dX10_form_2_108 : decode cX10_form_2 108 = .ok (.aload_n 0, 1) := by decide +kernel
theorem dX10_form_2_109 : decode cX10_form_2 109 = .ok (.getfield 699, 3) := by decide +kernel
theorem dX10_form_2_112 : decode cX10_form_2 112 = .ok (.aload_n 2, 1) := by decide +kernel
theorem dX10_form_2_113 : decode cX10_form_2 113 = .ok (.aload 6, 2) := by decide +kernel
theorem dX10_form_2_115 : decode cX10_form_2 115 = .ok (.invokevirtual 167, 3) := by decide +kernel
theorem dX10_form_2_118 : decode cX10_form_2 118 = .ok (.aload_n 0, 1) := by decide +kernel
theorem dX10_form_2_119 : decode cX10_form_2 119 = .ok (.getfield 709, 3) := by decide +kernel
theorem dX10_form_2_122 : decode cX10_form_2 122 = .ok (.aload 6, 2) := by decide +kernel
theorem dX10_form_2_124 : decode cX10_form_2 124 = .ok (.aload_n 0, 1) := by decide +kernel
theorem dX10_form_2_125 : decode cX10_form_2 125 = .ok (.getfield 699, 3) := by decide +kernel
theorem dX10_form_2_128 : decode cX10_form_2 128 = .ok (.invokevirtual 144, 3) := by decide +kernel
theorem dX10_form_2_131 : decode cX10_form_2 131 = .ok (.invokestatic 106, 3) := by decide +kernel
theorem dX10_form_2_134 : decode cX10_form_2 134 = .ok (.aload_n 0, 1) := by decide +kernel
theorem dX10_form_2_135 : decode cX10_form_2 135 = .ok (.getfield 702, 3) := by decide +kernel
theorem dX10_form_2_138 : decode cX10_form_2 138 = .ok (.iconst 1, 1) := by decide +kernel
theorem dX10_form_2_139 : decode cX10_form_2 139 = .ok (.invokevirtual 158, 3) := by decide +kernel
theorem dX10_form_2_142 : decode cX10_form_2 142 = .ok (.iconst 1, 1) := by decide +kernel
theorem dX10_form_2_143 : decode cX10_form_2 143 = .ok (.istore 11, 2) := by decide +kernel
theorem dX10_form_2_145 : decode cX10_form_2 145 = .ok (.iconst 0, 1) := by decide +kernel
theorem dX10_form_2_146 : decode cX10_form_2 146 = .ok (.istore 12, 2) := by decide +kernel
theorem dX10_form_2_148 : decode cX10_form_2 148 = .ok (.iload 12, 2) := by decide +kernel
theorem dX10_form_2_150 : decode cX10_form_2 150 = .ok (.bipush 40, 2) := by decide +kernel
theorem dX10_form_2_152 : decode cX10_form_2 152 = .ok (.if_icmp .gt 236, 3) := by decide +kernel
theorem dX10_form_2_155 : decode cX10_form_2 155 = .ok (.iload 11, 2) := by decide +kernel
theorem dX10_form_2_157 : decode cX10_form_2 157 = .ok (.ifCond .eq 231, 3) := by decide +kernel
theorem dX10_form_2_160 : decode cX10_form_2 160 = .ok (.aload 7, 2) := by decide +kernel
theorem dX10_form_2_162 : decode cX10_form_2 162 = .ok (.aload_n 0, 1) := by decide +kernel
theorem dX10_form_2_163 : decode cX10_form_2 163 = .ok (.getfield 699, 3) := by decide +kernel
theorem dX10_form_2_166 : decode cX10_form_2 166 = .ok (.iload 12, 2) := by decide +kernel
theorem dX10_form_2_168 : decode cX10_form_2 168 = .ok (.invokestatic 626, 3) := by decide +kernel
theorem dX10_form_2_171 : decode cX10_form_2 171 = .ok (.aload_n 0, 1) := by decide +kernel
theorem dX10_form_2_172 : decode cX10_form_2 172 = .ok (.getfield 695, 3) := by decide +kernel
theorem dX10_form_2_175 : decode cX10_form_2 175 = .ok (.getfield 93, 3) := by decide +kernel
theorem dX10_form_2_178 : decode cX10_form_2 178 = .ok (.iconst 1, 1) := by decide +kernel
theorem dX10_form_2_179 : decode cX10_form_2 179 = .ok (.if_icmp .eq 209, 3) := by decide +kernel
theorem dX10_form_2_182 : decode cX10_form_2 182 = .ok (.aload 7, 2) := by decide +kernel
theorem dX10_form_2_184 : decode cX10_form_2 184 = .ok (.getfield 93, 3) := by decide +kernel
theorem dX10_form_2_187 : decode cX10_form_2 187 = .ok (.iconst 1, 1) := by decide +kernel
theorem dX10_form_2_188 : decode cX10_form_2 188 = .ok (.if_icmp .ne 6, 3) := by decide +kernel
theorem dX10_form_2_191 : decode cX10_form_2 191 = .ok (.goto 197, 3) := by decide +kernel
theorem dX10_form_2_194 : decode cX10_form_2 194 = .ok (.aload_n 0, 1) := by decide +kernel
theorem dX10_form_2_195 : decode cX10_form_2 195 = .ok (.aload 8, 2) := by decide +kernel
theorem dX10_form_2_197 : decode cX10_form_2 197 = .ok (.aload_n 0, 1) := by decide +kernel
theorem dX10_form_2_198 : decode cX10_form_2 198 = .ok (.getfield 695, 3) := by decide +kernel
theorem dX10_form_2_201 : decode cX10_form_2 201 = .ok (.aload 7, 2) := by decide +kernel
theorem dX10_form_2_203 : decode cX10_form_2 203 = .ok (.invokevirtual 174, 3) := by decide +kernel
theorem dX10_form_2_206 : decode cX10_form_2 206 = .ok (.aload 8, 2) := by decide +kernel
theorem dX10_form_2_208 : decode cX10_form_2 208 = .ok (.getfield 93, 3) := by decide +kernel
theorem dX10_form_2_211 : decode cX10_form_2 211 = .ok (.iconst 1, 1) := by decide +kernel
theorem dX10_form_2_212 : decode cX10_form_2 212 = .ok (.if_icmp .le 170, 3) := by decide +kernel
theorem dX10_form_2_215 : decode cX10_form_2 215 = .ok (.aload_n 0, 1) := by decide +kernel
theorem dX10_form_2_216 : decode cX10_form_2 216 = .ok (.aload 9, 2) := by decide +kernel
theorem dX10_form_2_218 : decode cX10_form_2 218 = .ok (.aload_n 0, 1) := by decide +kernel
theorem dX10_form_2_219 : decode cX10_form_2 219 = .ok (.getfield 695, 3) := by decide +kernel
theorem dX10_form_2_222 : decode cX10_form_2 222 = .ok (.aload 8, 2) := by decide +kernel
theorem dX10_form_2_224 : decode cX10_form_2 224 = .ok (.invokevirtual 170, 3) := by decide +kernel
theorem dX10_form_2_227 : decode cX10_form_2 227 = .ok (.istore 13, 2) := by decide +kernel
theorem dX10_form_2_229 : decode cX10_form_2 229 = .ok (.aload_n 0, 1) := by decide +kernel
theorem dX10_form_2_230 : decode cX10_form_2 230 = .ok (.getfield 695, 3) := by decide +kernel
theorem dX10_form_2_233 : decode cX10_form_2 233 = .ok (.aload 9, 2) := by decide +kernel
theorem dX10_form_2_235 : decode cX10_form_2 235 = .ok (.invokestatic 113, 3) := by decide +kernel
theorem dX10_form_2_238 : decode cX10_form_2 238 = .ok (.aload 5, 2) := by decide +kernel
theorem dX10_form_2_240 : decode cX10_form_2 240 = .ok (.aload_n 0, 1) := by decide +kernel
theorem dX10_form_2_241 : decode cX10_form_2 241 = .ok (.getfield 705, 3) := by decide +kernel
theorem dX10_form_2_244 : decode cX10_form_2 244 = .ok (.aload 8, 2) := by decide +kernel
theorem dX10_form_2_246 : decode cX10_form_2 246 = .ok (.invokevirtual 144, 3) := by decide +kernel
theorem dX10_form_2_249 : decode cX10_form_2 249 = .ok (.invokestatic 106, 3) := by decide +kernel
theorem dX10_form_2_252 : decode cX10_form_2 252 = .ok (.aload_n 0, 1) := by decide +kernel
theorem dX10_form_2_253 : decode cX10_form_2 253 = .ok (.getfield 705, 3) := by decide +kernel
theorem dX10_form_2_256 : decode cX10_form_2 256 = .ok (.aload 5, 2) := by decide +kernel
theorem dX10_form_2_258 : decode cX10_form_2 258 = .ok (.invokestatic 62, 3) := by decide +kernel
theorem dX10_form_2_261 : decode cX10_form_2 261 = .ok (.aload 10, 2) := by decide +kernel
theorem dX10_form_2_263 : decode cX10_form_2 263 = .ok (.aload 8, 2) := by decide +kernel
theorem dX10_form_2_265 : decode cX10_form_2 265 = .ok (.iload 12, 2) := by decide +kernel
theorem dX10_form_2_267 : decode cX10_form_2 267 = .ok (.ineg, 1) := by decide +kernel
theorem dX10_form_2_268 : decode cX10_form_2 268 = .ok (.ldc 5, 2) := by decide +kernel
theorem dX10_form_2_270 : decode cX10_form_2 270 = .ok (.iadd, 1) := by decide +kernel
theorem dX10_form_2_271 : decode cX10_form_2 271 = .ok (.invokestatic 626, 3) := by decide +kernel
theorem dX10_form_2_274 : decode cX10_form_2 274 = .ok (.aload_n 0, 1) := by decide +kernel
theorem dX10_form_2_275 : decode cX10_form_2 275 = .ok (.aload 9, 2) := by decide +kernel
theorem dX10_form_2_277 : decode cX10_form_2 277 = .ok (.aload_n 0, 1) := by decide +kernel
theorem dX10_form_2_278 : decode cX10_form_2 278 = .ok (.getfield 699, 3) := by decide +kernel
theorem dX10_form_2_281 : decode cX10_form_2 281 = .ok (.aload 10, 2) := by decide +kernel
theorem dX10_form_2_283 : decode cX10_form_2 283 = .ok (.invokevirtual 170, 3) := by decide +kernel
theorem dX10_form_2_286 : decode cX10_form_2 286 = .ok (.istore 13, 2) := by decide +kernel
theorem dX10_form_2_288 : decode cX10_form_2 288 = .ok (.aload_n 0, 1) := by decide +kernel
theorem dX10_form_2_289 : decode cX10_form_2 289 = .ok (.getfield 699, 3) := by decide +kernel
theorem dX10_form_2_292 : decode cX10_form_2 292 = .ok (.aload 9, 2) := by decide +kernel
theorem dX10_form_2_294 : decode cX10_form_2 294 = .ok (.invokestatic 113, 3) := by decide +kernel
theorem dX10_form_2_297 : decode cX10_form_2 297 = .ok (.iconst 1, 1) := by decide +kernel
theorem dX10_form_2_298 : decode cX10_form_2 298 = .ok (.istore 14, 2) := by decide +kernel
theorem dX10_form_2_300 : decode cX10_form_2 300 = .ok (.iload 14, 2) := by decide +kernel
theorem dX10_form_2_302 : decode cX10_form_2 302 = .ok (.iload 12, 2) := by decide +kernel
theorem dX10_form_2_304 : decode cX10_form_2 304 = .ok (.if_icmp .gt 78, 3) := by decide +kernel
theorem dX10_form_2_307 : decode cX10_form_2 307 = .ok (.iload 11, 2) := by decide +kernel
theorem dX10_form_2_309 : decode cX10_form_2 309 = .ok (.ifCond .eq 73, 3) := by decide +kernel
theorem dX10_form_2_312 : decode cX10_form_2 312 = .ok (.aload 10, 2) := by decide +kernel
theorem dX10_form_2_314 : decode cX10_form_2 314 = .ok (.aload 8, 2) := by decide +kernel
theorem dX10_form_2_316 : decode cX10_form_2 316 = .ok (.ldc 5, 2) := by decide +kernel
theorem dX10_form_2_318 : decode cX10_form_2 318 = .ok (.iload 14, 2) := by decide +kernel
theorem dX10_form_2_320 : decode cX10_form_2 320 = .ok (.isub, 1) := by decide +kernel
theorem dX10_form_2_321 : decode cX10_form_2 321 = .ok (.invokestatic 626, 3) := by decide +kernel
theorem dX10_form_2_324 : decode cX10_form_2 324 = .ok (.aload_n 0, 1) := by decide +kernel
theorem dX10_form_2_325 : decode cX10_form_2 325 = .ok (.aload 9, 2) := by decide +kernel
theorem dX10_form_2_327 : decode cX10_form_2 327 = .ok (.aload_n 0, 1) := by decide +kernel
theorem dX10_form_2_328 : decode cX10_form_2 328 = .ok (.getfield 702, 3) := by decide +kernel
theorem dX10_form_2_331 : decode cX10_form_2 331 = .ok (.aload 10, 2) := by decide +kernel
theorem dX10_form_2_333 : decode cX10_form_2 333 = .ok (.invokevirtual 197, 3) := by decide +kernel
theorem dX10_form_2_336 : decode cX10_form_2 336 = .ok (.aload_n 0, 1) := by decide +kernel
theorem dX10_form_2_337 : decode cX10_form_2 337 = .ok (.getfield 702, 3) := by decide +kernel
theorem dX10_form_2_340 : decode cX10_form_2 340 = .ok (.aload 9, 2) := by decide +kernel
theorem dX10_form_2_342 : decode cX10_form_2 342 = .ok (.invokestatic 113, 3) := by decide +kernel
theorem dX10_form_2_345 : decode cX10_form_2 345 = .ok (.aload_n 0, 1) := by decide +kernel
theorem dX10_form_2_346 : decode cX10_form_2 346 = .ok (.getfield 702, 3) := by decide +kernel
theorem dX10_form_2_349 : decode cX10_form_2 349 = .ok (.getfield 93, 3) := by decide +kernel
theorem dX10_form_2_352 : decode cX10_form_2 352 = .ok (.bipush 9, 2) := by decide +kernel
theorem dX10_form_2_354 : decode cX10_form_2 354 = .ok (.if_icmp .gt 19, 3) := by decide +kernel
theorem dX10_form_2_357 : decode cX10_form_2 357 = .ok (.aload_n 0, 1) := by decide +kernel
theorem dX10_form_2_358 : decode cX10_form_2 358 = .ok (.getfield 702, 3) := by decide +kernel
theorem dX10_form_2_361 : decode cX10_form_2 361 = .ok (.invokevirtual 119, 3) := by decide +kernel
theorem dX10_form_2_364 : decode cX10_form_2 364 = .ok (.bipush 12, 2) := by decide +kernel
theorem dX10_form_2_366 : decode cX10_form_2 366 = .ok (.if_icmp .gt 7, 3) := by decide +kernel
theorem dX10_form_2_369 : decode cX10_form_2 369 = .ok (.iconst 1, 1) := by decide +kernel
theorem dX10_form_2_370 : decode cX10_form_2 370 = .ok (.goto 4, 3) := by decide +kernel
theorem dX10_form_2_373 : decode cX10_form_2 373 = .ok (.iconst 0, 1) := by decide +kernel
theorem dX10_form_2_374 : decode cX10_form_2 374 = .ok (.istore 11, 2) := by decide +kernel
theorem dX10_form_2_376 : decode cX10_form_2 376 = .ok (.iinc 14 1, 3) := by decide +kernel
theorem dX10_form_2_379 : decode cX10_form_2 379 = .ok (.goto (-79), 3) := by decide +kernel
theorem dX10_form_2_382 : decode cX10_form_2 382 = .ok (.iinc 12 1, 3) := by decide +kernel
theorem dX10_form_2_385 : decode cX10_form_2 385 = .ok (.goto (-237), 3) := by decide +kernel
theorem dX10_form_2_388 : decode cX10_form_2 388 = .ok (.aload_n 0, 1) := by decide +kernel
theorem dX10_form_2_389 : decode cX10_form_2 389 = .ok (.aload 5, 2) := by decide +kernel
theorem dX10_form_2_391 : decode cX10_form_2 391 = .ok (.aload_n 0, 1) := by decide +kernel
theorem dX10_form_2_392 : decode cX10_form_2 392 = .ok (.getfield 705, 3) := by decide +kernel
theorem dX10_form_2_395 : decode cX10_form_2 395 = .ok (.aload_n 0, 1) := by decide +kernel
theorem dX10_form_2_396 : decode cX10_form_2 396 = .ok (.getfield 709, 3) := by decide +kernel
theorem dX10_form_2_399 : decode cX10_form_2 399 = .ok (.invokevirtual 125, 3) := by decide +kernel
theorem dX10_form_2_402 : decode cX10_form_2 402 = .ok (.aload_n 0, 1) := by decide +kernel
theorem dX10_form_2_403 : decode cX10_form_2 403 = .ok (.aload_n 0, 1) := by decide +kernel
theorem dX10_form_2_404 : decode cX10_form_2 404 = .ok (.getfield 705, 3) := by decide +kernel
theorem dX10_form_2_407 : decode cX10_form_2 407 = .ok (.aload_n 0, 1) := by decide +kernel
theorem dX10_form_2_408 : decode cX10_form_2 408 = .ok (.getfield 705, 3) := by decide +kernel
theorem dX10_form_2_411 : decode cX10_form_2 411 = .ok (.aload 5, 2) := by decide +kernel
theorem dX10_form_2_413 : decode cX10_form_2 413 = .ok (.invokevirtual 110, 3) := by decide +kernel
theorem dX10_form_2_416 : decode cX10_form_2 416 = .ok (.aload_n 0, 1) := by decide +kernel
theorem dX10_form_2_417 : decode cX10_form_2 417 = .ok (.aload_n 0, 1) := by decide +kernel
theorem dX10_form_2_418 : decode cX10_form_2 418 = .ok (.getfield 709, 3) := by decide +kernel
theorem dX10_form_2_421 : decode cX10_form_2 421 = .ok (.aload_n 0, 1) := by decide +kernel
theorem dX10_form_2_422 : decode cX10_form_2 422 = .ok (.getfield 709, 3) := by decide +kernel
theorem dX10_form_2_425 : decode cX10_form_2 425 = .ok (.aload 5, 2) := by decide +kernel
theorem dX10_form_2_427 : decode cX10_form_2 427 = .ok (.invokevirtual 110, 3) := by decide +kernel
theorem dX10_form_2_430 : decode cX10_form_2 430 = .ok (.aload_n 0, 1) := by decide +kernel
theorem dX10_form_2_431 : decode cX10_form_2 431 = .ok (.iload 4, 2) := by decide +kernel
theorem dX10_form_2_433 : decode cX10_form_2 433 = .ok (.putfield 90, 3) := by decide +kernel
theorem dX10_form_2_436 : decode cX10_form_2 436 = .ok (.aload_n 0, 1) := by decide +kernel
theorem dX10_form_2_437 : decode cX10_form_2 437 = .ok (.iload_n 3, 1) := by decide +kernel
theorem dX10_form_2_438 : decode cX10_form_2 438 = .ok (.putfield 21, 3) := by decide +kernel
theorem dX10_form_2_441 : decode cX10_form_2 441 = .ok (.iload 11, 2) := by decide +kernel
theorem dX10_form_2_443 : decode cX10_form_2 443 = .ok (.ifCond .eq 77, 3) := by decide +kernel
theorem dX10_form_2_446 : decode cX10_form_2 446 = .ok (.aload_n 0, 1) := by decide +kernel
theorem dX10_form_2_447 : decode cX10_form_2 447 = .ok (.getfield 695, 3) := by decide +kernel
theorem dX10_form_2_450 : decode cX10_form_2 450 = .ok (.getfield 93, 3) := by decide +kernel
theorem dX10_form_2_453 : decode cX10_form_2 453 = .ok (.bipush 9, 2) := by decide +kernel
theorem dX10_form_2_455 : decode cX10_form_2 455 = .ok (.if_icmp .gt 65, 3) := by decide +kernel
theorem dX10_form_2_458 : decode cX10_form_2 458 = .ok (.aload_n 0, 1) := by decide +kernel
theorem dX10_form_2_459 : decode cX10_form_2 459 = .ok (.getfield 699, 3) := by decide +kernel
theorem dX10_form_2_462 : decode cX10_form_2 462 = .ok (.getfield 93, 3) := by decide +kernel
theorem dX10_form_2_465 : decode cX10_form_2 465 = .ok (.bipush 9, 2) := by decide +kernel
theorem dX10_form_2_467 : decode cX10_form_2 467 = .ok (.if_icmp .gt 53, 3) := by decide +kernel
theorem dX10_form_2_470 : decode cX10_form_2 470 = .ok (.aload_n 0, 1) := by decide +kernel
theorem dX10_form_2_471 : decode cX10_form_2 471 = .ok (.getfield 695, 3) := by decide +kernel
theorem dX10_form_2_474 : decode cX10_form_2 474 = .ok (.invokevirtual 119, 3) := by decide +kernel
theorem dX10_form_2_477 : decode cX10_form_2 477 = .ok (.aload_n 0, 1) := by decide +kernel
theorem dX10_form_2_478 : decode cX10_form_2 478 = .ok (.getfield 705, 3) := by decide +kernel
theorem dX10_form_2_481 : decode cX10_form_2 481 = .ok (.getfield 25, 3) := by decide +kernel
theorem dX10_form_2_484 : decode cX10_form_2 484 = .ok (.iadd, 1) := by decide +kernel
theorem dX10_form_2_485 : decode cX10_form_2 485 = .ok (.iconst 1, 1) := by decide +kernel
theorem dX10_form_2_486 : decode cX10_form_2 486 = .ok (.isub, 1) := by decide +kernel
theorem dX10_form_2_487 : decode cX10_form_2 487 = .ok (.bipush 12, 2) := by decide +kernel
theorem dX10_form_2_489 : decode cX10_form_2 489 = .ok (.if_icmp .gt 31, 3) := by decide +kernel
theorem dX10_form_2_492 : decode cX10_form_2 492 = .ok (.aload_n 0, 1) := by decide +kernel
theorem dX10_form_2_493 : decode cX10_form_2 493 = .ok (.getfield 709, 3) := by decide +kernel
theorem dX10_form_2_496 : decode cX10_form_2 496 = .ok (.getfield 25, 3) := by decide +kernel
theorem dX10_form_2_499 : decode cX10_form_2 499 = .ok (.bipush 13, 2) := by decide +kernel
theorem dX10_form_2_501 : decode cX10_form_2 501 = .ok (.if_icmp .gt 19, 3) := by decide +kernel
theorem dX10_form_2_504 : decode cX10_form_2 504 = .ok (.aload_n 0, 1) := by decide +kernel
theorem dX10_form_2_505 : decode cX10_form_2 505 = .ok (.getfield 699, 3) := by decide +kernel
theorem dX10_form_2_508 : decode cX10_form_2 508 = .ok (.invokevirtual 119, 3) := by decide +kernel
theorem dX10_form_2_511 : decode cX10_form_2 511 = .ok (.bipush 12, 2) := by decide +kernel
theorem dX10_form_2_513 : decode cX10_form_2 513 = .ok (.if_icmp .gt 7, 3) := by decide +kernel
theorem dX10_form_2_516 : decode cX10_form_2 516 = .ok (.iconst 1, 1) := by decide +kernel
theorem dX10_form_2_517 : decode cX10_form_2 517 = .ok (.goto 4, 3) := by decide +kernel
theorem dX10_form_2_520 : decode cX10_form_2 520 = .ok (.iconst 0, 1) := by decide +kernel
theorem dX10_form_2_521 : decode cX10_form_2 521 = .ok (.istore 11, 2) := by decide +kernel
theorem dX10_form_2_523 : decode cX10_form_2 523 = .ok (.iload 11, 2) := by decide +kernel
theorem dX10_form_2_525 : decode cX10_form_2 525 = .ok (.ireturn, 1) := by decide +kernel
theorem dX10_close_0 : decode cX10_close 0 = .ok (.iload_n 1, 1) := by decide +kernel
theorem dX10_close_1 : decode cX10_close 1 = .ok (.invokestatic 551, 3) := by decide +kernel
theorem dX10_close_4 : decode cX10_close 4 = .ok (.ifCond .eq 10, 3) := by decide +kernel
theorem dX10_close_7 : decode cX10_close 7 = .ok (.iload_n 2, 1) := by decide +kernel
theorem dX10_close_8 : decode cX10_close 8 = .ok (.invokestatic 551, 3) := by decide +kernel
theorem dX10_close_11 : decode cX10_close 11 = .ok (.ifCond .ne 5, 3) := by decide +kernel
theorem dX10_close_14 : decode cX10_close 14 = .ok (.iconst (-1), 1) := by decide +kernel
theorem dX10_close_15 : decode cX10_close 15 = .ok (.ireturn, 1) := by decide +kernel
theorem dX10_close_16 : decode cX10_close 16 = .ok (.aload_n 0, 1) := by decide +kernel
theorem dX10_close_17 : decode cX10_close 17 = .ok (.getfield 450, 3) := by decide +kernel
theorem dX10_close_20 : decode cX10_close 20 = .ok (.iload_n 1, 1) := by decide +kernel
theorem dX10_close_21 : decode cX10_close 21 = .ok (.aaload, 1) := by decide +kernel
theorem dX10_close_22 : decode cX10_close 22 = .ok (.astore_n 3, 1) := by decide +kernel
theorem dX10_close_23 : decode cX10_close 23 = .ok (.aload_n 3, 1) := by decide +kernel
theorem dX10_close_24 : decode cX10_close 24 = .ok (.getfield 202, 3) := by decide +kernel
theorem dX10_close_27 : decode cX10_close 27 = .ok (.iconst 1, 1) := by decide +kernel
theorem dX10_close_28 : decode cX10_close 28 = .ok (.if_icmp .eq 14, 3) := by decide +kernel
theorem dX10_close_31 : decode cX10_close 31 = .ok (.aload_n 3, 1) := by decide +kernel
theorem dX10_close_32 : decode cX10_close 32 = .ok (.getfield 202, 3) := by decide +kernel
theorem dX10_close_35 : decode cX10_close 35 = .ok (.iconst 2, 1) := by decide +kernel
theorem dX10_close_36 : decode cX10_close 36 = .ok (.if_icmp .eq 6, 3) := by decide +kernel
theorem dX10_close_39 : decode cX10_close 39 = .ok (.bipush (-3), 2) := by decide +kernel
theorem dX10_close_41 : decode cX10_close 41 = .ok (.ireturn, 1) := by decide +kernel
theorem dX10_close_42 : decode cX10_close 42 = .ok (.aload_n 3, 1) := by decide +kernel
theorem dX10_close_43 : decode cX10_close 43 = .ok (.invokestatic 288, 3) := by decide +kernel
theorem dX10_close_46 : decode cX10_close 46 = .ok (.ifCond .eq 5, 3) := by decide +kernel
theorem dX10_close_49 : decode cX10_close 49 = .ok (.iconst (-1), 1) := by decide +kernel
theorem dX10_close_50 : decode cX10_close 50 = .ok (.ireturn, 1) := by decide +kernel
theorem dX10_close_51 : decode cX10_close 51 = .ok (.aload_n 0, 1) := by decide +kernel
theorem dX10_close_52 : decode cX10_close 52 = .ok (.invokevirtual 555, 3) := by decide +kernel
theorem dX10_close_55 : decode cX10_close 55 = .ok (.aload_n 0, 1) := by decide +kernel
theorem dX10_close_56 : decode cX10_close 56 = .ok (.invokevirtual 140, 3) := by decide +kernel
theorem dX10_close_59 : decode cX10_close 59 = .ok (.astore 4, 2) := by decide +kernel
theorem dX10_close_61 : decode cX10_close 61 = .ok (.aload_n 0, 1) := by decide +kernel
theorem dX10_close_62 : decode cX10_close 62 = .ok (.invokevirtual 140, 3) := by decide +kernel
theorem dX10_close_65 : decode cX10_close 65 = .ok (.astore 5, 2) := by decide +kernel
theorem dX10_close_67 : decode cX10_close 67 = .ok (.aload_n 0, 1) := by decide +kernel
theorem dX10_close_68 : decode cX10_close 68 = .ok (.aload 4, 2) := by decide +kernel
theorem dX10_close_70 : decode cX10_close 70 = .ok (.aload 5, 2) := by decide +kernel
theorem dX10_close_72 : decode cX10_close 72 = .ok (.aload_n 3, 1) := by decide +kernel
theorem dX10_close_73 : decode cX10_close 73 = .ok (.iconst 0, 1) := by decide +kernel
theorem dX10_close_74 : decode cX10_close 74 = .ok (.iconst 1, 1) := by decide +kernel
theorem dX10_close_75 : decode cX10_close 75 = .ok (.invokevirtual 633, 3) := by decide +kernel
theorem dX10_close_78 : decode cX10_close 78 = .ok (.ifCond .eq 14, 3) := by decide +kernel
theorem dX10_close_81 : decode cX10_close 81 = .ok (.aload_n 0, 1) := by decide +kernel
theorem dX10_close_82 : decode cX10_close 82 = .ok (.aload 4, 2) := by decide +kernel
theorem dX10_close_84 : decode cX10_close 84 = .ok (.aload 5, 2) := by decide +kernel
theorem dX10_close_86 : decode cX10_close 86 = .ok (.invokevirtual 712, 3) := by decide +kernel
theorem dX10_close_89 : decode cX10_close 89 = .ok (.ifCond .ne 6, 3) := by decide +kernel
theorem dX10_close_92 : decode cX10_close 92 = .ok (.bipush (-2), 2) := by decide +kernel
theorem dX10_close_94 : decode cX10_close 94 = .ok (.ireturn, 1) := by decide +kernel
theorem dX10_close_95 : decode cX10_close 95 = .ok (.aload_n 0, 1) := by decide +kernel
theorem dX10_close_96 : decode cX10_close 96 = .ok (.aload_n 0, 1) := by decide +kernel
theorem dX10_close_97 : decode cX10_close 97 = .ok (.getfield 702, 3) := by decide +kernel
theorem dX10_close_100 : decode cX10_close 100 = .ok (.invokevirtual 314, 3) := by decide +kernel
theorem dX10_close_103 : decode cX10_close 103 = .ok (.invokevirtual 728, 3) := by decide +kernel
theorem dX10_close_106 : decode cX10_close 106 = .ok (.istore 6, 2) := by decide +kernel
theorem dX10_close_108 : decode cX10_close 108 = .ok (.iload 6, 2) := by decide +kernel
theorem dX10_close_110 : decode cX10_close 110 = .ok (.ifCond .lt 10, 3) := by decide +kernel
theorem dX10_close_113 : decode cX10_close 113 = .ok (.iload 6, 2) := by decide +kernel
theorem dX10_close_115 : decode cX10_close 115 = .ok (.bipush 8, 2) := by decide +kernel
theorem dX10_close_117 : decode cX10_close 117 = .ok (.if_icmp .le 15, 3) := by decide +kernel
theorem dX10_close_120 : decode cX10_close 120 = .ok (.iload 6, 2) := by decide +kernel
theorem dX10_close_122 : decode cX10_close 122 = .ok (.ifCond .ge 7, 3) := by decide +kernel
theorem dX10_close_125 : decode cX10_close 125 = .ok (.iconst (-1), 1) := by decide +kernel
theorem dX10_close_126 : decode cX10_close 126 = .ok (.goto 5, 3) := by decide +kernel
theorem dX10_close_129 : decode cX10_close 129 = .ok (.bipush (-2), 2) := by decide +kernel
theorem dX10_close_131 : decode cX10_close 131 = .ok (.ireturn, 1) := by decide +kernel
theorem dX10_close_132 : decode cX10_close 132 = .ok (.aload_n 0, 1) := by decide +kernel
theorem dX10_close_133 : decode cX10_close 133 = .ok (.invokevirtual 140, 3) := by decide +kernel
theorem dX10_close_136 : decode cX10_close 136 = .ok (.astore 7, 2) := by decide +kernel
theorem dX10_close_138 : decode cX10_close 138 = .ok (.aload 7, 2) := by decide +kernel
theorem dX10_close_140 : decode cX10_close 140 = .ok (.iconst 1, 1) := by decide +kernel
theorem dX10_close_141 : decode cX10_close 141 = .ok (.invokevirtual 158, 3) := by decide +kernel
theorem dX10_close_144 : decode cX10_close 144 = .ok (.aload_n 0, 1) := by decide +kernel
theorem dX10_close_145 : decode cX10_close 145 = .ok (.getfield 499, 3) := by decide +kernel
theorem dX10_close_148 : decode cX10_close 148 = .ok (.iconst 0, 1) := by decide +kernel
theorem dX10_close_149 : decode cX10_close 149 = .ok (.aload 7, 2) := by decide +kernel
theorem dX10_close_151 : decode cX10_close 151 = .ok (.aastore, 1) := by decide +kernel
theorem dX10_close_152 : decode cX10_close 152 = .ok (.aload_n 0, 1) := by decide +kernel
theorem dX10_close_153 : decode cX10_close 153 = .ok (.iload 6, 2) := by decide +kernel
theorem dX10_close_155 : decode cX10_close 155 = .ok (.aload_n 0, 1) := by decide +kernel
theorem dX10_close_156 : decode cX10_close 156 = .ok (.getfield 499, 3) := by decide +kernel
theorem dX10_close_159 : decode cX10_close 159 = .ok (.iconst 1, 1) := by decide +kernel
theorem dX10_close_160 : decode cX10_close 160 = .ok (.invokevirtual 731, 3) := by decide +kernel
theorem dX10_close_163 : decode cX10_close 163 = .ok (.istore 8, 2) := by decide +kernel
theorem dX10_close_165 : decode cX10_close 165 = .ok (.aload_n 0, 1) := by decide +kernel
theorem dX10_close_166 : decode cX10_close 166 = .ok (.iload 8, 2) := by decide +kernel
theorem dX10_close_168 : decode cX10_close 168 = .ok (.invokevirtual 735, 3) := by decide +kernel
theorem dX10_close_171 : decode cX10_close 171 = .ok (.astore 9, 2) := by decide +kernel
theorem dX10_close_173 : decode cX10_close 173 = .ok (.aload_n 0, 1) := by decide +kernel
theorem dX10_close_174 : decode cX10_close 174 = .ok (.getfield 493, 3) := by decide +kernel
theorem dX10_close_177 : decode cX10_close 177 = .ok (.iload 8, 2) := by decide +kernel
theorem dX10_close_179 : decode cX10_close 179 = .ok (.iconst 1, 1) := by decide +kernel
theorem dX10_close_180 : decode cX10_close 180 = .ok (.isub, 1) := by decide +kernel
theorem dX10_close_181 : decode cX10_close 181 = .ok (.baload, 1) := by decide +kernel
theorem dX10_close_182 : decode cX10_close 182 = .ok (.ifCond .eq 5, 3) := by decide +kernel
theorem dX10_close_185 : decode cX10_close 185 = .ok (.iconst (-1), 1) := by decide +kernel
theorem dX10_close_186 : decode cX10_close 186 = .ok (.ireturn, 1) := by decide +kernel
theorem dX10_close_187 : decode cX10_close 187 = .ok (.aload_n 0, 1) := by decide +kernel
theorem dX10_close_188 : decode cX10_close 188 = .ok (.iload 8, 2) := by decide +kernel
theorem dX10_close_190 : decode cX10_close 190 = .ok (.iconst 1, 1) := by decide +kernel
theorem dX10_close_191 : decode cX10_close 191 = .ok (.isub, 1) := by decide +kernel
theorem dX10_close_192 : decode cX10_close 192 = .ok (.iload 8, 2) := by decide +kernel
theorem dX10_close_194 : decode cX10_close 194 = .ok (.aload 9, 2) := by decide +kernel
theorem dX10_close_196 : decode cX10_close 196 = .ok (.invokevirtual 739, 3) := by decide +kernel
theorem dX10_close_199 : decode cX10_close 199 = .ok (.aload_n 0, 1) := by decide +kernel
theorem dX10_close_200 : decode cX10_close 200 = .ok (.aload 4, 2) := by decide +kernel
theorem dX10_close_202 : decode cX10_close 202 = .ok (.aload 5, 2) := by decide +kernel
theorem dX10_close_204 : decode cX10_close 204 = .ok (.iload 6, 2) := by decide +kernel
theorem dX10_close_206 : decode cX10_close 206 = .ok (.aload_n 0, 1) := by decide +kernel
theorem dX10_close_207 : decode cX10_close 207 = .ok (.getfield 709, 3) := by decide +kernel
theorem dX10_close_210 : decode cX10_close 210 = .ok (.aload_n 0, 1) := by decide +kernel
theorem dX10_close_211 : decode cX10_close 211 = .ok (.getfield 490, 3) := by decide +kernel
theorem dX10_close_214 : decode cX10_close 214 = .ok (.iload 8, 2) := by decide +kernel
theorem dX10_close_216 : decode cX10_close 216 = .ok (.iconst 1, 1) := by decide +kernel
theorem dX10_close_217 : decode cX10_close 217 = .ok (.isub, 1) := by decide +kernel
theorem dX10_close_218 : decode cX10_close 218 = .ok (.aaload, 1) := by decide +kernel
theorem dX10_close_219 : decode cX10_close 219 = .ok (.aload 7, 2) := by decide +kernel
theorem dX10_close_221 : decode cX10_close 221 = .ok (.invokevirtual 743, 3) := by decide +kernel
theorem dX10_close_224 : decode cX10_close 224 = .ok (.ifCond .ne 6, 3) := by decide +kernel
theorem dX10_close_227 : decode cX10_close 227 = .ok (.bipush (-2), 2) := by decide +kernel
theorem dX10_close_229 : decode cX10_close 229 = .ok (.ireturn, 1) := by decide +kernel
theorem dX10_close_230 : decode cX10_close 230 = .ok (.aload_n 0, 1) := by decide +kernel
theorem dX10_close_231 : decode cX10_close 231 = .ok (.getfield 453, 3) := by decide +kernel
theorem dX10_close_234 : decode cX10_close 234 = .ok (.invokestatic 257, 3) := by decide +kernel
theorem dX10_close_237 : decode cX10_close 237 = .ok (.aload_n 0, 1) := by decide +kernel
theorem dX10_close_238 : decode cX10_close 238 = .ok (.getfield 453, 3) := by decide +kernel
theorem dX10_close_241 : decode cX10_close 241 = .ok (.aload 4, 2) := by decide +kernel
theorem dX10_close_243 : decode cX10_close 243 = .ok (.aload 5, 2) := by decide +kernel
theorem dX10_close_245 : decode cX10_close 245 = .ok (.invokestatic 261, 3) := by decide +kernel
theorem dX10_close_248 : decode cX10_close 248 = .ok (.istore 10, 2) := by decide +kernel
theorem dX10_close_250 : decode cX10_close 250 = .ok (.aload_n 0, 1) := by decide +kernel
theorem dX10_close_251 : decode cX10_close 251 = .ok (.iload_n 2, 1) := by decide +kernel
theorem dX10_close_252 : decode cX10_close 252 = .ok (.invokevirtual 558, 3) := by decide +kernel
theorem dX10_close_255 : decode cX10_close 255 = .ok (.ireturn, 1) := by decide +kernel
theorem dX10_depth_0 : decode cX10_depth 0 = .ok (.aload_n 0, 1) := by decide +kernel
theorem dX10_depth_1 : decode cX10_depth 1 = .ok (.getfield 21, 3) := by decide +kernel
theorem dX10_depth_4 : decode cX10_depth 4 = .ok (.istore_n 2, 1) := by decide +kernel
theorem dX10_depth_5 : decode cX10_depth 5 = .ok (.aload_n 0, 1) := by decide +kernel
theorem dX10_depth_6 : decode cX10_depth 6 = .ok (.getfield 90, 3) := by decide +kernel
theorem dX10_depth_9 : decode cX10_depth 9 = .ok (.istore_n 3, 1) := by decide +kernel
theorem dX10_depth_10 : decode cX10_depth 10 = .ok (.aload_n 0, 1) := by decide +kernel
theorem dX10_depth_11 : decode cX10_depth 11 = .ok (.getfield 695, 3) := by decide +kernel
theorem dX10_depth_14 : decode cX10_depth 14 = .ok (.invokevirtual 314, 3) := by decide +kernel
theorem dX10_depth_17 : decode cX10_depth 17 = .ok (.aload_n 0, 1) := by decide +kernel
theorem dX10_depth_18 : decode cX10_depth 18 = .ok (.getfield 699, 3) := by decide +kernel
theorem dX10_depth_21 : decode cX10_depth 21 = .ok (.invokevirtual 314, 3) := by decide +kernel
theorem dX10_depth_24 : decode cX10_depth 24 = .ok (.invokestatic 40, 3) := by decide +kernel
theorem dX10_depth_27 : decode cX10_depth 27 = .ok (.istore 4, 2) := by decide +kernel
theorem dX10_depth_29 : decode cX10_depth 29 = .ok (.iload_n 1, 1) := by decide +kernel
theorem dX10_depth_30 : decode cX10_depth 30 = .ok (.iload 4, 2) := by decide +kernel
theorem dX10_depth_32 : decode cX10_depth 32 = .ok (.isub, 1) := by decide +kernel
theorem dX10_depth_33 : decode cX10_depth 33 = .ok (.istore 5, 2) := by decide +kernel
theorem dX10_depth_35 : decode cX10_depth 35 = .ok (.aload_n 0, 1) := by decide +kernel
theorem dX10_depth_36 : decode cX10_depth 36 = .ok (.invokevirtual 74, 3) := by decide +kernel
theorem dX10_depth_39 : decode cX10_depth 39 = .ok (.astore 6, 2) := by decide +kernel
theorem dX10_depth_41 : decode cX10_depth 41 = .ok (.aload_n 0, 1) := by decide +kernel
theorem dX10_depth_42 : decode cX10_depth 42 = .ok (.invokevirtual 74, 3) := by decide +kernel
theorem dX10_depth_45 : decode cX10_depth 45 = .ok (.astore 7, 2) := by decide +kernel
theorem dX10_depth_47 : decode cX10_depth 47 = .ok (.aload 6, 2) := by decide +kernel
theorem dX10_depth_49 : decode cX10_depth 49 = .ok (.aload_n 0, 1) := by decide +kernel
theorem dX10_depth_50 : decode cX10_depth 50 = .ok (.getfield 705, 3) := by decide +kernel
theorem dX10_depth_53 : decode cX10_depth 53 = .ok (.aload_n 0, 1) := by decide +kernel
theorem dX10_depth_54 : decode cX10_depth 54 = .ok (.getfield 695, 3) := by decide +kernel
theorem dX10_depth_57 : decode cX10_depth 57 = .ok (.invokevirtual 144, 3) := by decide +kernel
theorem dX10_depth_60 : decode cX10_depth 60 = .ok (.invokestatic 106, 3) := by decide +kernel
theorem dX10_depth_63 : decode cX10_depth 63 = .ok (.aload_n 0, 1) := by decide +kernel
theorem dX10_depth_64 : decode cX10_depth 64 = .ok (.getfield 695, 3) := by decide +kernel
theorem dX10_depth_67 : decode cX10_depth 67 = .ok (.getfield 93, 3) := by decide +kernel
theorem dX10_depth_70 : decode cX10_depth 70 = .ok (.aload_n 0, 1) := by decide +kernel
theorem dX10_depth_71 : decode cX10_depth 71 = .ok (.getfield 699, 3) := by decide +kernel
theorem dX10_depth_74 : decode cX10_depth 74 = .ok (.getfield 93, 3) := by decide +kernel
theorem dX10_depth_77 : decode cX10_depth 77 = .ok (.if_icmp .ne 230, 3) := by decide +kernel
theorem dX10_depth_80 : decode cX10_depth 80 = .ok (.aload 6, 2) := by decide +kernel
theorem dX10_depth_82 : decode cX10_depth 82 = .ok (.aload_n 0, 1) := by decide +kernel
theorem dX10_depth_83 : decode cX10_depth 83 = .ok (.getfield 709, 3) := by decide +kernel
theorem dX10_depth_86 : decode cX10_depth 86 = .ok (.invokestatic 716, 3) := by decide +kernel
theorem dX10_depth_89 : decode cX10_depth 89 = .ok (.ifCond .eq 218, 3) := by decide +kernel
theorem dX10_depth_92 : decode cX10_depth 92 = .ok (.iinc 5 1, 3) := by decide +kernel
theorem dX10_depth_95 : decode cX10_depth 95 = .ok (.iconst 0, 1) := by decide +kernel
theorem dX10_depth_96 : decode cX10_depth 96 = .ok (.istore 8, 2) := by decide +kernel
theorem dX10_depth_98 : decode cX10_depth 98 = .ok (.iconst 1, 1) := by decide +kernel
theorem dX10_depth_99 : decode cX10_depth 99 = .ok (.istore 9, 2) := by decide +kernel
theorem dX10_depth_101 : decode cX10_depth 101 = .ok (.iload 4, 2) := by decide +kernel
theorem dX10_depth_103 : decode cX10_depth 103 = .ok (.ifCond .le 176, 3) := by decide +kernel
theorem dX10_depth_106 : decode cX10_depth 106 = .ok (.aload_n 0, 1) := by decide +kernel
theorem dX10_depth_107 : decode cX10_depth 107 = .ok (.invokevirtual 140, 3) := by decide +kernel
theorem dX10_depth_110 : decode cX10_depth 110 = .ok (.astore 10, 2) := by decide +kernel
theorem dX10_depth_112 : decode cX10_depth 112 = .ok (.aload 10, 2) := by decide +kernel
theorem dX10_depth_114 : decode cX10_depth 114 = .ok (.aload_n 0, 1) := by decide +kernel
theorem dX10_depth_115 : decode cX10_depth 115 = .ok (.getfield 699, 3) := by decide +kernel
theorem dX10_depth_118 : decode cX10_depth 118 = .ok (.ldc_w 720, 3) := by decide +kernel
theorem dX10_depth_121 : decode cX10_depth 121 = .ok (.invokestatic 626, 3) := by decide +kernel
theorem dX10_depth_124 : decode cX10_depth 124 = .ok (.aload 6, 2) := by decide +kernel
theorem dX10_depth_126 : decode cX10_depth 126 = .ok (.aload 10, 2) := by decide +kernel
theorem dX10_depth_128 : decode cX10_depth 128 = .ok (.getfield 98, 3) := by decide +kernel
theorem dX10_depth_131 : decode cX10_depth 131 = .ok (.iload 4, 2) := by decide +kernel
theorem dX10_depth_133 : decode cX10_depth 133 = .ok (.iconst 1, 1) := by decide +kernel
theorem dX10_depth_134 : decode cX10_depth 134 = .ok (.isub, 1) := by decide +kernel
theorem dX10_depth_135 : decode cX10_depth 135 = .ok (.aaload, 1) := by decide +kernel
theorem dX10_depth_136 : decode cX10_depth 136 = .ok (.aload_n 0, 1) := by decide +kernel
theorem dX10_depth_137 : decode cX10_depth 137 = .ok (.getfield 709, 3) := by decide +kernel
theorem dX10_depth_140 : decode cX10_depth 140 = .ok (.invokestatic 106, 3) := by decide +kernel
theorem dX10_depth_143 : decode cX10_depth 143 = .ok (.aload_n 0, 1) := by decide +kernel
theorem dX10_depth_144 : decode cX10_depth 144 = .ok (.invokevirtual 74, 3) := by decide +kernel
theorem dX10_depth_147 : decode cX10_depth 147 = .ok (.astore 11, 2) := by decide +kernel
theorem dX10_depth_149 : decode cX10_depth 149 = .ok (.aload 11, 2) := by decide +kernel
theorem dX10_depth_151 : decode cX10_depth 151 = .ok (.aload_n 0, 1) := by decide +kernel
theorem dX10_depth_152 : decode cX10_depth 152 = .ok (.getfield 705, 3) := by decide +kernel
theorem dX10_depth_155 : decode cX10_depth 155 = .ok (.aload_n 0, 1) := by decide +kernel
theorem dX10_depth_156 : decode cX10_depth 156 = .ok (.getfield 695, 3) := by decide +kernel
theorem dX10_depth_159 : decode cX10_depth 159 = .ok (.getfield 98, 3) := by decide +kernel
theorem dX10_depth_162 : decode cX10_depth 162 = .ok (.iload 4, 2) := by decide +kernel
theorem dX10_depth_164 : decode cX10_depth 164 = .ok (.iconst 1, 1) := by decide +kernel
theorem dX10_depth_165 : decode cX10_depth 165 = .ok (.isub, 1) := by decide +kernel
theorem dX10_depth_166 : decode cX10_depth 166 = .ok (.aaload, 1) := by decide +kernel
theorem dX10_depth_167 : decode cX10_depth 167 = .ok (.invokestatic 106, 3) := by decide +kernel
theorem dX10_depth_170 : decode cX10_depth 170 = .ok (.aload 7, 2) := by decide +kernel
theorem dX10_depth_172 : decode cX10_depth 172 = .ok (.aload 11, 2) := by decide +kernel
theorem dX10_depth_174 : decode cX10_depth 174 = .ok (.aload_n 0, 1) := by decide +kernel
theorem dX10_depth_175 : decode cX10_depth 175 = .ok (.getfield 699, 3) := by decide +kernel
theorem dX10_depth_178 : decode cX10_depth 178 = .ok (.invokevirtual 144, 3) := by decide +kernel
theorem dX10_depth_181 : decode cX10_depth 181 = .ok (.invokestatic 106, 3) := by decide +kernel
theorem dX10_depth_184 : decode cX10_depth 184 = .ok (.aload 6, 2) := by decide +kernel
theorem dX10_depth_186 : decode cX10_depth 186 = .ok (.aload 6, 2) := by decide +kernel
theorem dX10_depth_188 : decode cX10_depth 188 = .ok (.aload 7, 2) := by decide +kernel
theorem dX10_depth_190 : decode cX10_depth 190 = .ok (.iconst 1, 1) := by decide +kernel
theorem dX10_depth_191 : decode cX10_depth 191 = .ok (.invokestatic 101, 3) := by decide +kernel
theorem dX10_depth_194 : decode cX10_depth 194 = .ok (.aload 7, 2) := by decide +kernel
theorem dX10_depth_196 : decode cX10_depth 196 = .ok (.aload_n 0, 1) := by decide +kernel
theorem dX10_depth_197 : decode cX10_depth 197 = .ok (.getfield 699, 3) := by decide +kernel
theorem dX10_depth_200 : decode cX10_depth 200 = .ok (.invokevirtual 144, 3) := by decide +kernel
theorem dX10_depth_203 : decode cX10_depth 203 = .ok (.aload_n 0, 1) := by decide +kernel
theorem dX10_depth_204 : decode cX10_depth 204 = .ok (.getfield 709, 3) := by decide +kernel
theorem dX10_depth_207 : decode cX10_depth 207 = .ok (.invokestatic 106, 3) := by decide +kernel
theorem dX10_depth_210 : decode cX10_depth 210 = .ok (.aload 6, 2) := by decide +kernel
theorem dX10_depth_212 : decode cX10_depth 212 = .ok (.getfield 25, 3) := by decide +kernel
theorem dX10_depth_215 : decode cX10_depth 215 = .ok (.ifCond .ne 7, 3) := by decide +kernel
theorem dX10_depth_218 : decode cX10_depth 218 = .ok (.iconst 0, 1) := by decide +kernel
theorem dX10_depth_219 : decode cX10_depth 219 = .ok (.goto 19, 3) := by decide +kernel
theorem dX10_depth_222 : decode cX10_depth 222 = .ok (.aload 6, 2) := by decide +kernel
theorem dX10_depth_224 : decode cX10_depth 224 = .ok (.invokevirtual 66, 3) := by decide +kernel
theorem dX10_depth_227 : decode cX10_depth 227 = .ok (.aload 7, 2) := by decide +kernel
theorem dX10_depth_229 : decode cX10_depth 229 = .ok (.invokevirtual 66, 3) := by decide +kernel
theorem dX10_depth_232 : decode cX10_depth 232 = .ok (.invokestatic 13, 3) := by decide +kernel
theorem dX10_depth_235 : decode cX10_depth 235 = .ok (.invokestatic 56, 3) := by decide +kernel
theorem dX10_depth_238 : decode cX10_depth 238 = .ok (.istore 8, 2) := by decide +kernel
theorem dX10_depth_240 : decode cX10_depth 240 = .ok (.aload 7, 2) := by decide +kernel
theorem dX10_depth_242 : decode cX10_depth 242 = .ok (.aload 7, 2) := by decide +kernel
theorem dX10_depth_244 : decode cX10_depth 244 = .ok (.iload 8, 2) := by decide +kernel
theorem dX10_depth_246 : decode cX10_depth 246 = .ok (.invokestatic 70, 3) := by decide +kernel
theorem dX10_depth_249 : decode cX10_depth 249 = .ok (.iload 8, 2) := by decide +kernel
theorem dX10_depth_251 : decode cX10_depth 251 = .ok (.ifCond .ne 19, 3) := by decide +kernel
theorem dX10_depth_254 : decode cX10_depth 254 = .ok (.aload 6, 2) := by decide +kernel
theorem dX10_depth_256 : decode cX10_depth 256 = .ok (.getfield 25, 3) := by decide +kernel
theorem dX10_depth_259 : decode cX10_depth 259 = .ok (.ifCond .ne 7, 3) := by decide +kernel
theorem dX10_depth_262 : decode cX10_depth 262 = .ok (.iconst 1, 1) := by decide +kernel
theorem dX10_depth_263 : decode cX10_depth 263 = .ok (.goto 14, 3) := by decide +kernel
theorem dX10_depth_266 : decode cX10_depth 266 = .ok (.iconst 0, 1) := by decide +kernel
theorem dX10_depth_267 : decode cX10_depth 267 = .ok (.goto 10, 3) := by decide +kernel
theorem dX10_depth_270 : decode cX10_depth 270 = .ok (.aload 6, 2) := by decide +kernel
theorem dX10_depth_272 : decode cX10_depth 272 = .ok (.aload 7, 2) := by decide +kernel
theorem dX10_depth_274 : decode cX10_depth 274 = .ok (.invokestatic 716, 3) := by decide +kernel
theorem dX10_depth_277 : decode cX10_depth 277 = .ok (.istore 9, 2) := by decide +kernel
theorem dX10_depth_279 : decode cX10_depth 279 = .ok (.iload 9, 2) := by decide +kernel
theorem dX10_depth_281 : decode cX10_depth 281 = .ok (.ifCond .eq 22, 3) := by decide +kernel
theorem dX10_depth_284 : decode cX10_depth 284 = .ok (.iload 8, 2) := by decide +kernel
theorem dX10_depth_286 : decode cX10_depth 286 = .ok (.bipush 12, 2) := by decide +kernel
theorem dX10_depth_288 : decode cX10_depth 288 = .ok (.if_icmp .gt 15, 3) := by decide +kernel
theorem dX10_depth_291 : decode cX10_depth 291 = .ok (.iload 8, 2) := by decide +kernel
theorem dX10_depth_293 : decode cX10_depth 293 = .ok (.iload 5, 2) := by decide +kernel
theorem dX10_depth_295 : decode cX10_depth 295 = .ok (.if_icmp .le 8, 3) := by decide +kernel
theorem dX10_depth_298 : decode cX10_depth 298 = .ok (.iload 8, 2) := by decide +kernel
theorem dX10_depth_300 : decode cX10_depth 300 = .ok (.goto 5, 3) := by decide +kernel
theorem dX10_depth_303 : decode cX10_depth 303 = .ok (.iload 5, 2) := by decide +kernel
theorem dX10_depth_305 : decode cX10_depth 305 = .ok (.istore 5, 2) := by decide +kernel
theorem dX10_depth_307 : decode cX10_depth 307 = .ok (.aload_n 0, 1) := by decide +kernel
theorem dX10_depth_308 : decode cX10_depth 308 = .ok (.iload_n 3, 1) := by decide +kernel
theorem dX10_depth_309 : decode cX10_depth 309 = .ok (.putfield 90, 3) := by decide +kernel
theorem dX10_depth_312 : decode cX10_depth 312 = .ok (.aload_n 0, 1) := by decide +kernel
theorem dX10_depth_313 : decode cX10_depth 313 = .ok (.iload_n 2, 1) := by decide +kernel
theorem dX10_depth_314 : decode cX10_depth 314 = .ok (.putfield 21, 3) := by decide +kernel
theorem dX10_depth_317 : decode cX10_depth 317 = .ok (.iload 5, 2) := by decide +kernel
theorem dX10_depth_319 : decode cX10_depth 319 = .ok (.ireturn, 1) := by decide +kernel
theorem dX10_areSame_0 : decode cX10_areSame 0 = .ok (.aload_n 0, 1) := by decide +kernel
theorem dX10_areSame_1 : decode cX10_areSame 1 = .ok (.getfield 25, 3) := by decide +kernel
theorem dX10_areSame_4 : decode cX10_areSame 4 = .ok (.aload_n 1, 1) := by decide +kernel
theorem dX10_areSame_5 : decode cX10_areSame 5 = .ok (.getfield 25, 3) := by decide +kernel
theorem dX10_areSame_8 : decode cX10_areSame 8 = .ok (.if_icmp .ne 7, 3) := by decide +kernel
theorem dX10_areSame_11 : decode cX10_areSame 11 = .ok (.iconst 1, 1) := by decide +kernel
theorem dX10_areSame_12 : decode cX10_areSame 12 = .ok (.goto 4, 3) := by decide +kernel
theorem dX10_areSame_15 : decode cX10_areSame 15 = .ok (.iconst 0, 1) := by decide +kernel
theorem dX10_areSame_16 : decode cX10_areSame 16 = .ok (.istore_n 2, 1) := by decide +kernel
theorem dX10_areSame_17 : decode cX10_areSame 17 = .ok (.iconst 0, 1) := by decide +kernel
theorem dX10_areSame_18 : decode cX10_areSame 18 = .ok (.istore_n 3, 1) := by decide +kernel
theorem dX10_areSame_19 : decode cX10_areSame 19 = .ok (.iload_n 3, 1) := by decide +kernel
theorem dX10_areSame_20 : decode cX10_areSame 20 = .ok (.aload_n 0, 1) := by decide +kernel
theorem dX10_areSame_21 : decode cX10_areSame 21 = .ok (.getfield 25, 3) := by decide +kernel
theorem dX10_areSame_24 : decode cX10_areSame 24 = .ok (.if_icmp .ge 34, 3) := by decide +kernel
theorem dX10_areSame_27 : decode cX10_areSame 27 = .ok (.iload_n 2, 1) := by decide +kernel
theorem dX10_areSame_28 : decode cX10_areSame 28 = .ok (.ifCond .eq 30, 3) := by decide +kernel
theorem dX10_areSame_31 : decode cX10_areSame 31 = .ok (.aload_n 0, 1) := by decide +kernel
theorem dX10_areSame_32 : decode cX10_areSame 32 = .ok (.getfield 30, 3) := by decide +kernel
theorem dX10_areSame_35 : decode cX10_areSame 35 = .ok (.iload_n 3, 1) := by decide +kernel
theorem dX10_areSame_36 : decode cX10_areSame 36 = .ok (.iaload, 1) := by decide +kernel
theorem dX10_areSame_37 : decode cX10_areSame 37 = .ok (.aload_n 1, 1) := by decide +kernel
theorem dX10_areSame_38 : decode cX10_areSame 38 = .ok (.getfield 30, 3) := by decide +kernel
theorem dX10_areSame_41 : decode cX10_areSame 41 = .ok (.iload_n 3, 1) := by decide +kernel
theorem dX10_areSame_42 : decode cX10_areSame 42 = .ok (.iaload, 1) := by decide +kernel
theorem dX10_areSame_43 : decode cX10_areSame 43 = .ok (.if_icmp .ne 7, 3) := by decide +kernel
theorem dX10_areSame_46 : decode cX10_areSame 46 = .ok (.iconst 1, 1) := by decide +kernel
theorem dX10_areSame_47 : decode cX10_areSame 47 = .ok (.goto 4, 3) := by decide +kernel
theorem dX10_areSame_50 : decode cX10_areSame 50 = .ok (.iconst 0, 1) := by decide +kernel
theorem dX10_areSame_51 : decode cX10_areSame 51 = .ok (.istore_n 2, 1) := by decide +kernel
theorem dX10_areSame_52 : decode cX10_areSame 52 = .ok (.iinc 3 1, 3) := by decide +kernel
theorem dX10_areSame_55 : decode cX10_areSame 55 = .ok (.goto (-36), 3) := by decide +kernel
theorem dX10_areSame_58 : decode cX10_areSame 58 = .ok (.iload_n 2, 1) := by decide +kernel
theorem dX10_areSame_59 : decode cX10_areSame 59 = .ok (.ireturn, 1) := by decide +kernel
theorem dX10_lay_0 : decode cX10_lay 0 = .ok (.aload_n 0, 1) := by decide +kernel
theorem dX10_lay_1 : decode cX10_lay 1 = .ok (.getfield 90, 3) := by decide +kernel
theorem dX10_lay_4 : decode cX10_lay 4 = .ok (.istore 4, 2) := by decide +kernel
theorem dX10_lay_6 : decode cX10_lay 6 = .ok (.aload_n 0, 1) := by decide +kernel
theorem dX10_lay_7 : decode cX10_lay 7 = .ok (.getfield 21, 3) := by decide +kernel
theorem dX10_lay_10 : decode cX10_lay 10 = .ok (.istore 5, 2) := by decide +kernel
theorem dX10_lay_12 : decode cX10_lay 12 = .ok (.aload_n 0, 1) := by decide +kernel
theorem dX10_lay_13 : decode cX10_lay 13 = .ok (.invokevirtual 140, 3) := by decide +kernel
theorem dX10_lay_16 : decode cX10_lay 16 = .ok (.astore 6, 2) := by decide +kernel
theorem dX10_lay_18 : decode cX10_lay 18 = .ok (.aload_n 0, 1) := by decide +kernel
theorem dX10_lay_19 : decode cX10_lay 19 = .ok (.invokevirtual 140, 3) := by decide +kernel
theorem dX10_lay_22 : decode cX10_lay 22 = .ok (.astore 7, 2) := by decide +kernel
theorem dX10_lay_24 : decode cX10_lay 24 = .ok (.aload_n 0, 1) := by decide +kernel
theorem dX10_lay_25 : decode cX10_lay 25 = .ok (.invokevirtual 140, 3) := by decide +kernel
theorem dX10_lay_28 : decode cX10_lay 28 = .ok (.astore 8, 2) := by decide +kernel
theorem dX10_lay_30 : decode cX10_lay 30 = .ok (.aload_n 0, 1) := by decide +kernel
theorem dX10_lay_31 : decode cX10_lay 31 = .ok (.invokevirtual 140, 3) := by decide +kernel
theorem dX10_lay_34 : decode cX10_lay 34 = .ok (.astore 9, 2) := by decide +kernel
theorem dX10_lay_36 : decode cX10_lay 36 = .ok (.aload_n 0, 1) := by decide +kernel
theorem dX10_lay_37 : decode cX10_lay 37 = .ok (.invokevirtual 74, 3) := by decide +kernel
theorem dX10_lay_40 : decode cX10_lay 40 = .ok (.astore 10, 2) := by decide +kernel
theorem dX10_lay_42 : decode cX10_lay 42 = .ok (.aload_n 0, 1) := by decide +kernel
theorem dX10_lay_43 : decode cX10_lay 43 = .ok (.bipush 26, 2) := by decide +kernel
theorem dX10_lay_45 : decode cX10_lay 45 = .ok (.putfield 721, 3) := by decide +kernel
theorem dX10_lay_48 : decode cX10_lay 48 = .ok (.aload 10, 2) := by decide +kernel
theorem dX10_lay_50 : decode cX10_lay 50 = .ok (.aload_n 0, 1) := by decide +kernel
theorem dX10_lay_51 : decode cX10_lay 51 = .ok (.getfield 705, 3) := by decide +kernel
theorem dX10_lay_54 : decode cX10_lay 54 = .ok (.aload_n 0, 1) := by decide +kernel
theorem dX10_lay_55 : decode cX10_lay 55 = .ok (.getfield 699, 3) := by decide +kernel
theorem dX10_lay_58 : decode cX10_lay 58 = .ok (.invokevirtual 144, 3) := by decide +kernel
theorem dX10_lay_61 : decode cX10_lay 61 = .ok (.invokestatic 106, 3) := by decide +kernel
theorem dX10_lay_64 : decode cX10_lay 64 = .ok (.aload_n 0, 1) := by decide +kernel
theorem dX10_lay_65 : decode cX10_lay 65 = .ok (.aload 6, 2) := by decide +kernel
theorem dX10_lay_67 : decode cX10_lay 67 = .ok (.aload_n 0, 1) := by decide +kernel
theorem dX10_lay_68 : decode cX10_lay 68 = .ok (.getfield 695, 3) := by decide +kernel
theorem dX10_lay_71 : decode cX10_lay 71 = .ok (.aload 10, 2) := by decide +kernel
theorem dX10_lay_73 : decode cX10_lay 73 = .ok (.invokevirtual 178, 3) := by decide +kernel
theorem dX10_lay_76 : decode cX10_lay 76 = .ok (.aload 8, 2) := by decide +kernel
theorem dX10_lay_78 : decode cX10_lay 78 = .ok (.aload_n 0, 1) := by decide +kernel
theorem dX10_lay_79 : decode cX10_lay 79 = .ok (.getfield 699, 3) := by decide +kernel
theorem dX10_lay_82 : decode cX10_lay 82 = .ok (.ldc_w 720, 3) := by decide +kernel
theorem dX10_lay_85 : decode cX10_lay 85 = .ok (.invokestatic 626, 3) := by decide +kernel
theorem dX10_lay_88 : decode cX10_lay 88 = .ok (.aload_n 0, 1) := by decide +kernel
theorem dX10_lay_89 : decode cX10_lay 89 = .ok (.aload 7, 2) := by decide +kernel
theorem dX10_lay_91 : decode cX10_lay 91 = .ok (.aload 8, 2) := by decide +kernel
theorem dX10_lay_93 : decode cX10_lay 93 = .ok (.aload_n 0, 1) := by decide +kernel
theorem dX10_lay_94 : decode cX10_lay 94 = .ok (.getfield 709, 3) := by decide +kernel
theorem dX10_lay_97 : decode cX10_lay 97 = .ok (.invokevirtual 178, 3) := by decide +kernel
theorem dX10_lay_100 : decode cX10_lay 100 = .ok (.aload 8, 2) := by decide +kernel
theorem dX10_lay_102 : decode cX10_lay 102 = .ok (.getfield 98, 3) := by decide +kernel
theorem dX10_lay_105 : decode cX10_lay 105 = .ok (.iconst 0, 1) := by decide +kernel
theorem dX10_lay_106 : decode cX10_lay 106 = .ok (.aaload, 1) := by decide +kernel
theorem dX10_lay_107 : decode cX10_lay 107 = .ok (.iconst 1, 1) := by decide +kernel
theorem dX10_lay_108 : decode cX10_lay 108 = .ok (.invokevirtual 147, 3) := by decide +kernel
theorem dX10_lay_111 : decode cX10_lay 111 = .ok (.aload 8, 2) := by decide +kernel
theorem dX10_lay_113 : decode cX10_lay 113 = .ok (.getfield 98, 3) := by decide +kernel
theorem dX10_lay_116 : decode cX10_lay 116 = .ok (.iconst 1, 1) := by decide +kernel
theorem dX10_lay_117 : decode cX10_lay 117 = .ok (.aaload, 1) := by decide +kernel
theorem dX10_lay_118 : decode cX10_lay 118 = .ok (.iconst 1, 1) := by decide +kernel
theorem dX10_lay_119 : decode cX10_lay 119 = .ok (.invokevirtual 147, 3) := by decide +kernel
theorem dX10_lay_122 : decode cX10_lay 122 = .ok (.aload 8, 2) := by decide +kernel
theorem dX10_lay_124 : decode cX10_lay 124 = .ok (.iconst 2, 1) := by decide +kernel
theorem dX10_lay_125 : decode cX10_lay 125 = .ok (.putfield 93, 3) := by decide +kernel
theorem dX10_lay_128 : decode cX10_lay 128 = .ok (.iconst 0, 1) := by decide +kernel
theorem dX10_lay_129 : decode cX10_lay 129 = .ok (.istore 11, 2) := by decide +kernel
theorem dX10_lay_131 : decode cX10_lay 131 = .ok (.iload 11, 2) := by decide +kernel
theorem dX10_lay_133 : decode cX10_lay 133 = .ok (.iload_n 1, 1) := by decide +kernel
theorem dX10_lay_134 : decode cX10_lay 134 = .ok (.if_icmp .gt 113, 3) := by decide +kernel
theorem dX10_lay_137 : decode cX10_lay 137 = .ok (.aload 9, 2) := by decide +kernel
theorem dX10_lay_139 : decode cX10_lay 139 = .ok (.aload 6, 2) := by decide +kernel
theorem dX10_lay_141 : decode cX10_lay 141 = .ok (.invokestatic 113, 3) := by decide +kernel
theorem dX10_lay_144 : decode cX10_lay 144 = .ok (.aload 9, 2) := by decide +kernel
theorem dX10_lay_146 : decode cX10_lay 146 = .ok (.aload 9, 2) := by decide +kernel
theorem dX10_lay_148 : decode cX10_lay 148 = .ok (.aload 7, 2) := by decide +kernel
theorem dX10_lay_150 : decode cX10_lay 150 = .ok (.iconst 1, 1) := by decide +kernel
theorem dX10_lay_151 : decode cX10_lay 151 = .ok (.invokestatic 199, 3) := by decide +kernel
theorem dX10_lay_154 : decode cX10_lay 154 = .ok (.aload_n 0, 1) := by decide +kernel
theorem dX10_lay_155 : decode cX10_lay 155 = .ok (.iload 11, 2) := by decide +kernel
theorem dX10_lay_157 : decode cX10_lay 157 = .ok (.aload 9, 2) := by decide +kernel
theorem dX10_lay_159 : decode cX10_lay 159 = .ok (.iconst 0, 1) := by decide +kernel
theorem dX10_lay_160 : decode cX10_lay 160 = .ok (.invokevirtual 724, 3) := by decide +kernel
theorem dX10_lay_163 : decode cX10_lay 163 = .ok (.aload_n 0, 1) := by decide +kernel
theorem dX10_lay_164 : decode cX10_lay 164 = .ok (.aload 9, 2) := by decide +kernel
theorem dX10_lay_166 : decode cX10_lay 166 = .ok (.aload 6, 2) := by decide +kernel
theorem dX10_lay_168 : decode cX10_lay 168 = .ok (.aload 8, 2) := by decide +kernel
theorem dX10_lay_170 : decode cX10_lay 170 = .ok (.invokevirtual 197, 3) := by decide +kernel
theorem dX10_lay_173 : decode cX10_lay 173 = .ok (.aload 6, 2) := by decide +kernel
theorem dX10_lay_175 : decode cX10_lay 175 = .ok (.aload 9, 2) := by decide +kernel
theorem dX10_lay_177 : decode cX10_lay 177 = .ok (.invokestatic 113, 3) := by decide +kernel
theorem dX10_lay_180 : decode cX10_lay 180 = .ok (.aload 7, 2) := by decide +kernel
theorem dX10_lay_182 : decode cX10_lay 182 = .ok (.getfield 93, 3) := by decide +kernel
theorem dX10_lay_185 : decode cX10_lay 185 = .ok (.istore 12, 2) := by decide +kernel
theorem dX10_lay_187 : decode cX10_lay 187 = .ok (.iload 12, 2) := by decide +kernel
theorem dX10_lay_189 : decode cX10_lay 189 = .ok (.ifCond .le 30, 3) := by decide +kernel
theorem dX10_lay_192 : decode cX10_lay 192 = .ok (.aload 7, 2) := by decide +kernel
theorem dX10_lay_194 : decode cX10_lay 194 = .ok (.getfield 98, 3) := by decide +kernel
theorem dX10_lay_197 : decode cX10_lay 197 = .ok (.iload 12, 2) := by decide +kernel
theorem dX10_lay_199 : decode cX10_lay 199 = .ok (.aaload, 1) := by decide +kernel
theorem dX10_lay_200 : decode cX10_lay 200 = .ok (.aload 7, 2) := by decide +kernel
theorem dX10_lay_202 : decode cX10_lay 202 = .ok (.getfield 98, 3) := by decide +kernel
theorem dX10_lay_205 : decode cX10_lay 205 = .ok (.iload 12, 2) := by decide +kernel
theorem dX10_lay_207 : decode cX10_lay 207 = .ok (.iconst 1, 1) := by decide +kernel
theorem dX10_lay_208 : decode cX10_lay 208 = .ok (.isub, 1) := by decide +kernel
theorem dX10_lay_209 : decode cX10_lay 209 = .ok (.aaload, 1) := by decide +kernel
theorem dX10_lay_210 : decode cX10_lay 210 = .ok (.invokestatic 62, 3) := by decide +kernel
theorem dX10_lay_213 : decode cX10_lay 213 = .ok (.iinc 12 (-1), 3) := by decide +kernel
theorem dX10_lay_216 : decode cX10_lay 216 = .ok (.goto (-29), 3) := by decide +kernel
theorem dX10_lay_219 : decode cX10_lay 219 = .ok (.aload 7, 2) := by decide +kernel
theorem dX10_lay_221 : decode cX10_lay 221 = .ok (.getfield 98, 3) := by decide +kernel
theorem dX10_lay_224 : decode cX10_lay 224 = .ok (.iconst 0, 1) := by decide +kernel
theorem dX10_lay_225 : decode cX10_lay 225 = .ok (.aaload, 1) := by decide +kernel
theorem dX10_lay_226 : decode cX10_lay 226 = .ok (.iconst 0, 1) := by decide +kernel
theorem dX10_lay_227 : decode cX10_lay 227 = .ok (.putfield 25, 3) := by decide +kernel
theorem dX10_lay_230 : decode cX10_lay 230 = .ok (.aload 7, 2) := by decide +kernel
theorem dX10_lay_232 : decode cX10_lay 232 = .ok (.dup, 1) := by decide +kernel
theorem dX10_lay_233 : decode cX10_lay 233 = .ok (.getfield 93, 3) := by decide +kernel
theorem dX10_lay_236 : decode cX10_lay 236 = .ok (.iconst 1, 1) := by decide +kernel
theorem dX10_lay_237 : decode cX10_lay 237 = .ok (.iadd, 1) := by decide +kernel
theorem dX10_lay_238 : decode cX10_lay 238 = .ok (.putfield 93, 3) := by decide +kernel
theorem dX10_lay_241 : decode cX10_lay 241 = .ok (.iinc 11 1, 3) := by decide +kernel
theorem dX10_lay_244 : decode cX10_lay 244 = .ok (.goto (-113), 3) := by decide +kernel
theorem dX10_lay_247 : decode cX10_lay 247 = .ok (.iconst 0, 1) := by decide +kernel
theorem dX10_lay_248 : decode cX10_lay 248 = .ok (.iload_n 1, 1) := by decide +kernel
theorem dX10_lay_249 : decode cX10_lay 249 = .ok (.iconst 1, 1) := by decide +kernel
theorem dX10_lay_250 : decode cX10_lay 250 = .ok (.iadd, 1) := by decide +kernel
theorem dX10_lay_251 : decode cX10_lay 251 = .ok (.invokestatic 40, 3) := by decide +kernel
theorem dX10_lay_254 : decode cX10_lay 254 = .ok (.istore 11, 2) := by decide +kernel
theorem dX10_lay_256 : decode cX10_lay 256 = .ok (.iconst 0, 1) := by decide +kernel
theorem dX10_lay_257 : decode cX10_lay 257 = .ok (.istore 12, 2) := by decide +kernel
theorem dX10_lay_259 : decode cX10_lay 259 = .ok (.iload 12, 2) := by decide +kernel
theorem dX10_lay_261 : decode cX10_lay 261 = .ok (.iload_n 3, 1) := by decide +kernel
theorem dX10_lay_262 : decode cX10_lay 262 = .ok (.if_icmp .ge 35, 3) := by decide +kernel
theorem dX10_lay_265 : decode cX10_lay 265 = .ok (.aload_n 0, 1) := by decide +kernel
theorem dX10_lay_266 : decode cX10_lay 266 = .ok (.aload 9, 2) := by decide +kernel
theorem dX10_lay_268 : decode cX10_lay 268 = .ok (.aload_n 0, 1) := by decide +kernel
theorem dX10_lay_269 : decode cX10_lay 269 = .ok (.getfield 702, 3) := by decide +kernel
theorem dX10_lay_272 : decode cX10_lay 272 = .ok (.aload_n 2, 1) := by decide +kernel
theorem dX10_lay_273 : decode cX10_lay 273 = .ok (.iload 12, 2) := by decide +kernel
theorem dX10_lay_275 : decode cX10_lay 275 = .ok (.aaload, 1) := by decide +kernel
theorem dX10_lay_276 : decode cX10_lay 276 = .ok (.invokevirtual 197, 3) := by decide +kernel
theorem dX10_lay_279 : decode cX10_lay 279 = .ok (.aload_n 0, 1) := by decide +kernel
theorem dX10_lay_280 : decode cX10_lay 280 = .ok (.iload 11, 2) := by decide +kernel
theorem dX10_lay_282 : decode cX10_lay 282 = .ok (.iload 12, 2) := by decide +kernel
theorem dX10_lay_284 : decode cX10_lay 284 = .ok (.iadd, 1) := by decide +kernel
theorem dX10_lay_285 : decode cX10_lay 285 = .ok (.aload 9, 2) := by decide +kernel
theorem dX10_lay_287 : decode cX10_lay 287 = .ok (.iconst 1, 1) := by decide +kernel
theorem dX10_lay_288 : decode cX10_lay 288 = .ok (.invokevirtual 724, 3) := by decide +kernel
theorem dX10_lay_291 : decode cX10_lay 291 = .ok (.iinc 12 1, 3) := by decide +kernel
theorem dX10_lay_294 : decode cX10_lay 294 = .ok (.goto (-35), 3) := by decide +kernel
theorem dX10_lay_297 : decode cX10_lay 297 = .ok (.aload_n 0, 1) := by decide +kernel
theorem dX10_lay_298 : decode cX10_lay 298 = .ok (.iload 4, 2) := by decide +kernel
theorem dX10_lay_300 : decode cX10_lay 300 = .ok (.putfield 90, 3) := by decide +kernel
theorem dX10_lay_303 : decode cX10_lay 303 = .ok (.aload_n 0, 1) := by decide +kernel
theorem dX10_lay_304 : decode cX10_lay 304 = .ok (.iload 5, 2) := by decide +kernel
theorem dX10_lay_306 : decode cX10_lay 306 = .ok (.putfield 21, 3) := by decide +kernel
theorem dX10_lay_309 : decode cX10_lay 309 = .ok (.iload 11, 2) := by decide +kernel
theorem dX10_lay_311 : decode cX10_lay 311 = .ok (.iload_n 3, 1) := by decide +kernel
theorem dX10_lay_312 : decode cX10_lay 312 = .ok (.iadd, 1) := by decide +kernel
theorem dX10_lay_313 : decode cX10_lay 313 = .ok (.ireturn, 1) := by decide +kernel
abbrev W_X10_lineInto (g : GX) (d : Nat) (av : List Value) (Q : QT) (n : Nat) (pc : Nat) (ls : LV) (stk : List Value) (h : Hp) : Prop := RJ g m_X10_lineInto (d + 1) 0 0 av Q pc ls stk n h 0 0
theorem s_X10_lineInto_0 {g : GX} {d : Nat} {av : List Value} {Q : QT} {n : Nat} {h : Hp} {a1 : Nat} {a2 : Nat} {x3 : Int32} (hp : g.2.2.2.2 = true) (t1 : lay a1 = (0, 14, 2)) (t2 : lay a2 = (0, 14, 2)) (H : CallR g m_X10_newB d [.ref 2759] n h (fun v1 h1 => (lay v1 = (0, 14, 2) ∧ (CallR g m_X10_newB d [.ref 2759] n h1 (fun v2 h2 => (lay v2 = (0, 14, 2) ∧ (vp_in (0 : Int32) 64 ∧ ∀ r3, r3 = (v1 + 2) + 2 * ((0 : Int32)).toNatClampNeg → (vp_in x3 120 ∧ (vp_in (0 : Int32) (rm (r3 + 1)) ∧ ∀ h4, h4 = wi h2 (r3 + 1) ((0 : Int32)).toNatClampNeg (ri h2 2857 (x3).toNatClampNeg) → (vp_in (0 : Int32) 64 ∧ ∀ r5, r5 = (v1 + 2) + 2 * ((0 : Int32)).toNatClampNeg → (vp_in x3 120 ∧ (vp_in (1 : Int32) (rm (r5 + 1)) ∧ ∀ h6, h6 = wi h4 (r5 + 1) ((1 : Int32)).toNatClampNeg (ri h4 2855 (x3).toNatClampNeg) → (vp_in (0 : Int32) 64 ∧ ∀ r7, r7 = (v1 + 2) + 2 * ((0 : Int32)).toNatClampNeg → (∀ h8, h8 = wi h6 r7 1 (2 : Int32) → (vp_in (0 : Int32) 64 ∧ ∀ r9, r9 = (v1 + 2) + 2 * ((0 : Int32)).toNatClampNeg → (CallV g m_X13_trim d [.ref r9] n h8 (fun h10 => (∀ h11, h11 = wi h10 v1 1 (1 : Int32) → (vp_in x3 120 ∧ ((((ri h11 2856 (x3).toNatClampNeg) = (0 : Int32)) → (W_X10_lineInto g d av Q n 112 [some (.ref 2759), some (.ref a1), some (.ref a2), some (.int x3), some (.int (ri h 2759 3)), some (.ref v1), some (.ref v2), none, none, none, none] [] h11)) ∧ ((¬ (ri h11 2856 (x3).toNatClampNeg) = (0 : Int32)) → (vp_in (1 : Int32) 64 ∧ ∀ r12, r12 = (v1 + 2) + 2 * ((1 : Int32)).toNatClampNeg → (vp_in x3 120 ∧ (CallV g m_X13_number d [.ref r12, .int (ri h11 2856 (x3).toNatClampNeg)] n h11 (fun h13 => (∀ h14, h14 = wi h13 v1 1 (2 : Int32) → (W_X10_lineInto g d av Q n 112 [some (.ref 2759), some (.ref a1), some (.ref a2), some (.int x3), some (.int (ri h 2759 3)), some (.ref v1), some (.ref v2), none, none, none, none] [] h14))))))))))))))))))))))))))) : W_X10_lineInto g d av Q n 0 [some (.ref 2759), some (.ref a1), some (.ref a2), some (.int x3), none, none, none, none, none, none, none] [] h := by
  refine r_aload_n dX10_lineInto_0 rfl rfl ?_
  refine m_getI hp fw_X10_90 dX10_lineInto_1 rfl ly_10 ?_
  refine r_istore (ls2 := [some (.ref 2759), some (.ref a1), some (.ref a2), some (.int x3), some (.int (ri h 2759 3)), none, none, none, none, none, none]) dX10_lineInto_4 (by decide) rfl ?_
  refine r_aload_n dX10_lineInto_6 rfl rfl ?_
  refine k_VR (As := []) (stk := []) hp cv_X10_140 dX10_lineInto_7 rfl (Nat.le_of_ble_eq_true rfl) ly_10 (H.mono (fun v1 h1 H => ?_)) ⟨Nat.le_refl _, Nat.le_refl _⟩
  obtain ⟨tv1, H⟩ := H
  refine r_astore (ls2 := [some (.ref 2759), some (.ref a1), some (.ref a2), some (.int x3), some (.int (ri h 2759 3)), some (.ref v1), none, none, none, none, none]) dX10_lineInto_10 (by decide) rfl ?_
  refine r_aload_n dX10_lineInto_12 rfl rfl ?_
  refine k_VR (As := []) (stk := []) hp cv_X10_140 dX10_lineInto_13 rfl (Nat.le_of_ble_eq_true rfl) ly_10 (H.mono (fun v2 h2 H => ?_)) ⟨Nat.le_refl _, Nat.le_refl _⟩
  obtain ⟨tv2, H⟩ := H
  refine r_astore (ls2 := [some (.ref 2759), some (.ref a1), some (.ref a2), some (.int x3), some (.int (ri h 2759 3)), some (.ref v1), some (.ref v2), none, none, none, none]) dX10_lineInto_16 (by decide) rfl ?_
  refine r_aload dX10_lineInto_18 rfl ?_
  refine m_getF (x := (v1 + 1)) hp fw_X10_98 dX10_lineInto_20 rfl tv1 (ff_14_0 tv1) ?_
  refine r_iconst (v := (0 : Int32)) dX10_lineInto_23 rfl ?_
  obtain ⟨r3, er3⟩ : ∃ y, y = (v1 + 2) + 2 * ((0 : Int32)).toNatClampNeg := ⟨_, rfl⟩
  have hir3 := H.1
  replace H := H.2 r3 er3
  have tLr3 := le_14 tv1 hir3 er3
  refine m_aalF (x := r3) hp dX10_lineInto_24 (lf_14_0 tv1) rfl rfl (lu_14_0 tv1) hir3 (fe_14 tv1 hir3 er3) ?_
  refine m_getF (x := (r3 + 1)) hp fw_X10_30 dX10_lineInto_25 rfl tLr3 (ff_13_0 tLr3) ?_
  refine r_iconst (v := (0 : Int32)) dX10_lineInto_28 rfl ?_
  refine r_aload_n dX10_lineInto_29 rfl rfl ?_
  refine m_getF (x := 2857) hp fw_X10_477 dX10_lineInto_30 rfl ly_10 (ff_10_34 ly_10) ?_
  refine r_iload_n dX10_lineInto_33 rfl rfl ?_
  refine m_iald hp dX10_lineInto_34 (lf_10_34 ly_10) H.1 ?_
  replace H := H.2
  refine m_iast hp dX10_lineInto_35 (lf_13_0 tLr3) H.1 (fun h4 eh4 => ?_)
  replace H := H.2 h4 eh4
  refine r_aload dX10_lineInto_36 rfl ?_
  refine m_getF (x := (v1 + 1)) hp fw_X10_98 dX10_lineInto_38 rfl tv1 (ff_14_0 tv1) ?_
  refine r_iconst (v := (0 : Int32)) dX10_lineInto_41 rfl ?_
  obtain ⟨r5, er5⟩ : ∃ y, y = (v1 + 2) + 2 * ((0 : Int32)).toNatClampNeg := ⟨_, rfl⟩
  have hir5 := H.1
  replace H := H.2 r5 er5
  have tLr5 := le_14 tv1 hir5 er5
  refine m_aalF (x := r5) hp dX10_lineInto_42 (lf_14_0 tv1) rfl rfl (lu_14_0 tv1) hir5 (fe_14 tv1 hir5 er5) ?_
  refine m_getF (x := (r5 + 1)) hp fw_X10_30 dX10_lineInto_43 rfl tLr5 (ff_13_0 tLr5) ?_
  refine r_iconst (v := (1 : Int32)) dX10_lineInto_46 rfl ?_
  refine r_aload_n dX10_lineInto_47 rfl rfl ?_
  refine m_getF (x := 2855) hp fw_X10_471 dX10_lineInto_48 rfl ly_10 (ff_10_32 ly_10) ?_
  refine r_iload_n dX10_lineInto_51 rfl rfl ?_
  refine m_iald hp dX10_lineInto_52 (lf_10_32 ly_10) H.1 ?_
  replace H := H.2
  refine m_iast hp dX10_lineInto_53 (lf_13_0 tLr5) H.1 (fun h6 eh6 => ?_)
  replace H := H.2 h6 eh6
  refine r_aload dX10_lineInto_54 rfl ?_
  refine m_getF (x := (v1 + 1)) hp fw_X10_98 dX10_lineInto_56 rfl tv1 (ff_14_0 tv1) ?_
  refine r_iconst (v := (0 : Int32)) dX10_lineInto_59 rfl ?_
  obtain ⟨r7, er7⟩ : ∃ y, y = (v1 + 2) + 2 * ((0 : Int32)).toNatClampNeg := ⟨_, rfl⟩
  have hir7 := H.1
  replace H := H.2 r7 er7
  have tLr7 := le_14 tv1 hir7 er7
  refine m_aalF (x := r7) hp dX10_lineInto_60 (lf_14_0 tv1) rfl rfl (lu_14_0 tv1) hir7 (fe_14 tv1 hir7 er7) ?_
  refine r_iconst (v := (2 : Int32)) dX10_lineInto_61 rfl ?_
  refine m_putI hp fw_X10_25 dX10_lineInto_62 rfl rfl tLr7 (fun h8 eh8 => ?_)
  replace H := H h8 eh8
  refine r_aload dX10_lineInto_65 rfl ?_
  refine m_getF (x := (v1 + 1)) hp fw_X10_98 dX10_lineInto_67 rfl tv1 (ff_14_0 tv1) ?_
  refine r_iconst (v := (0 : Int32)) dX10_lineInto_70 rfl ?_
  obtain ⟨r9, er9⟩ : ∃ y, y = (v1 + 2) + 2 * ((0 : Int32)).toNatClampNeg := ⟨_, rfl⟩
  have hir9 := H.1
  replace H := H.2 r9 er9
  have tLr9 := le_14 tv1 hir9 er9
  refine m_aalF (x := r9) hp dX10_lineInto_71 (lf_14_0 tv1) rfl rfl (lu_14_0 tv1) hir9 (fe_14 tv1 hir9 er9) ?_
  refine k_VV (As := []) (stk := []) hp cv_X10_52 dX10_lineInto_72 rfl (Nat.le_of_ble_eq_true rfl) tLr9 (H.mono (fun h10 H => ?_)) ⟨Nat.le_refl _, Nat.le_refl _⟩
  refine r_aload dX10_lineInto_75 rfl ?_
  refine r_iconst (v := (1 : Int32)) dX10_lineInto_77 rfl ?_
  refine m_putI hp fw_X10_93 dX10_lineInto_78 rfl rfl tv1 (fun h11 eh11 => ?_)
  replace H := H h11 eh11
  refine r_aload_n dX10_lineInto_81 rfl rfl ?_
  refine m_getF (x := 2856) hp fw_X10_474 dX10_lineInto_82 rfl ly_10 (ff_10_33 ly_10) ?_
  refine r_iload_n dX10_lineInto_85 rfl rfl ?_
  refine m_iald hp dX10_lineInto_86 (lf_10_33 ly_10) H.1 ?_
  replace H := H.2
  refine r_if_eq (tgt := 112) dX10_lineInto_87 rfl (fun cH => ?_) (fun cH => ?_)
  · replace H := H.1 cH
    exact H
  · replace H := H.2 cH
    refine r_aload dX10_lineInto_90 rfl ?_
    refine m_getF (x := (v1 + 1)) hp fw_X10_98 dX10_lineInto_92 rfl tv1 (ff_14_0 tv1) ?_
    refine r_iconst (v := (1 : Int32)) dX10_lineInto_95 rfl ?_
    obtain ⟨r12, er12⟩ : ∃ y, y = (v1 + 2) + 2 * ((1 : Int32)).toNatClampNeg := ⟨_, rfl⟩
    have hir12 := H.1
    replace H := H.2 r12 er12
    have tLr12 := le_14 tv1 hir12 er12
    refine m_aalF (x := r12) hp dX10_lineInto_96 (lf_14_0 tv1) rfl rfl (lu_14_0 tv1) hir12 (fe_14 tv1 hir12 er12) ?_
    refine r_aload_n dX10_lineInto_97 rfl rfl ?_
    refine m_getF (x := 2856) hp fw_X10_474 dX10_lineInto_98 rfl ly_10 (ff_10_33 ly_10) ?_
    refine r_iload_n dX10_lineInto_101 rfl rfl ?_
    refine m_iald hp dX10_lineInto_102 (lf_10_33 ly_10) H.1 ?_
    replace H := H.2
    refine k_VV (As := [.int (ri h11 2856 (x3).toNatClampNeg)]) (stk := []) hp cv_X10_147 dX10_lineInto_103 rfl (Nat.le_of_ble_eq_true rfl) tLr12 (H.mono (fun h13 H => ?_)) ⟨Nat.le_refl _, Nat.le_refl _⟩
    refine r_aload dX10_lineInto_106 rfl ?_
    refine r_iconst (v := (2 : Int32)) dX10_lineInto_108 rfl ?_
    refine m_putI hp fw_X10_93 dX10_lineInto_109 rfl rfl tv1 (fun h14 eh14 => ?_)
    replace H := H h14 eh14
    exact H
theorem s_X10_lineInto_112 {g : GX} {d : Nat} {av : List Value} {Q : QT} {n : Nat} {h : Hp} {a1 : Nat} {a2 : Nat} {x3 : Int32} {x4 : Int32} {a5 : Nat} {a6 : Nat} (hp : g.2.2.2.2 = true) (t1 : lay a1 = (0, 14, 2)) (t2 : lay a2 = (0, 14, 2)) (t5 : lay a5 = (0, 14, 2)) (t6 : lay a6 = (0, 14, 2)) (H : vp_in x3 120 ∧ (CallI g m_J3_abs d [.int (ri h 2858 (x3).toNatClampNeg)] n h (fun v1 h1 => (W_X10_lineInto g d av Q n 126 [some (.ref 2759), some (.ref a1), some (.ref a2), some (.int x3), some (.int x4), some (.ref a5), some (.ref a6), some (.int (1 : Int32)), some (.int v1), none, none] [] h1)))) : W_X10_lineInto g d av Q n 112 [some (.ref 2759), some (.ref a1), some (.ref a2), some (.int x3), some (.int x4), some (.ref a5), some (.ref a6), none, none, none, none] [] h := by
  refine r_iconst (v := (1 : Int32)) dX10_lineInto_112 rfl ?_
  refine r_istore (ls2 := [some (.ref 2759), some (.ref a1), some (.ref a2), some (.int x3), some (.int x4), some (.ref a5), some (.ref a6), some (.int (1 : Int32)), none, none, none]) dX10_lineInto_113 (by decide) rfl ?_
  refine r_aload_n dX10_lineInto_115 rfl rfl ?_
  refine m_getF (x := 2858) hp fw_X10_480 dX10_lineInto_116 rfl ly_10 (ff_10_35 ly_10) ?_
  refine r_iload_n dX10_lineInto_119 rfl rfl ?_
  refine m_iald hp dX10_lineInto_120 (lf_10_35 ly_10) H.1 ?_
  replace H := H.2
  refine k_SI (As := [.int (ri h 2858 (x3).toNatClampNeg)]) (stk := []) cs_X10_273 dX10_lineInto_121 rfl (Nat.le_of_ble_eq_true rfl) (H.mono (fun v1 h1 H => ?_)) ⟨Nat.le_refl _, Nat.le_refl _⟩
  refine r_istore (ls2 := [some (.ref 2759), some (.ref a1), some (.ref a2), some (.int x3), some (.int x4), some (.ref a5), some (.ref a6), some (.int (1 : Int32)), some (.int v1), none, none]) dX10_lineInto_124 (by decide) rfl ?_
  exact H
theorem s_X10_lineInto_126 {g : GX} {d : Nat} {av : List Value} {Q : QT} {n : Nat} {h : Hp} {a1 : Nat} {a2 : Nat} {x3 : Int32} {x4 : Int32} {a5 : Nat} {a6 : Nat} {x7 : Int32} {x8 : Int32} (hp : g.2.2.2.2 = true) (t1 : lay a1 = (0, 14, 2)) (t2 : lay a2 = (0, 14, 2)) (t5 : lay a5 = (0, 14, 2)) (t6 : lay a6 = (0, 14, 2)) (H : ((x8 ≤ (0 : Int32)) → (W_X10_lineInto g d av Q n 241 [some (.ref 2759), none, none, none, some (.int x4), none, none, some (.int x7), none, none, none] [] h)) ∧ ((¬ x8 ≤ (0 : Int32)) → (((x7 = (0 : Int32)) → (W_X10_lineInto g d av Q n 241 [some (.ref 2759), none, none, none, some (.int x4), none, none, some (.int x7), none, none, none] [] h)) ∧ ((¬ x7 = (0 : Int32)) → (vp_in x3 120 ∧ ((((ri h 2858 (x3).toNatClampNeg) ≤ (0 : Int32)) → (W_X10_lineInto g d av Q n 150 [some (.ref 2759), some (.ref a1), some (.ref a2), some (.int x3), some (.int x4), some (.ref a5), some (.ref a6), some (.int x7), some (.int x8), none, none] [.ref a2] h)) ∧ ((¬ (ri h 2858 (x3).toNatClampNeg) ≤ (0 : Int32)) → (W_X10_lineInto g d av Q n 150 [some (.ref 2759), some (.ref a1), some (.ref a2), some (.int x3), some (.int x4), some (.ref a5), some (.ref a6), some (.int x7), some (.int x8), none, none] [.ref a1] h)))))))) : W_X10_lineInto g d av Q n 126 [some (.ref 2759), some (.ref a1), some (.ref a2), some (.int x3), some (.int x4), some (.ref a5), some (.ref a6), some (.int x7), some (.int x8), none, none] [] h := by
  refine r_iload dX10_lineInto_126 rfl ?_
  refine r_if_le (tgt := 241) dX10_lineInto_128 rfl (fun cH => ?_) (fun cH => ?_)
  · replace H := H.1 cH
    refine r_prune [true, false, false, false, true, false, false, true, false, false, false] (ls2 := [some (.ref 2759), none, none, none, some (.int x4), none, none, some (.int x7), none, none, none]) rfl ?_
    exact H
  · replace H := H.2 cH
    refine r_iload dX10_lineInto_131 rfl ?_
    refine r_if_eq (tgt := 241) dX10_lineInto_133 rfl (fun cH => ?_) (fun cH => ?_)
    · replace H := H.1 cH
      refine r_prune [true, false, false, false, true, false, false, true, false, false, false] (ls2 := [some (.ref 2759), none, none, none, some (.int x4), none, none, some (.int x7), none, none, none]) rfl ?_
      exact H
    · replace H := H.2 cH
      refine r_aload_n dX10_lineInto_136 rfl rfl ?_
      refine m_getF (x := 2858) hp fw_X10_480 dX10_lineInto_137 rfl ly_10 (ff_10_35 ly_10) ?_
      refine r_iload_n dX10_lineInto_140 rfl rfl ?_
      refine m_iald hp dX10_lineInto_141 (lf_10_35 ly_10) H.1 ?_
      replace H := H.2
      refine r_if_le (tgt := 149) dX10_lineInto_142 rfl (fun cH => ?_) (fun cH => ?_)
      · replace H := H.1 cH
        refine r_aload_n dX10_lineInto_149 rfl rfl ?_
        exact H
      · replace H := H.2 cH
        refine r_aload_n dX10_lineInto_145 rfl rfl ?_
        refine r_goto (tgt := 150) dX10_lineInto_146 rfl ?_
        exact H
theorem s_X10_lineInto_150 {g : GX} {d : Nat} {av : List Value} {Q : QT} {n : Nat} {h : Hp} {a1 : Nat} {a2 : Nat} {x3 : Int32} {x4 : Int32} {a5 : Nat} {a6 : Nat} {x7 : Int32} {x8 : Int32} {as0 : Nat} (hp : g.2.2.2.2 = true) (t1 : lay a1 = (0, 14, 2)) (t2 : lay a2 = (0, 14, 2)) (t5 : lay a5 = (0, 14, 2)) (t6 : lay a6 = (0, 14, 2)) (ts0 : lay as0 = (0, 14, 2)) (H : vp_in x3 120 ∧ ((((ri h 2858 (x3).toNatClampNeg) ≤ (0 : Int32)) → (W_X10_lineInto g d av Q n 166 [some (.ref 2759), some (.ref a1), some (.ref a2), some (.int x3), some (.int x4), some (.ref a5), some (.ref a6), some (.int x7), some (.int x8), some (.ref as0), none] [.ref a1] h)) ∧ ((¬ (ri h 2858 (x3).toNatClampNeg) ≤ (0 : Int32)) → (W_X10_lineInto g d av Q n 166 [some (.ref 2759), some (.ref a1), some (.ref a2), some (.int x3), some (.int x4), some (.ref a5), some (.ref a6), some (.int x7), some (.int x8), some (.ref as0), none] [.ref a2] h)))) : W_X10_lineInto g d av Q n 150 [some (.ref 2759), some (.ref a1), some (.ref a2), some (.int x3), some (.int x4), some (.ref a5), some (.ref a6), some (.int x7), some (.int x8), none, none] [.ref as0] h := by
  refine r_astore (ls2 := [some (.ref 2759), some (.ref a1), some (.ref a2), some (.int x3), some (.int x4), some (.ref a5), some (.ref a6), some (.int x7), some (.int x8), some (.ref as0), none]) dX10_lineInto_150 (by decide) rfl ?_
  refine r_aload_n dX10_lineInto_152 rfl rfl ?_
  refine m_getF (x := 2858) hp fw_X10_480 dX10_lineInto_153 rfl ly_10 (ff_10_35 ly_10) ?_
  refine r_iload_n dX10_lineInto_156 rfl rfl ?_
  refine m_iald hp dX10_lineInto_157 (lf_10_35 ly_10) H.1 ?_
  replace H := H.2
  refine r_if_le (tgt := 165) dX10_lineInto_158 rfl (fun cH => ?_) (fun cH => ?_)
  · replace H := H.1 cH
    refine r_aload_n dX10_lineInto_165 rfl rfl ?_
    exact H
  · replace H := H.2 cH
    refine r_aload_n dX10_lineInto_161 rfl rfl ?_
    refine r_goto (tgt := 166) dX10_lineInto_162 rfl ?_
    exact H
theorem s_X10_lineInto_166 {g : GX} {d : Nat} {av : List Value} {Q : QT} {n : Nat} {h : Hp} {a1 : Nat} {a2 : Nat} {x3 : Int32} {x4 : Int32} {a5 : Nat} {a6 : Nat} {x7 : Int32} {x8 : Int32} {a9 : Nat} {as0 : Nat} (hp : g.2.2.2.2 = true) (t1 : lay a1 = (0, 14, 2)) (t2 : lay a2 = (0, 14, 2)) (t5 : lay a5 = (0, 14, 2)) (t6 : lay a6 = (0, 14, 2)) (t9 : lay a9 = (0, 14, 2)) (ts0 : lay as0 = (0, 14, 2)) (H : CallI g m_X10_divides d [.ref 2759, .ref a6, .ref as0, .ref a5] n h (fun v1 h1 => (((v1 = (0 : Int32)) → (CallV g m_X10_times d [.ref 2759, .ref a6, .ref a9, .ref a5] n h1 (fun h2 => (CallV g m_X10_set d [.ref a9, .ref a6] n h2 (fun h3 => ((((50 : Int32) < (ri h3 a9 1)) → (W_X10_lineInto g d av Q n 232 [some (.ref 2759), some (.ref a1), some (.ref a2), some (.int x3), some (.int x4), some (.ref a5), some (.ref a6), none, some (.int x8), none, none] [] h3)) ∧ ((¬ (50 : Int32) < (ri h3 a9 1)) → (CallI g m_X14_degreeN d [.ref a9] n h3 (fun v4 h4 => ((((110 : Int32) < v4) → (W_X10_lineInto g d av Q n 232 [some (.ref 2759), some (.ref a1), some (.ref a2), some (.int x3), some (.int x4), some (.ref a5), some (.ref a6), none, some (.int x8), none, none] [] h4)) ∧ ((¬ (110 : Int32) < v4) → (W_X10_lineInto g d av Q n 233 [some (.ref 2759), some (.ref a1), some (.ref a2), some (.int x3), some (.int x4), some (.ref a5), some (.ref a6), none, some (.int x8), none, none] [.int (1 : Int32)] h4)))))))))))) ∧ ((¬ v1 = (0 : Int32)) → (CallV g m_X10_set d [.ref as0, .ref a6] n h1 (fun h5 => (W_X10_lineInto g d av Q n 235 [some (.ref 2759), some (.ref a1), some (.ref a2), some (.int x3), some (.int x4), some (.ref a5), some (.ref a6), some (.int x7), some (.int x8), none, none] [] h5))))))) : W_X10_lineInto g d av Q n 166 [some (.ref 2759), some (.ref a1), some (.ref a2), some (.int x3), some (.int x4), some (.ref a5), some (.ref a6), some (.int x7), some (.int x8), some (.ref a9), none] [.ref as0] h := by
  refine r_astore (ls2 := [some (.ref 2759), some (.ref a1), some (.ref a2), some (.int x3), some (.int x4), some (.ref a5), some (.ref a6), some (.int x7), some (.int x8), some (.ref a9), some (.ref as0)]) dX10_lineInto_166 (by decide) rfl ?_
  refine r_aload_n dX10_lineInto_168 rfl rfl ?_
  refine r_aload dX10_lineInto_169 rfl ?_
  refine r_aload dX10_lineInto_171 rfl ?_
  refine r_aload dX10_lineInto_173 rfl ?_
  refine k_VI (As := [.ref a6, .ref as0, .ref a5]) (stk := []) hp cv_X10_170 dX10_lineInto_175 rfl (Nat.le_of_ble_eq_true rfl) ly_10 (H.mono (fun v1 h1 H => ?_)) ⟨Nat.le_refl _, Nat.le_refl _⟩
  refine r_if_eq (tgt := 191) dX10_lineInto_178 rfl (fun cH => ?_) (fun cH => ?_)
  · replace H := H.1 cH
    refine r_aload_n dX10_lineInto_191 rfl rfl ?_
    refine r_aload dX10_lineInto_192 rfl ?_
    refine r_aload dX10_lineInto_194 rfl ?_
    refine r_aload dX10_lineInto_196 rfl ?_
    refine k_VV (As := [.ref a6, .ref a9, .ref a5]) (stk := []) hp cv_X10_197 dX10_lineInto_198 rfl (Nat.le_of_ble_eq_true rfl) ly_10 (H.mono (fun h2 H => ?_)) ⟨Nat.le_refl _, Nat.le_refl _⟩
    refine r_aload dX10_lineInto_201 rfl ?_
    refine r_aload dX10_lineInto_203 rfl ?_
    refine k_SV (As := [.ref a9, .ref a6]) (stk := []) cs_X10_113 dX10_lineInto_205 rfl (Nat.le_of_ble_eq_true rfl) (H.mono (fun h3 H => ?_)) ⟨Nat.le_refl _, Nat.le_refl _⟩
    refine r_aload dX10_lineInto_208 rfl ?_
    refine m_getI hp fw_X10_93 dX10_lineInto_210 rfl t9 ?_
    refine r_bipush (v := (50 : Int32)) dX10_lineInto_213 rfl ?_
    refine r_icmp_gt (tgt := 232) dX10_lineInto_215 rfl (fun cH => ?_) (fun cH => ?_)
    · replace H := H.1 cH
      refine r_prune [true, true, true, true, true, true, true, false, true, false, false] (ls2 := [some (.ref 2759), some (.ref a1), some (.ref a2), some (.int x3), some (.int x4), some (.ref a5), some (.ref a6), none, some (.int x8), none, none]) rfl ?_
      exact H
    · replace H := H.2 cH
      refine r_aload dX10_lineInto_218 rfl ?_
      refine k_VI (As := []) (stk := []) hp cv_X10_119 dX10_lineInto_220 rfl (Nat.le_of_ble_eq_true rfl) t9 (H.mono (fun v4 h4 H => ?_)) ⟨Nat.le_refl _, Nat.le_refl _⟩
      refine r_bipush (v := (110 : Int32)) dX10_lineInto_223 rfl ?_
      refine r_icmp_gt (tgt := 232) dX10_lineInto_225 rfl (fun cH => ?_) (fun cH => ?_)
      · replace H := H.1 cH
        refine r_prune [true, true, true, true, true, true, true, false, true, false, false] (ls2 := [some (.ref 2759), some (.ref a1), some (.ref a2), some (.int x3), some (.int x4), some (.ref a5), some (.ref a6), none, some (.int x8), none, none]) rfl ?_
        exact H
      · replace H := H.2 cH
        refine r_iconst (v := (1 : Int32)) dX10_lineInto_228 rfl ?_
        refine r_goto (tgt := 233) dX10_lineInto_229 rfl ?_
        refine r_prune [true, true, true, true, true, true, true, false, true, false, false] (ls2 := [some (.ref 2759), some (.ref a1), some (.ref a2), some (.int x3), some (.int x4), some (.ref a5), some (.ref a6), none, some (.int x8), none, none]) rfl ?_
        exact H
  · replace H := H.2 cH
    refine r_aload dX10_lineInto_181 rfl ?_
    refine r_aload dX10_lineInto_183 rfl ?_
    refine k_SV (As := [.ref as0, .ref a6]) (stk := []) cs_X10_113 dX10_lineInto_185 rfl (Nat.le_of_ble_eq_true rfl) (H.mono (fun h5 H => ?_)) ⟨Nat.le_refl _, Nat.le_refl _⟩
    refine r_goto (tgt := 235) dX10_lineInto_188 rfl ?_
    refine r_prune [true, true, true, true, true, true, true, true, true, false, false] (ls2 := [some (.ref 2759), some (.ref a1), some (.ref a2), some (.int x3), some (.int x4), some (.ref a5), some (.ref a6), some (.int x7), some (.int x8), none, none]) rfl ?_
    exact H
theorem s_X10_lineInto_232 {g : GX} {d : Nat} {av : List Value} {Q : QT} {n : Nat} {h : Hp} {a1 : Nat} {a2 : Nat} {x3 : Int32} {x4 : Int32} {a5 : Nat} {a6 : Nat} {x8 : Int32} (hp : g.2.2.2.2 = true) (t1 : lay a1 = (0, 14, 2)) (t2 : lay a2 = (0, 14, 2)) (t5 : lay a5 = (0, 14, 2)) (t6 : lay a6 = (0, 14, 2)) (H : W_X10_lineInto g d av Q n 233 [some (.ref 2759), some (.ref a1), some (.ref a2), some (.int x3), some (.int x4), some (.ref a5), some (.ref a6), none, some (.int x8), none, none] [.int (0 : Int32)] h) : W_X10_lineInto g d av Q n 232 [some (.ref 2759), some (.ref a1), some (.ref a2), some (.int x3), some (.int x4), some (.ref a5), some (.ref a6), none, some (.int x8), none, none] [] h := by
  refine r_iconst (v := (0 : Int32)) dX10_lineInto_232 rfl ?_
  exact H
theorem s_X10_lineInto_233 {g : GX} {d : Nat} {av : List Value} {Q : QT} {n : Nat} {h : Hp} {a1 : Nat} {a2 : Nat} {x3 : Int32} {x4 : Int32} {a5 : Nat} {a6 : Nat} {x8 : Int32} {xs0 : Int32} (hp : g.2.2.2.2 = true) (t1 : lay a1 = (0, 14, 2)) (t2 : lay a2 = (0, 14, 2)) (t5 : lay a5 = (0, 14, 2)) (t6 : lay a6 = (0, 14, 2)) (H : W_X10_lineInto g d av Q n 235 [some (.ref 2759), some (.ref a1), some (.ref a2), some (.int x3), some (.int x4), some (.ref a5), some (.ref a6), some (.int xs0), some (.int x8), none, none] [] h) : W_X10_lineInto g d av Q n 233 [some (.ref 2759), some (.ref a1), some (.ref a2), some (.int x3), some (.int x4), some (.ref a5), some (.ref a6), none, some (.int x8), none, none] [.int xs0] h := by
  refine r_istore (ls2 := [some (.ref 2759), some (.ref a1), some (.ref a2), some (.int x3), some (.int x4), some (.ref a5), some (.ref a6), some (.int xs0), some (.int x8), none, none]) dX10_lineInto_233 (by decide) rfl ?_
  exact H
theorem s_X10_lineInto_235 {g : GX} {d : Nat} {av : List Value} {Q : QT} {n : Nat} {h : Hp} {a1 : Nat} {a2 : Nat} {x3 : Int32} {x4 : Int32} {a5 : Nat} {a6 : Nat} {x7 : Int32} {x8 : Int32} (hp : g.2.2.2.2 = true) (t1 : lay a1 = (0, 14, 2)) (t2 : lay a2 = (0, 14, 2)) (t5 : lay a5 = (0, 14, 2)) (t6 : lay a6 = (0, 14, 2)) (H : W_X10_lineInto g d av Q n 126 [some (.ref 2759), some (.ref a1), some (.ref a2), some (.int x3), some (.int x4), some (.ref a5), some (.ref a6), some (.int x7), some (.int (x8 + (-1 : Int32))), none, none] [] h) : W_X10_lineInto g d av Q n 235 [some (.ref 2759), some (.ref a1), some (.ref a2), some (.int x3), some (.int x4), some (.ref a5), some (.ref a6), some (.int x7), some (.int x8), none, none] [] h := by
  refine r_iinc (v := (x8 + (-1 : Int32))) (ls2 := [some (.ref 2759), some (.ref a1), some (.ref a2), some (.int x3), some (.int x4), some (.ref a5), some (.ref a6), some (.int x7), some (.int (x8 + (-1 : Int32))), none, none]) dX10_lineInto_235 rfl rfl (by decide) rfl ?_
  refine r_goto (tgt := 126) dX10_lineInto_238 rfl ?_
  exact H
theorem s_X10_lineInto_241 {g : GX} {d : Nat} {av : List Value} {Q : QT} {n : Nat} {h : Hp} {x4 : Int32} {x7 : Int32} (hp : g.2.2.2.2 = true)  (H : ∀ h1, h1 = wi h 2759 3 x4 → ((x7 = 0 ∨ x7 = 1) ∧ Q (some (.int x7)) n h1)) : W_X10_lineInto g d av Q n 241 [some (.ref 2759), none, none, none, some (.int x4), none, none, some (.int x7), none, none, none] [] h := by
  refine r_aload_n dX10_lineInto_241 rfl rfl ?_
  refine r_iload dX10_lineInto_242 rfl ?_
  refine m_putI hp fw_X10_90 dX10_lineInto_244 rfl rfl ly_10 (fun h1 eh1 => ?_)
  replace H := H h1 eh1
  refine r_iload dX10_lineInto_247 rfl ?_
  exact r_zret dX10_lineInto_249 rfl (nar01 H.1) (Nat.le_refl _) (Nat.le_refl _) H.2
abbrev W_X10_work (g : GX) (d : Nat) (av : List Value) (Q : QT) (n : Nat) (pc : Nat) (ls : LV) (stk : List Value) (h : Hp) : Prop := RJ g m_X10_work (d + 1) 0 0 av Q pc ls stk n h 0 0
theorem s_X10_work_0 {g : GX} {d : Nat} {av : List Value} {Q : QT} {n : Nat} {h : Hp} {x1 : Int32} {x2 : Int32} {x3 : Int32} {x4 : Int32} (hp : g.2.2.2.2 = true)  (H : CallI g m_X10_isSlot d [.int x2] n h (fun v1 h1 => (((v1 = (0 : Int32)) → (Q (some (.int (-1 : Int32))) n h1)) ∧ ((¬ v1 = (0 : Int32)) → (CallI g m_X10_isSlot d [.int x3] n h1 (fun v2 h2 => (((v2 = (0 : Int32)) → (Q (some (.int (-1 : Int32))) n h2)) ∧ ((¬ v2 = (0 : Int32)) → (CallI g m_X10_isSlot d [.int x4] n h2 (fun v3 h3 => (((¬ v3 = (0 : Int32)) → (vp_in x2 12 ∧ ∀ r4, r4 = 10245 + 9 * (x2).toNatClampNeg → (vp_in x3 12 ∧ ∀ r5, r5 = 10245 + 9 * (x3).toNatClampNeg → ((((ri h3 r4 0) = (1 : Int32)) → (W_X10_work g d av Q n 58 [some (.ref 2759), some (.int x1), none, none, some (.int x4), some (.ref r4), some (.ref r5), none, none, none, none, none] [] h3)) ∧ ((¬ (ri h3 r4 0) = (1 : Int32)) → (((¬ (ri h3 r4 0) = (2 : Int32)) → (Q (some (.int (-3 : Int32))) n h3)) ∧ (((ri h3 r4 0) = (2 : Int32)) → (W_X10_work g d av Q n 58 [some (.ref 2759), some (.int x1), none, none, some (.int x4), some (.ref r4), some (.ref r5), none, none, none, none, none] [] h3)))))))) ∧ ((v3 = (0 : Int32)) → (Q (some (.int (-1 : Int32))) n h3))))))))))))) : W_X10_work g d av Q n 0 [some (.ref 2759), some (.int x1), some (.int x2), some (.int x3), some (.int x4), none, none, none, none, none, none, none] [] h := by
  refine r_iload_n dX10_work_0 rfl rfl ?_
  refine k_SI (As := [.int x2]) (stk := []) cs_X10_551 dX10_work_1 rfl (Nat.le_of_ble_eq_true rfl) (H.mono (fun v1 h1 H => ?_)) ⟨Nat.le_refl _, Nat.le_refl _⟩
  refine r_if_eq (tgt := 22) dX10_work_4 rfl (fun cH => ?_) (fun cH => ?_)
  · replace H := H.1 cH
    refine r_iconst (v := (-1 : Int32)) dX10_work_22 rfl ?_
    exact r_zret dX10_work_23 rfl rfl (Nat.le_refl _) (Nat.le_refl _) H
  · replace H := H.2 cH
    refine r_iload_n dX10_work_7 rfl rfl ?_
    refine k_SI (As := [.int x3]) (stk := []) cs_X10_551 dX10_work_8 rfl (Nat.le_of_ble_eq_true rfl) (H.mono (fun v2 h2 H => ?_)) ⟨Nat.le_refl _, Nat.le_refl _⟩
    refine r_if_eq (tgt := 22) dX10_work_11 rfl (fun cH => ?_) (fun cH => ?_)
    · replace H := H.1 cH
      refine r_iconst (v := (-1 : Int32)) dX10_work_22 rfl ?_
      exact r_zret dX10_work_23 rfl rfl (Nat.le_refl _) (Nat.le_refl _) H
    · replace H := H.2 cH
      refine r_iload dX10_work_14 rfl ?_
      refine k_SI (As := [.int x4]) (stk := []) cs_X10_551 dX10_work_16 rfl (Nat.le_of_ble_eq_true rfl) (H.mono (fun v3 h3 H => ?_)) ⟨Nat.le_refl _, Nat.le_refl _⟩
      refine r_if_ne (tgt := 24) dX10_work_19 rfl (fun cH => ?_) (fun cH => ?_)
      · replace H := H.1 cH
        refine r_aload_n dX10_work_24 rfl rfl ?_
        refine m_getF (x := 2841) hp fw_X10_450 dX10_work_25 rfl ly_10 (ff_10_20 ly_10) ?_
        refine r_iload_n dX10_work_28 rfl rfl ?_
        obtain ⟨r4, er4⟩ : ∃ y, y = 10245 + 9 * (x2).toNatClampNeg := ⟨_, rfl⟩
        have hir4 := H.1
        replace H := H.2 r4 er4
        have tLr4 := la_2841 hir4 er4
        refine m_aalF (x := r4) hp dX10_work_29 (lf_10_20 ly_10) rfl rfl (lu_10_20 ly_10) hir4 (fa_2841 hir4 er4) ?_
        refine r_astore (ls2 := [some (.ref 2759), some (.int x1), some (.int x2), some (.int x3), some (.int x4), some (.ref r4), none, none, none, none, none, none]) dX10_work_30 (by decide) rfl ?_
        refine r_aload_n dX10_work_32 rfl rfl ?_
        refine m_getF (x := 2841) hp fw_X10_450 dX10_work_33 rfl ly_10 (ff_10_20 ly_10) ?_
        refine r_iload_n dX10_work_36 rfl rfl ?_
        obtain ⟨r5, er5⟩ : ∃ y, y = 10245 + 9 * (x3).toNatClampNeg := ⟨_, rfl⟩
        have hir5 := H.1
        replace H := H.2 r5 er5
        have tLr5 := la_2841 hir5 er5
        refine m_aalF (x := r5) hp dX10_work_37 (lf_10_20 ly_10) rfl rfl (lu_10_20 ly_10) hir5 (fa_2841 hir5 er5) ?_
        refine r_astore (ls2 := [some (.ref 2759), some (.int x1), some (.int x2), some (.int x3), some (.int x4), some (.ref r4), some (.ref r5), none, none, none, none, none]) dX10_work_38 (by decide) rfl ?_
        refine r_aload dX10_work_40 rfl ?_
        refine m_getI hp fw_X10_202 dX10_work_42 rfl tLr4 ?_
        refine r_iconst (v := (1 : Int32)) dX10_work_45 rfl ?_
        refine r_icmp_eq (tgt := 58) dX10_work_46 rfl (fun cH => ?_) (fun cH => ?_)
        · replace H := H.1 cH
          refine r_prune [true, true, false, false, true, true, true, false, false, false, false, false] (ls2 := [some (.ref 2759), some (.int x1), none, none, some (.int x4), some (.ref r4), some (.ref r5), none, none, none, none, none]) rfl ?_
          exact H
        · replace H := H.2 cH
          refine r_aload dX10_work_49 rfl ?_
          refine m_getI hp fw_X10_202 dX10_work_51 rfl tLr4 ?_
          refine r_iconst (v := (2 : Int32)) dX10_work_54 rfl ?_
          refine r_icmp_ne (tgt := 76) dX10_work_55 rfl (fun cH => ?_) (fun cH => ?_)
          · replace H := H.1 cH
            refine r_bipush (v := (-3 : Int32)) dX10_work_76 rfl ?_
            exact r_zret dX10_work_78 rfl rfl (Nat.le_refl _) (Nat.le_refl _) H
          · replace H := H.2 cH
            refine r_prune [true, true, false, false, true, true, true, false, false, false, false, false] (ls2 := [some (.ref 2759), some (.int x1), none, none, some (.int x4), some (.ref r4), some (.ref r5), none, none, none, none, none]) rfl ?_
            exact H
      · replace H := H.2 cH
        refine r_iconst (v := (-1 : Int32)) dX10_work_22 rfl ?_
        exact r_zret dX10_work_23 rfl rfl (Nat.le_refl _) (Nat.le_refl _) H
theorem s_X10_work_58 {g : GX} {d : Nat} {av : List Value} {Q : QT} {n : Nat} {h : Hp} {x1 : Int32} {x4 : Int32} {a5 : Nat} {a6 : Nat} (hp : g.2.2.2.2 = true) (t5 : lay a5 = (0, 11, 15)) (t6 : lay a6 = (0, 11, 15)) (H : (((ri h a6 0) = (1 : Int32)) → (W_X10_work g d av Q n 79 [some (.ref 2759), some (.int x1), none, none, some (.int x4), some (.ref a5), some (.ref a6), none, none, none, none, none] [] h)) ∧ ((¬ (ri h a6 0) = (1 : Int32)) → ((((ri h a6 0) = (2 : Int32)) → (W_X10_work g d av Q n 79 [some (.ref 2759), some (.int x1), none, none, some (.int x4), some (.ref a5), some (.ref a6), none, none, none, none, none] [] h)) ∧ ((¬ (ri h a6 0) = (2 : Int32)) → (Q (some (.int (-3 : Int32))) n h))))) : W_X10_work g d av Q n 58 [some (.ref 2759), some (.int x1), none, none, some (.int x4), some (.ref a5), some (.ref a6), none, none, none, none, none] [] h := by
  refine r_aload dX10_work_58 rfl ?_
  refine m_getI hp fw_X10_202 dX10_work_60 rfl t6 ?_
  refine r_iconst (v := (1 : Int32)) dX10_work_63 rfl ?_
  refine r_icmp_eq (tgt := 79) dX10_work_64 rfl (fun cH => ?_) (fun cH => ?_)
  · replace H := H.1 cH
    exact H
  · replace H := H.2 cH
    refine r_aload dX10_work_67 rfl ?_
    refine m_getI hp fw_X10_202 dX10_work_69 rfl t6 ?_
    refine r_iconst (v := (2 : Int32)) dX10_work_72 rfl ?_
    refine r_icmp_eq (tgt := 79) dX10_work_73 rfl (fun cH => ?_) (fun cH => ?_)
    · replace H := H.1 cH
      exact H
    · replace H := H.2 cH
      refine r_bipush (v := (-3 : Int32)) dX10_work_76 rfl ?_
      exact r_zret dX10_work_78 rfl rfl (Nat.le_refl _) (Nat.le_refl _) H
theorem s_X10_work_79 {g : GX} {d : Nat} {av : List Value} {Q : QT} {n : Nat} {h : Hp} {x1 : Int32} {x4 : Int32} {a5 : Nat} {a6 : Nat} (hp : g.2.2.2.2 = true) (t5 : lay a5 = (0, 11, 15)) (t6 : lay a6 = (0, 11, 15)) (H : ((x1 < (0 : Int32)) → (Q (some (.int (-1 : Int32))) n h)) ∧ ((¬ x1 < (0 : Int32)) → (((x1 ≤ (6 : Int32)) → ((((2 : Int32) ≤ x1) → (W_X10_work g d av Q n 114 [some (.ref 2759), some (.int x1), none, none, some (.int x4), some (.ref a5), some (.ref a6), none, none, none, none, none] [] h)) ∧ ((¬ (2 : Int32) ≤ x1) → ((((ri h a5 0) = (2 : Int32)) → (Q (some (.int (-3 : Int32))) n h)) ∧ ((¬ (ri h a5 0) = (2 : Int32)) → ((((ri h a6 0) = (2 : Int32)) → (Q (some (.int (-3 : Int32))) n h)) ∧ ((¬ (ri h a6 0) = (2 : Int32)) → (W_X10_work g d av Q n 114 [some (.ref 2759), some (.int x1), none, none, some (.int x4), some (.ref a5), some (.ref a6), none, none, none, none, none] [] h)))))))) ∧ ((¬ x1 ≤ (6 : Int32)) → (Q (some (.int (-1 : Int32))) n h))))) : W_X10_work g d av Q n 79 [some (.ref 2759), some (.int x1), none, none, some (.int x4), some (.ref a5), some (.ref a6), none, none, none, none, none] [] h := by
  refine r_iload_n dX10_work_79 rfl rfl ?_
  refine r_if_lt (tgt := 89) dX10_work_80 rfl (fun cH => ?_) (fun cH => ?_)
  · replace H := H.1 cH
    refine r_iconst (v := (-1 : Int32)) dX10_work_89 rfl ?_
    exact r_zret dX10_work_90 rfl rfl (Nat.le_refl _) (Nat.le_refl _) H
  · replace H := H.2 cH
    refine r_iload_n dX10_work_83 rfl rfl ?_
    refine r_bipush (v := (6 : Int32)) dX10_work_84 rfl ?_
    refine r_icmp_le (tgt := 91) dX10_work_86 rfl (fun cH => ?_) (fun cH => ?_)
    · replace H := H.1 cH
      refine r_iload_n dX10_work_91 rfl rfl ?_
      refine r_iconst (v := (2 : Int32)) dX10_work_92 rfl ?_
      refine r_icmp_ge (tgt := 114) dX10_work_93 rfl (fun cH => ?_) (fun cH => ?_)
      · replace H := H.1 cH
        exact H
      · replace H := H.2 cH
        refine r_aload dX10_work_96 rfl ?_
        refine m_getI hp fw_X10_202 dX10_work_98 rfl t5 ?_
        refine r_iconst (v := (2 : Int32)) dX10_work_101 rfl ?_
        refine r_icmp_eq (tgt := 135) dX10_work_102 rfl (fun cH => ?_) (fun cH => ?_)
        · replace H := H.1 cH
          refine r_bipush (v := (-3 : Int32)) dX10_work_135 rfl ?_
          exact r_zret dX10_work_137 rfl rfl (Nat.le_refl _) (Nat.le_refl _) H
        · replace H := H.2 cH
          refine r_aload dX10_work_105 rfl ?_
          refine m_getI hp fw_X10_202 dX10_work_107 rfl t6 ?_
          refine r_iconst (v := (2 : Int32)) dX10_work_110 rfl ?_
          refine r_icmp_eq (tgt := 135) dX10_work_111 rfl (fun cH => ?_) (fun cH => ?_)
          · replace H := H.1 cH
            refine r_bipush (v := (-3 : Int32)) dX10_work_135 rfl ?_
            exact r_zret dX10_work_137 rfl rfl (Nat.le_refl _) (Nat.le_refl _) H
          · replace H := H.2 cH
            exact H
    · replace H := H.2 cH
      refine r_iconst (v := (-1 : Int32)) dX10_work_89 rfl ?_
      exact r_zret dX10_work_90 rfl rfl (Nat.le_refl _) (Nat.le_refl _) H
theorem s_X10_work_114 {g : GX} {d : Nat} {av : List Value} {Q : QT} {n : Nat} {h : Hp} {x1 : Int32} {x4 : Int32} {a5 : Nat} {a6 : Nat} (hp : g.2.2.2.2 = true) (t5 : lay a5 = (0, 11, 15)) (t6 : lay a6 = (0, 11, 15)) (H : ((x1 ≤ (3 : Int32)) → (W_X10_work g d av Q n 138 [some (.ref 2759), some (.int x1), none, none, some (.int x4), some (.ref a5), some (.ref a6), none, none, none, none, none] [] h)) ∧ ((¬ x1 ≤ (3 : Int32)) → (CallI g m_X10_isPolynomial d [.ref a5] n h (fun v1 h1 => (((v1 = (0 : Int32)) → (Q (some (.int (-3 : Int32))) n h1)) ∧ ((¬ v1 = (0 : Int32)) → (CallI g m_X10_isPolynomial d [.ref a6] n h1 (fun v2 h2 => (((¬ v2 = (0 : Int32)) → (W_X10_work g d av Q n 138 [some (.ref 2759), some (.int x1), none, none, some (.int x4), some (.ref a5), some (.ref a6), none, none, none, none, none] [] h2)) ∧ ((v2 = (0 : Int32)) → (Q (some (.int (-3 : Int32))) n h2))))))))))) : W_X10_work g d av Q n 114 [some (.ref 2759), some (.int x1), none, none, some (.int x4), some (.ref a5), some (.ref a6), none, none, none, none, none] [] h := by
  refine r_iload_n dX10_work_114 rfl rfl ?_
  refine r_iconst (v := (3 : Int32)) dX10_work_115 rfl ?_
  refine r_icmp_le (tgt := 138) dX10_work_116 rfl (fun cH => ?_) (fun cH => ?_)
  · replace H := H.1 cH
    exact H
  · replace H := H.2 cH
    refine r_aload dX10_work_119 rfl ?_
    refine k_SI (As := [.ref a5]) (stk := []) cs_X10_637 dX10_work_121 rfl (Nat.le_of_ble_eq_true rfl) (H.mono (fun v1 h1 H => ?_)) ⟨Nat.le_refl _, Nat.le_refl _⟩
    refine r_if_eq (tgt := 135) dX10_work_124 rfl (fun cH => ?_) (fun cH => ?_)
    · replace H := H.1 cH
      refine r_bipush (v := (-3 : Int32)) dX10_work_135 rfl ?_
      exact r_zret dX10_work_137 rfl rfl (Nat.le_refl _) (Nat.le_refl _) H
    · replace H := H.2 cH
      refine r_aload dX10_work_127 rfl ?_
      refine k_SI (As := [.ref a6]) (stk := []) cs_X10_637 dX10_work_129 rfl (Nat.le_of_ble_eq_true rfl) (H.mono (fun v2 h2 H => ?_)) ⟨Nat.le_refl _, Nat.le_refl _⟩
      refine r_if_ne (tgt := 138) dX10_work_132 rfl (fun cH => ?_) (fun cH => ?_)
      · replace H := H.1 cH
        exact H
      · replace H := H.2 cH
        refine r_bipush (v := (-3 : Int32)) dX10_work_135 rfl ?_
        exact r_zret dX10_work_137 rfl rfl (Nat.le_refl _) (Nat.le_refl _) H
theorem s_X10_work_138 {g : GX} {d : Nat} {av : List Value} {Q : QT} {n : Nat} {h : Hp} {x1 : Int32} {x4 : Int32} {a5 : Nat} {a6 : Nat} (hp : g.2.2.2.2 = true) (t5 : lay a5 = (0, 11, 15)) (t6 : lay a6 = (0, 11, 15)) (H : CallV g m_X10_begin d [.ref 2759] n h (fun h1 => (CallV g m_X10_copy d [.ref 2842, .ref a5] n h1 (fun h2 => ((((2 : Int32) ≤ x1) → ((((4 : Int32) ≤ x1) → (CallR g m_X10_newB d [.ref 2759] n h2 (fun v3 h3 => (lay v3 = (0, 14, 2) ∧ (CallR g m_X10_newB d [.ref 2759] n h3 (fun v4 h4 => (lay v4 = (0, 14, 2) ∧ (CallR g m_X10_newB d [.ref 2759] n h4 (fun v5 h5 => (lay v5 = (0, 14, 2) ∧ (CallR g m_X10_newB d [.ref 2759] n h5 (fun v6 h6 => (lay v6 = (0, 14, 2) ∧ (CallV g m_X10_load d [.ref v3, .ref (a5 + 1)] n h6 (fun h7 => (CallV g m_X10_load d [.ref v4, .ref (a6 + 1)] n h7 (fun h8 => (CallV g m_X14_number d [.ref v6, .int (1 : Int32)] n h8 (fun h9 => (((¬ x1 = (4 : Int32)) → (((¬ x1 = (6 : Int32)) → (W_X10_work g d av Q n 335 [some (.ref 2759), none, none, none, some (.int x4), none, none, none, none, some (.ref v5), some (.ref v6), none] [.int (0 : Int32), .ref v4, .ref v3, .ref v5, .ref 2759] h9)) ∧ ((x1 = (6 : Int32)) → (W_X10_work g d av Q n 335 [some (.ref 2759), none, none, none, some (.int x4), none, none, none, none, some (.ref v5), some (.ref v6), none] [.int (1 : Int32), .ref v4, .ref v3, .ref v5, .ref 2759] h9)))) ∧ ((x1 = (4 : Int32)) → (CallV g m_X10_gcd d [.ref 2759, .ref v5, .ref v3, .ref v4] n h9 (fun h10 => (W_X10_work g d av Q n 340 [some (.ref 2759), none, none, none, some (.int x4), none, none, none, none, some (.ref v5), some (.ref v6), some (.int (1 : Int32))] [] h10)))))))))))))))))))))))) ∧ ((¬ (4 : Int32) ≤ x1) → (((¬ x1 = (3 : Int32)) → (W_X10_work g d av Q n 211 [some (.ref 2759), some (.int x1), none, none, some (.int x4), none, some (.ref a6), none, none, none, none, none] [] h2)) ∧ ((x1 = (3 : Int32)) → (CallI g m_X10_isZero d [.ref a6] n h2 (fun v11 h11 => (((v11 = (0 : Int32)) → (W_X10_work g d av Q n 211 [some (.ref 2759), some (.int x1), none, none, some (.int x4), none, some (.ref a6), none, none, none, none, none] [] h11)) ∧ ((¬ v11 = (0 : Int32)) → (Q (some (.int (-1 : Int32))) n h11)))))))))) ∧ ((¬ (2 : Int32) ≤ x1) → (((¬ x1 = (1 : Int32)) → (W_X10_work g d av Q n 173 [some (.ref 2759), none, none, none, some (.int x4), none, none, none, none, none, none, none] [.int (0 : Int32), .ref a6, .ref 2842, .ref 2759] h2)) ∧ ((x1 = (1 : Int32)) → (W_X10_work g d av Q n 173 [some (.ref 2759), none, none, none, some (.int x4), none, none, none, none, none, none, none] [.int (1 : Int32), .ref a6, .ref 2842, .ref 2759] h2))))))))) : W_X10_work g d av Q n 138 [some (.ref 2759), some (.int x1), none, none, some (.int x4), some (.ref a5), some (.ref a6), none, none, none, none, none] [] h := by
  refine r_aload_n dX10_work_138 rfl rfl ?_
  refine k_VV (As := []) (stk := []) hp cv_X10_555 dX10_work_139 rfl (Nat.le_of_ble_eq_true rfl) ly_10 (H.mono (fun h1 H => ?_)) ⟨Nat.le_refl _, Nat.le_refl _⟩
  refine r_aload_n dX10_work_142 rfl rfl ?_
  refine m_getF (x := 2842) hp fw_X10_453 dX10_work_143 rfl ly_10 (ff_10_21 ly_10) ?_
  refine r_aload dX10_work_146 rfl ?_
  refine k_SV (As := [.ref 2842, .ref a5]) (stk := []) cs_X10_547 dX10_work_148 rfl (Nat.le_of_ble_eq_true rfl) (H.mono (fun h2 H => ?_)) ⟨Nat.le_refl _, Nat.le_refl _⟩
  refine r_iload_n dX10_work_151 rfl rfl ?_
  refine r_iconst (v := (2 : Int32)) dX10_work_152 rfl ?_
  refine r_icmp_ge (tgt := 191) dX10_work_153 rfl (fun cH => ?_) (fun cH => ?_)
  · replace H := H.1 cH
    refine r_iload_n dX10_work_191 rfl rfl ?_
    refine r_iconst (v := (4 : Int32)) dX10_work_192 rfl ?_
    refine r_icmp_ge (tgt := 246) dX10_work_193 rfl (fun cH => ?_) (fun cH => ?_)
    · replace H := H.1 cH
      refine r_aload_n dX10_work_246 rfl rfl ?_
      refine k_VR (As := []) (stk := []) hp cv_X10_140 dX10_work_247 rfl (Nat.le_of_ble_eq_true rfl) ly_10 (H.mono (fun v3 h3 H => ?_)) ⟨Nat.le_refl _, Nat.le_refl _⟩
      obtain ⟨tv3, H⟩ := H
      refine r_astore (ls2 := [some (.ref 2759), some (.int x1), none, none, some (.int x4), some (.ref a5), some (.ref a6), some (.ref v3), none, none, none, none]) dX10_work_250 (by decide) rfl ?_
      refine r_aload_n dX10_work_252 rfl rfl ?_
      refine k_VR (As := []) (stk := []) hp cv_X10_140 dX10_work_253 rfl (Nat.le_of_ble_eq_true rfl) ly_10 (H.mono (fun v4 h4 H => ?_)) ⟨Nat.le_refl _, Nat.le_refl _⟩
      obtain ⟨tv4, H⟩ := H
      refine r_astore (ls2 := [some (.ref 2759), some (.int x1), none, none, some (.int x4), some (.ref a5), some (.ref a6), some (.ref v3), some (.ref v4), none, none, none]) dX10_work_256 (by decide) rfl ?_
      refine r_aload_n dX10_work_258 rfl rfl ?_
      refine k_VR (As := []) (stk := []) hp cv_X10_140 dX10_work_259 rfl (Nat.le_of_ble_eq_true rfl) ly_10 (H.mono (fun v5 h5 H => ?_)) ⟨Nat.le_refl _, Nat.le_refl _⟩
      obtain ⟨tv5, H⟩ := H
      refine r_astore (ls2 := [some (.ref 2759), some (.int x1), none, none, some (.int x4), some (.ref a5), some (.ref a6), some (.ref v3), some (.ref v4), some (.ref v5), none, none]) dX10_work_262 (by decide) rfl ?_
      refine r_aload_n dX10_work_264 rfl rfl ?_
      refine k_VR (As := []) (stk := []) hp cv_X10_140 dX10_work_265 rfl (Nat.le_of_ble_eq_true rfl) ly_10 (H.mono (fun v6 h6 H => ?_)) ⟨Nat.le_refl _, Nat.le_refl _⟩
      obtain ⟨tv6, H⟩ := H
      refine r_astore (ls2 := [some (.ref 2759), some (.int x1), none, none, some (.int x4), some (.ref a5), some (.ref a6), some (.ref v3), some (.ref v4), some (.ref v5), some (.ref v6), none]) dX10_work_268 (by decide) rfl ?_
      refine r_aload dX10_work_270 rfl ?_
      refine r_aload dX10_work_272 rfl ?_
      refine m_getF (x := (a5 + 1)) hp fw_X10_207 dX10_work_274 rfl t5 (ff_11_1 t5) ?_
      refine k_SV (As := [.ref v3, .ref (a5 + 1)]) (stk := []) cs_X10_295 dX10_work_277 rfl (Nat.le_of_ble_eq_true rfl) (H.mono (fun h7 H => ?_)) ⟨Nat.le_refl _, Nat.le_refl _⟩
      refine r_aload dX10_work_280 rfl ?_
      refine r_aload dX10_work_282 rfl ?_
      refine m_getF (x := (a6 + 1)) hp fw_X10_207 dX10_work_284 rfl t6 (ff_11_1 t6) ?_
      refine k_SV (As := [.ref v4, .ref (a6 + 1)]) (stk := []) cs_X10_295 dX10_work_287 rfl (Nat.le_of_ble_eq_true rfl) (H.mono (fun h8 H => ?_)) ⟨Nat.le_refl _, Nat.le_refl _⟩
      refine r_aload dX10_work_290 rfl ?_
      refine r_iconst (v := (1 : Int32)) dX10_work_292 rfl ?_
      refine k_VV (As := [.int (1 : Int32)]) (stk := []) hp cv_X10_158 dX10_work_293 rfl (Nat.le_of_ble_eq_true rfl) tv6 (H.mono (fun h9 H => ?_)) ⟨Nat.le_refl _, Nat.le_refl _⟩
      refine r_iconst (v := (1 : Int32)) dX10_work_296 rfl ?_
      refine r_istore (ls2 := [some (.ref 2759), some (.int x1), none, none, some (.int x4), some (.ref a5), some (.ref a6), some (.ref v3), some (.ref v4), some (.ref v5), some (.ref v6), some (.int (1 : Int32))]) dX10_work_297 (by decide) rfl ?_
      refine r_iload_n dX10_work_299 rfl rfl ?_
      refine r_iconst (v := (4 : Int32)) dX10_work_300 rfl ?_
      refine r_icmp_ne (tgt := 317) dX10_work_301 rfl (fun cH => ?_) (fun cH => ?_)
      · replace H := H.1 cH
        refine r_aload_n dX10_work_317 rfl rfl ?_
        refine r_aload dX10_work_318 rfl ?_
        refine r_aload dX10_work_320 rfl ?_
        refine r_aload dX10_work_322 rfl ?_
        refine r_iload_n dX10_work_324 rfl rfl ?_
        refine r_bipush (v := (6 : Int32)) dX10_work_325 rfl ?_
        refine r_icmp_ne (tgt := 334) dX10_work_327 rfl (fun cH => ?_) (fun cH => ?_)
        · replace H := H.1 cH
          refine r_iconst (v := (0 : Int32)) dX10_work_334 rfl ?_
          refine r_prune [true, false, false, false, true, false, false, false, false, true, true, false] (ls2 := [some (.ref 2759), none, none, none, some (.int x4), none, none, none, none, some (.ref v5), some (.ref v6), none]) rfl ?_
          exact H
        · replace H := H.2 cH
          refine r_iconst (v := (1 : Int32)) dX10_work_330 rfl ?_
          refine r_goto (tgt := 335) dX10_work_331 rfl ?_
          refine r_prune [true, false, false, false, true, false, false, false, false, true, true, false] (ls2 := [some (.ref 2759), none, none, none, some (.int x4), none, none, none, none, some (.ref v5), some (.ref v6), none]) rfl ?_
          exact H
      · replace H := H.2 cH
        refine r_aload_n dX10_work_304 rfl rfl ?_
        refine r_aload dX10_work_305 rfl ?_
        refine r_aload dX10_work_307 rfl ?_
        refine r_aload dX10_work_309 rfl ?_
        refine k_VV (As := [.ref v5, .ref v3, .ref v4]) (stk := []) hp cv_X10_185 dX10_work_311 rfl (Nat.le_of_ble_eq_true rfl) ly_10 (H.mono (fun h10 H => ?_)) ⟨Nat.le_refl _, Nat.le_refl _⟩
        refine r_goto (tgt := 340) dX10_work_314 rfl ?_
        refine r_prune [true, false, false, false, true, false, false, false, false, true, true, true] (ls2 := [some (.ref 2759), none, none, none, some (.int x4), none, none, none, none, some (.ref v5), some (.ref v6), some (.int (1 : Int32))]) rfl ?_
        exact H
    · replace H := H.2 cH
      refine r_iload_n dX10_work_196 rfl rfl ?_
      refine r_iconst (v := (3 : Int32)) dX10_work_197 rfl ?_
      refine r_icmp_ne (tgt := 211) dX10_work_198 rfl (fun cH => ?_) (fun cH => ?_)
      · replace H := H.1 cH
        refine r_prune [true, true, false, false, true, false, true, false, false, false, false, false] (ls2 := [some (.ref 2759), some (.int x1), none, none, some (.int x4), none, some (.ref a6), none, none, none, none, none]) rfl ?_
        exact H
      · replace H := H.2 cH
        refine r_aload dX10_work_201 rfl ?_
        refine k_SI (As := [.ref a6]) (stk := []) cs_X10_288 dX10_work_203 rfl (Nat.le_of_ble_eq_true rfl) (H.mono (fun v11 h11 H => ?_)) ⟨Nat.le_refl _, Nat.le_refl _⟩
        refine r_if_eq (tgt := 211) dX10_work_206 rfl (fun cH => ?_) (fun cH => ?_)
        · replace H := H.1 cH
          refine r_prune [true, true, false, false, true, false, true, false, false, false, false, false] (ls2 := [some (.ref 2759), some (.int x1), none, none, some (.int x4), none, some (.ref a6), none, none, none, none, none]) rfl ?_
          exact H
        · replace H := H.2 cH
          refine r_iconst (v := (-1 : Int32)) dX10_work_209 rfl ?_
          exact r_zret dX10_work_210 rfl rfl (Nat.le_refl _) (Nat.le_refl _) H
  · replace H := H.2 cH
    refine r_aload_n dX10_work_156 rfl rfl ?_
    refine r_aload_n dX10_work_157 rfl rfl ?_
    refine m_getF (x := 2842) hp fw_X10_453 dX10_work_158 rfl ly_10 (ff_10_21 ly_10) ?_
    refine r_aload dX10_work_161 rfl ?_
    refine r_iload_n dX10_work_163 rfl rfl ?_
    refine r_iconst (v := (1 : Int32)) dX10_work_164 rfl ?_
    refine r_icmp_ne (tgt := 172) dX10_work_165 rfl (fun cH => ?_) (fun cH => ?_)
    · replace H := H.1 cH
      refine r_iconst (v := (0 : Int32)) dX10_work_172 rfl ?_
      refine r_prune [true, false, false, false, true, false, false, false, false, false, false, false] (ls2 := [some (.ref 2759), none, none, none, some (.int x4), none, none, none, none, none, none, none]) rfl ?_
      exact H
    · replace H := H.2 cH
      refine r_iconst (v := (1 : Int32)) dX10_work_168 rfl ?_
      refine r_goto (tgt := 173) dX10_work_169 rfl ?_
      refine r_prune [true, false, false, false, true, false, false, false, false, false, false, false] (ls2 := [some (.ref 2759), none, none, none, some (.int x4), none, none, none, none, none, none, none]) rfl ?_
      exact H
theorem s_X10_work_173 {g : GX} {d : Nat} {av : List Value} {Q : QT} {n : Nat} {h : Hp} {x4 : Int32} {xs0 : Int32} {as1 : Nat} {as2 : Nat} {as3 : Nat} (hp : g.2.2.2.2 = true) (ts1 : lay as1 = (0, 11, 15)) (ts2 : lay as2 = (0, 11, 15)) (ts3 : lay as3 = (0, 10, 65)) (H : CallI g m_X10_add_2 d [.ref as3, .ref as2, .ref as1, .int xs0] n h (fun v1 h1 => (((v1 = (0 : Int32)) → (Q (some (.int (-2 : Int32))) n h1)) ∧ ((¬ v1 = (0 : Int32)) → (CallI g m_X10_keep d [.ref 2759, .int x4] n h1 (fun v2 h2 => (Q (some (.int v2)) n h2))))))) : W_X10_work g d av Q n 173 [some (.ref 2759), none, none, none, some (.int x4), none, none, none, none, none, none, none] [.int xs0, .ref as1, .ref as2, .ref as3] h := by
  refine k_VI (As := [.ref as2, .ref as1, .int xs0]) (stk := []) hp cv_X10_382 dX10_work_173 rfl (Nat.le_of_ble_eq_true rfl) ts3 (H.mono (fun v1 h1 H => ?_)) ⟨Nat.le_refl _, Nat.le_refl _⟩
  refine r_if_eq (tgt := 188) dX10_work_176 rfl (fun cH => ?_) (fun cH => ?_)
  · replace H := H.1 cH
    refine r_bipush (v := (-2 : Int32)) dX10_work_188 rfl ?_
    exact r_zret dX10_work_190 rfl rfl (Nat.le_refl _) (Nat.le_refl _) H
  · replace H := H.2 cH
    refine r_aload_n dX10_work_179 rfl rfl ?_
    refine r_iload dX10_work_180 rfl ?_
    refine k_VI (As := [.int x4]) (stk := []) hp cv_X10_558 dX10_work_182 rfl (Nat.le_of_ble_eq_true rfl) ly_10 (H.mono (fun v2 h2 H => ?_)) ⟨Nat.le_refl _, Nat.le_refl _⟩
    refine r_goto (tgt := 190) dX10_work_185 rfl ?_
    exact r_zret dX10_work_190 rfl rfl (Nat.le_refl _) (Nat.le_refl _) H
theorem s_X10_work_211 {g : GX} {d : Nat} {av : List Value} {Q : QT} {n : Nat} {h : Hp} {x1 : Int32} {x4 : Int32} {a6 : Nat} (hp : g.2.2.2.2 = true) (t6 : lay a6 = (0, 11, 15)) (H : ((¬ x1 = (3 : Int32)) → (W_X10_work g d av Q n 228 [some (.ref 2759), none, none, none, some (.int x4), none, none, none, none, none, none, none] [.int (0 : Int32), .ref a6, .ref 2842, .ref 2759] h)) ∧ ((x1 = (3 : Int32)) → (W_X10_work g d av Q n 228 [some (.ref 2759), none, none, none, some (.int x4), none, none, none, none, none, none, none] [.int (1 : Int32), .ref a6, .ref 2842, .ref 2759] h))) : W_X10_work g d av Q n 211 [some (.ref 2759), some (.int x1), none, none, some (.int x4), none, some (.ref a6), none, none, none, none, none] [] h := by
  refine r_aload_n dX10_work_211 rfl rfl ?_
  refine r_aload_n dX10_work_212 rfl rfl ?_
  refine m_getF (x := 2842) hp fw_X10_453 dX10_work_213 rfl ly_10 (ff_10_21 ly_10) ?_
  refine r_aload dX10_work_216 rfl ?_
  refine r_iload_n dX10_work_218 rfl rfl ?_
  refine r_iconst (v := (3 : Int32)) dX10_work_219 rfl ?_
  refine r_icmp_ne (tgt := 227) dX10_work_220 rfl (fun cH => ?_) (fun cH => ?_)
  · replace H := H.1 cH
    refine r_iconst (v := (0 : Int32)) dX10_work_227 rfl ?_
    refine r_prune [true, false, false, false, true, false, false, false, false, false, false, false] (ls2 := [some (.ref 2759), none, none, none, some (.int x4), none, none, none, none, none, none, none]) rfl ?_
    exact H
  · replace H := H.2 cH
    refine r_iconst (v := (1 : Int32)) dX10_work_223 rfl ?_
    refine r_goto (tgt := 228) dX10_work_224 rfl ?_
    refine r_prune [true, false, false, false, true, false, false, false, false, false, false, false] (ls2 := [some (.ref 2759), none, none, none, some (.int x4), none, none, none, none, none, none, none]) rfl ?_
    exact H
theorem s_X10_work_228 {g : GX} {d : Nat} {av : List Value} {Q : QT} {n : Nat} {h : Hp} {x4 : Int32} {xs0 : Int32} {as1 : Nat} {as2 : Nat} {as3 : Nat} (hp : g.2.2.2.2 = true) (ts1 : lay as1 = (0, 11, 15)) (ts2 : lay as2 = (0, 11, 15)) (ts3 : lay as3 = (0, 10, 65)) (H : CallI g m_X10_multiply d [.ref as3, .ref as2, .ref as1, .int xs0] n h (fun v1 h1 => (((v1 = (0 : Int32)) → (Q (some (.int (-2 : Int32))) n h1)) ∧ ((¬ v1 = (0 : Int32)) → (CallI g m_X10_keep d [.ref 2759, .int x4] n h1 (fun v2 h2 => (Q (some (.int v2)) n h2))))))) : W_X10_work g d av Q n 228 [some (.ref 2759), none, none, none, some (.int x4), none, none, none, none, none, none, none] [.int xs0, .ref as1, .ref as2, .ref as3] h := by
  refine k_VI (As := [.ref as2, .ref as1, .int xs0]) (stk := []) hp cv_X10_388 dX10_work_228 rfl (Nat.le_of_ble_eq_true rfl) ts3 (H.mono (fun v1 h1 H => ?_)) ⟨Nat.le_refl _, Nat.le_refl _⟩
  refine r_if_eq (tgt := 243) dX10_work_231 rfl (fun cH => ?_) (fun cH => ?_)
  · replace H := H.1 cH
    refine r_bipush (v := (-2 : Int32)) dX10_work_243 rfl ?_
    exact r_zret dX10_work_245 rfl rfl (Nat.le_refl _) (Nat.le_refl _) H
  · replace H := H.2 cH
    refine r_aload_n dX10_work_234 rfl rfl ?_
    refine r_iload dX10_work_235 rfl ?_
    refine k_VI (As := [.int x4]) (stk := []) hp cv_X10_558 dX10_work_237 rfl (Nat.le_of_ble_eq_true rfl) ly_10 (H.mono (fun v2 h2 H => ?_)) ⟨Nat.le_refl _, Nat.le_refl _⟩
    refine r_goto (tgt := 245) dX10_work_240 rfl ?_
    exact r_zret dX10_work_245 rfl rfl (Nat.le_refl _) (Nat.le_refl _) H
theorem s_X10_work_335 {g : GX} {d : Nat} {av : List Value} {Q : QT} {n : Nat} {h : Hp} {x4 : Int32} {a9 : Nat} {a10 : Nat} {xs0 : Int32} {as1 : Nat} {as2 : Nat} {as3 : Nat} {as4 : Nat} (hp : g.2.2.2.2 = true) (t9 : lay a9 = (0, 14, 2)) (t10 : lay a10 = (0, 14, 2)) (ts1 : lay as1 = (0, 14, 2)) (ts2 : lay as2 = (0, 14, 2)) (ts3 : lay as3 = (0, 14, 2)) (ts4 : lay as4 = (0, 10, 65)) (H : CallI g m_X10_resultant d [.ref as4, .ref as3, .ref as2, .ref as1, .int xs0] n h (fun v1 h1 => (W_X10_work g d av Q n 340 [some (.ref 2759), none, none, none, some (.int x4), none, none, none, none, some (.ref a9), some (.ref a10), some (.int v1)] [] h1))) : W_X10_work g d av Q n 335 [some (.ref 2759), none, none, none, some (.int x4), none, none, none, none, some (.ref a9), some (.ref a10), none] [.int xs0, .ref as1, .ref as2, .ref as3, .ref as4] h := by
  refine k_VI (As := [.ref as3, .ref as2, .ref as1, .int xs0]) (stk := []) hp cv_X10_640 dX10_work_335 rfl (Nat.le_of_ble_eq_true rfl) ts4 (H.mono (fun v1 h1 H => ?_)) ⟨Nat.le_refl _, Nat.le_refl _⟩
  refine r_istore (ls2 := [some (.ref 2759), none, none, none, some (.int x4), none, none, none, none, some (.ref a9), some (.ref a10), some (.int v1)]) dX10_work_338 (by decide) rfl ?_
  exact H
theorem s_X10_work_340 {g : GX} {d : Nat} {av : List Value} {Q : QT} {n : Nat} {h : Hp} {x4 : Int32} {a9 : Nat} {a10 : Nat} {x11 : Int32} (hp : g.2.2.2.2 = true) (t9 : lay a9 = (0, 14, 2)) (t10 : lay a10 = (0, 14, 2)) (H : ((x11 = (0 : Int32)) → (Q (some (.int (-2 : Int32))) n h)) ∧ ((¬ x11 = (0 : Int32)) → (CallI g m_X10_put d [.ref 2842, .ref a9, .ref a10] n h (fun v1 h1 => (((v1 = (0 : Int32)) → (Q (some (.int (-2 : Int32))) n h1)) ∧ ((¬ v1 = (0 : Int32)) → (CallI g m_X10_keep d [.ref 2759, .int x4] n h1 (fun v2 h2 => (Q (some (.int v2)) n h2))))))))) : W_X10_work g d av Q n 340 [some (.ref 2759), none, none, none, some (.int x4), none, none, none, none, some (.ref a9), some (.ref a10), some (.int x11)] [] h := by
  refine r_iload dX10_work_340 rfl ?_
  refine r_if_eq (tgt := 368) dX10_work_342 rfl (fun cH => ?_) (fun cH => ?_)
  · replace H := H.1 cH
    refine r_bipush (v := (-2 : Int32)) dX10_work_368 rfl ?_
    exact r_zret dX10_work_370 rfl rfl (Nat.le_refl _) (Nat.le_refl _) H
  · replace H := H.2 cH
    refine r_aload_n dX10_work_345 rfl rfl ?_
    refine m_getF (x := 2842) hp fw_X10_453 dX10_work_346 rfl ly_10 (ff_10_21 ly_10) ?_
    refine r_aload dX10_work_349 rfl ?_
    refine r_aload dX10_work_351 rfl ?_
    refine k_SI (As := [.ref 2842, .ref a9, .ref a10]) (stk := []) cs_X10_261 dX10_work_353 rfl (Nat.le_of_ble_eq_true rfl) (H.mono (fun v1 h1 H => ?_)) ⟨Nat.le_refl _, Nat.le_refl _⟩
    refine r_if_eq (tgt := 368) dX10_work_356 rfl (fun cH => ?_) (fun cH => ?_)
    · replace H := H.1 cH
      refine r_bipush (v := (-2 : Int32)) dX10_work_368 rfl ?_
      exact r_zret dX10_work_370 rfl rfl (Nat.le_refl _) (Nat.le_refl _) H
    · replace H := H.2 cH
      refine r_aload_n dX10_work_359 rfl rfl ?_
      refine r_iload dX10_work_360 rfl ?_
      refine k_VI (As := [.int x4]) (stk := []) hp cv_X10_558 dX10_work_362 rfl (Nat.le_of_ble_eq_true rfl) ly_10 (H.mono (fun v2 h2 H => ?_)) ⟨Nat.le_refl _, Nat.le_refl _⟩
      refine r_goto (tgt := 370) dX10_work_365 rfl ?_
      exact r_zret dX10_work_370 rfl rfl (Nat.le_refl _) (Nat.le_refl _) H
abbrev W_X10_isPolynomial (g : GX) (d : Nat) (av : List Value) (Q : QT) (n : Nat) (pc : Nat) (ls : LV) (stk : List Value) (h : Hp) : Prop := RJ g m_X10_isPolynomial (d + 1) 0 0 av Q pc ls stk n h 0 0
theorem s_X10_isPolynomial_0 {g : GX} {d : Nat} {av : List Value} {Q : QT} {n : Nat} {h : Hp} {a0 : Nat} (hp : g.2.2.2.2 = true) (t0 : lay a0 = (0, 11, 15)) (H : ((¬ (ri h a0 0) = (1 : Int32)) → (Q (some (.int (0 : Int32))) n h)) ∧ (((ri h a0 0) = (1 : Int32)) → (CallI g m_X10_isOne d [.ref (a0 + 2)] n h (fun v1 h1 => (((v1 = (0 : Int32)) → (Q (some (.int (0 : Int32))) n h1)) ∧ ((¬ v1 = (0 : Int32)) → (Q (some (.int (1 : Int32))) n h1))))))) : W_X10_isPolynomial g d av Q n 0 [some (.ref a0)] [] h := by
  refine r_aload_n dX10_isPolynomial_0 rfl rfl ?_
  refine m_getI hp fw_X10_202 dX10_isPolynomial_1 rfl t0 ?_
  refine r_iconst (v := (1 : Int32)) dX10_isPolynomial_4 rfl ?_
  refine r_icmp_ne (tgt := 22) dX10_isPolynomial_5 rfl (fun cH => ?_) (fun cH => ?_)
  · replace H := H.1 cH
    refine r_iconst (v := (0 : Int32)) dX10_isPolynomial_22 rfl ?_
    exact r_zret dX10_isPolynomial_23 rfl rfl (Nat.le_refl _) (Nat.le_refl _) H
  · replace H := H.2 cH
    refine r_aload_n dX10_isPolynomial_8 rfl rfl ?_
    refine m_getF (x := (a0 + 2)) hp fw_X10_210 dX10_isPolynomial_9 rfl t0 (ff_11_2 t0) ?_
    refine k_SI (As := [.ref (a0 + 2)]) (stk := []) cs_X10_265 dX10_isPolynomial_12 rfl (Nat.le_of_ble_eq_true rfl) (H.mono (fun v1 h1 H => ?_)) ⟨Nat.le_refl _, Nat.le_refl _⟩
    refine r_if_eq (tgt := 22) dX10_isPolynomial_15 rfl (fun cH => ?_) (fun cH => ?_)
    · replace H := H.1 cH
      refine r_iconst (v := (0 : Int32)) dX10_isPolynomial_22 rfl ?_
      exact r_zret dX10_isPolynomial_23 rfl rfl (Nat.le_refl _) (Nat.le_refl _) H
    · replace H := H.2 cH
      refine r_iconst (v := (1 : Int32)) dX10_isPolynomial_18 rfl ?_
      refine r_goto (tgt := 23) dX10_isPolynomial_19 rfl ?_
      exact r_zret dX10_isPolynomial_23 rfl rfl (Nat.le_refl _) (Nat.le_refl _) H
abbrev W_X10_resultant (g : GX) (d : Nat) (av : List Value) (Q : QT) (n : Nat) (pc : Nat) (ls : LV) (stk : List Value) (h : Hp) : Prop := RJ g m_X10_resultant (d + 1) 0 0 av Q pc ls stk n h 0 0
theorem s_X10_resultant_0 {g : GX} {d : Nat} {av : List Value} {Q : QT} {n : Nat} {h : Hp} {a1 : Nat} {a2 : Nat} {a3 : Nat} {x4 : Int32} (hp : g.2.2.2.2 = true) (t1 : lay a1 = (0, 14, 2)) (t2 : lay a2 = (0, 14, 2)) (t3 : lay a3 = (0, 14, 2)) (H : CallR g m_X10_newB d [.ref 2759] n h (fun v1 h1 => (lay v1 = (0, 14, 2) ∧ (CallR g m_X10_newB d [.ref 2759] n h1 (fun v2 h2 => (lay v2 = (0, 14, 2) ∧ (((x4 = (0 : Int32)) → (CallV g m_X10_set d [.ref v1, .ref a2] n h2 (fun h3 => (CallV g m_X10_set d [.ref v2, .ref a3] n h3 (fun h4 => (W_X10_resultant g d av Q n 44 [some (.ref 2759), some (.ref a1), none, none, some (.int x4), some (.ref v1), some (.ref v2), none, none, none, none, none] [] h4)))))) ∧ ((¬ x4 = (0 : Int32)) → (CallV g m_X10_turn d [.ref v1, .ref a2] n h2 (fun h5 => (CallV g m_X10_turn d [.ref v2, .ref a3] n h5 (fun h6 => (W_X10_resultant g d av Q n 44 [some (.ref 2759), some (.ref a1), none, none, some (.int x4), some (.ref v1), some (.ref v2), none, none, none, none, none] [] h6))))))))))))) : W_X10_resultant g d av Q n 0 [some (.ref 2759), some (.ref a1), some (.ref a2), some (.ref a3), some (.int x4), none, none, none, none, none, none, none] [] h := by
  refine r_aload_n dX10_resultant_0 rfl rfl ?_
  refine k_VR (As := []) (stk := []) hp cv_X10_140 dX10_resultant_1 rfl (Nat.le_of_ble_eq_true rfl) ly_10 (H.mono (fun v1 h1 H => ?_)) ⟨Nat.le_refl _, Nat.le_refl _⟩
  obtain ⟨tv1, H⟩ := H
  refine r_astore (ls2 := [some (.ref 2759), some (.ref a1), some (.ref a2), some (.ref a3), some (.int x4), some (.ref v1), none, none, none, none, none, none]) dX10_resultant_4 (by decide) rfl ?_
  refine r_aload_n dX10_resultant_6 rfl rfl ?_
  refine k_VR (As := []) (stk := []) hp cv_X10_140 dX10_resultant_7 rfl (Nat.le_of_ble_eq_true rfl) ly_10 (H.mono (fun v2 h2 H => ?_)) ⟨Nat.le_refl _, Nat.le_refl _⟩
  obtain ⟨tv2, H⟩ := H
  refine r_astore (ls2 := [some (.ref 2759), some (.ref a1), some (.ref a2), some (.ref a3), some (.int x4), some (.ref v1), some (.ref v2), none, none, none, none, none]) dX10_resultant_10 (by decide) rfl ?_
  refine r_iload dX10_resultant_12 rfl ?_
  refine r_if_eq (tgt := 32) dX10_resultant_14 rfl (fun cH => ?_) (fun cH => ?_)
  · replace H := H.1 cH
    refine r_aload dX10_resultant_32 rfl ?_
    refine r_aload_n dX10_resultant_34 rfl rfl ?_
    refine k_SV (As := [.ref v1, .ref a2]) (stk := []) cs_X10_113 dX10_resultant_35 rfl (Nat.le_of_ble_eq_true rfl) (H.mono (fun h3 H => ?_)) ⟨Nat.le_refl _, Nat.le_refl _⟩
    refine r_aload dX10_resultant_38 rfl ?_
    refine r_aload_n dX10_resultant_40 rfl rfl ?_
    refine k_SV (As := [.ref v2, .ref a3]) (stk := []) cs_X10_113 dX10_resultant_41 rfl (Nat.le_of_ble_eq_true rfl) (H.mono (fun h4 H => ?_)) ⟨Nat.le_refl _, Nat.le_refl _⟩
    refine r_prune [true, true, false, false, true, true, true, false, false, false, false, false] (ls2 := [some (.ref 2759), some (.ref a1), none, none, some (.int x4), some (.ref v1), some (.ref v2), none, none, none, none, none]) rfl ?_
    exact H
  · replace H := H.2 cH
    refine r_aload dX10_resultant_17 rfl ?_
    refine r_aload_n dX10_resultant_19 rfl rfl ?_
    refine k_SV (As := [.ref v1, .ref a2]) (stk := []) cs_X10_644 dX10_resultant_20 rfl (Nat.le_of_ble_eq_true rfl) (H.mono (fun h5 H => ?_)) ⟨Nat.le_refl _, Nat.le_refl _⟩
    refine r_aload dX10_resultant_23 rfl ?_
    refine r_aload_n dX10_resultant_25 rfl rfl ?_
    refine k_SV (As := [.ref v2, .ref a3]) (stk := []) cs_X10_644 dX10_resultant_26 rfl (Nat.le_of_ble_eq_true rfl) (H.mono (fun h6 H => ?_)) ⟨Nat.le_refl _, Nat.le_refl _⟩
    refine r_goto (tgt := 44) dX10_resultant_29 rfl ?_
    refine r_prune [true, true, false, false, true, true, true, false, false, false, false, false] (ls2 := [some (.ref 2759), some (.ref a1), none, none, some (.int x4), some (.ref v1), some (.ref v2), none, none, none, none, none]) rfl ?_
    exact H
theorem s_X10_resultant_44 {g : GX} {d : Nat} {av : List Value} {Q : QT} {n : Nat} {h : Hp} {a1 : Nat} {x4 : Int32} {a5 : Nat} {a6 : Nat} (hp : g.2.2.2.2 = true) (t1 : lay a1 = (0, 14, 2)) (t5 : lay a5 = (0, 14, 2)) (t6 : lay a6 = (0, 14, 2)) (H : (((ri h a5 1) = (0 : Int32)) → (W_X10_resultant g d av Q n 60 [none, some (.ref a1), none, none, none, none, none, none, none, none, none, none] [] h)) ∧ ((¬ (ri h a5 1) = (0 : Int32)) → (((¬ (ri h a6 1) = (0 : Int32)) → (CallI g m_X14_degreeN d [.ref a5] n h (fun v1 h1 => (CallI g m_X14_degreeN d [.ref a6] n h1 (fun v2 h2 => (W_X10_resultant g d av Q n 109 [some (.ref 2759), some (.ref a1), none, none, some (.int x4), some (.ref a5), some (.ref a6), some (.int ((ri h a5 1) - (1 : Int32))), some (.int ((ri h a6 1) - (1 : Int32))), some (.int (((v1 * ((ri h a6 1) - (1 : Int32))) + (v2 * ((ri h a5 1) - (1 : Int32)))) + (1 : Int32))), some (.int (0 : Int32)), none] [] h2)))))) ∧ (((ri h a6 1) = (0 : Int32)) → (W_X10_resultant g d av Q n 60 [none, some (.ref a1), none, none, none, none, none, none, none, none, none, none] [] h))))) : W_X10_resultant g d av Q n 44 [some (.ref 2759), some (.ref a1), none, none, some (.int x4), some (.ref a5), some (.ref a6), none, none, none, none, none] [] h := by
  refine r_aload dX10_resultant_44 rfl ?_
  refine m_getI hp fw_X10_93 dX10_resultant_46 rfl t5 ?_
  refine r_if_eq (tgt := 60) dX10_resultant_49 rfl (fun cH => ?_) (fun cH => ?_)
  · replace H := H.1 cH
    refine r_prune [false, true, false, false, false, false, false, false, false, false, false, false] (ls2 := [none, some (.ref a1), none, none, none, none, none, none, none, none, none, none]) rfl ?_
    exact H
  · replace H := H.2 cH
    refine r_aload dX10_resultant_52 rfl ?_
    refine m_getI hp fw_X10_93 dX10_resultant_54 rfl t6 ?_
    refine r_if_ne (tgt := 67) dX10_resultant_57 rfl (fun cH => ?_) (fun cH => ?_)
    · replace H := H.1 cH
      refine r_aload dX10_resultant_67 rfl ?_
      refine m_getI hp fw_X10_93 dX10_resultant_69 rfl t5 ?_
      refine r_iconst (v := (1 : Int32)) dX10_resultant_72 rfl ?_
      refine r_isub dX10_resultant_73 ?_
      refine r_istore (ls2 := [some (.ref 2759), some (.ref a1), none, none, some (.int x4), some (.ref a5), some (.ref a6), some (.int ((ri h a5 1) - (1 : Int32))), none, none, none, none]) dX10_resultant_74 (by decide) rfl ?_
      refine r_aload dX10_resultant_76 rfl ?_
      refine m_getI hp fw_X10_93 dX10_resultant_78 rfl t6 ?_
      refine r_iconst (v := (1 : Int32)) dX10_resultant_81 rfl ?_
      refine r_isub dX10_resultant_82 ?_
      refine r_istore (ls2 := [some (.ref 2759), some (.ref a1), none, none, some (.int x4), some (.ref a5), some (.ref a6), some (.int ((ri h a5 1) - (1 : Int32))), some (.int ((ri h a6 1) - (1 : Int32))), none, none, none]) dX10_resultant_83 (by decide) rfl ?_
      refine r_aload dX10_resultant_85 rfl ?_
      refine k_VI (As := []) (stk := []) hp cv_X10_119 dX10_resultant_87 rfl (Nat.le_of_ble_eq_true rfl) t5 (H.mono (fun v1 h1 H => ?_)) ⟨Nat.le_refl _, Nat.le_refl _⟩
      refine r_iload dX10_resultant_90 rfl ?_
      refine r_imul dX10_resultant_92 ?_
      refine r_aload dX10_resultant_93 rfl ?_
      refine k_VI (As := []) (stk := [.int (v1 * ((ri h a6 1) - (1 : Int32)))]) hp cv_X10_119 dX10_resultant_95 rfl (Nat.le_of_ble_eq_true rfl) t6 (H.mono (fun v2 h2 H => ?_)) ⟨Nat.le_refl _, Nat.le_refl _⟩
      refine r_iload dX10_resultant_98 rfl ?_
      refine r_imul dX10_resultant_100 ?_
      refine r_iadd dX10_resultant_101 ?_
      refine r_iconst (v := (1 : Int32)) dX10_resultant_102 rfl ?_
      refine r_iadd dX10_resultant_103 ?_
      refine r_istore (ls2 := [some (.ref 2759), some (.ref a1), none, none, some (.int x4), some (.ref a5), some (.ref a6), some (.int ((ri h a5 1) - (1 : Int32))), some (.int ((ri h a6 1) - (1 : Int32))), some (.int (((v1 * ((ri h a6 1) - (1 : Int32))) + (v2 * ((ri h a5 1) - (1 : Int32)))) + (1 : Int32))), none, none]) dX10_resultant_104 (by decide) rfl ?_
      refine r_iconst (v := (0 : Int32)) dX10_resultant_106 rfl ?_
      refine r_istore (ls2 := [some (.ref 2759), some (.ref a1), none, none, some (.int x4), some (.ref a5), some (.ref a6), some (.int ((ri h a5 1) - (1 : Int32))), some (.int ((ri h a6 1) - (1 : Int32))), some (.int (((v1 * ((ri h a6 1) - (1 : Int32))) + (v2 * ((ri h a5 1) - (1 : Int32)))) + (1 : Int32))), some (.int (0 : Int32)), none]) dX10_resultant_107 (by decide) rfl ?_
      exact H
    · replace H := H.2 cH
      refine r_prune [false, true, false, false, false, false, false, false, false, false, false, false] (ls2 := [none, some (.ref a1), none, none, none, none, none, none, none, none, none, none]) rfl ?_
      exact H
theorem s_X10_resultant_60 {g : GX} {d : Nat} {av : List Value} {Q : QT} {n : Nat} {h : Hp} {a1 : Nat} (hp : g.2.2.2.2 = true) (t1 : lay a1 = (0, 14, 2)) (H : CallV g m_X14_number d [.ref a1, .int (0 : Int32)] n h (fun h1 => (Q (some (.int (1 : Int32))) n h1))) : W_X10_resultant g d av Q n 60 [none, some (.ref a1), none, none, none, none, none, none, none, none, none, none] [] h := by
  refine r_aload_n dX10_resultant_60 rfl rfl ?_
  refine r_iconst (v := (0 : Int32)) dX10_resultant_61 rfl ?_
  refine k_VV (As := [.int (0 : Int32)]) (stk := []) hp cv_X10_158 dX10_resultant_62 rfl (Nat.le_of_ble_eq_true rfl) t1 (H.mono (fun h1 H => ?_)) ⟨Nat.le_refl _, Nat.le_refl _⟩
  refine r_iconst (v := (1 : Int32)) dX10_resultant_65 rfl ?_
  exact r_zret dX10_resultant_66 rfl rfl (Nat.le_refl _) (Nat.le_refl _) H
theorem s_X10_resultant_109 {g : GX} {d : Nat} {av : List Value} {Q : QT} {n : Nat} {h : Hp} {a1 : Nat} {x4 : Int32} {a5 : Nat} {a6 : Nat} {x7 : Int32} {x8 : Int32} {x9 : Int32} {x10 : Int32} (hp : g.2.2.2.2 = true) (t1 : lay a1 = (0, 14, 2)) (t5 : lay a5 = (0, 14, 2)) (t6 : lay a6 = (0, 14, 2)) (H : ((x9 ≤ x10) → (CallR g m_X10_newU d [.ref 2759] n h (fun v1 h1 => (lay v1 = (0, 13, 2) ∧ (vp_in (0 : Int32) 64 ∧ ∀ r2, r2 = 2764 + 1 * ((0 : Int32)).toNatClampNeg → (CallV g m_X10_through d [.ref 2759, .ref v1, .ref r2, .int x9] n h1 (fun h3 => (((x4 = (0 : Int32)) → (W_X10_resultant g d av Q n 191 [none, some (.ref a1), none, none, some (.int x4), none, none, none, none, none, some (.ref v1), none] [.int (25 : Int32), .int (ri h3 v1 1)] h3)) ∧ ((¬ x4 = (0 : Int32)) → (W_X10_resultant g d av Q n 191 [none, some (.ref a1), none, none, some (.int x4), none, none, none, none, none, some (.ref v1), none] [.int (13 : Int32), .int (ri h3 v1 1)] h3)))))))))) ∧ ((¬ x9 ≤ x10) → (vp_in x10 700 ∧ ∀ h4, h4 = wi h 2762 (x10).toNatClampNeg x10 → (vp_in (0 : Int32) 64 ∧ ∀ r5, r5 = 2764 + 1 * ((0 : Int32)).toNatClampNeg → (CallI g m_X10_sylvester d [.ref 2759, .ref a5, .ref a6, .int x7, .int x8, .int x10] n h4 (fun v6 h6 => (vp_in x10 700 ∧ ∀ h7, h7 = wi h6 r5 (x10).toNatClampNeg v6 → (W_X10_resultant g d av Q n 109 [some (.ref 2759), some (.ref a1), none, none, some (.int x4), some (.ref a5), some (.ref a6), some (.int x7), some (.int x8), some (.int x9), some (.int (x10 + (1 : Int32))), none] [] h7)))))))) : W_X10_resultant g d av Q n 109 [some (.ref 2759), some (.ref a1), none, none, some (.int x4), some (.ref a5), some (.ref a6), some (.int x7), some (.int x8), some (.int x9), some (.int x10), none] [] h := by
  refine r_iload dX10_resultant_109 rfl ?_
  refine r_iload dX10_resultant_111 rfl ?_
  refine r_icmp_ge (tgt := 154) dX10_resultant_113 rfl (fun cH => ?_) (fun cH => ?_)
  · replace H := H.1 cH
    refine r_aload_n dX10_resultant_154 rfl rfl ?_
    refine k_VR (As := []) (stk := []) hp cv_X10_74 dX10_resultant_155 rfl (Nat.le_of_ble_eq_true rfl) ly_10 (H.mono (fun v1 h1 H => ?_)) ⟨Nat.le_refl _, Nat.le_refl _⟩
    obtain ⟨tv1, H⟩ := H
    refine r_astore (ls2 := [some (.ref 2759), some (.ref a1), none, none, some (.int x4), some (.ref a5), some (.ref a6), some (.int x7), some (.int x8), some (.int x9), some (.ref v1), none]) dX10_resultant_158 (by decide) rfl ?_
    refine r_aload_n dX10_resultant_160 rfl rfl ?_
    refine r_aload dX10_resultant_161 rfl ?_
    refine r_aload_n dX10_resultant_163 rfl rfl ?_
    refine m_getF (x := 2763) hp fw_X10_159 dX10_resultant_164 rfl ly_10 (ff_10_5 ly_10) ?_
    refine r_iconst (v := (0 : Int32)) dX10_resultant_167 rfl ?_
    obtain ⟨r2, er2⟩ : ∃ y, y = 2764 + 1 * ((0 : Int32)).toNatClampNeg := ⟨_, rfl⟩
    have hir2 := H.1
    replace H := H.2 r2 er2
    have tLr2 := la_2763 hir2 er2
    refine m_aalF (x := r2) hp dX10_resultant_168 (lf_10_5 ly_10) rfl rfl (lu_10_5 ly_10) hir2 (fa_2763 hir2 er2) ?_
    refine r_iload dX10_resultant_169 rfl ?_
    refine k_VV (As := [.ref v1, .ref r2, .int x9]) (stk := []) hp cv_X10_163 dX10_resultant_171 rfl (Nat.le_of_ble_eq_true rfl) ly_10 (H.mono (fun h3 H => ?_)) ⟨Nat.le_refl _, Nat.le_refl _⟩
    refine r_aload dX10_resultant_174 rfl ?_
    refine m_getI hp fw_X10_25 dX10_resultant_176 rfl tv1 ?_
    refine r_iload dX10_resultant_179 rfl ?_
    refine r_if_eq (tgt := 189) dX10_resultant_181 rfl (fun cH => ?_) (fun cH => ?_)
    · replace H := H.1 cH
      refine r_bipush (v := (25 : Int32)) dX10_resultant_189 rfl ?_
      refine r_prune [false, true, false, false, true, false, false, false, false, false, true, false] (ls2 := [none, some (.ref a1), none, none, some (.int x4), none, none, none, none, none, some (.ref v1), none]) rfl ?_
      exact H
    · replace H := H.2 cH
      refine r_bipush (v := (13 : Int32)) dX10_resultant_184 rfl ?_
      refine r_goto (tgt := 191) dX10_resultant_186 rfl ?_
      refine r_prune [false, true, false, false, true, false, false, false, false, false, true, false] (ls2 := [none, some (.ref a1), none, none, some (.int x4), none, none, none, none, none, some (.ref v1), none]) rfl ?_
      exact H
  · replace H := H.2 cH
    refine r_aload_n dX10_resultant_116 rfl rfl ?_
    refine m_getF (x := 2762) hp fw_X10_151 dX10_resultant_117 rfl ly_10 (ff_10_4 ly_10) ?_
    refine r_iload dX10_resultant_120 rfl ?_
    refine r_iload dX10_resultant_122 rfl ?_
    refine m_iast hp dX10_resultant_124 (lf_10_4 ly_10) H.1 (fun h4 eh4 => ?_)
    replace H := H.2 h4 eh4
    refine r_aload_n dX10_resultant_125 rfl rfl ?_
    refine m_getF (x := 2763) hp fw_X10_159 dX10_resultant_126 rfl ly_10 (ff_10_5 ly_10) ?_
    refine r_iconst (v := (0 : Int32)) dX10_resultant_129 rfl ?_
    obtain ⟨r5, er5⟩ : ∃ y, y = 2764 + 1 * ((0 : Int32)).toNatClampNeg := ⟨_, rfl⟩
    have hir5 := H.1
    replace H := H.2 r5 er5
    have tLr5 := la_2763 hir5 er5
    refine m_aalF (x := r5) hp dX10_resultant_130 (lf_10_5 ly_10) rfl rfl (lu_10_5 ly_10) hir5 (fa_2763 hir5 er5) ?_
    refine r_iload dX10_resultant_131 rfl ?_
    refine r_aload_n dX10_resultant_133 rfl rfl ?_
    refine r_aload dX10_resultant_134 rfl ?_
    refine r_aload dX10_resultant_136 rfl ?_
    refine r_iload dX10_resultant_138 rfl ?_
    refine r_iload dX10_resultant_140 rfl ?_
    refine r_iload dX10_resultant_142 rfl ?_
    refine k_VI (As := [.ref a5, .ref a6, .int x7, .int x8, .int x10]) (stk := [.int x10, .ref r5]) hp cv_X10_647 dX10_resultant_144 rfl (Nat.le_of_ble_eq_true rfl) ly_10 (H.mono (fun v6 h6 H => ?_)) ⟨Nat.le_refl _, Nat.le_refl _⟩
    refine m_iast hp dX10_resultant_147 tLr5 H.1 (fun h7 eh7 => ?_)
    replace H := H.2 h7 eh7
    refine r_iinc (v := (x10 + (1 : Int32))) (ls2 := [some (.ref 2759), some (.ref a1), none, none, some (.int x4), some (.ref a5), some (.ref a6), some (.int x7), some (.int x8), some (.int x9), some (.int (x10 + (1 : Int32))), none]) dX10_resultant_148 rfl rfl (by decide) rfl ?_
    refine r_goto (tgt := 109) dX10_resultant_151 rfl ?_
    exact H
theorem s_X10_resultant_191 {g : GX} {d : Nat} {av : List Value} {Q : QT} {n : Nat} {h : Hp} {a1 : Nat} {x4 : Int32} {a10 : Nat} {xs0 : Int32} {xs1 : Int32} (hp : g.2.2.2.2 = true) (t1 : lay a1 = (0, 14, 2)) (t10 : lay a10 = (0, 13, 2)) (H : ((xs1 ≤ xs0) → (((¬ x4 = (0 : Int32)) → (W_X10_resultant g d av Q n 227 [none, some (.ref a1), none, none, none, none, none, none, none, none, some (.ref a10), some (.int (0 : Int32))] [] h)) ∧ ((x4 = (0 : Int32)) → (vp_in (0 : Int32) 64 ∧ ∀ r1, r1 = (a1 + 2) + 2 * ((0 : Int32)).toNatClampNeg → (CallV g m_X10_set_2 d [.ref r1, .ref a10] n h (fun h2 => (∀ h3, h3 = wi h2 a1 1 (1 : Int32) → (CallV g m_X14_trim d [.ref a1] n h3 (fun h4 => (Q (some (.int (1 : Int32))) n h4)))))))))) ∧ ((¬ xs1 ≤ xs0) → (Q (some (.int (0 : Int32))) n h))) : W_X10_resultant g d av Q n 191 [none, some (.ref a1), none, none, some (.int x4), none, none, none, none, none, some (.ref a10), none] [.int xs0, .int xs1] h := by
  refine r_icmp_le (tgt := 196) dX10_resultant_191 rfl (fun cH => ?_) (fun cH => ?_)
  · replace H := H.1 cH
    refine r_iload dX10_resultant_196 rfl ?_
    refine r_if_ne (tgt := 224) dX10_resultant_198 rfl (fun cH => ?_) (fun cH => ?_)
    · replace H := H.1 cH
      refine r_iconst (v := (0 : Int32)) dX10_resultant_224 rfl ?_
      refine r_istore (ls2 := [none, some (.ref a1), none, none, some (.int x4), none, none, none, none, none, some (.ref a10), some (.int (0 : Int32))]) dX10_resultant_225 (by decide) rfl ?_
      refine r_prune [false, true, false, false, false, false, false, false, false, false, true, true] (ls2 := [none, some (.ref a1), none, none, none, none, none, none, none, none, some (.ref a10), some (.int (0 : Int32))]) rfl ?_
      exact H
    · replace H := H.2 cH
      refine r_aload_n dX10_resultant_201 rfl rfl ?_
      refine m_getF (x := (a1 + 1)) hp fw_X10_98 dX10_resultant_202 rfl t1 (ff_14_0 t1) ?_
      refine r_iconst (v := (0 : Int32)) dX10_resultant_205 rfl ?_
      obtain ⟨r1, er1⟩ : ∃ y, y = (a1 + 2) + 2 * ((0 : Int32)).toNatClampNeg := ⟨_, rfl⟩
      have hir1 := H.1
      replace H := H.2 r1 er1
      have tLr1 := le_14 t1 hir1 er1
      refine m_aalF (x := r1) hp dX10_resultant_206 (lf_14_0 t1) rfl rfl (lu_14_0 t1) hir1 (fe_14 t1 hir1 er1) ?_
      refine r_aload dX10_resultant_207 rfl ?_
      refine k_SV (As := [.ref r1, .ref a10]) (stk := []) cs_X10_62 dX10_resultant_209 rfl (Nat.le_of_ble_eq_true rfl) (H.mono (fun h2 H => ?_)) ⟨Nat.le_refl _, Nat.le_refl _⟩
      refine r_aload_n dX10_resultant_212 rfl rfl ?_
      refine r_iconst (v := (1 : Int32)) dX10_resultant_213 rfl ?_
      refine m_putI hp fw_X10_93 dX10_resultant_214 rfl rfl t1 (fun h3 eh3 => ?_)
      replace H := H h3 eh3
      refine r_aload_n dX10_resultant_217 rfl rfl ?_
      refine k_VV (As := []) (stk := []) hp cv_X10_105 dX10_resultant_218 rfl (Nat.le_of_ble_eq_true rfl) t1 (H.mono (fun h4 H => ?_)) ⟨Nat.le_refl _, Nat.le_refl _⟩
      refine r_goto (tgt := 270) dX10_resultant_221 rfl ?_
      refine r_iconst (v := (1 : Int32)) dX10_resultant_270 rfl ?_
      exact r_zret dX10_resultant_271 rfl rfl (Nat.le_refl _) (Nat.le_refl _) H
  · replace H := H.2 cH
    refine r_iconst (v := (0 : Int32)) dX10_resultant_194 rfl ?_
    exact r_zret dX10_resultant_195 rfl rfl (Nat.le_refl _) (Nat.le_refl _) H
theorem s_X10_resultant_227 {g : GX} {d : Nat} {av : List Value} {Q : QT} {n : Nat} {h : Hp} {a1 : Nat} {a10 : Nat} {x11 : Int32} (hp : g.2.2.2.2 = true) (t1 : lay a1 = (0, 14, 2)) (t10 : lay a10 = (0, 13, 2)) (H : (((ri h a10 1) ≤ x11) → (∀ h1, h1 = wi h a1 1 (ri h a10 1) → (Q (some (.int (1 : Int32))) n h1))) ∧ ((¬ (ri h a10 1) ≤ x11) → (vp_in x11 64 ∧ ∀ r2, r2 = (a1 + 2) + 2 * (x11).toNatClampNeg → (vp_in x11 (rm (a10 + 1)) ∧ (CallV g m_X13_number d [.ref r2, .int (ri h (a10 + 1) (x11).toNatClampNeg)] n h (fun h3 => (W_X10_resultant g d av Q n 227 [none, some (.ref a1), none, none, none, none, none, none, none, none, some (.ref a10), some (.int (x11 + (1 : Int32)))] [] h3))))))) : W_X10_resultant g d av Q n 227 [none, some (.ref a1), none, none, none, none, none, none, none, none, some (.ref a10), some (.int x11)] [] h := by
  refine r_iload dX10_resultant_227 rfl ?_
  refine r_aload dX10_resultant_229 rfl ?_
  refine m_getI hp fw_X10_25 dX10_resultant_231 rfl t10 ?_
  refine r_icmp_ge (tgt := 261) dX10_resultant_234 rfl (fun cH => ?_) (fun cH => ?_)
  · replace H := H.1 cH
    refine r_aload_n dX10_resultant_261 rfl rfl ?_
    refine r_aload dX10_resultant_262 rfl ?_
    refine m_getI hp fw_X10_25 dX10_resultant_264 rfl t10 ?_
    refine m_putI hp fw_X10_93 dX10_resultant_267 rfl rfl t1 (fun h1 eh1 => ?_)
    replace H := H h1 eh1
    refine r_iconst (v := (1 : Int32)) dX10_resultant_270 rfl ?_
    exact r_zret dX10_resultant_271 rfl rfl (Nat.le_refl _) (Nat.le_refl _) H
  · replace H := H.2 cH
    refine r_aload_n dX10_resultant_237 rfl rfl ?_
    refine m_getF (x := (a1 + 1)) hp fw_X10_98 dX10_resultant_238 rfl t1 (ff_14_0 t1) ?_
    refine r_iload dX10_resultant_241 rfl ?_
    obtain ⟨r2, er2⟩ : ∃ y, y = (a1 + 2) + 2 * (x11).toNatClampNeg := ⟨_, rfl⟩
    have hir2 := H.1
    replace H := H.2 r2 er2
    have tLr2 := le_14 t1 hir2 er2
    refine m_aalF (x := r2) hp dX10_resultant_243 (lf_14_0 t1) rfl rfl (lu_14_0 t1) hir2 (fe_14 t1 hir2 er2) ?_
    refine r_aload dX10_resultant_244 rfl ?_
    refine m_getF (x := (a10 + 1)) hp fw_X10_30 dX10_resultant_246 rfl t10 (ff_13_0 t10) ?_
    refine r_iload dX10_resultant_249 rfl ?_
    refine m_iald hp dX10_resultant_251 (lf_13_0 t10) H.1 ?_
    replace H := H.2
    refine k_VV (As := [.int (ri h (a10 + 1) (x11).toNatClampNeg)]) (stk := []) hp cv_X10_147 dX10_resultant_252 rfl (Nat.le_of_ble_eq_true rfl) tLr2 (H.mono (fun h3 H => ?_)) ⟨Nat.le_refl _, Nat.le_refl _⟩
    refine r_iinc (v := (x11 + (1 : Int32))) (ls2 := [none, some (.ref a1), none, none, none, none, none, none, none, none, some (.ref a10), some (.int (x11 + (1 : Int32)))]) dX10_resultant_255 rfl rfl (by decide) rfl ?_
    refine r_goto (tgt := 227) dX10_resultant_258 rfl ?_
    exact H
abbrev W_X10_turn (g : GX) (d : Nat) (av : List Value) (Q : QT) (n : Nat) (pc : Nat) (ls : LV) (stk : List Value) (h : Hp) : Prop := RJ g m_X10_turn (d + 1) 0 0 av Q pc ls stk n h 0 0
theorem s_X10_turn_0 {g : GX} {d : Nat} {av : List Value} {Q : QT} {n : Nat} {h : Hp} {a0 : Nat} {a1 : Nat} (hp : g.2.2.2.2 = true) (t0 : lay a0 = (0, 14, 2)) (t1 : lay a1 = (0, 14, 2)) (H : ((¬ (ri h a1 1) = (0 : Int32)) → (CallI g m_X14_degreeN d [.ref a1] n h (fun v1 h1 => (W_X10_turn g d av Q n 17 [some (.ref a0), some (.ref a1), none, none, none] [.int (v1 + (1 : Int32))] h1)))) ∧ (((ri h a1 1) = (0 : Int32)) → (W_X10_turn g d av Q n 17 [some (.ref a0), some (.ref a1), none, none, none] [.int (0 : Int32)] h))) : W_X10_turn g d av Q n 0 [some (.ref a0), some (.ref a1), none, none, none] [] h := by
  refine r_aload_n dX10_turn_0 rfl rfl ?_
  refine m_getI hp fw_X10_93 dX10_turn_1 rfl t1 ?_
  refine r_if_ne (tgt := 11) dX10_turn_4 rfl (fun cH => ?_) (fun cH => ?_)
  · replace H := H.1 cH
    refine r_aload_n dX10_turn_11 rfl rfl ?_
    refine k_VI (As := []) (stk := []) hp cv_X10_119 dX10_turn_12 rfl (Nat.le_of_ble_eq_true rfl) t1 (H.mono (fun v1 h1 H => ?_)) ⟨Nat.le_refl _, Nat.le_refl _⟩
    refine r_iconst (v := (1 : Int32)) dX10_turn_15 rfl ?_
    refine r_iadd dX10_turn_16 ?_
    exact H
  · replace H := H.2 cH
    refine r_iconst (v := (0 : Int32)) dX10_turn_7 rfl ?_
    refine r_goto (tgt := 17) dX10_turn_8 rfl ?_
    exact H
theorem s_X10_turn_17 {g : GX} {d : Nat} {av : List Value} {Q : QT} {n : Nat} {h : Hp} {a0 : Nat} {a1 : Nat} {xs0 : Int32} (hp : g.2.2.2.2 = true) (t0 : lay a0 = (0, 14, 2)) (t1 : lay a1 = (0, 14, 2)) (H : W_X10_turn g d av Q n 20 [some (.ref a0), some (.ref a1), some (.int xs0), some (.int (0 : Int32)), none] [] h) : W_X10_turn g d av Q n 17 [some (.ref a0), some (.ref a1), none, none, none] [.int xs0] h := by
  refine r_istore_n (ls2 := [some (.ref a0), some (.ref a1), some (.int xs0), none, none]) dX10_turn_17 rfl (by decide) rfl ?_
  refine r_iconst (v := (0 : Int32)) dX10_turn_18 rfl ?_
  refine r_istore_n (ls2 := [some (.ref a0), some (.ref a1), some (.int xs0), some (.int (0 : Int32)), none]) dX10_turn_19 rfl (by decide) rfl ?_
  exact H
theorem s_X10_turn_20 {g : GX} {d : Nat} {av : List Value} {Q : QT} {n : Nat} {h : Hp} {a0 : Nat} {a1 : Nat} {x2 : Int32} {x3 : Int32} (hp : g.2.2.2.2 = true) (t0 : lay a0 = (0, 14, 2)) (t1 : lay a1 = (0, 14, 2)) (H : ((x2 ≤ x3) → (∀ h1, h1 = wi h a0 1 x2 → (CallV g m_X14_trim d [.ref a0] n h1 (fun h2 => (Q none n h2))))) ∧ ((¬ x2 ≤ x3) → (W_X10_turn g d av Q n 28 [some (.ref a0), some (.ref a1), some (.int x2), some (.int x3), some (.int (0 : Int32))] [] h))) : W_X10_turn g d av Q n 20 [some (.ref a0), some (.ref a1), some (.int x2), some (.int x3), none] [] h := by
  refine r_iload_n dX10_turn_20 rfl rfl ?_
  refine r_iload_n dX10_turn_21 rfl rfl ?_
  refine r_icmp_ge (tgt := 94) dX10_turn_22 rfl (fun cH => ?_) (fun cH => ?_)
  · replace H := H.1 cH
    refine r_aload_n dX10_turn_94 rfl rfl ?_
    refine r_iload_n dX10_turn_95 rfl rfl ?_
    refine m_putI hp fw_X10_93 dX10_turn_96 rfl rfl t0 (fun h1 eh1 => ?_)
    replace H := H h1 eh1
    refine r_aload_n dX10_turn_99 rfl rfl ?_
    refine k_VV (As := []) (stk := []) hp cv_X10_105 dX10_turn_100 rfl (Nat.le_of_ble_eq_true rfl) t0 (H.mono (fun h2 H => ?_)) ⟨Nat.le_refl _, Nat.le_refl _⟩
    exact r_vret dX10_turn_103 rfl (Nat.le_refl _) (Nat.le_refl _) H
  · replace H := H.2 cH
    refine r_iconst (v := (0 : Int32)) dX10_turn_25 rfl ?_
    refine r_istore (ls2 := [some (.ref a0), some (.ref a1), some (.int x2), some (.int x3), some (.int (0 : Int32))]) dX10_turn_26 (by decide) rfl ?_
    exact H
theorem s_X10_turn_28 {g : GX} {d : Nat} {av : List Value} {Q : QT} {n : Nat} {h : Hp} {a0 : Nat} {a1 : Nat} {x2 : Int32} {x3 : Int32} {x4 : Int32} (hp : g.2.2.2.2 = true) (t0 : lay a0 = (0, 14, 2)) (t1 : lay a1 = (0, 14, 2)) (H : (((ri h a1 1) ≤ x4) → (vp_in x3 64 ∧ ∀ r1, r1 = (a0 + 2) + 2 * (x3).toNatClampNeg → (∀ h2, h2 = wi h r1 1 (ri h a1 1) → (vp_in x3 64 ∧ ∀ r3, r3 = (a0 + 2) + 2 * (x3).toNatClampNeg → (CallV g m_X13_trim d [.ref r3] n h2 (fun h4 => (W_X10_turn g d av Q n 20 [some (.ref a0), some (.ref a1), some (.int x2), some (.int (x3 + (1 : Int32))), none] [] h4))))))) ∧ ((¬ (ri h a1 1) ≤ x4) → (vp_in x3 64 ∧ ∀ r5, r5 = (a0 + 2) + 2 * (x3).toNatClampNeg → (vp_in x4 64 ∧ ∀ r6, r6 = (a1 + 2) + 2 * (x4).toNatClampNeg → (CallI g m_X13_at d [.ref r6, .int x3] n h (fun v7 h7 => (vp_in x4 (rm (r5 + 1)) ∧ ∀ h8, h8 = wi h7 (r5 + 1) (x4).toNatClampNeg v7 → (W_X10_turn g d av Q n 28 [some (.ref a0), some (.ref a1), some (.int x2), some (.int x3), some (.int (x4 + (1 : Int32)))] [] h8)))))))) : W_X10_turn g d av Q n 28 [some (.ref a0), some (.ref a1), some (.int x2), some (.int x3), some (.int x4)] [] h := by
  refine r_iload dX10_turn_28 rfl ?_
  refine r_aload_n dX10_turn_30 rfl rfl ?_
  refine m_getI hp fw_X10_93 dX10_turn_31 rfl t1 ?_
  refine r_icmp_ge (tgt := 66) dX10_turn_34 rfl (fun cH => ?_) (fun cH => ?_)
  · replace H := H.1 cH
    refine r_aload_n dX10_turn_66 rfl rfl ?_
    refine m_getF (x := (a0 + 1)) hp fw_X10_98 dX10_turn_67 rfl t0 (ff_14_0 t0) ?_
    refine r_iload_n dX10_turn_70 rfl rfl ?_
    obtain ⟨r1, er1⟩ : ∃ y, y = (a0 + 2) + 2 * (x3).toNatClampNeg := ⟨_, rfl⟩
    have hir1 := H.1
    replace H := H.2 r1 er1
    have tLr1 := le_14 t0 hir1 er1
    refine m_aalF (x := r1) hp dX10_turn_71 (lf_14_0 t0) rfl rfl (lu_14_0 t0) hir1 (fe_14 t0 hir1 er1) ?_
    refine r_aload_n dX10_turn_72 rfl rfl ?_
    refine m_getI hp fw_X10_93 dX10_turn_73 rfl t1 ?_
    refine m_putI hp fw_X10_25 dX10_turn_76 rfl rfl tLr1 (fun h2 eh2 => ?_)
    replace H := H h2 eh2
    refine r_aload_n dX10_turn_79 rfl rfl ?_
    refine m_getF (x := (a0 + 1)) hp fw_X10_98 dX10_turn_80 rfl t0 (ff_14_0 t0) ?_
    refine r_iload_n dX10_turn_83 rfl rfl ?_
    obtain ⟨r3, er3⟩ : ∃ y, y = (a0 + 2) + 2 * (x3).toNatClampNeg := ⟨_, rfl⟩
    have hir3 := H.1
    replace H := H.2 r3 er3
    have tLr3 := le_14 t0 hir3 er3
    refine m_aalF (x := r3) hp dX10_turn_84 (lf_14_0 t0) rfl rfl (lu_14_0 t0) hir3 (fe_14 t0 hir3 er3) ?_
    refine k_VV (As := []) (stk := []) hp cv_X10_52 dX10_turn_85 rfl (Nat.le_of_ble_eq_true rfl) tLr3 (H.mono (fun h4 H => ?_)) ⟨Nat.le_refl _, Nat.le_refl _⟩
    refine r_iinc (v := (x3 + (1 : Int32))) (ls2 := [some (.ref a0), some (.ref a1), some (.int x2), some (.int (x3 + (1 : Int32))), some (.int x4)]) dX10_turn_88 rfl rfl (by decide) rfl ?_
    refine r_goto (tgt := 20) dX10_turn_91 rfl ?_
    refine r_prune [true, true, true, true, false] (ls2 := [some (.ref a0), some (.ref a1), some (.int x2), some (.int (x3 + (1 : Int32))), none]) rfl ?_
    exact H
  · replace H := H.2 cH
    refine r_aload_n dX10_turn_37 rfl rfl ?_
    refine m_getF (x := (a0 + 1)) hp fw_X10_98 dX10_turn_38 rfl t0 (ff_14_0 t0) ?_
    refine r_iload_n dX10_turn_41 rfl rfl ?_
    obtain ⟨r5, er5⟩ : ∃ y, y = (a0 + 2) + 2 * (x3).toNatClampNeg := ⟨_, rfl⟩
    have hir5 := H.1
    replace H := H.2 r5 er5
    have tLr5 := le_14 t0 hir5 er5
    refine m_aalF (x := r5) hp dX10_turn_42 (lf_14_0 t0) rfl rfl (lu_14_0 t0) hir5 (fe_14 t0 hir5 er5) ?_
    refine m_getF (x := (r5 + 1)) hp fw_X10_30 dX10_turn_43 rfl tLr5 (ff_13_0 tLr5) ?_
    refine r_iload dX10_turn_46 rfl ?_
    refine r_aload_n dX10_turn_48 rfl rfl ?_
    refine m_getF (x := (a1 + 1)) hp fw_X10_98 dX10_turn_49 rfl t1 (ff_14_0 t1) ?_
    refine r_iload dX10_turn_52 rfl ?_
    obtain ⟨r6, er6⟩ : ∃ y, y = (a1 + 2) + 2 * (x4).toNatClampNeg := ⟨_, rfl⟩
    have hir6 := H.1
    replace H := H.2 r6 er6
    have tLr6 := le_14 t1 hir6 er6
    refine m_aalF (x := r6) hp dX10_turn_54 (lf_14_0 t1) rfl rfl (lu_14_0 t1) hir6 (fe_14 t1 hir6 er6) ?_
    refine r_iload_n dX10_turn_55 rfl rfl ?_
    refine k_VI (As := [.int x3]) (stk := [.int x4, .ref (r5 + 1)]) hp cv_X10_122 dX10_turn_56 rfl (Nat.le_of_ble_eq_true rfl) tLr6 (H.mono (fun v7 h7 H => ?_)) ⟨Nat.le_refl _, Nat.le_refl _⟩
    refine m_iast hp dX10_turn_59 (lf_13_0 tLr5) H.1 (fun h8 eh8 => ?_)
    replace H := H.2 h8 eh8
    refine r_iinc (v := (x4 + (1 : Int32))) (ls2 := [some (.ref a0), some (.ref a1), some (.int x2), some (.int x3), some (.int (x4 + (1 : Int32)))]) dX10_turn_60 rfl rfl (by decide) rfl ?_
    refine r_goto (tgt := 28) dX10_turn_63 rfl ?_
    exact H
abbrev W_X10_change (g : GX) (d : Nat) (av : List Value) (Q : QT) (n : Nat) (pc : Nat) (ls : LV) (stk : List Value) (h : Hp) : Prop := RJ g m_X10_change (d + 1) 0 0 av Q pc ls stk n h 0 0
theorem s_X10_change_0 {g : GX} {d : Nat} {av : List Value} {Q : QT} {n : Nat} {h : Hp} {x1 : Int32} {x2 : Int32} {x3 : Int32} {x4 : Int32} (hp : g.2.2.2.2 = true)  (H : CallI g m_X10_isSlot d [.int x2] n h (fun v1 h1 => (((v1 = (0 : Int32)) → (Q (some (.int (-1 : Int32))) n h1)) ∧ ((¬ v1 = (0 : Int32)) → (CallI g m_X10_isSlot d [.int x4] n h1 (fun v2 h2 => (((¬ v2 = (0 : Int32)) → (vp_in x2 12 ∧ ∀ r3, r3 = 10245 + 9 * (x2).toNatClampNeg → (CallV g m_X10_begin d [.ref 2759] n h2 (fun h4 => (((¬ x1 = (10 : Int32)) → ((((ri h4 r3 0) = (1 : Int32)) → (W_X10_change g d av Q n 75 [some (.ref 2759), some (.int x1), none, some (.int x3), some (.int x4), some (.ref r3), none, none, none, none, none, none] [] h4)) ∧ ((¬ (ri h4 r3 0) = (1 : Int32)) → ((((ri h4 r3 0) = (2 : Int32)) → (W_X10_change g d av Q n 75 [some (.ref 2759), some (.int x1), none, some (.int x3), some (.int x4), some (.ref r3), none, none, none, none, none, none] [] h4)) ∧ ((¬ (ri h4 r3 0) = (2 : Int32)) → (Q (some (.int (-3 : Int32))) n h4)))))) ∧ ((x1 = (10 : Int32)) → (CallI g m_X10_rest d [.int x3] n h4 (fun v5 h5 => (CallV g m_X10_number d [.ref 2759, .ref 2842, .int v5] n h5 (fun h6 => (CallI g m_X10_keep d [.ref 2759, .int x4] n h6 (fun v7 h7 => (Q (some (.int v7)) n h7))))))))))))) ∧ ((v2 = (0 : Int32)) → (Q (some (.int (-1 : Int32))) n h2))))))))) : W_X10_change g d av Q n 0 [some (.ref 2759), some (.int x1), some (.int x2), some (.int x3), some (.int x4), none, none, none, none, none, none, none] [] h := by
  refine r_iload_n dX10_change_0 rfl rfl ?_
  refine k_SI (As := [.int x2]) (stk := []) cs_X10_551 dX10_change_1 rfl (Nat.le_of_ble_eq_true rfl) (H.mono (fun v1 h1 H => ?_)) ⟨Nat.le_refl _, Nat.le_refl _⟩
  refine r_if_eq (tgt := 15) dX10_change_4 rfl (fun cH => ?_) (fun cH => ?_)
  · replace H := H.1 cH
    refine r_iconst (v := (-1 : Int32)) dX10_change_15 rfl ?_
    exact r_zret dX10_change_16 rfl rfl (Nat.le_refl _) (Nat.le_refl _) H
  · replace H := H.2 cH
    refine r_iload dX10_change_7 rfl ?_
    refine k_SI (As := [.int x4]) (stk := []) cs_X10_551 dX10_change_9 rfl (Nat.le_of_ble_eq_true rfl) (H.mono (fun v2 h2 H => ?_)) ⟨Nat.le_refl _, Nat.le_refl _⟩
    refine r_if_ne (tgt := 17) dX10_change_12 rfl (fun cH => ?_) (fun cH => ?_)
    · replace H := H.1 cH
      refine r_aload_n dX10_change_17 rfl rfl ?_
      refine m_getF (x := 2841) hp fw_X10_450 dX10_change_18 rfl ly_10 (ff_10_20 ly_10) ?_
      refine r_iload_n dX10_change_21 rfl rfl ?_
      obtain ⟨r3, er3⟩ : ∃ y, y = 10245 + 9 * (x2).toNatClampNeg := ⟨_, rfl⟩
      have hir3 := H.1
      replace H := H.2 r3 er3
      have tLr3 := la_2841 hir3 er3
      refine m_aalF (x := r3) hp dX10_change_22 (lf_10_20 ly_10) rfl rfl (lu_10_20 ly_10) hir3 (fa_2841 hir3 er3) ?_
      refine r_astore (ls2 := [some (.ref 2759), some (.int x1), some (.int x2), some (.int x3), some (.int x4), some (.ref r3), none, none, none, none, none, none]) dX10_change_23 (by decide) rfl ?_
      refine r_aload_n dX10_change_25 rfl rfl ?_
      refine k_VV (As := []) (stk := []) hp cv_X10_555 dX10_change_26 rfl (Nat.le_of_ble_eq_true rfl) ly_10 (H.mono (fun h4 H => ?_)) ⟨Nat.le_refl _, Nat.le_refl _⟩
      refine r_iload_n dX10_change_29 rfl rfl ?_
      refine r_bipush (v := (10 : Int32)) dX10_change_30 rfl ?_
      refine r_icmp_ne (tgt := 54) dX10_change_32 rfl (fun cH => ?_) (fun cH => ?_)
      · replace H := H.1 cH
        refine r_aload dX10_change_54 rfl ?_
        refine m_getI hp fw_X10_202 dX10_change_56 rfl tLr3 ?_
        refine r_iconst (v := (1 : Int32)) dX10_change_59 rfl ?_
        refine r_icmp_eq (tgt := 75) dX10_change_60 rfl (fun cH => ?_) (fun cH => ?_)
        · replace H := H.1 cH
          refine r_prune [true, true, false, true, true, true, false, false, false, false, false, false] (ls2 := [some (.ref 2759), some (.int x1), none, some (.int x3), some (.int x4), some (.ref r3), none, none, none, none, none, none]) rfl ?_
          exact H
        · replace H := H.2 cH
          refine r_aload dX10_change_63 rfl ?_
          refine m_getI hp fw_X10_202 dX10_change_65 rfl tLr3 ?_
          refine r_iconst (v := (2 : Int32)) dX10_change_68 rfl ?_
          refine r_icmp_eq (tgt := 75) dX10_change_69 rfl (fun cH => ?_) (fun cH => ?_)
          · replace H := H.1 cH
            refine r_prune [true, true, false, true, true, true, false, false, false, false, false, false] (ls2 := [some (.ref 2759), some (.int x1), none, some (.int x3), some (.int x4), some (.ref r3), none, none, none, none, none, none]) rfl ?_
            exact H
          · replace H := H.2 cH
            refine r_bipush (v := (-3 : Int32)) dX10_change_72 rfl ?_
            exact r_zret dX10_change_74 rfl rfl (Nat.le_refl _) (Nat.le_refl _) H
      · replace H := H.2 cH
        refine r_aload_n dX10_change_35 rfl rfl ?_
        refine r_aload_n dX10_change_36 rfl rfl ?_
        refine m_getF (x := 2842) hp fw_X10_453 dX10_change_37 rfl ly_10 (ff_10_21 ly_10) ?_
        refine r_iload_n dX10_change_40 rfl rfl ?_
        refine k_SI (As := [.int x3]) (stk := [.ref 2842, .ref 2759]) cs_X10_600 dX10_change_41 rfl (Nat.le_of_ble_eq_true rfl) (H.mono (fun v5 h5 H => ?_)) ⟨Nat.le_refl _, Nat.le_refl _⟩
        refine k_VV (As := [.ref 2842, .int v5]) (stk := []) hp cv_X10_292 dX10_change_44 rfl (Nat.le_of_ble_eq_true rfl) ly_10 (H.mono (fun h6 H => ?_)) ⟨Nat.le_refl _, Nat.le_refl _⟩
        refine r_aload_n dX10_change_47 rfl rfl ?_
        refine r_iload dX10_change_48 rfl ?_
        refine k_VI (As := [.int x4]) (stk := []) hp cv_X10_558 dX10_change_50 rfl (Nat.le_of_ble_eq_true rfl) ly_10 (H.mono (fun v7 h7 H => ?_)) ⟨Nat.le_refl _, Nat.le_refl _⟩
        exact r_zret dX10_change_53 rfl rfl (Nat.le_refl _) (Nat.le_refl _) H
    · replace H := H.2 cH
      refine r_iconst (v := (-1 : Int32)) dX10_change_15 rfl ?_
      exact r_zret dX10_change_16 rfl rfl (Nat.le_refl _) (Nat.le_refl _) H
theorem s_X10_change_75 {g : GX} {d : Nat} {av : List Value} {Q : QT} {n : Nat} {h : Hp} {x1 : Int32} {x3 : Int32} {x4 : Int32} {a5 : Nat} (hp : g.2.2.2.2 = true) (t5 : lay a5 = (0, 11, 15)) (H : ((x1 < (0 : Int32)) → (Q (some (.int (-1 : Int32))) n h)) ∧ ((¬ x1 < (0 : Int32)) → (((x1 ≤ (11 : Int32)) → (((¬ (ri h a5 0) = (2 : Int32)) → (((¬ x1 = (11 : Int32)) → (W_X10_change g d av Q n 125 [some (.ref 2759), some (.int x1), none, some (.int x3), some (.int x4), some (.ref a5), none, none, none, none, none, none] [] h)) ∧ ((x1 = (11 : Int32)) → (Q (some (.int (-3 : Int32))) n h)))) ∧ (((ri h a5 0) = (2 : Int32)) → (((x1 ≤ (1 : Int32)) → (W_X10_change g d av Q n 125 [some (.ref 2759), some (.int x1), none, some (.int x3), some (.int x4), some (.ref a5), none, none, none, none, none, none] [] h)) ∧ ((¬ x1 ≤ (1 : Int32)) → (((x1 = (9 : Int32)) → (W_X10_change g d av Q n 125 [some (.ref 2759), some (.int x1), none, some (.int x3), some (.int x4), some (.ref a5), none, none, none, none, none, none] [] h)) ∧ ((¬ x1 = (9 : Int32)) → (((x1 = (11 : Int32)) → (W_X10_change g d av Q n 125 [some (.ref 2759), some (.int x1), none, some (.int x3), some (.int x4), some (.ref a5), none, none, none, none, none, none] [] h)) ∧ ((¬ x1 = (11 : Int32)) → (Q (some (.int (-3 : Int32))) n h)))))))))) ∧ ((¬ x1 ≤ (11 : Int32)) → (Q (some (.int (-1 : Int32))) n h))))) : W_X10_change g d av Q n 75 [some (.ref 2759), some (.int x1), none, some (.int x3), some (.int x4), some (.ref a5), none, none, none, none, none, none] [] h := by
  refine r_iload_n dX10_change_75 rfl rfl ?_
  refine r_if_lt (tgt := 85) dX10_change_76 rfl (fun cH => ?_) (fun cH => ?_)
  · replace H := H.1 cH
    refine r_iconst (v := (-1 : Int32)) dX10_change_85 rfl ?_
    exact r_zret dX10_change_86 rfl rfl (Nat.le_refl _) (Nat.le_refl _) H
  · replace H := H.2 cH
    refine r_iload_n dX10_change_79 rfl rfl ?_
    refine r_bipush (v := (11 : Int32)) dX10_change_80 rfl ?_
    refine r_icmp_le (tgt := 87) dX10_change_82 rfl (fun cH => ?_) (fun cH => ?_)
    · replace H := H.1 cH
      refine r_aload dX10_change_87 rfl ?_
      refine m_getI hp fw_X10_202 dX10_change_89 rfl t5 ?_
      refine r_iconst (v := (2 : Int32)) dX10_change_92 rfl ?_
      refine r_icmp_ne (tgt := 116) dX10_change_93 rfl (fun cH => ?_) (fun cH => ?_)
      · replace H := H.1 cH
        refine r_iload_n dX10_change_116 rfl rfl ?_
        refine r_bipush (v := (11 : Int32)) dX10_change_117 rfl ?_
        refine r_icmp_ne (tgt := 125) dX10_change_119 rfl (fun cH => ?_) (fun cH => ?_)
        · replace H := H.1 cH
          exact H
        · replace H := H.2 cH
          refine r_bipush (v := (-3 : Int32)) dX10_change_122 rfl ?_
          exact r_zret dX10_change_124 rfl rfl (Nat.le_refl _) (Nat.le_refl _) H
      · replace H := H.2 cH
        refine r_iload_n dX10_change_96 rfl rfl ?_
        refine r_iconst (v := (1 : Int32)) dX10_change_97 rfl ?_
        refine r_icmp_le (tgt := 125) dX10_change_98 rfl (fun cH => ?_) (fun cH => ?_)
        · replace H := H.1 cH
          exact H
        · replace H := H.2 cH
          refine r_iload_n dX10_change_101 rfl rfl ?_
          refine r_bipush (v := (9 : Int32)) dX10_change_102 rfl ?_
          refine r_icmp_eq (tgt := 125) dX10_change_104 rfl (fun cH => ?_) (fun cH => ?_)
          · replace H := H.1 cH
            exact H
          · replace H := H.2 cH
            refine r_iload_n dX10_change_107 rfl rfl ?_
            refine r_bipush (v := (11 : Int32)) dX10_change_108 rfl ?_
            refine r_icmp_eq (tgt := 125) dX10_change_110 rfl (fun cH => ?_) (fun cH => ?_)
            · replace H := H.1 cH
              exact H
            · replace H := H.2 cH
              refine r_goto (tgt := 122) dX10_change_113 rfl ?_
              refine r_bipush (v := (-3 : Int32)) dX10_change_122 rfl ?_
              exact r_zret dX10_change_124 rfl rfl (Nat.le_refl _) (Nat.le_refl _) H
    · replace H := H.2 cH
      refine r_iconst (v := (-1 : Int32)) dX10_change_85 rfl ?_
      exact r_zret dX10_change_86 rfl rfl (Nat.le_refl _) (Nat.le_refl _) H
theorem s_X10_change_125 {g : GX} {d : Nat} {av : List Value} {Q : QT} {n : Nat} {h : Hp} {x1 : Int32} {x3 : Int32} {x4 : Int32} {a5 : Nat} (hp : g.2.2.2.2 = true) (t5 : lay a5 = (0, 11, 15)) (H : CallV g m_X10_copy d [.ref 2842, .ref a5] n h (fun h1 => (((¬ x1 = (9 : Int32)) → (((¬ x1 = (11 : Int32)) → (CallR g m_X10_newB d [.ref 2759] n h1 (fun v2 h2 => (lay v2 = (0, 14, 2) ∧ (CallR g m_X10_newB d [.ref 2759] n h2 (fun v3 h3 => (lay v3 = (0, 14, 2) ∧ (CallV g m_X10_load d [.ref v2, .ref (a5 + 1)] n h3 (fun h4 => (CallV g m_X10_load d [.ref v3, .ref (a5 + 2)] n h4 (fun h5 => (CallI g m_X10_rest d [.int x3] n h5 (fun v6 h6 => ((((2 : Int32) ≤ x1) → (CallR g m_X10_newB d [.ref 2759] n h6 (fun v7 h7 => (lay v7 = (0, 14, 2) ∧ (CallR g m_X10_newB d [.ref 2759] n h7 (fun v8 h8 => (lay v8 = (0, 14, 2) ∧ (CallR g m_X10_newB d [.ref 2759] n h8 (fun v9 h9 => (lay v9 = (0, 14, 2) ∧ (CallV g m_X14_number d [.ref v9, .int (1 : Int32)] n h9 (fun h10 => (((x1).toInt = 2 → (((¬ x1 = (2 : Int32)) → (W_X10_change g d av Q n 349 [some (.ref 2759), some (.int x1), none, none, some (.int x4), none, none, some (.ref v3), some (.int v6), some (.ref v7), some (.ref v8), none] [.int (0 : Int32), .int v6, .ref v2, .ref v7, .ref 2759] h10)) ∧ ((x1 = (2 : Int32)) → (W_X10_change g d av Q n 349 [some (.ref 2759), some (.int x1), none, none, some (.int x4), none, none, some (.ref v3), some (.int v6), some (.ref v7), some (.ref v8), none] [.int (1 : Int32), .int v6, .ref v2, .ref v7, .ref 2759] h10)))) ∧ ((x1).toInt = 3 → (((¬ x1 = (2 : Int32)) → (W_X10_change g d av Q n 349 [some (.ref 2759), some (.int x1), none, none, some (.int x4), none, none, some (.ref v3), some (.int v6), some (.ref v7), some (.ref v8), none] [.int (0 : Int32), .int v6, .ref v2, .ref v7, .ref 2759] h10)) ∧ ((x1 = (2 : Int32)) → (W_X10_change g d av Q n 349 [some (.ref 2759), some (.int x1), none, none, some (.int x4), none, none, some (.ref v3), some (.int v6), some (.ref v7), some (.ref v8), none] [.int (1 : Int32), .int v6, .ref v2, .ref v7, .ref 2759] h10)))) ∧ ((x1).toInt = 4 → (((¬ x1 = (4 : Int32)) → (W_X10_change g d av Q n 412 [some (.ref 2759), none, none, none, some (.int x4), none, none, none, none, some (.ref v7), some (.ref v8), none] [.int (0 : Int32), .ref v3, .ref v2, .ref v8, .ref v7, .ref 2759] h10)) ∧ ((x1 = (4 : Int32)) → (W_X10_change g d av Q n 412 [some (.ref 2759), none, none, none, some (.int x4), none, none, none, none, some (.ref v7), some (.ref v8), none] [.int (1 : Int32), .ref v3, .ref v2, .ref v8, .ref v7, .ref 2759] h10)))) ∧ ((x1).toInt = 5 → (((¬ x1 = (4 : Int32)) → (W_X10_change g d av Q n 412 [some (.ref 2759), none, none, none, some (.int x4), none, none, none, none, some (.ref v7), some (.ref v8), none] [.int (0 : Int32), .ref v3, .ref v2, .ref v8, .ref v7, .ref 2759] h10)) ∧ ((x1 = (4 : Int32)) → (W_X10_change g d av Q n 412 [some (.ref 2759), none, none, none, some (.int x4), none, none, none, none, some (.ref v7), some (.ref v8), none] [.int (1 : Int32), .ref v3, .ref v2, .ref v8, .ref v7, .ref 2759] h10)))) ∧ ((x1).toInt = 6 → (CallV g m_X10_turn d [.ref v7, .ref v2] n h10 (fun h11 => (CallV g m_X10_turn d [.ref v8, .ref v3] n h11 (fun h12 => (CallV g m_X10_settle d [.ref v7, .ref v8] n h12 (fun h13 => (W_X10_change g d av Q n 473 [some (.ref 2759), none, none, none, some (.int x4), none, none, none, none, some (.ref v7), some (.ref v8), none] [] h13)))))))) ∧ ((x1).toInt = 7 → (CallV g m_X10_set d [.ref v7, .ref v2] n h10 (fun h14 => (CallV g m_X10_set d [.ref v8, .ref v9] n h14 (fun h15 => (W_X10_change g d av Q n 473 [some (.ref 2759), none, none, none, some (.int x4), none, none, none, none, some (.ref v7), some (.ref v8), none] [] h15)))))) ∧ (((x1).toInt < 2 ∨ 7 < (x1).toInt) → (CallV g m_X10_set d [.ref v7, .ref v3] n h10 (fun h16 => (CallV g m_X10_set d [.ref v8, .ref v9] n h16 (fun h17 => (W_X10_change g d av Q n 473 [some (.ref 2759), none, none, none, some (.int x4), none, none, none, none, some (.ref v7), some (.ref v8), none] [] h17))))))))))))))))))) ∧ ((¬ (2 : Int32) ≤ x1) → (CallI g m_X10_moved d [.ref 2759, .int x1, .ref v2, .ref v3, .int v6, .int x4] n h6 (fun v18 h18 => (Q (some (.int v18)) n h18)))))))))))))))))) ∧ ((x1 = (11 : Int32)) → (CallV g m_X10_plain d [.ref 2842] n h1 (fun h19 => (CallI g m_X10_keep d [.ref 2759, .int x4] n h19 (fun v20 h20 => (Q (some (.int v20)) n h20)))))))) ∧ ((x1 = (9 : Int32)) → (((x3 < (-12 : Int32)) → (Q (some (.int (-1 : Int32))) n h1)) ∧ ((¬ x3 < (-12 : Int32)) → ((((12 : Int32) < x3) → (Q (some (.int (-1 : Int32))) n h1)) ∧ ((¬ (12 : Int32) < x3) → (CallI g m_X10_isZero d [.ref a5] n h1 (fun v21 h21 => (((v21 = (0 : Int32)) → (W_X10_change g d av Q n 166 [some (.ref 2759), none, none, some (.int x3), some (.int x4), none, none, none, none, none, none, none] [] h21)) ∧ ((¬ v21 = (0 : Int32)) → ((((0 : Int32) ≤ x3) → (W_X10_change g d av Q n 166 [some (.ref 2759), none, none, some (.int x3), some (.int x4), none, none, none, none, none, none, none] [] h21)) ∧ ((¬ (0 : Int32) ≤ x3) → (Q (some (.int (-1 : Int32))) n h21))))))))))))))) : W_X10_change g d av Q n 125 [some (.ref 2759), some (.int x1), none, some (.int x3), some (.int x4), some (.ref a5), none, none, none, none, none, none] [] h := by
  refine r_aload_n dX10_change_125 rfl rfl ?_
  refine m_getF (x := 2842) hp fw_X10_453 dX10_change_126 rfl ly_10 (ff_10_21 ly_10) ?_
  refine r_aload dX10_change_129 rfl ?_
  refine k_SV (As := [.ref 2842, .ref a5]) (stk := []) cs_X10_547 dX10_change_131 rfl (Nat.le_of_ble_eq_true rfl) (H.mono (fun h1 H => ?_)) ⟨Nat.le_refl _, Nat.le_refl _⟩
  refine r_iload_n dX10_change_134 rfl rfl ?_
  refine r_bipush (v := (9 : Int32)) dX10_change_135 rfl ?_
  refine r_icmp_ne (tgt := 190) dX10_change_137 rfl (fun cH => ?_) (fun cH => ?_)
  · replace H := H.1 cH
    refine r_iload_n dX10_change_190 rfl rfl ?_
    refine r_bipush (v := (11 : Int32)) dX10_change_191 rfl ?_
    refine r_icmp_ne (tgt := 210) dX10_change_193 rfl (fun cH => ?_) (fun cH => ?_)
    · replace H := H.1 cH
      refine r_aload_n dX10_change_210 rfl rfl ?_
      refine k_VR (As := []) (stk := []) hp cv_X10_140 dX10_change_211 rfl (Nat.le_of_ble_eq_true rfl) ly_10 (H.mono (fun v2 h2 H => ?_)) ⟨Nat.le_refl _, Nat.le_refl _⟩
      obtain ⟨tv2, H⟩ := H
      refine r_astore (ls2 := [some (.ref 2759), some (.int x1), none, some (.int x3), some (.int x4), some (.ref a5), some (.ref v2), none, none, none, none, none]) dX10_change_214 (by decide) rfl ?_
      refine r_aload_n dX10_change_216 rfl rfl ?_
      refine k_VR (As := []) (stk := []) hp cv_X10_140 dX10_change_217 rfl (Nat.le_of_ble_eq_true rfl) ly_10 (H.mono (fun v3 h3 H => ?_)) ⟨Nat.le_refl _, Nat.le_refl _⟩
      obtain ⟨tv3, H⟩ := H
      refine r_astore (ls2 := [some (.ref 2759), some (.int x1), none, some (.int x3), some (.int x4), some (.ref a5), some (.ref v2), some (.ref v3), none, none, none, none]) dX10_change_220 (by decide) rfl ?_
      refine r_aload dX10_change_222 rfl ?_
      refine r_aload dX10_change_224 rfl ?_
      refine m_getF (x := (a5 + 1)) hp fw_X10_207 dX10_change_226 rfl t5 (ff_11_1 t5) ?_
      refine k_SV (As := [.ref v2, .ref (a5 + 1)]) (stk := []) cs_X10_295 dX10_change_229 rfl (Nat.le_of_ble_eq_true rfl) (H.mono (fun h4 H => ?_)) ⟨Nat.le_refl _, Nat.le_refl _⟩
      refine r_aload dX10_change_232 rfl ?_
      refine r_aload dX10_change_234 rfl ?_
      refine m_getF (x := (a5 + 2)) hp fw_X10_210 dX10_change_236 rfl t5 (ff_11_2 t5) ?_
      refine k_SV (As := [.ref v3, .ref (a5 + 2)]) (stk := []) cs_X10_295 dX10_change_239 rfl (Nat.le_of_ble_eq_true rfl) (H.mono (fun h5 H => ?_)) ⟨Nat.le_refl _, Nat.le_refl _⟩
      refine r_iload_n dX10_change_242 rfl rfl ?_
      refine k_SI (As := [.int x3]) (stk := []) cs_X10_600 dX10_change_243 rfl (Nat.le_of_ble_eq_true rfl) (H.mono (fun v6 h6 H => ?_)) ⟨Nat.le_refl _, Nat.le_refl _⟩
      refine r_istore (ls2 := [some (.ref 2759), some (.int x1), none, some (.int x3), some (.int x4), some (.ref a5), some (.ref v2), some (.ref v3), some (.int v6), none, none, none]) dX10_change_246 (by decide) rfl ?_
      refine r_iload_n dX10_change_248 rfl rfl ?_
      refine r_iconst (v := (2 : Int32)) dX10_change_249 rfl ?_
      refine r_icmp_ge (tgt := 267) dX10_change_250 rfl (fun cH => ?_) (fun cH => ?_)
      · replace H := H.1 cH
        refine r_aload_n dX10_change_267 rfl rfl ?_
        refine k_VR (As := []) (stk := []) hp cv_X10_140 dX10_change_268 rfl (Nat.le_of_ble_eq_true rfl) ly_10 (H.mono (fun v7 h7 H => ?_)) ⟨Nat.le_refl _, Nat.le_refl _⟩
        obtain ⟨tv7, H⟩ := H
        refine r_astore (ls2 := [some (.ref 2759), some (.int x1), none, some (.int x3), some (.int x4), some (.ref a5), some (.ref v2), some (.ref v3), some (.int v6), some (.ref v7), none, none]) dX10_change_271 (by decide) rfl ?_
        refine r_aload_n dX10_change_273 rfl rfl ?_
        refine k_VR (As := []) (stk := []) hp cv_X10_140 dX10_change_274 rfl (Nat.le_of_ble_eq_true rfl) ly_10 (H.mono (fun v8 h8 H => ?_)) ⟨Nat.le_refl _, Nat.le_refl _⟩
        obtain ⟨tv8, H⟩ := H
        refine r_astore (ls2 := [some (.ref 2759), some (.int x1), none, some (.int x3), some (.int x4), some (.ref a5), some (.ref v2), some (.ref v3), some (.int v6), some (.ref v7), some (.ref v8), none]) dX10_change_277 (by decide) rfl ?_
        refine r_aload_n dX10_change_279 rfl rfl ?_
        refine k_VR (As := []) (stk := []) hp cv_X10_140 dX10_change_280 rfl (Nat.le_of_ble_eq_true rfl) ly_10 (H.mono (fun v9 h9 H => ?_)) ⟨Nat.le_refl _, Nat.le_refl _⟩
        obtain ⟨tv9, H⟩ := H
        refine r_astore (ls2 := [some (.ref 2759), some (.int x1), none, some (.int x3), some (.int x4), some (.ref a5), some (.ref v2), some (.ref v3), some (.int v6), some (.ref v7), some (.ref v8), some (.ref v9)]) dX10_change_283 (by decide) rfl ?_
        refine r_aload dX10_change_285 rfl ?_
        refine r_iconst (v := (1 : Int32)) dX10_change_287 rfl ?_
        refine k_VV (As := [.int (1 : Int32)]) (stk := []) hp cv_X10_158 dX10_change_288 rfl (Nat.le_of_ble_eq_true rfl) tv9 (H.mono (fun h10 H => ?_)) ⟨Nat.le_refl _, Nat.le_refl _⟩
        refine r_iload_n dX10_change_291 rfl rfl ?_
        by_cases c0 : (x1).toInt = 2
        · replace H := H.1 c0
          refine r_tableIn (tgt := 332) dX10_change_292 (by omega) (by omega) (by rw [c0]; rfl) rfl ?_
          refine r_aload_n dX10_change_332 rfl rfl ?_
          refine r_aload dX10_change_333 rfl ?_
          refine r_aload dX10_change_335 rfl ?_
          refine r_iload dX10_change_337 rfl ?_
          refine r_iload_n dX10_change_339 rfl rfl ?_
          refine r_iconst (v := (2 : Int32)) dX10_change_340 rfl ?_
          refine r_icmp_ne (tgt := 348) dX10_change_341 rfl (fun cH => ?_) (fun cH => ?_)
          · replace H := H.1 cH
            refine r_iconst (v := (0 : Int32)) dX10_change_348 rfl ?_
            refine r_prune [true, true, false, false, true, false, false, true, true, true, true, false] (ls2 := [some (.ref 2759), some (.int x1), none, none, some (.int x4), none, none, some (.ref v3), some (.int v6), some (.ref v7), some (.ref v8), none]) rfl ?_
            exact H
          · replace H := H.2 cH
            refine r_iconst (v := (1 : Int32)) dX10_change_344 rfl ?_
            refine r_goto (tgt := 349) dX10_change_345 rfl ?_
            refine r_prune [true, true, false, false, true, false, false, true, true, true, true, false] (ls2 := [some (.ref 2759), some (.int x1), none, none, some (.int x4), none, none, some (.ref v3), some (.int v6), some (.ref v7), some (.ref v8), none]) rfl ?_
            exact H
        by_cases c1 : (x1).toInt = 3
        · replace H := H.2.1 c1
          refine r_tableIn (tgt := 332) dX10_change_292 (by omega) (by omega) (by rw [c1]; rfl) rfl ?_
          refine r_aload_n dX10_change_332 rfl rfl ?_
          refine r_aload dX10_change_333 rfl ?_
          refine r_aload dX10_change_335 rfl ?_
          refine r_iload dX10_change_337 rfl ?_
          refine r_iload_n dX10_change_339 rfl rfl ?_
          refine r_iconst (v := (2 : Int32)) dX10_change_340 rfl ?_
          refine r_icmp_ne (tgt := 348) dX10_change_341 rfl (fun cH => ?_) (fun cH => ?_)
          · replace H := H.1 cH
            refine r_iconst (v := (0 : Int32)) dX10_change_348 rfl ?_
            refine r_prune [true, true, false, false, true, false, false, true, true, true, true, false] (ls2 := [some (.ref 2759), some (.int x1), none, none, some (.int x4), none, none, some (.ref v3), some (.int v6), some (.ref v7), some (.ref v8), none]) rfl ?_
            exact H
          · replace H := H.2 cH
            refine r_iconst (v := (1 : Int32)) dX10_change_344 rfl ?_
            refine r_goto (tgt := 349) dX10_change_345 rfl ?_
            refine r_prune [true, true, false, false, true, false, false, true, true, true, true, false] (ls2 := [some (.ref 2759), some (.int x1), none, none, some (.int x4), none, none, some (.ref v3), some (.int v6), some (.ref v7), some (.ref v8), none]) rfl ?_
            exact H
        by_cases c2 : (x1).toInt = 4
        · replace H := H.2.2.1 c2
          refine r_tableIn (tgt := 393) dX10_change_292 (by omega) (by omega) (by rw [c2]; rfl) rfl ?_
          refine r_aload_n dX10_change_393 rfl rfl ?_
          refine r_aload dX10_change_394 rfl ?_
          refine r_aload dX10_change_396 rfl ?_
          refine r_aload dX10_change_398 rfl ?_
          refine r_aload dX10_change_400 rfl ?_
          refine r_iload_n dX10_change_402 rfl rfl ?_
          refine r_iconst (v := (4 : Int32)) dX10_change_403 rfl ?_
          refine r_icmp_ne (tgt := 411) dX10_change_404 rfl (fun cH => ?_) (fun cH => ?_)
          · replace H := H.1 cH
            refine r_iconst (v := (0 : Int32)) dX10_change_411 rfl ?_
            refine r_prune [true, false, false, false, true, false, false, false, false, true, true, false] (ls2 := [some (.ref 2759), none, none, none, some (.int x4), none, none, none, none, some (.ref v7), some (.ref v8), none]) rfl ?_
            exact H
          · replace H := H.2 cH
            refine r_iconst (v := (1 : Int32)) dX10_change_407 rfl ?_
            refine r_goto (tgt := 412) dX10_change_408 rfl ?_
            refine r_prune [true, false, false, false, true, false, false, false, false, true, true, false] (ls2 := [some (.ref 2759), none, none, none, some (.int x4), none, none, none, none, some (.ref v7), some (.ref v8), none]) rfl ?_
            exact H
        by_cases c3 : (x1).toInt = 5
        · replace H := H.2.2.2.1 c3
          refine r_tableIn (tgt := 393) dX10_change_292 (by omega) (by omega) (by rw [c3]; rfl) rfl ?_
          refine r_aload_n dX10_change_393 rfl rfl ?_
          refine r_aload dX10_change_394 rfl ?_
          refine r_aload dX10_change_396 rfl ?_
          refine r_aload dX10_change_398 rfl ?_
          refine r_aload dX10_change_400 rfl ?_
          refine r_iload_n dX10_change_402 rfl rfl ?_
          refine r_iconst (v := (4 : Int32)) dX10_change_403 rfl ?_
          refine r_icmp_ne (tgt := 411) dX10_change_404 rfl (fun cH => ?_) (fun cH => ?_)
          · replace H := H.1 cH
            refine r_iconst (v := (0 : Int32)) dX10_change_411 rfl ?_
            refine r_prune [true, false, false, false, true, false, false, false, false, true, true, false] (ls2 := [some (.ref 2759), none, none, none, some (.int x4), none, none, none, none, some (.ref v7), some (.ref v8), none]) rfl ?_
            exact H
          · replace H := H.2 cH
            refine r_iconst (v := (1 : Int32)) dX10_change_407 rfl ?_
            refine r_goto (tgt := 412) dX10_change_408 rfl ?_
            refine r_prune [true, false, false, false, true, false, false, false, false, true, true, false] (ls2 := [some (.ref 2759), none, none, none, some (.int x4), none, none, none, none, some (.ref v7), some (.ref v8), none]) rfl ?_
            exact H
        by_cases c4 : (x1).toInt = 6
        · replace H := H.2.2.2.2.1 c4
          refine r_tableIn (tgt := 418) dX10_change_292 (by omega) (by omega) (by rw [c4]; rfl) rfl ?_
          refine r_aload dX10_change_418 rfl ?_
          refine r_aload dX10_change_420 rfl ?_
          refine k_SV (As := [.ref v7, .ref v2]) (stk := []) cs_X10_644 dX10_change_422 rfl (Nat.le_of_ble_eq_true rfl) (H.mono (fun h11 H => ?_)) ⟨Nat.le_refl _, Nat.le_refl _⟩
          refine r_aload dX10_change_425 rfl ?_
          refine r_aload dX10_change_427 rfl ?_
          refine k_SV (As := [.ref v8, .ref v3]) (stk := []) cs_X10_644 dX10_change_429 rfl (Nat.le_of_ble_eq_true rfl) (H.mono (fun h12 H => ?_)) ⟨Nat.le_refl _, Nat.le_refl _⟩
          refine r_aload dX10_change_432 rfl ?_
          refine r_aload dX10_change_434 rfl ?_
          refine k_SV (As := [.ref v7, .ref v8]) (stk := []) cs_X10_191 dX10_change_436 rfl (Nat.le_of_ble_eq_true rfl) (H.mono (fun h13 H => ?_)) ⟨Nat.le_refl _, Nat.le_refl _⟩
          refine r_goto (tgt := 473) dX10_change_439 rfl ?_
          refine r_prune [true, false, false, false, true, false, false, false, false, true, true, false] (ls2 := [some (.ref 2759), none, none, none, some (.int x4), none, none, none, none, some (.ref v7), some (.ref v8), none]) rfl ?_
          exact H
        by_cases c5 : (x1).toInt = 7
        · replace H := H.2.2.2.2.2.1 c5
          refine r_tableIn (tgt := 442) dX10_change_292 (by omega) (by omega) (by rw [c5]; rfl) rfl ?_
          refine r_aload dX10_change_442 rfl ?_
          refine r_aload dX10_change_444 rfl ?_
          refine k_SV (As := [.ref v7, .ref v2]) (stk := []) cs_X10_113 dX10_change_446 rfl (Nat.le_of_ble_eq_true rfl) (H.mono (fun h14 H => ?_)) ⟨Nat.le_refl _, Nat.le_refl _⟩
          refine r_aload dX10_change_449 rfl ?_
          refine r_aload dX10_change_451 rfl ?_
          refine k_SV (As := [.ref v8, .ref v9]) (stk := []) cs_X10_113 dX10_change_453 rfl (Nat.le_of_ble_eq_true rfl) (H.mono (fun h15 H => ?_)) ⟨Nat.le_refl _, Nat.le_refl _⟩
          refine r_goto (tgt := 473) dX10_change_456 rfl ?_
          refine r_prune [true, false, false, false, true, false, false, false, false, true, true, false] (ls2 := [some (.ref 2759), none, none, none, some (.int x4), none, none, none, none, some (.ref v7), some (.ref v8), none]) rfl ?_
          exact H
        have cD : (x1).toInt < 2 ∨ 7 < (x1).toInt := by omega
        replace H := H.2.2.2.2.2.2 cD
        refine r_tableOut (tgt := 459) dX10_change_292 cD rfl ?_
        refine r_aload dX10_change_459 rfl ?_
        refine r_aload dX10_change_461 rfl ?_
        refine k_SV (As := [.ref v7, .ref v3]) (stk := []) cs_X10_113 dX10_change_463 rfl (Nat.le_of_ble_eq_true rfl) (H.mono (fun h16 H => ?_)) ⟨Nat.le_refl _, Nat.le_refl _⟩
        refine r_aload dX10_change_466 rfl ?_
        refine r_aload dX10_change_468 rfl ?_
        refine k_SV (As := [.ref v8, .ref v9]) (stk := []) cs_X10_113 dX10_change_470 rfl (Nat.le_of_ble_eq_true rfl) (H.mono (fun h17 H => ?_)) ⟨Nat.le_refl _, Nat.le_refl _⟩
        refine r_prune [true, false, false, false, true, false, false, false, false, true, true, false] (ls2 := [some (.ref 2759), none, none, none, some (.int x4), none, none, none, none, some (.ref v7), some (.ref v8), none]) rfl ?_
        exact H
      · replace H := H.2 cH
        refine r_aload_n dX10_change_253 rfl rfl ?_
        refine r_iload_n dX10_change_254 rfl rfl ?_
        refine r_aload dX10_change_255 rfl ?_
        refine r_aload dX10_change_257 rfl ?_
        refine r_iload dX10_change_259 rfl ?_
        refine r_iload dX10_change_261 rfl ?_
        refine k_VI (As := [.int x1, .ref v2, .ref v3, .int v6, .int x4]) (stk := []) hp cv_X10_651 dX10_change_263 rfl (Nat.le_of_ble_eq_true rfl) ly_10 (H.mono (fun v18 h18 H => ?_)) ⟨Nat.le_refl _, Nat.le_refl _⟩
        exact r_zret dX10_change_266 rfl rfl (Nat.le_refl _) (Nat.le_refl _) H
    · replace H := H.2 cH
      refine r_aload_n dX10_change_196 rfl rfl ?_
      refine m_getF (x := 2842) hp fw_X10_453 dX10_change_197 rfl ly_10 (ff_10_21 ly_10) ?_
      refine k_SV (As := [.ref 2842]) (stk := []) cs_X10_257 dX10_change_200 rfl (Nat.le_of_ble_eq_true rfl) (H.mono (fun h19 H => ?_)) ⟨Nat.le_refl _, Nat.le_refl _⟩
      refine r_aload_n dX10_change_203 rfl rfl ?_
      refine r_iload dX10_change_204 rfl ?_
      refine k_VI (As := [.int x4]) (stk := []) hp cv_X10_558 dX10_change_206 rfl (Nat.le_of_ble_eq_true rfl) ly_10 (H.mono (fun v20 h20 H => ?_)) ⟨Nat.le_refl _, Nat.le_refl _⟩
      exact r_zret dX10_change_209 rfl rfl (Nat.le_refl _) (Nat.le_refl _) H
  · replace H := H.2 cH
    refine r_iload_n dX10_change_140 rfl rfl ?_
    refine r_bipush (v := (-12 : Int32)) dX10_change_141 rfl ?_
    refine r_icmp_lt (tgt := 164) dX10_change_143 rfl (fun cH => ?_) (fun cH => ?_)
    · replace H := H.1 cH
      refine r_iconst (v := (-1 : Int32)) dX10_change_164 rfl ?_
      exact r_zret dX10_change_165 rfl rfl (Nat.le_refl _) (Nat.le_refl _) H
    · replace H := H.2 cH
      refine r_iload_n dX10_change_146 rfl rfl ?_
      refine r_bipush (v := (12 : Int32)) dX10_change_147 rfl ?_
      refine r_icmp_gt (tgt := 164) dX10_change_149 rfl (fun cH => ?_) (fun cH => ?_)
      · replace H := H.1 cH
        refine r_iconst (v := (-1 : Int32)) dX10_change_164 rfl ?_
        exact r_zret dX10_change_165 rfl rfl (Nat.le_refl _) (Nat.le_refl _) H
      · replace H := H.2 cH
        refine r_aload dX10_change_152 rfl ?_
        refine k_SI (As := [.ref a5]) (stk := []) cs_X10_288 dX10_change_154 rfl (Nat.le_of_ble_eq_true rfl) (H.mono (fun v21 h21 H => ?_)) ⟨Nat.le_refl _, Nat.le_refl _⟩
        refine r_if_eq (tgt := 166) dX10_change_157 rfl (fun cH => ?_) (fun cH => ?_)
        · replace H := H.1 cH
          refine r_prune [true, false, false, true, true, false, false, false, false, false, false, false] (ls2 := [some (.ref 2759), none, none, some (.int x3), some (.int x4), none, none, none, none, none, none, none]) rfl ?_
          exact H
        · replace H := H.2 cH
          refine r_iload_n dX10_change_160 rfl rfl ?_
          refine r_if_ge (tgt := 166) dX10_change_161 rfl (fun cH => ?_) (fun cH => ?_)
          · replace H := H.1 cH
            refine r_prune [true, false, false, true, true, false, false, false, false, false, false, false] (ls2 := [some (.ref 2759), none, none, some (.int x3), some (.int x4), none, none, none, none, none, none, none]) rfl ?_
            exact H
          · replace H := H.2 cH
            refine r_iconst (v := (-1 : Int32)) dX10_change_164 rfl ?_
            exact r_zret dX10_change_165 rfl rfl (Nat.le_refl _) (Nat.le_refl _) H
theorem s_X10_change_166 {g : GX} {d : Nat} {av : List Value} {Q : QT} {n : Nat} {h : Hp} {x3 : Int32} {x4 : Int32} (hp : g.2.2.2.2 = true)  (H : CallI g m_X10_raise d [.ref 2759, .ref 2842, .int x3] n h (fun v1 h1 => (((v1 = (0 : Int32)) → (Q (some (.int (-2 : Int32))) n h1)) ∧ ((¬ v1 = (0 : Int32)) → (CallI g m_X10_keep d [.ref 2759, .int x4] n h1 (fun v2 h2 => (Q (some (.int v2)) n h2))))))) : W_X10_change g d av Q n 166 [some (.ref 2759), none, none, some (.int x3), some (.int x4), none, none, none, none, none, none, none] [] h := by
  refine r_aload_n dX10_change_166 rfl rfl ?_
  refine r_aload_n dX10_change_167 rfl rfl ?_
  refine m_getF (x := 2842) hp fw_X10_453 dX10_change_168 rfl ly_10 (ff_10_21 ly_10) ?_
  refine r_iload_n dX10_change_171 rfl rfl ?_
  refine k_VI (As := [.ref 2842, .int x3]) (stk := []) hp cv_X10_417 dX10_change_172 rfl (Nat.le_of_ble_eq_true rfl) ly_10 (H.mono (fun v1 h1 H => ?_)) ⟨Nat.le_refl _, Nat.le_refl _⟩
  refine r_if_eq (tgt := 187) dX10_change_175 rfl (fun cH => ?_) (fun cH => ?_)
  · replace H := H.1 cH
    refine r_bipush (v := (-2 : Int32)) dX10_change_187 rfl ?_
    exact r_zret dX10_change_189 rfl rfl (Nat.le_refl _) (Nat.le_refl _) H
  · replace H := H.2 cH
    refine r_aload_n dX10_change_178 rfl rfl ?_
    refine r_iload dX10_change_179 rfl ?_
    refine k_VI (As := [.int x4]) (stk := []) hp cv_X10_558 dX10_change_181 rfl (Nat.le_of_ble_eq_true rfl) ly_10 (H.mono (fun v2 h2 H => ?_)) ⟨Nat.le_refl _, Nat.le_refl _⟩
    refine r_goto (tgt := 189) dX10_change_184 rfl ?_
    exact r_zret dX10_change_189 rfl rfl (Nat.le_refl _) (Nat.le_refl _) H
theorem s_X10_change_349 {g : GX} {d : Nat} {av : List Value} {Q : QT} {n : Nat} {h : Hp} {x1 : Int32} {x4 : Int32} {a7 : Nat} {x8 : Int32} {a9 : Nat} {a10 : Nat} {xs0 : Int32} {xs1 : Int32} {as2 : Nat} {as3 : Nat} {as4 : Nat} (hp : g.2.2.2.2 = true) (t7 : lay a7 = (0, 14, 2)) (t9 : lay a9 = (0, 14, 2)) (t10 : lay a10 = (0, 14, 2)) (ts2 : lay as2 = (0, 14, 2)) (ts3 : lay as3 = (0, 14, 2)) (ts4 : lay as4 = (0, 10, 65)) (H : CallV g m_X10_fixed d [.ref as4, .ref as3, .ref as2, .int xs1, .int xs0] n h (fun h1 => (((¬ x1 = (2 : Int32)) → (W_X10_change g d av Q n 369 [some (.ref 2759), none, none, none, some (.int x4), none, none, none, none, some (.ref a9), some (.ref a10), none] [.int (0 : Int32), .int x8, .ref a7, .ref a10, .ref 2759] h1)) ∧ ((x1 = (2 : Int32)) → (W_X10_change g d av Q n 369 [some (.ref 2759), none, none, none, some (.int x4), none, none, none, none, some (.ref a9), some (.ref a10), none] [.int (1 : Int32), .int x8, .ref a7, .ref a10, .ref 2759] h1))))) : W_X10_change g d av Q n 349 [some (.ref 2759), some (.int x1), none, none, some (.int x4), none, none, some (.ref a7), some (.int x8), some (.ref a9), some (.ref a10), none] [.int xs0, .int xs1, .ref as2, .ref as3, .ref as4] h := by
  refine k_VV (As := [.ref as3, .ref as2, .int xs1, .int xs0]) (stk := []) hp cv_X10_655 dX10_change_349 rfl (Nat.le_of_ble_eq_true rfl) ts4 (H.mono (fun h1 H => ?_)) ⟨Nat.le_refl _, Nat.le_refl _⟩
  refine r_aload_n dX10_change_352 rfl rfl ?_
  refine r_aload dX10_change_353 rfl ?_
  refine r_aload dX10_change_355 rfl ?_
  refine r_iload dX10_change_357 rfl ?_
  refine r_iload_n dX10_change_359 rfl rfl ?_
  refine r_iconst (v := (2 : Int32)) dX10_change_360 rfl ?_
  refine r_icmp_ne (tgt := 368) dX10_change_361 rfl (fun cH => ?_) (fun cH => ?_)
  · replace H := H.1 cH
    refine r_iconst (v := (0 : Int32)) dX10_change_368 rfl ?_
    refine r_prune [true, false, false, false, true, false, false, false, false, true, true, false] (ls2 := [some (.ref 2759), none, none, none, some (.int x4), none, none, none, none, some (.ref a9), some (.ref a10), none]) rfl ?_
    exact H
  · replace H := H.2 cH
    refine r_iconst (v := (1 : Int32)) dX10_change_364 rfl ?_
    refine r_goto (tgt := 369) dX10_change_365 rfl ?_
    refine r_prune [true, false, false, false, true, false, false, false, false, true, true, false] (ls2 := [some (.ref 2759), none, none, none, some (.int x4), none, none, none, none, some (.ref a9), some (.ref a10), none]) rfl ?_
    exact H
theorem s_X10_change_369 {g : GX} {d : Nat} {av : List Value} {Q : QT} {n : Nat} {h : Hp} {x4 : Int32} {a9 : Nat} {a10 : Nat} {xs0 : Int32} {xs1 : Int32} {as2 : Nat} {as3 : Nat} {as4 : Nat} (hp : g.2.2.2.2 = true) (t9 : lay a9 = (0, 14, 2)) (t10 : lay a10 = (0, 14, 2)) (ts2 : lay as2 = (0, 14, 2)) (ts3 : lay as3 = (0, 14, 2)) (ts4 : lay as4 = (0, 10, 65)) (H : CallV g m_X10_fixed d [.ref as4, .ref as3, .ref as2, .int xs1, .int xs0] n h (fun h1 => (((¬ (ri h1 a10 1) = (0 : Int32)) → (CallV g m_X10_reduce d [.ref 2759, .ref a9, .ref a10] n h1 (fun h2 => (W_X10_change g d av Q n 473 [some (.ref 2759), none, none, none, some (.int x4), none, none, none, none, some (.ref a9), some (.ref a10), none] [] h2)))) ∧ (((ri h1 a10 1) = (0 : Int32)) → (Q (some (.int (-1 : Int32))) n h1))))) : W_X10_change g d av Q n 369 [some (.ref 2759), none, none, none, some (.int x4), none, none, none, none, some (.ref a9), some (.ref a10), none] [.int xs0, .int xs1, .ref as2, .ref as3, .ref as4] h := by
  refine k_VV (As := [.ref as3, .ref as2, .int xs1, .int xs0]) (stk := []) hp cv_X10_655 dX10_change_369 rfl (Nat.le_of_ble_eq_true rfl) ts4 (H.mono (fun h1 H => ?_)) ⟨Nat.le_refl _, Nat.le_refl _⟩
  refine r_aload dX10_change_372 rfl ?_
  refine m_getI hp fw_X10_93 dX10_change_374 rfl t10 ?_
  refine r_if_ne (tgt := 382) dX10_change_377 rfl (fun cH => ?_) (fun cH => ?_)
  · replace H := H.1 cH
    refine r_aload_n dX10_change_382 rfl rfl ?_
    refine r_aload dX10_change_383 rfl ?_
    refine r_aload dX10_change_385 rfl ?_
    refine k_VV (As := [.ref a9, .ref a10]) (stk := []) hp cv_X10_659 dX10_change_387 rfl (Nat.le_of_ble_eq_true rfl) ly_10 (H.mono (fun h2 H => ?_)) ⟨Nat.le_refl _, Nat.le_refl _⟩
    refine r_goto (tgt := 473) dX10_change_390 rfl ?_
    exact H
  · replace H := H.2 cH
    refine r_iconst (v := (-1 : Int32)) dX10_change_380 rfl ?_
    exact r_zret dX10_change_381 rfl rfl (Nat.le_refl _) (Nat.le_refl _) H
theorem s_X10_change_412 {g : GX} {d : Nat} {av : List Value} {Q : QT} {n : Nat} {h : Hp} {x4 : Int32} {a9 : Nat} {a10 : Nat} {xs0 : Int32} {as1 : Nat} {as2 : Nat} {as3 : Nat} {as4 : Nat} {as5 : Nat} (hp : g.2.2.2.2 = true) (t9 : lay a9 = (0, 14, 2)) (t10 : lay a10 = (0, 14, 2)) (ts1 : lay as1 = (0, 14, 2)) (ts2 : lay as2 = (0, 14, 2)) (ts3 : lay as3 = (0, 14, 2)) (ts4 : lay as4 = (0, 14, 2)) (ts5 : lay as5 = (0, 10, 65)) (H : CallV g m_X10_derivative d [.ref as5, .ref as4, .ref as3, .ref as2, .ref as1, .int xs0] n h (fun h1 => (W_X10_change g d av Q n 473 [some (.ref 2759), none, none, none, some (.int x4), none, none, none, none, some (.ref a9), some (.ref a10), none] [] h1))) : W_X10_change g d av Q n 412 [some (.ref 2759), none, none, none, some (.int x4), none, none, none, none, some (.ref a9), some (.ref a10), none] [.int xs0, .ref as1, .ref as2, .ref as3, .ref as4, .ref as5] h := by
  refine k_VV (As := [.ref as4, .ref as3, .ref as2, .ref as1, .int xs0]) (stk := []) hp cv_X10_662 dX10_change_412 rfl (Nat.le_of_ble_eq_true rfl) ts5 (H.mono (fun h1 H => ?_)) ⟨Nat.le_refl _, Nat.le_refl _⟩
  refine r_goto (tgt := 473) dX10_change_415 rfl ?_
  exact H
theorem s_X10_change_473 {g : GX} {d : Nat} {av : List Value} {Q : QT} {n : Nat} {h : Hp} {x4 : Int32} {a9 : Nat} {a10 : Nat} (hp : g.2.2.2.2 = true) (t9 : lay a9 = (0, 14, 2)) (t10 : lay a10 = (0, 14, 2)) (H : CallI g m_X10_put d [.ref 2842, .ref a9, .ref a10] n h (fun v1 h1 => (((v1 = (0 : Int32)) → (Q (some (.int (-2 : Int32))) n h1)) ∧ ((¬ v1 = (0 : Int32)) → (CallI g m_X10_keep d [.ref 2759, .int x4] n h1 (fun v2 h2 => (Q (some (.int v2)) n h2))))))) : W_X10_change g d av Q n 473 [some (.ref 2759), none, none, none, some (.int x4), none, none, none, none, some (.ref a9), some (.ref a10), none] [] h := by
  refine r_aload_n dX10_change_473 rfl rfl ?_
  refine m_getF (x := 2842) hp fw_X10_453 dX10_change_474 rfl ly_10 (ff_10_21 ly_10) ?_
  refine r_aload dX10_change_477 rfl ?_
  refine r_aload dX10_change_479 rfl ?_
  refine k_SI (As := [.ref 2842, .ref a9, .ref a10]) (stk := []) cs_X10_261 dX10_change_481 rfl (Nat.le_of_ble_eq_true rfl) (H.mono (fun v1 h1 H => ?_)) ⟨Nat.le_refl _, Nat.le_refl _⟩
  refine r_if_eq (tgt := 496) dX10_change_484 rfl (fun cH => ?_) (fun cH => ?_)
  · replace H := H.1 cH
    refine r_bipush (v := (-2 : Int32)) dX10_change_496 rfl ?_
    exact r_zret dX10_change_498 rfl rfl (Nat.le_refl _) (Nat.le_refl _) H
  · replace H := H.2 cH
    refine r_aload_n dX10_change_487 rfl rfl ?_
    refine r_iload dX10_change_488 rfl ?_
    refine k_VI (As := [.int x4]) (stk := []) hp cv_X10_558 dX10_change_490 rfl (Nat.le_of_ble_eq_true rfl) ly_10 (H.mono (fun v2 h2 H => ?_)) ⟨Nat.le_refl _, Nat.le_refl _⟩
    refine r_goto (tgt := 498) dX10_change_493 rfl ?_
    exact r_zret dX10_change_498 rfl rfl (Nat.le_refl _) (Nat.le_refl _) H
abbrev W_X10_moved (g : GX) (d : Nat) (av : List Value) (Q : QT) (n : Nat) (pc : Nat) (ls : LV) (stk : List Value) (h : Hp) : Prop := RJ g m_X10_moved (d + 1) 0 0 av Q pc ls stk n h 0 0
theorem s_X10_moved_0 {g : GX} {d : Nat} {av : List Value} {Q : QT} {n : Nat} {h : Hp} {x1 : Int32} {a2 : Nat} {a3 : Nat} {x4 : Int32} {x5 : Int32} (hp : g.2.2.2.2 = true) (t2 : lay a2 = (0, 14, 2)) (t3 : lay a3 = (0, 14, 2)) (H : ((¬ x1 = (0 : Int32)) → (CallV g m_X10_shiftK d [.ref a2, .ref a2, .int x4] n h (fun h1 => (CallV g m_X10_shiftK d [.ref a3, .ref a3, .int x4] n h1 (fun h2 => (W_X10_moved g d av Q n 35 [some (.ref 2759), some (.int x1), some (.ref a2), some (.ref a3), some (.int x4), some (.int x5), none, none, none, none] [] h2)))))) ∧ ((x1 = (0 : Int32)) → (CallV g m_X10_shiftN d [.ref a2, .ref a2, .int x4] n h (fun h3 => (CallV g m_X10_shiftN d [.ref a3, .ref a3, .int x4] n h3 (fun h4 => (W_X10_moved g d av Q n 35 [some (.ref 2759), some (.int x1), some (.ref a2), some (.ref a3), some (.int x4), some (.int x5), none, none, none, none] [] h4))))))) : W_X10_moved g d av Q n 0 [some (.ref 2759), some (.int x1), some (.ref a2), some (.ref a3), some (.int x4), some (.int x5), none, none, none, none] [] h := by
  refine r_iload_n dX10_moved_0 rfl rfl ?_
  refine r_if_ne (tgt := 21) dX10_moved_1 rfl (fun cH => ?_) (fun cH => ?_)
  · replace H := H.1 cH
    refine r_aload_n dX10_moved_21 rfl rfl ?_
    refine r_aload_n dX10_moved_22 rfl rfl ?_
    refine r_iload dX10_moved_23 rfl ?_
    refine k_SV (As := [.ref a2, .ref a2, .int x4]) (stk := []) cs_X10_626 dX10_moved_25 rfl (Nat.le_of_ble_eq_true rfl) (H.mono (fun h1 H => ?_)) ⟨Nat.le_refl _, Nat.le_refl _⟩
    refine r_aload_n dX10_moved_28 rfl rfl ?_
    refine r_aload_n dX10_moved_29 rfl rfl ?_
    refine r_iload dX10_moved_30 rfl ?_
    refine k_SV (As := [.ref a3, .ref a3, .int x4]) (stk := []) cs_X10_626 dX10_moved_32 rfl (Nat.le_of_ble_eq_true rfl) (H.mono (fun h2 H => ?_)) ⟨Nat.le_refl _, Nat.le_refl _⟩
    exact H
  · replace H := H.2 cH
    refine r_aload_n dX10_moved_4 rfl rfl ?_
    refine r_aload_n dX10_moved_5 rfl rfl ?_
    refine r_iload dX10_moved_6 rfl ?_
    refine k_SV (As := [.ref a2, .ref a2, .int x4]) (stk := []) cs_X10_623 dX10_moved_8 rfl (Nat.le_of_ble_eq_true rfl) (H.mono (fun h3 H => ?_)) ⟨Nat.le_refl _, Nat.le_refl _⟩
    refine r_aload_n dX10_moved_11 rfl rfl ?_
    refine r_aload_n dX10_moved_12 rfl rfl ?_
    refine r_iload dX10_moved_13 rfl ?_
    refine k_SV (As := [.ref a3, .ref a3, .int x4]) (stk := []) cs_X10_623 dX10_moved_15 rfl (Nat.le_of_ble_eq_true rfl) (H.mono (fun h4 H => ?_)) ⟨Nat.le_refl _, Nat.le_refl _⟩
    refine r_goto (tgt := 35) dX10_moved_18 rfl ?_
    exact H
theorem s_X10_moved_35 {g : GX} {d : Nat} {av : List Value} {Q : QT} {n : Nat} {h : Hp} {x1 : Int32} {a2 : Nat} {a3 : Nat} {x4 : Int32} {x5 : Int32} (hp : g.2.2.2.2 = true) (t2 : lay a2 = (0, 14, 2)) (t3 : lay a3 = (0, 14, 2)) (H : ((¬ (ri h 2842 0) = (2 : Int32)) → (W_X10_moved g d av Q n 185 [some (.ref 2759), none, some (.ref a2), some (.ref a3), none, some (.int x5), none, none, none, none] [] h)) ∧ (((ri h 2842 0) = (2 : Int32)) → (CallI g m_X10_small d [.int x4] n h (fun v1 h1 => (((¬ x1 = (0 : Int32)) → (W_X10_moved g d av Q n 76 [some (.ref 2759), some (.int x1), some (.ref a2), some (.ref a3), none, some (.int x5), some (.int v1), none, none, none] [.int (ri h1 2842 4), .ref a2, .ref a2] h1)) ∧ ((x1 = (0 : Int32)) → (W_X10_moved g d av Q n 76 [some (.ref 2759), some (.int x1), some (.ref a2), some (.ref a3), none, some (.int x5), some (.int v1), none, none, none] [.int (ri h1 2842 3), .ref a2, .ref a2] h1))))))) : W_X10_moved g d av Q n 35 [some (.ref 2759), some (.int x1), some (.ref a2), some (.ref a3), some (.int x4), some (.int x5), none, none, none, none] [] h := by
  refine r_aload_n dX10_moved_35 rfl rfl ?_
  refine m_getF (x := 2842) hp fw_X10_453 dX10_moved_36 rfl ly_10 (ff_10_21 ly_10) ?_
  refine m_getI hp fw_X10_202 dX10_moved_39 rfl (lf_10_21 ly_10) ?_
  refine r_iconst (v := (2 : Int32)) dX10_moved_42 rfl ?_
  refine r_icmp_ne (tgt := 185) dX10_moved_43 rfl (fun cH => ?_) (fun cH => ?_)
  · replace H := H.1 cH
    refine r_prune [true, false, true, true, false, true, false, false, false, false] (ls2 := [some (.ref 2759), none, some (.ref a2), some (.ref a3), none, some (.int x5), none, none, none, none]) rfl ?_
    exact H
  · replace H := H.2 cH
    refine r_iload dX10_moved_46 rfl ?_
    refine k_SI (As := [.int x4]) (stk := []) cs_X10_390 dX10_moved_48 rfl (Nat.le_of_ble_eq_true rfl) (H.mono (fun v1 h1 H => ?_)) ⟨Nat.le_refl _, Nat.le_refl _⟩
    refine r_istore (ls2 := [some (.ref 2759), some (.int x1), some (.ref a2), some (.ref a3), some (.int x4), some (.int x5), some (.int v1), none, none, none]) dX10_moved_51 (by decide) rfl ?_
    refine r_aload_n dX10_moved_53 rfl rfl ?_
    refine r_aload_n dX10_moved_54 rfl rfl ?_
    refine r_iload_n dX10_moved_55 rfl rfl ?_
    refine r_if_ne (tgt := 69) dX10_moved_56 rfl (fun cH => ?_) (fun cH => ?_)
    · replace H := H.1 cH
      refine r_aload_n dX10_moved_69 rfl rfl ?_
      refine m_getF (x := 2842) hp fw_X10_453 dX10_moved_70 rfl ly_10 (ff_10_21 ly_10) ?_
      refine m_getI hp fw_X10_216 dX10_moved_73 rfl (lf_10_21 ly_10) ?_
      refine r_prune [true, true, true, true, false, true, true, false, false, false] (ls2 := [some (.ref 2759), some (.int x1), some (.ref a2), some (.ref a3), none, some (.int x5), some (.int v1), none, none, none]) rfl ?_
      exact H
    · replace H := H.2 cH
      refine r_aload_n dX10_moved_59 rfl rfl ?_
      refine m_getF (x := 2842) hp fw_X10_453 dX10_moved_60 rfl ly_10 (ff_10_21 ly_10) ?_
      refine m_getI hp fw_X10_213 dX10_moved_63 rfl (lf_10_21 ly_10) ?_
      refine r_goto (tgt := 76) dX10_moved_66 rfl ?_
      refine r_prune [true, true, true, true, false, true, true, false, false, false] (ls2 := [some (.ref 2759), some (.int x1), some (.ref a2), some (.ref a3), none, some (.int x5), some (.int v1), none, none, none]) rfl ?_
      exact H
theorem s_X10_moved_76 {g : GX} {d : Nat} {av : List Value} {Q : QT} {n : Nat} {h : Hp} {x1 : Int32} {a2 : Nat} {a3 : Nat} {x5 : Int32} {x6 : Int32} {xs0 : Int32} {as1 : Nat} {as2 : Nat} (hp : g.2.2.2.2 = true) (t2 : lay a2 = (0, 14, 2)) (t3 : lay a3 = (0, 14, 2)) (ts1 : lay as1 = (0, 14, 2)) (ts2 : lay as2 = (0, 14, 2)) (H : CallI g m_X10_power d [.int xs0, .int x6] n h (fun v1 h1 => (CallV g m_X10_scale d [.ref as2, .ref as1, .int v1] n h1 (fun h2 => (W_X10_moved g d av Q n 87 [some (.ref 2759), some (.int x1), some (.ref a2), some (.ref a3), none, some (.int x5), some (.int x6), some (.int (0 : Int32)), none, none] [] h2))))) : W_X10_moved g d av Q n 76 [some (.ref 2759), some (.int x1), some (.ref a2), some (.ref a3), none, some (.int x5), some (.int x6), none, none, none] [.int xs0, .ref as1, .ref as2] h := by
  refine r_iload dX10_moved_76 rfl ?_
  refine k_SI (As := [.int xs0, .int x6]) (stk := [.ref as1, .ref as2]) cs_X10_317 dX10_moved_78 rfl (Nat.le_of_ble_eq_true rfl) (H.mono (fun v1 h1 H => ?_)) ⟨Nat.le_refl _, Nat.le_refl _⟩
  refine k_SV (As := [.ref as2, .ref as1, .int v1]) (stk := []) cs_X10_182 dX10_moved_81 rfl (Nat.le_of_ble_eq_true rfl) (H.mono (fun h2 H => ?_)) ⟨Nat.le_refl _, Nat.le_refl _⟩
  refine r_iconst (v := (0 : Int32)) dX10_moved_84 rfl ?_
  refine r_istore (ls2 := [some (.ref 2759), some (.int x1), some (.ref a2), some (.ref a3), none, some (.int x5), some (.int x6), some (.int (0 : Int32)), none, none]) dX10_moved_85 (by decide) rfl ?_
  exact H
theorem s_X10_moved_87 {g : GX} {d : Nat} {av : List Value} {Q : QT} {n : Nat} {h : Hp} {x1 : Int32} {a2 : Nat} {a3 : Nat} {x5 : Int32} {x6 : Int32} {x7 : Int32} (hp : g.2.2.2.2 = true) (t2 : lay a2 = (0, 14, 2)) (t3 : lay a3 = (0, 14, 2)) (H : (((ri h 2842 5) ≤ x7) → (W_X10_moved g d av Q n 185 [some (.ref 2759), none, some (.ref a2), some (.ref a3), none, some (.int x5), none, none, none, none] [] h)) ∧ ((¬ (ri h 2842 5) ≤ x7) → (vp_in x7 13 ∧ (((¬ x1 = (0 : Int32)) → (vp_in x7 13 ∧ (W_X10_moved g d av Q n 137 [some (.ref 2759), some (.int x1), some (.ref a2), some (.ref a3), none, some (.int x5), some (.int x6), some (.int x7), none, none] [.int (ri h 2846 (x7).toNatClampNeg), .long ((ri h 2847 (x7).toNatClampNeg)).toInt64] h))) ∧ ((x1 = (0 : Int32)) → (vp_in x7 13 ∧ (W_X10_moved g d av Q n 137 [some (.ref 2759), some (.int x1), some (.ref a2), some (.ref a3), none, some (.int x5), some (.int x6), some (.int x7), none, none] [.int (ri h 2845 (x7).toNatClampNeg), .long ((ri h 2847 (x7).toNatClampNeg)).toInt64] h))))))) : W_X10_moved g d av Q n 87 [some (.ref 2759), some (.int x1), some (.ref a2), some (.ref a3), none, some (.int x5), some (.int x6), some (.int x7), none, none] [] h := by
  refine r_iload dX10_moved_87 rfl ?_
  refine r_aload_n dX10_moved_89 rfl rfl ?_
  refine m_getF (x := 2842) hp fw_X10_453 dX10_moved_90 rfl ly_10 (ff_10_21 ly_10) ?_
  refine m_getI hp fw_X10_219 dX10_moved_93 rfl (lf_10_21 ly_10) ?_
  refine r_icmp_ge (tgt := 185) dX10_moved_96 rfl (fun cH => ?_) (fun cH => ?_)
  · replace H := H.1 cH
    refine r_prune [true, false, true, true, false, true, false, false, false, false] (ls2 := [some (.ref 2759), none, some (.ref a2), some (.ref a3), none, some (.int x5), none, none, none, none]) rfl ?_
    exact H
  · replace H := H.2 cH
    refine r_aload_n dX10_moved_99 rfl rfl ?_
    refine m_getF (x := 2842) hp fw_X10_453 dX10_moved_100 rfl ly_10 (ff_10_21 ly_10) ?_
    refine m_getF (x := 2847) hp fw_X10_228 dX10_moved_103 rfl (lf_10_21 ly_10) (ff_11_8 (lf_10_21 ly_10)) ?_
    refine r_iload dX10_moved_106 rfl ?_
    refine m_iald hp dX10_moved_108 (lf_11_8 (lf_10_21 ly_10)) H.1 ?_
    replace H := H.2
    refine r_i2l dX10_moved_109 ?_
    refine r_iload_n dX10_moved_110 rfl rfl ?_
    refine r_if_ne (tgt := 127) dX10_moved_111 rfl (fun cH => ?_) (fun cH => ?_)
    · replace H := H.1 cH
      refine r_aload_n dX10_moved_127 rfl rfl ?_
      refine m_getF (x := 2842) hp fw_X10_453 dX10_moved_128 rfl ly_10 (ff_10_21 ly_10) ?_
      refine m_getF (x := 2846) hp fw_X10_225 dX10_moved_131 rfl (lf_10_21 ly_10) (ff_11_7 (lf_10_21 ly_10)) ?_
      refine r_iload dX10_moved_134 rfl ?_
      refine m_iald hp dX10_moved_136 (lf_11_7 (lf_10_21 ly_10)) H.1 ?_
      replace H := H.2
      exact H
    · replace H := H.2 cH
      refine r_aload_n dX10_moved_114 rfl rfl ?_
      refine m_getF (x := 2842) hp fw_X10_453 dX10_moved_115 rfl ly_10 (ff_10_21 ly_10) ?_
      refine m_getF (x := 2845) hp fw_X10_222 dX10_moved_118 rfl (lf_10_21 ly_10) (ff_11_6 (lf_10_21 ly_10)) ?_
      refine r_iload dX10_moved_121 rfl ?_
      refine m_iald hp dX10_moved_123 (lf_11_6 (lf_10_21 ly_10)) H.1 ?_
      replace H := H.2
      refine r_goto (tgt := 137) dX10_moved_124 rfl ?_
      exact H
theorem s_X10_moved_137 {g : GX} {d : Nat} {av : List Value} {Q : QT} {n : Nat} {h : Hp} {x1 : Int32} {a2 : Nat} {a3 : Nat} {x5 : Int32} {x6 : Int32} {x7 : Int32} {xs0 : Int32} {ys1 : Int64} (hp : g.2.2.2.2 = true) (t2 : lay a2 = (0, 14, 2)) (t3 : lay a3 = (0, 14, 2)) (H : (((lg_cmp (ys1 + ((xs0).toInt64 * (x6).toInt64)) (-50 : Int64)) < (0 : Int32)) → (Q (some (.int (-2 : Int32))) n h)) ∧ ((¬ (lg_cmp (ys1 + ((xs0).toInt64 * (x6).toInt64)) (-50 : Int64)) < (0 : Int32)) → ((((lg_cmp (ys1 + ((xs0).toInt64 * (x6).toInt64)) (50 : Int64)) ≤ (0 : Int32)) → (vp_in x7 13 ∧ ∀ h1, h1 = wi h 2847 (x7).toNatClampNeg ((ys1 + ((xs0).toInt64 * (x6).toInt64))).toInt32 → (W_X10_moved g d av Q n 87 [some (.ref 2759), some (.int x1), some (.ref a2), some (.ref a3), none, some (.int x5), some (.int x6), some (.int (x7 + (1 : Int32))), none, none] [] h1))) ∧ ((¬ (lg_cmp (ys1 + ((xs0).toInt64 * (x6).toInt64)) (50 : Int64)) ≤ (0 : Int32)) → (Q (some (.int (-2 : Int32))) n h))))) : W_X10_moved g d av Q n 137 [some (.ref 2759), some (.int x1), some (.ref a2), some (.ref a3), none, some (.int x5), some (.int x6), some (.int x7), none, none] [.int xs0, .long ys1] h := by
  refine r_i2l dX10_moved_137 ?_
  refine r_iload dX10_moved_138 rfl ?_
  refine r_i2l dX10_moved_140 ?_
  refine r_lmul dX10_moved_141 ?_
  refine r_ladd dX10_moved_142 ?_
  refine r_lstore (ls2 := [some (.ref 2759), some (.int x1), some (.ref a2), some (.ref a3), none, some (.int x5), some (.int x6), some (.int x7), some (.long (ys1 + ((xs0).toInt64 * (x6).toInt64))), none]) dX10_moved_143 (by decide) rfl ?_
  refine r_lload dX10_moved_145 rfl ?_
  refine r_ldc2 (own := "") (v := (-50 : Int64)) dX10_moved_147 q2577 ?_
  refine r_lcmp dX10_moved_150 ?_
  refine r_if_lt (tgt := 163) dX10_moved_151 rfl (fun cH => ?_) (fun cH => ?_)
  · replace H := H.1 cH
    refine r_bipush (v := (-2 : Int32)) dX10_moved_163 rfl ?_
    exact r_zret dX10_moved_165 rfl rfl (Nat.le_refl _) (Nat.le_refl _) H
  · replace H := H.2 cH
    refine r_lload dX10_moved_154 rfl ?_
    refine r_ldc2 (own := "") (v := (50 : Int64)) dX10_moved_156 q2578 ?_
    refine r_lcmp dX10_moved_159 ?_
    refine r_if_le (tgt := 166) dX10_moved_160 rfl (fun cH => ?_) (fun cH => ?_)
    · replace H := H.1 cH
      refine r_aload_n dX10_moved_166 rfl rfl ?_
      refine m_getF (x := 2842) hp fw_X10_453 dX10_moved_167 rfl ly_10 (ff_10_21 ly_10) ?_
      refine m_getF (x := 2847) hp fw_X10_228 dX10_moved_170 rfl (lf_10_21 ly_10) (ff_11_8 (lf_10_21 ly_10)) ?_
      refine r_iload dX10_moved_173 rfl ?_
      refine r_lload dX10_moved_175 rfl ?_
      refine r_l2i dX10_moved_177 ?_
      refine m_iast hp dX10_moved_178 (lf_11_8 (lf_10_21 ly_10)) H.1 (fun h1 eh1 => ?_)
      replace H := H.2 h1 eh1
      refine r_iinc (v := (x7 + (1 : Int32))) (ls2 := [some (.ref 2759), some (.int x1), some (.ref a2), some (.ref a3), none, some (.int x5), some (.int x6), some (.int (x7 + (1 : Int32))), some (.long (ys1 + ((xs0).toInt64 * (x6).toInt64))), none]) dX10_moved_179 rfl rfl (by decide) rfl ?_
      refine r_goto (tgt := 87) dX10_moved_182 rfl ?_
      refine r_prune [true, true, true, true, false, true, true, true, false, false] (ls2 := [some (.ref 2759), some (.int x1), some (.ref a2), some (.ref a3), none, some (.int x5), some (.int x6), some (.int (x7 + (1 : Int32))), none, none]) rfl ?_
      exact H
    · replace H := H.2 cH
      refine r_bipush (v := (-2 : Int32)) dX10_moved_163 rfl ?_
      exact r_zret dX10_moved_165 rfl rfl (Nat.le_refl _) (Nat.le_refl _) H
theorem s_X10_moved_185 {g : GX} {d : Nat} {av : List Value} {Q : QT} {n : Nat} {h : Hp} {a2 : Nat} {a3 : Nat} {x5 : Int32} (hp : g.2.2.2.2 = true) (t2 : lay a2 = (0, 14, 2)) (t3 : lay a3 = (0, 14, 2)) (H : CallV g m_X10_settle d [.ref a2, .ref a3] n h (fun h1 => (CallI g m_X10_put d [.ref 2842, .ref a2, .ref a3] n h1 (fun v2 h2 => (((v2 = (0 : Int32)) → (Q (some (.int (-2 : Int32))) n h2)) ∧ ((¬ v2 = (0 : Int32)) → (CallI g m_X10_keep d [.ref 2759, .int x5] n h2 (fun v3 h3 => (Q (some (.int v3)) n h3))))))))) : W_X10_moved g d av Q n 185 [some (.ref 2759), none, some (.ref a2), some (.ref a3), none, some (.int x5), none, none, none, none] [] h := by
  refine r_aload_n dX10_moved_185 rfl rfl ?_
  refine r_aload_n dX10_moved_186 rfl rfl ?_
  refine k_SV (As := [.ref a2, .ref a3]) (stk := []) cs_X10_191 dX10_moved_187 rfl (Nat.le_of_ble_eq_true rfl) (H.mono (fun h1 H => ?_)) ⟨Nat.le_refl _, Nat.le_refl _⟩
  refine r_aload_n dX10_moved_190 rfl rfl ?_
  refine m_getF (x := 2842) hp fw_X10_453 dX10_moved_191 rfl ly_10 (ff_10_21 ly_10) ?_
  refine r_aload_n dX10_moved_194 rfl rfl ?_
  refine r_aload_n dX10_moved_195 rfl rfl ?_
  refine k_SI (As := [.ref 2842, .ref a2, .ref a3]) (stk := []) cs_X10_261 dX10_moved_196 rfl (Nat.le_of_ble_eq_true rfl) (H.mono (fun v2 h2 H => ?_)) ⟨Nat.le_refl _, Nat.le_refl _⟩
  refine r_if_eq (tgt := 211) dX10_moved_199 rfl (fun cH => ?_) (fun cH => ?_)
  · replace H := H.1 cH
    refine r_bipush (v := (-2 : Int32)) dX10_moved_211 rfl ?_
    exact r_zret dX10_moved_213 rfl rfl (Nat.le_refl _) (Nat.le_refl _) H
  · replace H := H.2 cH
    refine r_aload_n dX10_moved_202 rfl rfl ?_
    refine r_iload dX10_moved_203 rfl ?_
    refine k_VI (As := [.int x5]) (stk := []) hp cv_X10_558 dX10_moved_205 rfl (Nat.le_of_ble_eq_true rfl) ly_10 (H.mono (fun v3 h3 H => ?_)) ⟨Nat.le_refl _, Nat.le_refl _⟩
    refine r_goto (tgt := 213) dX10_moved_208 rfl ?_
    exact r_zret dX10_moved_213 rfl rfl (Nat.le_refl _) (Nat.le_refl _) H
abbrev W_X10_fixed (g : GX) (d : Nat) (av : List Value) (Q : QT) (n : Nat) (pc : Nat) (ls : LV) (stk : List Value) (h : Hp) : Prop := RJ g m_X10_fixed (d + 1) 0 0 av Q pc ls stk n h 0 0
theorem s_X10_fixed_0 {g : GX} {d : Nat} {av : List Value} {Q : QT} {n : Nat} {h : Hp} {a1 : Nat} {a2 : Nat} {x3 : Int32} {x4 : Int32} (hp : g.2.2.2.2 = true) (t1 : lay a1 = (0, 14, 2)) (t2 : lay a2 = (0, 14, 2)) (H : CallR g m_X10_newU d [.ref 2759] n h (fun v1 h1 => (lay v1 = (0, 13, 2) ∧ (CallR g m_X10_newU d [.ref 2759] n h1 (fun v2 h2 => (lay v2 = (0, 13, 2) ∧ (((x4 = (0 : Int32)) → (∀ h3, h3 = wi h2 v1 1 (0 : Int32) → (W_X10_fixed g d av Q n 91 [some (.ref 2759), some (.ref a1), some (.ref a2), some (.int x3), none, some (.int (ri h 2759 1)), some (.ref v1), some (.ref v2), some (.int ((ri h3 a2 1) - (1 : Int32)))] [] h3))) ∧ ((¬ x4 = (0 : Int32)) → (W_X10_fixed g d av Q n 26 [some (.ref 2759), some (.ref a1), some (.ref a2), some (.int x3), none, some (.int (ri h 2759 1)), none, none, some (.int (0 : Int32))] [] h2))))))))) : W_X10_fixed g d av Q n 0 [some (.ref 2759), some (.ref a1), some (.ref a2), some (.int x3), some (.int x4), none, none, none, none] [] h := by
  refine r_aload_n dX10_fixed_0 rfl rfl ?_
  refine m_getI hp fw_X10_21 dX10_fixed_1 rfl ly_10 ?_
  refine r_istore (ls2 := [some (.ref 2759), some (.ref a1), some (.ref a2), some (.int x3), some (.int x4), some (.int (ri h 2759 1)), none, none, none]) dX10_fixed_4 (by decide) rfl ?_
  refine r_aload_n dX10_fixed_6 rfl rfl ?_
  refine k_VR (As := []) (stk := []) hp cv_X10_74 dX10_fixed_7 rfl (Nat.le_of_ble_eq_true rfl) ly_10 (H.mono (fun v1 h1 H => ?_)) ⟨Nat.le_refl _, Nat.le_refl _⟩
  obtain ⟨tv1, H⟩ := H
  refine r_astore (ls2 := [some (.ref 2759), some (.ref a1), some (.ref a2), some (.int x3), some (.int x4), some (.int (ri h 2759 1)), some (.ref v1), none, none]) dX10_fixed_10 (by decide) rfl ?_
  refine r_aload_n dX10_fixed_12 rfl rfl ?_
  refine k_VR (As := []) (stk := []) hp cv_X10_74 dX10_fixed_13 rfl (Nat.le_of_ble_eq_true rfl) ly_10 (H.mono (fun v2 h2 H => ?_)) ⟨Nat.le_refl _, Nat.le_refl _⟩
  obtain ⟨tv2, H⟩ := H
  refine r_astore (ls2 := [some (.ref 2759), some (.ref a1), some (.ref a2), some (.int x3), some (.int x4), some (.int (ri h 2759 1)), some (.ref v1), some (.ref v2), none]) dX10_fixed_16 (by decide) rfl ?_
  refine r_iload dX10_fixed_18 rfl ?_
  refine r_if_eq (tgt := 77) dX10_fixed_20 rfl (fun cH => ?_) (fun cH => ?_)
  · replace H := H.1 cH
    refine r_aload dX10_fixed_77 rfl ?_
    refine r_iconst (v := (0 : Int32)) dX10_fixed_79 rfl ?_
    refine m_putI hp fw_X10_25 dX10_fixed_80 rfl rfl tv1 (fun h3 eh3 => ?_)
    replace H := H h3 eh3
    refine r_aload_n dX10_fixed_83 rfl rfl ?_
    refine m_getI hp fw_X10_93 dX10_fixed_84 rfl t2 ?_
    refine r_iconst (v := (1 : Int32)) dX10_fixed_87 rfl ?_
    refine r_isub dX10_fixed_88 ?_
    refine r_istore (ls2 := [some (.ref 2759), some (.ref a1), some (.ref a2), some (.int x3), some (.int x4), some (.int (ri h 2759 1)), some (.ref v1), some (.ref v2), some (.int ((ri h3 a2 1) - (1 : Int32)))]) dX10_fixed_89 (by decide) rfl ?_
    refine r_prune [true, true, true, true, false, true, true, true, true] (ls2 := [some (.ref 2759), some (.ref a1), some (.ref a2), some (.int x3), none, some (.int (ri h 2759 1)), some (.ref v1), some (.ref v2), some (.int ((ri h3 a2 1) - (1 : Int32)))]) rfl ?_
    exact H
  · replace H := H.2 cH
    refine r_iconst (v := (0 : Int32)) dX10_fixed_23 rfl ?_
    refine r_istore (ls2 := [some (.ref 2759), some (.ref a1), some (.ref a2), some (.int x3), some (.int x4), some (.int (ri h 2759 1)), some (.ref v1), some (.ref v2), some (.int (0 : Int32))]) dX10_fixed_24 (by decide) rfl ?_
    refine r_prune [true, true, true, true, false, true, false, false, true] (ls2 := [some (.ref 2759), some (.ref a1), some (.ref a2), some (.int x3), none, some (.int (ri h 2759 1)), none, none, some (.int (0 : Int32))]) rfl ?_
    exact H
theorem s_X10_fixed_26 {g : GX} {d : Nat} {av : List Value} {Q : QT} {n : Nat} {h : Hp} {a1 : Nat} {a2 : Nat} {x3 : Int32} {x5 : Int32} {x8 : Int32} (hp : g.2.2.2.2 = true) (t1 : lay a1 = (0, 14, 2)) (t2 : lay a2 = (0, 14, 2)) (H : (((ri h a2 1) ≤ x8) → (∀ h1, h1 = wi h a1 1 (ri h a2 1) → (CallV g m_X14_trim d [.ref a1] n h1 (fun h2 => (W_X10_fixed g d av Q n 145 [some (.ref 2759), none, none, none, none, some (.int x5), none, none, none] [] h2))))) ∧ ((¬ (ri h a2 1) ≤ x8) → (vp_in x8 64 ∧ ∀ r3, r3 = (a1 + 2) + 2 * (x8).toNatClampNeg → (vp_in x8 64 ∧ ∀ r4, r4 = (a2 + 2) + 2 * (x8).toNatClampNeg → (CallI g m_X10_eval d [.ref r4, .int x3] n h (fun v5 h5 => (CallV g m_X13_number d [.ref r3, .int v5] n h5 (fun h6 => (W_X10_fixed g d av Q n 26 [some (.ref 2759), some (.ref a1), some (.ref a2), some (.int x3), none, some (.int x5), none, none, some (.int (x8 + (1 : Int32)))] [] h6))))))))) : W_X10_fixed g d av Q n 26 [some (.ref 2759), some (.ref a1), some (.ref a2), some (.int x3), none, some (.int x5), none, none, some (.int x8)] [] h := by
  refine r_iload dX10_fixed_26 rfl ?_
  refine r_aload_n dX10_fixed_28 rfl rfl ?_
  refine m_getI hp fw_X10_93 dX10_fixed_29 rfl t2 ?_
  refine r_icmp_ge (tgt := 62) dX10_fixed_32 rfl (fun cH => ?_) (fun cH => ?_)
  · replace H := H.1 cH
    refine r_aload_n dX10_fixed_62 rfl rfl ?_
    refine r_aload_n dX10_fixed_63 rfl rfl ?_
    refine m_getI hp fw_X10_93 dX10_fixed_64 rfl t2 ?_
    refine m_putI hp fw_X10_93 dX10_fixed_67 rfl rfl t1 (fun h1 eh1 => ?_)
    replace H := H h1 eh1
    refine r_aload_n dX10_fixed_70 rfl rfl ?_
    refine k_VV (As := []) (stk := []) hp cv_X10_105 dX10_fixed_71 rfl (Nat.le_of_ble_eq_true rfl) t1 (H.mono (fun h2 H => ?_)) ⟨Nat.le_refl _, Nat.le_refl _⟩
    refine r_goto (tgt := 145) dX10_fixed_74 rfl ?_
    refine r_prune [true, false, false, false, false, true, false, false, false] (ls2 := [some (.ref 2759), none, none, none, none, some (.int x5), none, none, none]) rfl ?_
    exact H
  · replace H := H.2 cH
    refine r_aload_n dX10_fixed_35 rfl rfl ?_
    refine m_getF (x := (a1 + 1)) hp fw_X10_98 dX10_fixed_36 rfl t1 (ff_14_0 t1) ?_
    refine r_iload dX10_fixed_39 rfl ?_
    obtain ⟨r3, er3⟩ : ∃ y, y = (a1 + 2) + 2 * (x8).toNatClampNeg := ⟨_, rfl⟩
    have hir3 := H.1
    replace H := H.2 r3 er3
    have tLr3 := le_14 t1 hir3 er3
    refine m_aalF (x := r3) hp dX10_fixed_41 (lf_14_0 t1) rfl rfl (lu_14_0 t1) hir3 (fe_14 t1 hir3 er3) ?_
    refine r_aload_n dX10_fixed_42 rfl rfl ?_
    refine m_getF (x := (a2 + 1)) hp fw_X10_98 dX10_fixed_43 rfl t2 (ff_14_0 t2) ?_
    refine r_iload dX10_fixed_46 rfl ?_
    obtain ⟨r4, er4⟩ : ∃ y, y = (a2 + 2) + 2 * (x8).toNatClampNeg := ⟨_, rfl⟩
    have hir4 := H.1
    replace H := H.2 r4 er4
    have tLr4 := le_14 t2 hir4 er4
    refine m_aalF (x := r4) hp dX10_fixed_48 (lf_14_0 t2) rfl rfl (lu_14_0 t2) hir4 (fe_14 t2 hir4 er4) ?_
    refine r_iload_n dX10_fixed_49 rfl rfl ?_
    refine k_SI (As := [.ref r4, .int x3]) (stk := [.ref r3]) cs_X10_136 dX10_fixed_50 rfl (Nat.le_of_ble_eq_true rfl) (H.mono (fun v5 h5 H => ?_)) ⟨Nat.le_refl _, Nat.le_refl _⟩
    refine k_VV (As := [.int v5]) (stk := []) hp cv_X10_147 dX10_fixed_53 rfl (Nat.le_of_ble_eq_true rfl) tLr3 (H.mono (fun h6 H => ?_)) ⟨Nat.le_refl _, Nat.le_refl _⟩
    refine r_iinc (v := (x8 + (1 : Int32))) (ls2 := [some (.ref 2759), some (.ref a1), some (.ref a2), some (.int x3), none, some (.int x5), none, none, some (.int (x8 + (1 : Int32)))]) dX10_fixed_56 rfl rfl (by decide) rfl ?_
    refine r_goto (tgt := 26) dX10_fixed_59 rfl ?_
    exact H
theorem s_X10_fixed_91 {g : GX} {d : Nat} {av : List Value} {Q : QT} {n : Nat} {h : Hp} {a1 : Nat} {a2 : Nat} {x3 : Int32} {x5 : Int32} {a6 : Nat} {a7 : Nat} {x8 : Int32} (hp : g.2.2.2.2 = true) (t1 : lay a1 = (0, 14, 2)) (t2 : lay a2 = (0, 14, 2)) (t6 : lay a6 = (0, 13, 2)) (t7 : lay a7 = (0, 13, 2)) (H : ((x8 < (0 : Int32)) → (vp_in (0 : Int32) 64 ∧ ∀ r1, r1 = (a1 + 2) + 2 * ((0 : Int32)).toNatClampNeg → (CallV g m_X10_set_2 d [.ref r1, .ref a6] n h (fun h2 => (∀ h3, h3 = wi h2 a1 1 (1 : Int32) → (CallV g m_X14_trim d [.ref a1] n h3 (fun h4 => (W_X10_fixed g d av Q n 145 [some (.ref 2759), none, none, none, none, some (.int x5), none, none, none] [] h4)))))))) ∧ ((¬ x8 < (0 : Int32)) → (CallV g m_X10_scale_2 d [.ref a7, .ref a6, .int x3] n h (fun h5 => (vp_in x8 64 ∧ ∀ r6, r6 = (a2 + 2) + 2 * (x8).toNatClampNeg → (CallV g m_X10_plus d [.ref a6, .ref a7, .ref r6, .int (0 : Int32)] n h5 (fun h7 => (W_X10_fixed g d av Q n 91 [some (.ref 2759), some (.ref a1), some (.ref a2), some (.int x3), none, some (.int x5), some (.ref a6), some (.ref a7), some (.int (x8 + (-1 : Int32)))] [] h7)))))))) : W_X10_fixed g d av Q n 91 [some (.ref 2759), some (.ref a1), some (.ref a2), some (.int x3), none, some (.int x5), some (.ref a6), some (.ref a7), some (.int x8)] [] h := by
  refine r_iload dX10_fixed_91 rfl ?_
  refine r_if_lt (tgt := 125) dX10_fixed_93 rfl (fun cH => ?_) (fun cH => ?_)
  · replace H := H.1 cH
    refine r_aload_n dX10_fixed_125 rfl rfl ?_
    refine m_getF (x := (a1 + 1)) hp fw_X10_98 dX10_fixed_126 rfl t1 (ff_14_0 t1) ?_
    refine r_iconst (v := (0 : Int32)) dX10_fixed_129 rfl ?_
    obtain ⟨r1, er1⟩ : ∃ y, y = (a1 + 2) + 2 * ((0 : Int32)).toNatClampNeg := ⟨_, rfl⟩
    have hir1 := H.1
    replace H := H.2 r1 er1
    have tLr1 := le_14 t1 hir1 er1
    refine m_aalF (x := r1) hp dX10_fixed_130 (lf_14_0 t1) rfl rfl (lu_14_0 t1) hir1 (fe_14 t1 hir1 er1) ?_
    refine r_aload dX10_fixed_131 rfl ?_
    refine k_SV (As := [.ref r1, .ref a6]) (stk := []) cs_X10_62 dX10_fixed_133 rfl (Nat.le_of_ble_eq_true rfl) (H.mono (fun h2 H => ?_)) ⟨Nat.le_refl _, Nat.le_refl _⟩
    refine r_aload_n dX10_fixed_136 rfl rfl ?_
    refine r_iconst (v := (1 : Int32)) dX10_fixed_137 rfl ?_
    refine m_putI hp fw_X10_93 dX10_fixed_138 rfl rfl t1 (fun h3 eh3 => ?_)
    replace H := H h3 eh3
    refine r_aload_n dX10_fixed_141 rfl rfl ?_
    refine k_VV (As := []) (stk := []) hp cv_X10_105 dX10_fixed_142 rfl (Nat.le_of_ble_eq_true rfl) t1 (H.mono (fun h4 H => ?_)) ⟨Nat.le_refl _, Nat.le_refl _⟩
    refine r_prune [true, false, false, false, false, true, false, false, false] (ls2 := [some (.ref 2759), none, none, none, none, some (.int x5), none, none, none]) rfl ?_
    exact H
  · replace H := H.2 cH
    refine r_aload dX10_fixed_96 rfl ?_
    refine r_aload dX10_fixed_98 rfl ?_
    refine r_iload_n dX10_fixed_100 rfl rfl ?_
    refine k_SV (As := [.ref a7, .ref a6, .int x3]) (stk := []) cs_X10_70 dX10_fixed_101 rfl (Nat.le_of_ble_eq_true rfl) (H.mono (fun h5 H => ?_)) ⟨Nat.le_refl _, Nat.le_refl _⟩
    refine r_aload dX10_fixed_104 rfl ?_
    refine r_aload dX10_fixed_106 rfl ?_
    refine r_aload_n dX10_fixed_108 rfl rfl ?_
    refine m_getF (x := (a2 + 1)) hp fw_X10_98 dX10_fixed_109 rfl t2 (ff_14_0 t2) ?_
    refine r_iload dX10_fixed_112 rfl ?_
    obtain ⟨r6, er6⟩ : ∃ y, y = (a2 + 2) + 2 * (x8).toNatClampNeg := ⟨_, rfl⟩
    have hir6 := H.1
    replace H := H.2 r6 er6
    have tLr6 := le_14 t2 hir6 er6
    refine m_aalF (x := r6) hp dX10_fixed_114 (lf_14_0 t2) rfl rfl (lu_14_0 t2) hir6 (fe_14 t2 hir6 er6) ?_
    refine r_iconst (v := (0 : Int32)) dX10_fixed_115 rfl ?_
    refine k_SV (As := [.ref a6, .ref a7, .ref r6, .int (0 : Int32)]) (stk := []) cs_X10_101 dX10_fixed_116 rfl (Nat.le_of_ble_eq_true rfl) (H.mono (fun h7 H => ?_)) ⟨Nat.le_refl _, Nat.le_refl _⟩
    refine r_iinc (v := (x8 + (-1 : Int32))) (ls2 := [some (.ref 2759), some (.ref a1), some (.ref a2), some (.int x3), none, some (.int x5), some (.ref a6), some (.ref a7), some (.int (x8 + (-1 : Int32)))]) dX10_fixed_119 rfl rfl (by decide) rfl ?_
    refine r_goto (tgt := 91) dX10_fixed_122 rfl ?_
    exact H
theorem s_X10_fixed_145 {g : GX} {d : Nat} {av : List Value} {Q : QT} {n : Nat} {h : Hp} {x5 : Int32} (hp : g.2.2.2.2 = true)  (H : ∀ h1, h1 = wi h 2759 1 x5 → (Q none n h1)) : W_X10_fixed g d av Q n 145 [some (.ref 2759), none, none, none, none, some (.int x5), none, none, none] [] h := by
  refine r_aload_n dX10_fixed_145 rfl rfl ?_
  refine r_iload dX10_fixed_146 rfl ?_
  refine m_putI hp fw_X10_21 dX10_fixed_148 rfl rfl ly_10 (fun h1 eh1 => ?_)
  replace H := H h1 eh1
  exact r_vret dX10_fixed_151 rfl (Nat.le_refl _) (Nat.le_refl _) H
abbrev W_X10_reduce (g : GX) (d : Nat) (av : List Value) (Q : QT) (n : Nat) (pc : Nat) (ls : LV) (stk : List Value) (h : Hp) : Prop := RJ g m_X10_reduce (d + 1) 0 0 av Q pc ls stk n h 0 0
theorem s_X10_reduce_0 {g : GX} {d : Nat} {av : List Value} {Q : QT} {n : Nat} {h : Hp} {a1 : Nat} {a2 : Nat} (hp : g.2.2.2.2 = true) (t1 : lay a1 = (0, 14, 2)) (t2 : lay a2 = (0, 14, 2)) (H : CallR g m_X10_newB d [.ref 2759] n h (fun v1 h1 => (lay v1 = (0, 14, 2) ∧ (CallR g m_X10_newB d [.ref 2759] n h1 (fun v2 h2 => (lay v2 = (0, 14, 2) ∧ ((((ri h2 a1 1) ≤ (0 : Int32)) → (W_X10_reduce g d av Q n 74 [some (.ref 2759), some (.ref a1), some (.ref a2), some (.int (ri h 2759 3)), none, none, none] [] h2)) ∧ ((¬ (ri h2 a1 1) ≤ (0 : Int32)) → (CallV g m_X10_gcd d [.ref 2759, .ref v1, .ref a1, .ref a2] n h2 (fun h3 => (CallI g m_X14_isNumber d [.ref v1] n h3 (fun v4 h4 => (((¬ v4 = (0 : Int32)) → (W_X10_reduce g d av Q n 74 [some (.ref 2759), some (.ref a1), some (.ref a2), some (.int (ri h 2759 3)), none, none, none] [] h4)) ∧ ((v4 = (0 : Int32)) → (CallI g m_X10_divides d [.ref 2759, .ref v2, .ref a1, .ref v1] n h4 (fun v5 h5 => (CallV g m_X10_set d [.ref a1, .ref v2] n h5 (fun h6 => (CallI g m_X10_divides d [.ref 2759, .ref v2, .ref a2, .ref v1] n h6 (fun v7 h7 => (CallV g m_X10_set d [.ref a2, .ref v2] n h7 (fun h8 => (W_X10_reduce g d av Q n 74 [some (.ref 2759), some (.ref a1), some (.ref a2), some (.int (ri h 2759 3)), none, none, none] [] h8))))))))))))))))))))))) : W_X10_reduce g d av Q n 0 [some (.ref 2759), some (.ref a1), some (.ref a2), none, none, none, none] [] h := by
  refine r_aload_n dX10_reduce_0 rfl rfl ?_
  refine m_getI hp fw_X10_90 dX10_reduce_1 rfl ly_10 ?_
  refine r_istore_n (ls2 := [some (.ref 2759), some (.ref a1), some (.ref a2), some (.int (ri h 2759 3)), none, none, none]) dX10_reduce_4 rfl (by decide) rfl ?_
  refine r_aload_n dX10_reduce_5 rfl rfl ?_
  refine k_VR (As := []) (stk := []) hp cv_X10_140 dX10_reduce_6 rfl (Nat.le_of_ble_eq_true rfl) ly_10 (H.mono (fun v1 h1 H => ?_)) ⟨Nat.le_refl _, Nat.le_refl _⟩
  obtain ⟨tv1, H⟩ := H
  refine r_astore (ls2 := [some (.ref 2759), some (.ref a1), some (.ref a2), some (.int (ri h 2759 3)), some (.ref v1), none, none]) dX10_reduce_9 (by decide) rfl ?_
  refine r_aload_n dX10_reduce_11 rfl rfl ?_
  refine k_VR (As := []) (stk := []) hp cv_X10_140 dX10_reduce_12 rfl (Nat.le_of_ble_eq_true rfl) ly_10 (H.mono (fun v2 h2 H => ?_)) ⟨Nat.le_refl _, Nat.le_refl _⟩
  obtain ⟨tv2, H⟩ := H
  refine r_astore (ls2 := [some (.ref 2759), some (.ref a1), some (.ref a2), some (.int (ri h 2759 3)), some (.ref v1), some (.ref v2), none]) dX10_reduce_15 (by decide) rfl ?_
  refine r_aload_n dX10_reduce_17 rfl rfl ?_
  refine m_getI hp fw_X10_93 dX10_reduce_18 rfl t1 ?_
  refine r_if_le (tgt := 74) dX10_reduce_21 rfl (fun cH => ?_) (fun cH => ?_)
  · replace H := H.1 cH
    refine r_prune [true, true, true, true, false, false, false] (ls2 := [some (.ref 2759), some (.ref a1), some (.ref a2), some (.int (ri h 2759 3)), none, none, none]) rfl ?_
    exact H
  · replace H := H.2 cH
    refine r_aload_n dX10_reduce_24 rfl rfl ?_
    refine r_aload dX10_reduce_25 rfl ?_
    refine r_aload_n dX10_reduce_27 rfl rfl ?_
    refine r_aload_n dX10_reduce_28 rfl rfl ?_
    refine k_VV (As := [.ref v1, .ref a1, .ref a2]) (stk := []) hp cv_X10_185 dX10_reduce_29 rfl (Nat.le_of_ble_eq_true rfl) ly_10 (H.mono (fun h3 H => ?_)) ⟨Nat.le_refl _, Nat.le_refl _⟩
    refine r_aload dX10_reduce_32 rfl ?_
    refine k_VI (As := []) (stk := []) hp cv_X10_187 dX10_reduce_34 rfl (Nat.le_of_ble_eq_true rfl) tv1 (H.mono (fun v4 h4 H => ?_)) ⟨Nat.le_refl _, Nat.le_refl _⟩
    refine r_if_ne (tgt := 74) dX10_reduce_37 rfl (fun cH => ?_) (fun cH => ?_)
    · replace H := H.1 cH
      refine r_prune [true, true, true, true, false, false, false] (ls2 := [some (.ref 2759), some (.ref a1), some (.ref a2), some (.int (ri h 2759 3)), none, none, none]) rfl ?_
      exact H
    · replace H := H.2 cH
      refine r_aload_n dX10_reduce_40 rfl rfl ?_
      refine r_aload dX10_reduce_41 rfl ?_
      refine r_aload_n dX10_reduce_43 rfl rfl ?_
      refine r_aload dX10_reduce_44 rfl ?_
      refine k_VI (As := [.ref v2, .ref a1, .ref v1]) (stk := []) hp cv_X10_170 dX10_reduce_46 rfl (Nat.le_of_ble_eq_true rfl) ly_10 (H.mono (fun v5 h5 H => ?_)) ⟨Nat.le_refl _, Nat.le_refl _⟩
      refine r_istore (ls2 := [some (.ref 2759), some (.ref a1), some (.ref a2), some (.int (ri h 2759 3)), some (.ref v1), some (.ref v2), some (.int v5)]) dX10_reduce_49 (by decide) rfl ?_
      refine r_aload_n dX10_reduce_51 rfl rfl ?_
      refine r_aload dX10_reduce_52 rfl ?_
      refine k_SV (As := [.ref a1, .ref v2]) (stk := []) cs_X10_113 dX10_reduce_54 rfl (Nat.le_of_ble_eq_true rfl) (H.mono (fun h6 H => ?_)) ⟨Nat.le_refl _, Nat.le_refl _⟩
      refine r_aload_n dX10_reduce_57 rfl rfl ?_
      refine r_aload dX10_reduce_58 rfl ?_
      refine r_aload_n dX10_reduce_60 rfl rfl ?_
      refine r_aload dX10_reduce_61 rfl ?_
      refine k_VI (As := [.ref v2, .ref a2, .ref v1]) (stk := []) hp cv_X10_170 dX10_reduce_63 rfl (Nat.le_of_ble_eq_true rfl) ly_10 (H.mono (fun v7 h7 H => ?_)) ⟨Nat.le_refl _, Nat.le_refl _⟩
      refine r_istore (ls2 := [some (.ref 2759), some (.ref a1), some (.ref a2), some (.int (ri h 2759 3)), some (.ref v1), some (.ref v2), some (.int v7)]) dX10_reduce_66 (by decide) rfl ?_
      refine r_aload_n dX10_reduce_68 rfl rfl ?_
      refine r_aload dX10_reduce_69 rfl ?_
      refine k_SV (As := [.ref a2, .ref v2]) (stk := []) cs_X10_113 dX10_reduce_71 rfl (Nat.le_of_ble_eq_true rfl) (H.mono (fun h8 H => ?_)) ⟨Nat.le_refl _, Nat.le_refl _⟩
      refine r_prune [true, true, true, true, false, false, false] (ls2 := [some (.ref 2759), some (.ref a1), some (.ref a2), some (.int (ri h 2759 3)), none, none, none]) rfl ?_
      exact H
theorem s_X10_reduce_74 {g : GX} {d : Nat} {av : List Value} {Q : QT} {n : Nat} {h : Hp} {a1 : Nat} {a2 : Nat} {x3 : Int32} (hp : g.2.2.2.2 = true) (t1 : lay a1 = (0, 14, 2)) (t2 : lay a2 = (0, 14, 2)) (H : CallV g m_X10_settle d [.ref a1, .ref a2] n h (fun h1 => (∀ h2, h2 = wi h1 2759 3 x3 → (Q none n h2)))) : W_X10_reduce g d av Q n 74 [some (.ref 2759), some (.ref a1), some (.ref a2), some (.int x3), none, none, none] [] h := by
  refine r_aload_n dX10_reduce_74 rfl rfl ?_
  refine r_aload_n dX10_reduce_75 rfl rfl ?_
  refine k_SV (As := [.ref a1, .ref a2]) (stk := []) cs_X10_191 dX10_reduce_76 rfl (Nat.le_of_ble_eq_true rfl) (H.mono (fun h1 H => ?_)) ⟨Nat.le_refl _, Nat.le_refl _⟩
  refine r_aload_n dX10_reduce_79 rfl rfl ?_
  refine r_iload_n dX10_reduce_80 rfl rfl ?_
  refine m_putI hp fw_X10_90 dX10_reduce_81 rfl rfl ly_10 (fun h2 eh2 => ?_)
  replace H := H h2 eh2
  exact r_vret dX10_reduce_84 rfl (Nat.le_refl _) (Nat.le_refl _) H
abbrev W_X10_derivative (g : GX) (d : Nat) (av : List Value) (Q : QT) (n : Nat) (pc : Nat) (ls : LV) (stk : List Value) (h : Hp) : Prop := RJ g m_X10_derivative (d + 1) 0 0 av Q pc ls stk n h 0 0
theorem s_X10_derivative_0 {g : GX} {d : Nat} {av : List Value} {Q : QT} {n : Nat} {h : Hp} {a1 : Nat} {a2 : Nat} {a3 : Nat} {a4 : Nat} {x5 : Int32} (hp : g.2.2.2.2 = true) (t1 : lay a1 = (0, 14, 2)) (t2 : lay a2 = (0, 14, 2)) (t3 : lay a3 = (0, 14, 2)) (t4 : lay a4 = (0, 14, 2)) (H : CallR g m_X10_newB d [.ref 2759] n h (fun v1 h1 => (lay v1 = (0, 14, 2) ∧ (CallR g m_X10_newB d [.ref 2759] n h1 (fun v2 h2 => (lay v2 = (0, 14, 2) ∧ (CallV g m_X10_slope d [.ref v1, .ref a3, .int x5] n h2 (fun h3 => (CallV g m_X10_times d [.ref 2759, .ref a1, .ref v1, .ref a4] n h3 (fun h4 => (CallV g m_X10_slope d [.ref v1, .ref a4, .int x5] n h4 (fun h5 => (CallV g m_X10_times d [.ref 2759, .ref v2, .ref v1, .ref a3] n h5 (fun h6 => (CallV g m_X10_plus_2 d [.ref a1, .ref a1, .ref v2, .int (1 : Int32)] n h6 (fun h7 => (CallV g m_X10_times d [.ref 2759, .ref a2, .ref a4, .ref a4] n h7 (fun h8 => (CallV g m_X10_reduce d [.ref 2759, .ref a1, .ref a2] n h8 (fun h9 => (∀ h10, h10 = wi h9 2759 3 (ri h 2759 3) → (Q none n h10)))))))))))))))))))))) : W_X10_derivative g d av Q n 0 [some (.ref 2759), some (.ref a1), some (.ref a2), some (.ref a3), some (.ref a4), some (.int x5), none, none, none] [] h := by
  refine r_aload_n dX10_derivative_0 rfl rfl ?_
  refine m_getI hp fw_X10_90 dX10_derivative_1 rfl ly_10 ?_
  refine r_istore (ls2 := [some (.ref 2759), some (.ref a1), some (.ref a2), some (.ref a3), some (.ref a4), some (.int x5), some (.int (ri h 2759 3)), none, none]) dX10_derivative_4 (by decide) rfl ?_
  refine r_aload_n dX10_derivative_6 rfl rfl ?_
  refine k_VR (As := []) (stk := []) hp cv_X10_140 dX10_derivative_7 rfl (Nat.le_of_ble_eq_true rfl) ly_10 (H.mono (fun v1 h1 H => ?_)) ⟨Nat.le_refl _, Nat.le_refl _⟩
  obtain ⟨tv1, H⟩ := H
  refine r_astore (ls2 := [some (.ref 2759), some (.ref a1), some (.ref a2), some (.ref a3), some (.ref a4), some (.int x5), some (.int (ri h 2759 3)), some (.ref v1), none]) dX10_derivative_10 (by decide) rfl ?_
  refine r_aload_n dX10_derivative_12 rfl rfl ?_
  refine k_VR (As := []) (stk := []) hp cv_X10_140 dX10_derivative_13 rfl (Nat.le_of_ble_eq_true rfl) ly_10 (H.mono (fun v2 h2 H => ?_)) ⟨Nat.le_refl _, Nat.le_refl _⟩
  obtain ⟨tv2, H⟩ := H
  refine r_astore (ls2 := [some (.ref 2759), some (.ref a1), some (.ref a2), some (.ref a3), some (.ref a4), some (.int x5), some (.int (ri h 2759 3)), some (.ref v1), some (.ref v2)]) dX10_derivative_16 (by decide) rfl ?_
  refine r_aload dX10_derivative_18 rfl ?_
  refine r_aload_n dX10_derivative_20 rfl rfl ?_
  refine r_iload dX10_derivative_21 rfl ?_
  refine k_SV (As := [.ref v1, .ref a3, .int x5]) (stk := []) cs_X10_670 dX10_derivative_23 rfl (Nat.le_of_ble_eq_true rfl) (H.mono (fun h3 H => ?_)) ⟨Nat.le_refl _, Nat.le_refl _⟩
  refine r_aload_n dX10_derivative_26 rfl rfl ?_
  refine r_aload_n dX10_derivative_27 rfl rfl ?_
  refine r_aload dX10_derivative_28 rfl ?_
  refine r_aload dX10_derivative_30 rfl ?_
  refine k_VV (As := [.ref a1, .ref v1, .ref a4]) (stk := []) hp cv_X10_197 dX10_derivative_32 rfl (Nat.le_of_ble_eq_true rfl) ly_10 (H.mono (fun h4 H => ?_)) ⟨Nat.le_refl _, Nat.le_refl _⟩
  refine r_aload dX10_derivative_35 rfl ?_
  refine r_aload dX10_derivative_37 rfl ?_
  refine r_iload dX10_derivative_39 rfl ?_
  refine k_SV (As := [.ref v1, .ref a4, .int x5]) (stk := []) cs_X10_670 dX10_derivative_41 rfl (Nat.le_of_ble_eq_true rfl) (H.mono (fun h5 H => ?_)) ⟨Nat.le_refl _, Nat.le_refl _⟩
  refine r_aload_n dX10_derivative_44 rfl rfl ?_
  refine r_aload dX10_derivative_45 rfl ?_
  refine r_aload dX10_derivative_47 rfl ?_
  refine r_aload_n dX10_derivative_49 rfl rfl ?_
  refine k_VV (As := [.ref v2, .ref v1, .ref a3]) (stk := []) hp cv_X10_197 dX10_derivative_50 rfl (Nat.le_of_ble_eq_true rfl) ly_10 (H.mono (fun h6 H => ?_)) ⟨Nat.le_refl _, Nat.le_refl _⟩
  refine r_aload_n dX10_derivative_53 rfl rfl ?_
  refine r_aload_n dX10_derivative_54 rfl rfl ?_
  refine r_aload dX10_derivative_55 rfl ?_
  refine r_iconst (v := (1 : Int32)) dX10_derivative_57 rfl ?_
  refine k_SV (As := [.ref a1, .ref a1, .ref v2, .int (1 : Int32)]) (stk := []) cs_X10_199 dX10_derivative_58 rfl (Nat.le_of_ble_eq_true rfl) (H.mono (fun h7 H => ?_)) ⟨Nat.le_refl _, Nat.le_refl _⟩
  refine r_aload_n dX10_derivative_61 rfl rfl ?_
  refine r_aload_n dX10_derivative_62 rfl rfl ?_
  refine r_aload dX10_derivative_63 rfl ?_
  refine r_aload dX10_derivative_65 rfl ?_
  refine k_VV (As := [.ref a2, .ref a4, .ref a4]) (stk := []) hp cv_X10_197 dX10_derivative_67 rfl (Nat.le_of_ble_eq_true rfl) ly_10 (H.mono (fun h8 H => ?_)) ⟨Nat.le_refl _, Nat.le_refl _⟩
  refine r_aload_n dX10_derivative_70 rfl rfl ?_
  refine r_aload_n dX10_derivative_71 rfl rfl ?_
  refine r_aload_n dX10_derivative_72 rfl rfl ?_
  refine k_VV (As := [.ref a1, .ref a2]) (stk := []) hp cv_X10_659 dX10_derivative_73 rfl (Nat.le_of_ble_eq_true rfl) ly_10 (H.mono (fun h9 H => ?_)) ⟨Nat.le_refl _, Nat.le_refl _⟩
  refine r_aload_n dX10_derivative_76 rfl rfl ?_
  refine r_iload dX10_derivative_77 rfl ?_
  refine m_putI hp fw_X10_90 dX10_derivative_79 rfl rfl ly_10 (fun h10 eh10 => ?_)
  replace H := H h10 eh10
  exact r_vret dX10_derivative_82 rfl (Nat.le_refl _) (Nat.le_refl _) H
abbrev W_X10_slope (g : GX) (d : Nat) (av : List Value) (Q : QT) (n : Nat) (pc : Nat) (ls : LV) (stk : List Value) (h : Hp) : Prop := RJ g m_X10_slope (d + 1) 0 0 av Q pc ls stk n h 0 0
theorem s_X10_slope_0 {g : GX} {d : Nat} {av : List Value} {Q : QT} {n : Nat} {h : Hp} {a0 : Nat} {a1 : Nat} {x2 : Int32} (hp : g.2.2.2.2 = true) (t0 : lay a0 = (0, 14, 2)) (t1 : lay a1 = (0, 14, 2)) (H : ((x2 = (0 : Int32)) → (W_X10_slope g d av Q n 120 [some (.ref a0), some (.ref a1), none, some (.int (1 : Int32)), none] [] h)) ∧ ((¬ x2 = (0 : Int32)) → (W_X10_slope g d av Q n 6 [some (.ref a0), some (.ref a1), none, some (.int (0 : Int32)), none] [] h))) : W_X10_slope g d av Q n 0 [some (.ref a0), some (.ref a1), some (.int x2), none, none] [] h := by
  refine r_iload_n dX10_slope_0 rfl rfl ?_
  refine r_if_eq (tgt := 118) dX10_slope_1 rfl (fun cH => ?_) (fun cH => ?_)
  · replace H := H.1 cH
    refine r_iconst (v := (1 : Int32)) dX10_slope_118 rfl ?_
    refine r_istore_n (ls2 := [some (.ref a0), some (.ref a1), some (.int x2), some (.int (1 : Int32)), none]) dX10_slope_119 rfl (by decide) rfl ?_
    refine r_prune [true, true, false, true, false] (ls2 := [some (.ref a0), some (.ref a1), none, some (.int (1 : Int32)), none]) rfl ?_
    exact H
  · replace H := H.2 cH
    refine r_iconst (v := (0 : Int32)) dX10_slope_4 rfl ?_
    refine r_istore_n (ls2 := [some (.ref a0), some (.ref a1), some (.int x2), some (.int (0 : Int32)), none]) dX10_slope_5 rfl (by decide) rfl ?_
    refine r_prune [true, true, false, true, false] (ls2 := [some (.ref a0), some (.ref a1), none, some (.int (0 : Int32)), none]) rfl ?_
    exact H
theorem s_X10_slope_6 {g : GX} {d : Nat} {av : List Value} {Q : QT} {n : Nat} {h : Hp} {a0 : Nat} {a1 : Nat} {x3 : Int32} (hp : g.2.2.2.2 = true) (t0 : lay a0 = (0, 14, 2)) (t1 : lay a1 = (0, 14, 2)) (H : (((ri h a1 1) ≤ x3) → (∀ h1, h1 = wi h a0 1 (ri h a1 1) → (W_X10_slope g d av Q n 166 [some (.ref a0), none, none, none, none] [] h1))) ∧ ((¬ (ri h a1 1) ≤ x3) → (vp_in x3 64 ∧ ∀ r2, r2 = (a0 + 2) + 2 * (x3).toNatClampNeg → (vp_in x3 64 ∧ ∀ r3, r3 = (a1 + 2) + 2 * (x3).toNatClampNeg → (CallI g m_J3_max d [.int (0 : Int32), .int ((ri h r3 1) - (1 : Int32))] n h (fun v4 h4 => (∀ h5, h5 = wi h4 r2 1 v4 → (W_X10_slope g d av Q n 41 [some (.ref a0), some (.ref a1), none, some (.int x3), some (.int (1 : Int32))] [] h5)))))))) : W_X10_slope g d av Q n 6 [some (.ref a0), some (.ref a1), none, some (.int x3), none] [] h := by
  refine r_iload_n dX10_slope_6 rfl rfl ?_
  refine r_aload_n dX10_slope_7 rfl rfl ?_
  refine m_getI hp fw_X10_93 dX10_slope_8 rfl t1 ?_
  refine r_icmp_ge (tgt := 107) dX10_slope_11 rfl (fun cH => ?_) (fun cH => ?_)
  · replace H := H.1 cH
    refine r_aload_n dX10_slope_107 rfl rfl ?_
    refine r_aload_n dX10_slope_108 rfl rfl ?_
    refine m_getI hp fw_X10_93 dX10_slope_109 rfl t1 ?_
    refine m_putI hp fw_X10_93 dX10_slope_112 rfl rfl t0 (fun h1 eh1 => ?_)
    replace H := H h1 eh1
    refine r_goto (tgt := 166) dX10_slope_115 rfl ?_
    refine r_prune [true, false, false, false, false] (ls2 := [some (.ref a0), none, none, none, none]) rfl ?_
    exact H
  · replace H := H.2 cH
    refine r_aload_n dX10_slope_14 rfl rfl ?_
    refine m_getF (x := (a0 + 1)) hp fw_X10_98 dX10_slope_15 rfl t0 (ff_14_0 t0) ?_
    refine r_iload_n dX10_slope_18 rfl rfl ?_
    obtain ⟨r2, er2⟩ : ∃ y, y = (a0 + 2) + 2 * (x3).toNatClampNeg := ⟨_, rfl⟩
    have hir2 := H.1
    replace H := H.2 r2 er2
    have tLr2 := le_14 t0 hir2 er2
    refine m_aalF (x := r2) hp dX10_slope_19 (lf_14_0 t0) rfl rfl (lu_14_0 t0) hir2 (fe_14 t0 hir2 er2) ?_
    refine r_iconst (v := (0 : Int32)) dX10_slope_20 rfl ?_
    refine r_aload_n dX10_slope_21 rfl rfl ?_
    refine m_getF (x := (a1 + 1)) hp fw_X10_98 dX10_slope_22 rfl t1 (ff_14_0 t1) ?_
    refine r_iload_n dX10_slope_25 rfl rfl ?_
    obtain ⟨r3, er3⟩ : ∃ y, y = (a1 + 2) + 2 * (x3).toNatClampNeg := ⟨_, rfl⟩
    have hir3 := H.1
    replace H := H.2 r3 er3
    have tLr3 := le_14 t1 hir3 er3
    refine m_aalF (x := r3) hp dX10_slope_26 (lf_14_0 t1) rfl rfl (lu_14_0 t1) hir3 (fe_14 t1 hir3 er3) ?_
    refine m_getI hp fw_X10_25 dX10_slope_27 rfl tLr3 ?_
    refine r_iconst (v := (1 : Int32)) dX10_slope_30 rfl ?_
    refine r_isub dX10_slope_31 ?_
    refine k_SI (As := [.int (0 : Int32), .int ((ri h r3 1) - (1 : Int32))]) (stk := [.ref r2]) cs_X10_40 dX10_slope_32 rfl (Nat.le_of_ble_eq_true rfl) (H.mono (fun v4 h4 H => ?_)) ⟨Nat.le_refl _, Nat.le_refl _⟩
    refine m_putI hp fw_X10_25 dX10_slope_35 rfl rfl tLr2 (fun h5 eh5 => ?_)
    replace H := H h5 eh5
    refine r_iconst (v := (1 : Int32)) dX10_slope_38 rfl ?_
    refine r_istore (ls2 := [some (.ref a0), some (.ref a1), none, some (.int x3), some (.int (1 : Int32))]) dX10_slope_39 (by decide) rfl ?_
    exact H
theorem s_X10_slope_41 {g : GX} {d : Nat} {av : List Value} {Q : QT} {n : Nat} {h : Hp} {a0 : Nat} {a1 : Nat} {x3 : Int32} {x4 : Int32} (hp : g.2.2.2.2 = true) (t0 : lay a0 = (0, 14, 2)) (t1 : lay a1 = (0, 14, 2)) (H : vp_in x3 64 ∧ ∀ r1, r1 = (a1 + 2) + 2 * (x3).toNatClampNeg → ((((ri h r1 1) ≤ x4) → (vp_in x3 64 ∧ ∀ r2, r2 = (a0 + 2) + 2 * (x3).toNatClampNeg → (CallV g m_X13_trim d [.ref r2] n h (fun h3 => (W_X10_slope g d av Q n 6 [some (.ref a0), some (.ref a1), none, some (.int (x3 + (1 : Int32))), none] [] h3))))) ∧ ((¬ (ri h r1 1) ≤ x4) → (vp_in x3 64 ∧ ∀ r4, r4 = (a0 + 2) + 2 * (x3).toNatClampNeg → (vp_in x3 64 ∧ ∀ r5, r5 = (a1 + 2) + 2 * (x3).toNatClampNeg → (vp_in x4 (rm (r5 + 1)) ∧ (CallI g m_X10_mul d [.int x4, .int (ri h (r5 + 1) (x4).toNatClampNeg)] n h (fun v6 h6 => (vp_in (x4 - (1 : Int32)) (rm (r4 + 1)) ∧ ∀ h7, h7 = wi h6 (r4 + 1) ((x4 - (1 : Int32))).toNatClampNeg v6 → (W_X10_slope g d av Q n 41 [some (.ref a0), some (.ref a1), none, some (.int x3), some (.int (x4 + (1 : Int32)))] [] h7)))))))))) : W_X10_slope g d av Q n 41 [some (.ref a0), some (.ref a1), none, some (.int x3), some (.int x4)] [] h := by
  refine r_iload dX10_slope_41 rfl ?_
  refine r_aload_n dX10_slope_43 rfl rfl ?_
  refine m_getF (x := (a1 + 1)) hp fw_X10_98 dX10_slope_44 rfl t1 (ff_14_0 t1) ?_
  refine r_iload_n dX10_slope_47 rfl rfl ?_
  obtain ⟨r1, er1⟩ : ∃ y, y = (a1 + 2) + 2 * (x3).toNatClampNeg := ⟨_, rfl⟩
  have hir1 := H.1
  replace H := H.2 r1 er1
  have tLr1 := le_14 t1 hir1 er1
  refine m_aalF (x := r1) hp dX10_slope_48 (lf_14_0 t1) rfl rfl (lu_14_0 t1) hir1 (fe_14 t1 hir1 er1) ?_
  refine m_getI hp fw_X10_25 dX10_slope_49 rfl tLr1 ?_
  refine r_icmp_ge (tgt := 92) dX10_slope_52 rfl (fun cH => ?_) (fun cH => ?_)
  · replace H := H.1 cH
    refine r_aload_n dX10_slope_92 rfl rfl ?_
    refine m_getF (x := (a0 + 1)) hp fw_X10_98 dX10_slope_93 rfl t0 (ff_14_0 t0) ?_
    refine r_iload_n dX10_slope_96 rfl rfl ?_
    obtain ⟨r2, er2⟩ : ∃ y, y = (a0 + 2) + 2 * (x3).toNatClampNeg := ⟨_, rfl⟩
    have hir2 := H.1
    replace H := H.2 r2 er2
    have tLr2 := le_14 t0 hir2 er2
    refine m_aalF (x := r2) hp dX10_slope_97 (lf_14_0 t0) rfl rfl (lu_14_0 t0) hir2 (fe_14 t0 hir2 er2) ?_
    refine k_VV (As := []) (stk := []) hp cv_X10_52 dX10_slope_98 rfl (Nat.le_of_ble_eq_true rfl) tLr2 (H.mono (fun h3 H => ?_)) ⟨Nat.le_refl _, Nat.le_refl _⟩
    refine r_iinc (v := (x3 + (1 : Int32))) (ls2 := [some (.ref a0), some (.ref a1), none, some (.int (x3 + (1 : Int32))), some (.int x4)]) dX10_slope_101 rfl rfl (by decide) rfl ?_
    refine r_goto (tgt := 6) dX10_slope_104 rfl ?_
    refine r_prune [true, true, false, true, false] (ls2 := [some (.ref a0), some (.ref a1), none, some (.int (x3 + (1 : Int32))), none]) rfl ?_
    exact H
  · replace H := H.2 cH
    refine r_aload_n dX10_slope_55 rfl rfl ?_
    refine m_getF (x := (a0 + 1)) hp fw_X10_98 dX10_slope_56 rfl t0 (ff_14_0 t0) ?_
    refine r_iload_n dX10_slope_59 rfl rfl ?_
    obtain ⟨r4, er4⟩ : ∃ y, y = (a0 + 2) + 2 * (x3).toNatClampNeg := ⟨_, rfl⟩
    have hir4 := H.1
    replace H := H.2 r4 er4
    have tLr4 := le_14 t0 hir4 er4
    refine m_aalF (x := r4) hp dX10_slope_60 (lf_14_0 t0) rfl rfl (lu_14_0 t0) hir4 (fe_14 t0 hir4 er4) ?_
    refine m_getF (x := (r4 + 1)) hp fw_X10_30 dX10_slope_61 rfl tLr4 (ff_13_0 tLr4) ?_
    refine r_iload dX10_slope_64 rfl ?_
    refine r_iconst (v := (1 : Int32)) dX10_slope_66 rfl ?_
    refine r_isub dX10_slope_67 ?_
    refine r_iload dX10_slope_68 rfl ?_
    refine r_aload_n dX10_slope_70 rfl rfl ?_
    refine m_getF (x := (a1 + 1)) hp fw_X10_98 dX10_slope_71 rfl t1 (ff_14_0 t1) ?_
    refine r_iload_n dX10_slope_74 rfl rfl ?_
    obtain ⟨r5, er5⟩ : ∃ y, y = (a1 + 2) + 2 * (x3).toNatClampNeg := ⟨_, rfl⟩
    have hir5 := H.1
    replace H := H.2 r5 er5
    have tLr5 := le_14 t1 hir5 er5
    refine m_aalF (x := r5) hp dX10_slope_75 (lf_14_0 t1) rfl rfl (lu_14_0 t1) hir5 (fe_14 t1 hir5 er5) ?_
    refine m_getF (x := (r5 + 1)) hp fw_X10_30 dX10_slope_76 rfl tLr5 (ff_13_0 tLr5) ?_
    refine r_iload dX10_slope_79 rfl ?_
    refine m_iald hp dX10_slope_81 (lf_13_0 tLr5) H.1 ?_
    replace H := H.2
    refine k_SI (As := [.int x4, .int (ri h (r5 + 1) (x4).toNatClampNeg)]) (stk := [.int (x4 - (1 : Int32)), .ref (r4 + 1)]) cs_X10_56 dX10_slope_82 rfl (Nat.le_of_ble_eq_true rfl) (H.mono (fun v6 h6 H => ?_)) ⟨Nat.le_refl _, Nat.le_refl _⟩
    refine m_iast hp dX10_slope_85 (lf_13_0 tLr4) H.1 (fun h7 eh7 => ?_)
    replace H := H.2 h7 eh7
    refine r_iinc (v := (x4 + (1 : Int32))) (ls2 := [some (.ref a0), some (.ref a1), none, some (.int x3), some (.int (x4 + (1 : Int32)))]) dX10_slope_86 rfl rfl (by decide) rfl ?_
    refine r_goto (tgt := 41) dX10_slope_89 rfl ?_
    exact H
theorem s_X10_slope_120 {g : GX} {d : Nat} {av : List Value} {Q : QT} {n : Nat} {h : Hp} {a0 : Nat} {a1 : Nat} {x3 : Int32} (hp : g.2.2.2.2 = true) (t0 : lay a0 = (0, 14, 2)) (t1 : lay a1 = (0, 14, 2)) (H : (((ri h a1 1) ≤ x3) → (CallI g m_J3_max d [.int (0 : Int32), .int ((ri h a1 1) - (1 : Int32))] n h (fun v1 h1 => (∀ h2, h2 = wi h1 a0 1 v1 → (W_X10_slope g d av Q n 166 [some (.ref a0), none, none, none, none] [] h2))))) ∧ ((¬ (ri h a1 1) ≤ x3) → (vp_in (x3 - (1 : Int32)) 64 ∧ ∀ r3, r3 = (a0 + 2) + 2 * ((x3 - (1 : Int32))).toNatClampNeg → (vp_in x3 64 ∧ ∀ r4, r4 = (a1 + 2) + 2 * (x3).toNatClampNeg → (CallV g m_X10_scale_2 d [.ref r3, .ref r4, .int x3] n h (fun h5 => (W_X10_slope g d av Q n 120 [some (.ref a0), some (.ref a1), none, some (.int (x3 + (1 : Int32))), none] [] h5))))))) : W_X10_slope g d av Q n 120 [some (.ref a0), some (.ref a1), none, some (.int x3), none] [] h := by
  refine r_iload_n dX10_slope_120 rfl rfl ?_
  refine r_aload_n dX10_slope_121 rfl rfl ?_
  refine m_getI hp fw_X10_93 dX10_slope_122 rfl t1 ?_
  refine r_icmp_ge (tgt := 152) dX10_slope_125 rfl (fun cH => ?_) (fun cH => ?_)
  · replace H := H.1 cH
    refine r_aload_n dX10_slope_152 rfl rfl ?_
    refine r_iconst (v := (0 : Int32)) dX10_slope_153 rfl ?_
    refine r_aload_n dX10_slope_154 rfl rfl ?_
    refine m_getI hp fw_X10_93 dX10_slope_155 rfl t1 ?_
    refine r_iconst (v := (1 : Int32)) dX10_slope_158 rfl ?_
    refine r_isub dX10_slope_159 ?_
    refine k_SI (As := [.int (0 : Int32), .int ((ri h a1 1) - (1 : Int32))]) (stk := [.ref a0]) cs_X10_40 dX10_slope_160 rfl (Nat.le_of_ble_eq_true rfl) (H.mono (fun v1 h1 H => ?_)) ⟨Nat.le_refl _, Nat.le_refl _⟩
    refine m_putI hp fw_X10_93 dX10_slope_163 rfl rfl t0 (fun h2 eh2 => ?_)
    replace H := H h2 eh2
    refine r_prune [true, false, false, false, false] (ls2 := [some (.ref a0), none, none, none, none]) rfl ?_
    exact H
  · replace H := H.2 cH
    refine r_aload_n dX10_slope_128 rfl rfl ?_
    refine m_getF (x := (a0 + 1)) hp fw_X10_98 dX10_slope_129 rfl t0 (ff_14_0 t0) ?_
    refine r_iload_n dX10_slope_132 rfl rfl ?_
    refine r_iconst (v := (1 : Int32)) dX10_slope_133 rfl ?_
    refine r_isub dX10_slope_134 ?_
    obtain ⟨r3, er3⟩ : ∃ y, y = (a0 + 2) + 2 * ((x3 - (1 : Int32))).toNatClampNeg := ⟨_, rfl⟩
    have hir3 := H.1
    replace H := H.2 r3 er3
    have tLr3 := le_14 t0 hir3 er3
    refine m_aalF (x := r3) hp dX10_slope_135 (lf_14_0 t0) rfl rfl (lu_14_0 t0) hir3 (fe_14 t0 hir3 er3) ?_
    refine r_aload_n dX10_slope_136 rfl rfl ?_
    refine m_getF (x := (a1 + 1)) hp fw_X10_98 dX10_slope_137 rfl t1 (ff_14_0 t1) ?_
    refine r_iload_n dX10_slope_140 rfl rfl ?_
    obtain ⟨r4, er4⟩ : ∃ y, y = (a1 + 2) + 2 * (x3).toNatClampNeg := ⟨_, rfl⟩
    have hir4 := H.1
    replace H := H.2 r4 er4
    have tLr4 := le_14 t1 hir4 er4
    refine m_aalF (x := r4) hp dX10_slope_141 (lf_14_0 t1) rfl rfl (lu_14_0 t1) hir4 (fe_14 t1 hir4 er4) ?_
    refine r_iload_n dX10_slope_142 rfl rfl ?_
    refine k_SV (As := [.ref r3, .ref r4, .int x3]) (stk := []) cs_X10_70 dX10_slope_143 rfl (Nat.le_of_ble_eq_true rfl) (H.mono (fun h5 H => ?_)) ⟨Nat.le_refl _, Nat.le_refl _⟩
    refine r_iinc (v := (x3 + (1 : Int32))) (ls2 := [some (.ref a0), some (.ref a1), none, some (.int (x3 + (1 : Int32))), none]) dX10_slope_146 rfl rfl (by decide) rfl ?_
    refine r_goto (tgt := 120) dX10_slope_149 rfl ?_
    exact H
theorem s_X10_slope_166 {g : GX} {d : Nat} {av : List Value} {Q : QT} {n : Nat} {h : Hp} {a0 : Nat} (hp : g.2.2.2.2 = true) (t0 : lay a0 = (0, 14, 2)) (H : CallV g m_X14_trim d [.ref a0] n h (fun h1 => (Q none n h1))) : W_X10_slope g d av Q n 166 [some (.ref a0), none, none, none, none] [] h := by
  refine r_aload_n dX10_slope_166 rfl rfl ?_
  refine k_VV (As := []) (stk := []) hp cv_X10_105 dX10_slope_167 rfl (Nat.le_of_ble_eq_true rfl) t0 (H.mono (fun h1 H => ?_)) ⟨Nat.le_refl _, Nat.le_refl _⟩
  exact r_vret dX10_slope_170 rfl (Nat.le_refl _) (Nat.le_refl _) H
abbrev W_X10_value (g : GX) (d : Nat) (av : List Value) (Q : QT) (n : Nat) (pc : Nat) (ls : LV) (stk : List Value) (h : Hp) : Prop := RJ g m_X10_value (d + 1) 0 0 av Q pc ls stk n h 0 0
theorem s_X10_value_0 {g : GX} {d : Nat} {av : List Value} {Q : QT} {n : Nat} {h : Hp} {x1 : Int32} {x2 : Int32} {x3 : Int32} (hp : g.2.2.2.2 = true)  (H : CallI g m_X10_isSlot d [.int x1] n h (fun v1 h1 => (((¬ v1 = (0 : Int32)) → (vp_in x1 12 ∧ ∀ r2, r2 = 10245 + 9 * (x1).toNatClampNeg → ((((ri h1 r2 0) = (1 : Int32)) → (W_X10_value g d av Q n 35 [some (.ref 2759), none, some (.int x2), some (.int x3), some (.ref r2)] [] h1)) ∧ ((¬ (ri h1 r2 0) = (1 : Int32)) → (((¬ (ri h1 r2 0) = (2 : Int32)) → (Q (some (.int (-3 : Int32))) n h1)) ∧ (((ri h1 r2 0) = (2 : Int32)) → (W_X10_value g d av Q n 35 [some (.ref 2759), none, some (.int x2), some (.int x3), some (.ref r2)] [] h1))))))) ∧ ((v1 = (0 : Int32)) → (Q (some (.int (-1 : Int32))) n h1))))) : W_X10_value g d av Q n 0 [some (.ref 2759), some (.int x1), some (.int x2), some (.int x3), none] [] h := by
  refine r_iload_n dX10_value_0 rfl rfl ?_
  refine k_SI (As := [.int x1]) (stk := []) cs_X10_551 dX10_value_1 rfl (Nat.le_of_ble_eq_true rfl) (H.mono (fun v1 h1 H => ?_)) ⟨Nat.le_refl _, Nat.le_refl _⟩
  refine r_if_ne (tgt := 9) dX10_value_4 rfl (fun cH => ?_) (fun cH => ?_)
  · replace H := H.1 cH
    refine r_aload_n dX10_value_9 rfl rfl ?_
    refine m_getF (x := 2841) hp fw_X10_450 dX10_value_10 rfl ly_10 (ff_10_20 ly_10) ?_
    refine r_iload_n dX10_value_13 rfl rfl ?_
    obtain ⟨r2, er2⟩ : ∃ y, y = 10245 + 9 * (x1).toNatClampNeg := ⟨_, rfl⟩
    have hir2 := H.1
    replace H := H.2 r2 er2
    have tLr2 := la_2841 hir2 er2
    refine m_aalF (x := r2) hp dX10_value_14 (lf_10_20 ly_10) rfl rfl (lu_10_20 ly_10) hir2 (fa_2841 hir2 er2) ?_
    refine r_astore (ls2 := [some (.ref 2759), some (.int x1), some (.int x2), some (.int x3), some (.ref r2)]) dX10_value_15 (by decide) rfl ?_
    refine r_aload dX10_value_17 rfl ?_
    refine m_getI hp fw_X10_202 dX10_value_19 rfl tLr2 ?_
    refine r_iconst (v := (1 : Int32)) dX10_value_22 rfl ?_
    refine r_icmp_eq (tgt := 35) dX10_value_23 rfl (fun cH => ?_) (fun cH => ?_)
    · replace H := H.1 cH
      refine r_prune [true, false, true, true, true] (ls2 := [some (.ref 2759), none, some (.int x2), some (.int x3), some (.ref r2)]) rfl ?_
      exact H
    · replace H := H.2 cH
      refine r_aload dX10_value_26 rfl ?_
      refine m_getI hp fw_X10_202 dX10_value_28 rfl tLr2 ?_
      refine r_iconst (v := (2 : Int32)) dX10_value_31 rfl ?_
      refine r_icmp_ne (tgt := 46) dX10_value_32 rfl (fun cH => ?_) (fun cH => ?_)
      · replace H := H.1 cH
        refine r_bipush (v := (-3 : Int32)) dX10_value_46 rfl ?_
        exact r_zret dX10_value_48 rfl rfl (Nat.le_refl _) (Nat.le_refl _) H
      · replace H := H.2 cH
        refine r_prune [true, false, true, true, true] (ls2 := [some (.ref 2759), none, some (.int x2), some (.int x3), some (.ref r2)]) rfl ?_
        exact H
  · replace H := H.2 cH
    refine r_iconst (v := (-1 : Int32)) dX10_value_7 rfl ?_
    exact r_zret dX10_value_8 rfl rfl (Nat.le_refl _) (Nat.le_refl _) H
theorem s_X10_value_35 {g : GX} {d : Nat} {av : List Value} {Q : QT} {n : Nat} {h : Hp} {x2 : Int32} {x3 : Int32} {a4 : Nat} (hp : g.2.2.2.2 = true) (t4 : lay a4 = (0, 11, 15)) (H : CallI g m_X10_valueAt d [.ref 2759, .ref a4, .int x2, .int x3] n h (fun v1 h1 => (Q (some (.int v1)) n h1))) : W_X10_value g d av Q n 35 [some (.ref 2759), none, some (.int x2), some (.int x3), some (.ref a4)] [] h := by
  refine r_aload_n dX10_value_35 rfl rfl ?_
  refine r_aload dX10_value_36 rfl ?_
  refine r_iload_n dX10_value_38 rfl rfl ?_
  refine r_iload_n dX10_value_39 rfl rfl ?_
  refine k_VI (As := [.ref a4, .int x2, .int x3]) (stk := []) hp cv_X10_688 dX10_value_40 rfl (Nat.le_of_ble_eq_true rfl) ly_10 (H.mono (fun v1 h1 H => ?_)) ⟨Nat.le_refl _, Nat.le_refl _⟩
  refine r_goto (tgt := 48) dX10_value_43 rfl ?_
  exact r_zret dX10_value_48 rfl rfl (Nat.le_refl _) (Nat.le_refl _) H
abbrev W_X10_valueAt (g : GX) (d : Nat) (av : List Value) (Q : QT) (n : Nat) (pc : Nat) (ls : LV) (stk : List Value) (h : Hp) : Prop := RJ g m_X10_valueAt (d + 1) 0 0 av Q pc ls stk n h 0 0
theorem s_X10_valueAt_0 {g : GX} {d : Nat} {av : List Value} {Q : QT} {n : Nat} {h : Hp} {a1 : Nat} {x2 : Int32} {x3 : Int32} (hp : g.2.2.2.2 = true) (t1 : lay a1 = (0, 11, 15)) (H : ((¬ (ri h a1 0) = (1 : Int32)) → (CallI g m_X10_isWhole d [.int x2] n h (fun v1 h1 => (((v1 = (0 : Int32)) → (Q (some (.int (-1 : Int32))) n h1)) ∧ ((¬ v1 = (0 : Int32)) → (CallI g m_X10_isWhole d [.int x3] n h1 (fun v2 h2 => (((¬ v2 = (0 : Int32)) → (CallI g m_X10_ratioAt d [.ref 2759, .ref a1, .int x2, .int x3] n h2 (fun v3 h3 => (W_X10_valueAt g d av Q n 53 [some (.ref 2759), some (.ref a1), some (.int x2), some (.int x3), some (.int v3), some (.int (0 : Int32)), some (.int (0 : Int32)), none] [] h3)))) ∧ ((v2 = (0 : Int32)) → (Q (some (.int (-1 : Int32))) n h2)))))))))) ∧ (((ri h a1 0) = (1 : Int32)) → (CallI g m_X10_rest d [.int x2] n h (fun v4 h4 => (CallI g m_X10_rest d [.int x3] n h4 (fun v5 h5 => (CallI g m_X10_ratioAt d [.ref 2759, .ref a1, .int v4, .int v5] n h5 (fun v6 h6 => (Q (some (.int v6)) n h6))))))))) : W_X10_valueAt g d av Q n 0 [some (.ref 2759), some (.ref a1), some (.int x2), some (.int x3), none, none, none, none] [] h := by
  refine r_aload_n dX10_valueAt_0 rfl rfl ?_
  refine m_getI hp fw_X10_202 dX10_valueAt_1 rfl t1 ?_
  refine r_iconst (v := (1 : Int32)) dX10_valueAt_4 rfl ?_
  refine r_icmp_ne (tgt := 22) dX10_valueAt_5 rfl (fun cH => ?_) (fun cH => ?_)
  · replace H := H.1 cH
    refine r_iload_n dX10_valueAt_22 rfl rfl ?_
    refine k_SI (As := [.int x2]) (stk := []) cs_X10_682 dX10_valueAt_23 rfl (Nat.le_of_ble_eq_true rfl) (H.mono (fun v1 h1 H => ?_)) ⟨Nat.le_refl _, Nat.le_refl _⟩
    refine r_if_eq (tgt := 36) dX10_valueAt_26 rfl (fun cH => ?_) (fun cH => ?_)
    · replace H := H.1 cH
      refine r_iconst (v := (-1 : Int32)) dX10_valueAt_36 rfl ?_
      exact r_zret dX10_valueAt_37 rfl rfl (Nat.le_refl _) (Nat.le_refl _) H
    · replace H := H.2 cH
      refine r_iload_n dX10_valueAt_29 rfl rfl ?_
      refine k_SI (As := [.int x3]) (stk := []) cs_X10_682 dX10_valueAt_30 rfl (Nat.le_of_ble_eq_true rfl) (H.mono (fun v2 h2 H => ?_)) ⟨Nat.le_refl _, Nat.le_refl _⟩
      refine r_if_ne (tgt := 38) dX10_valueAt_33 rfl (fun cH => ?_) (fun cH => ?_)
      · replace H := H.1 cH
        refine r_aload_n dX10_valueAt_38 rfl rfl ?_
        refine r_aload_n dX10_valueAt_39 rfl rfl ?_
        refine r_iload_n dX10_valueAt_40 rfl rfl ?_
        refine r_iload_n dX10_valueAt_41 rfl rfl ?_
        refine k_VI (As := [.ref a1, .int x2, .int x3]) (stk := []) hp cv_X10_678 dX10_valueAt_42 rfl (Nat.le_of_ble_eq_true rfl) ly_10 (H.mono (fun v3 h3 H => ?_)) ⟨Nat.le_refl _, Nat.le_refl _⟩
        refine r_istore (ls2 := [some (.ref 2759), some (.ref a1), some (.int x2), some (.int x3), some (.int v3), none, none, none]) dX10_valueAt_45 (by decide) rfl ?_
        refine r_iconst (v := (0 : Int32)) dX10_valueAt_47 rfl ?_
        refine r_istore (ls2 := [some (.ref 2759), some (.ref a1), some (.int x2), some (.int x3), some (.int v3), some (.int (0 : Int32)), none, none]) dX10_valueAt_48 (by decide) rfl ?_
        refine r_iconst (v := (0 : Int32)) dX10_valueAt_50 rfl ?_
        refine r_istore (ls2 := [some (.ref 2759), some (.ref a1), some (.int x2), some (.int x3), some (.int v3), some (.int (0 : Int32)), some (.int (0 : Int32)), none]) dX10_valueAt_51 (by decide) rfl ?_
        exact H
      · replace H := H.2 cH
        refine r_iconst (v := (-1 : Int32)) dX10_valueAt_36 rfl ?_
        exact r_zret dX10_valueAt_37 rfl rfl (Nat.le_refl _) (Nat.le_refl _) H
  · replace H := H.2 cH
    refine r_aload_n dX10_valueAt_8 rfl rfl ?_
    refine r_aload_n dX10_valueAt_9 rfl rfl ?_
    refine r_iload_n dX10_valueAt_10 rfl rfl ?_
    refine k_SI (As := [.int x2]) (stk := [.ref a1, .ref 2759]) cs_X10_600 dX10_valueAt_11 rfl (Nat.le_of_ble_eq_true rfl) (H.mono (fun v4 h4 H => ?_)) ⟨Nat.le_refl _, Nat.le_refl _⟩
    refine r_iload_n dX10_valueAt_14 rfl rfl ?_
    refine k_SI (As := [.int x3]) (stk := [.int v4, .ref a1, .ref 2759]) cs_X10_600 dX10_valueAt_15 rfl (Nat.le_of_ble_eq_true rfl) (H.mono (fun v5 h5 H => ?_)) ⟨Nat.le_refl _, Nat.le_refl _⟩
    refine k_VI (As := [.ref a1, .int v4, .int v5]) (stk := []) hp cv_X10_678 dX10_valueAt_18 rfl (Nat.le_of_ble_eq_true rfl) ly_10 (H.mono (fun v6 h6 H => ?_)) ⟨Nat.le_refl _, Nat.le_refl _⟩
    exact r_zret dX10_valueAt_21 rfl rfl (Nat.le_refl _) (Nat.le_refl _) H
theorem s_X10_valueAt_53 {g : GX} {d : Nat} {av : List Value} {Q : QT} {n : Nat} {h : Hp} {a1 : Nat} {x2 : Int32} {x3 : Int32} {x4 : Int32} {x5 : Int32} {x6 : Int32} (hp : g.2.2.2.2 = true) (t1 : lay a1 = (0, 11, 15)) (H : (((ri h a1 5) ≤ x6) → (W_X10_valueAt g d av Q n 136 [some (.ref 2759), some (.ref a1), some (.int x2), some (.int x3), some (.int x4), some (.int x5), none, none] [] h)) ∧ ((¬ (ri h a1 5) ≤ x6) → (((x4 = (-1 : Int32)) → (W_X10_valueAt g d av Q n 136 [some (.ref 2759), some (.ref a1), some (.int x2), some (.int x3), some (.int x4), some (.int x5), none, none] [] h)) ∧ ((¬ x4 = (-1 : Int32)) → (vp_in x6 13 ∧ (vp_in x6 13 ∧ (vp_in x6 13 ∧ ((((0 : Int32) ≤ ((((ri h (a1 + 3) (x6).toNatClampNeg) * x2) + ((ri h (a1 + 4) (x6).toNatClampNeg) * x3)) + (ri h (a1 + 5) (x6).toNatClampNeg))) → (W_X10_valueAt g d av Q n 115 [some (.ref 2759), some (.ref a1), some (.int x2), some (.int x3), some (.int x4), some (.int x5), some (.int x6), some (.int ((((ri h (a1 + 3) (x6).toNatClampNeg) * x2) + ((ri h (a1 + 4) (x6).toNatClampNeg) * x3)) + (ri h (a1 + 5) (x6).toNatClampNeg)))] [] h)) ∧ ((¬ (0 : Int32) ≤ ((((ri h (a1 + 3) (x6).toNatClampNeg) * x2) + ((ri h (a1 + 4) (x6).toNatClampNeg) * x3)) + (ri h (a1 + 5) (x6).toNatClampNeg))) → (vp_in x6 13 ∧ ((((ri h (a1 + 6) (x6).toNatClampNeg) ≤ (0 : Int32)) → (W_X10_valueAt g d av Q n 115 [some (.ref 2759), some (.ref a1), some (.int x2), some (.int x3), some (.int x4), some (.int x5), some (.int x6), some (.int ((((ri h (a1 + 3) (x6).toNatClampNeg) * x2) + ((ri h (a1 + 4) (x6).toNatClampNeg) * x3)) + (ri h (a1 + 5) (x6).toNatClampNeg)))] [] h)) ∧ ((¬ (ri h (a1 + 6) (x6).toNatClampNeg) ≤ (0 : Int32)) → (W_X10_valueAt g d av Q n 115 [some (.ref 2759), some (.ref a1), some (.int x2), some (.int x3), some (.int (-1 : Int32)), some (.int x5), some (.int x6), some (.int ((((ri h (a1 + 3) (x6).toNatClampNeg) * x2) + ((ri h (a1 + 4) (x6).toNatClampNeg) * x3)) + (ri h (a1 + 5) (x6).toNatClampNeg)))] [] h))))))))))))) : W_X10_valueAt g d av Q n 53 [some (.ref 2759), some (.ref a1), some (.int x2), some (.int x3), some (.int x4), some (.int x5), some (.int x6), none] [] h := by
  refine r_iload dX10_valueAt_53 rfl ?_
  refine r_aload_n dX10_valueAt_55 rfl rfl ?_
  refine m_getI hp fw_X10_219 dX10_valueAt_56 rfl t1 ?_
  refine r_icmp_ge (tgt := 136) dX10_valueAt_59 rfl (fun cH => ?_) (fun cH => ?_)
  · replace H := H.1 cH
    refine r_prune [true, true, true, true, true, true, false, false] (ls2 := [some (.ref 2759), some (.ref a1), some (.int x2), some (.int x3), some (.int x4), some (.int x5), none, none]) rfl ?_
    exact H
  · replace H := H.2 cH
    refine r_iload dX10_valueAt_62 rfl ?_
    refine r_iconst (v := (-1 : Int32)) dX10_valueAt_64 rfl ?_
    refine r_icmp_eq (tgt := 136) dX10_valueAt_65 rfl (fun cH => ?_) (fun cH => ?_)
    · replace H := H.1 cH
      refine r_prune [true, true, true, true, true, true, false, false] (ls2 := [some (.ref 2759), some (.ref a1), some (.int x2), some (.int x3), some (.int x4), some (.int x5), none, none]) rfl ?_
      exact H
    · replace H := H.2 cH
      refine r_aload_n dX10_valueAt_68 rfl rfl ?_
      refine m_getF (x := (a1 + 3)) hp fw_X10_222 dX10_valueAt_69 rfl t1 (ff_11_6 t1) ?_
      refine r_iload dX10_valueAt_72 rfl ?_
      refine m_iald hp dX10_valueAt_74 (lf_11_6 t1) H.1 ?_
      replace H := H.2
      refine r_iload_n dX10_valueAt_75 rfl rfl ?_
      refine r_imul dX10_valueAt_76 ?_
      refine r_aload_n dX10_valueAt_77 rfl rfl ?_
      refine m_getF (x := (a1 + 4)) hp fw_X10_225 dX10_valueAt_78 rfl t1 (ff_11_7 t1) ?_
      refine r_iload dX10_valueAt_81 rfl ?_
      refine m_iald hp dX10_valueAt_83 (lf_11_7 t1) H.1 ?_
      replace H := H.2
      refine r_iload_n dX10_valueAt_84 rfl rfl ?_
      refine r_imul dX10_valueAt_85 ?_
      refine r_iadd dX10_valueAt_86 ?_
      refine r_aload_n dX10_valueAt_87 rfl rfl ?_
      refine m_getF (x := (a1 + 5)) hp fw_X10_228 dX10_valueAt_88 rfl t1 (ff_11_8 t1) ?_
      refine r_iload dX10_valueAt_91 rfl ?_
      refine m_iald hp dX10_valueAt_93 (lf_11_8 t1) H.1 ?_
      replace H := H.2
      refine r_iadd dX10_valueAt_94 ?_
      refine r_istore (ls2 := [some (.ref 2759), some (.ref a1), some (.int x2), some (.int x3), some (.int x4), some (.int x5), some (.int x6), some (.int ((((ri h (a1 + 3) (x6).toNatClampNeg) * x2) + ((ri h (a1 + 4) (x6).toNatClampNeg) * x3)) + (ri h (a1 + 5) (x6).toNatClampNeg)))]) dX10_valueAt_95 (by decide) rfl ?_
      refine r_iload dX10_valueAt_97 rfl ?_
      refine r_if_ge (tgt := 115) dX10_valueAt_99 rfl (fun cH => ?_) (fun cH => ?_)
      · replace H := H.1 cH
        exact H
      · replace H := H.2 cH
        refine r_aload_n dX10_valueAt_102 rfl rfl ?_
        refine m_getF (x := (a1 + 6)) hp fw_X10_231 dX10_valueAt_103 rfl t1 (ff_11_9 t1) ?_
        refine r_iload dX10_valueAt_106 rfl ?_
        refine m_iald hp dX10_valueAt_108 (lf_11_9 t1) H.1 ?_
        replace H := H.2
        refine r_if_le (tgt := 115) dX10_valueAt_109 rfl (fun cH => ?_) (fun cH => ?_)
        · replace H := H.1 cH
          exact H
        · replace H := H.2 cH
          refine r_iconst (v := (-1 : Int32)) dX10_valueAt_112 rfl ?_
          refine r_istore (ls2 := [some (.ref 2759), some (.ref a1), some (.int x2), some (.int x3), some (.int (-1 : Int32)), some (.int x5), some (.int x6), some (.int ((((ri h (a1 + 3) (x6).toNatClampNeg) * x2) + ((ri h (a1 + 4) (x6).toNatClampNeg) * x3)) + (ri h (a1 + 5) (x6).toNatClampNeg)))]) dX10_valueAt_113 (by decide) rfl ?_
          exact H
theorem s_X10_valueAt_115 {g : GX} {d : Nat} {av : List Value} {Q : QT} {n : Nat} {h : Hp} {a1 : Nat} {x2 : Int32} {x3 : Int32} {x4 : Int32} {x5 : Int32} {x6 : Int32} {x7 : Int32} (hp : g.2.2.2.2 = true) (t1 : lay a1 = (0, 11, 15)) (H : (((0 : Int32) ≤ x7) → (W_X10_valueAt g d av Q n 127 [some (.ref 2759), some (.ref a1), some (.int x2), some (.int x3), some (.int x4), none, some (.int x6), none] [.int (0 : Int32), .int x5] h)) ∧ ((¬ (0 : Int32) ≤ x7) → (W_X10_valueAt g d av Q n 127 [some (.ref 2759), some (.ref a1), some (.int x2), some (.int x3), some (.int x4), none, some (.int x6), none] [.int (1 : Int32), .int x5] h))) : W_X10_valueAt g d av Q n 115 [some (.ref 2759), some (.ref a1), some (.int x2), some (.int x3), some (.int x4), some (.int x5), some (.int x6), some (.int x7)] [] h := by
  refine r_iload dX10_valueAt_115 rfl ?_
  refine r_iload dX10_valueAt_117 rfl ?_
  refine r_if_ge (tgt := 126) dX10_valueAt_119 rfl (fun cH => ?_) (fun cH => ?_)
  · replace H := H.1 cH
    refine r_iconst (v := (0 : Int32)) dX10_valueAt_126 rfl ?_
    refine r_prune [true, true, true, true, true, false, true, false] (ls2 := [some (.ref 2759), some (.ref a1), some (.int x2), some (.int x3), some (.int x4), none, some (.int x6), none]) rfl ?_
    exact H
  · replace H := H.2 cH
    refine r_iconst (v := (1 : Int32)) dX10_valueAt_122 rfl ?_
    refine r_goto (tgt := 127) dX10_valueAt_123 rfl ?_
    refine r_prune [true, true, true, true, true, false, true, false] (ls2 := [some (.ref 2759), some (.ref a1), some (.int x2), some (.int x3), some (.int x4), none, some (.int x6), none]) rfl ?_
    exact H
theorem s_X10_valueAt_127 {g : GX} {d : Nat} {av : List Value} {Q : QT} {n : Nat} {h : Hp} {a1 : Nat} {x2 : Int32} {x3 : Int32} {x4 : Int32} {x6 : Int32} {xs0 : Int32} {xs1 : Int32} (hp : g.2.2.2.2 = true) (t1 : lay a1 = (0, 11, 15)) (H : W_X10_valueAt g d av Q n 53 [some (.ref 2759), some (.ref a1), some (.int x2), some (.int x3), some (.int x4), some (.int (xs1 ||| xs0)), some (.int (x6 + (1 : Int32))), none] [] h) : W_X10_valueAt g d av Q n 127 [some (.ref 2759), some (.ref a1), some (.int x2), some (.int x3), some (.int x4), none, some (.int x6), none] [.int xs0, .int xs1] h := by
  refine r_ior dX10_valueAt_127 ?_
  refine r_istore (ls2 := [some (.ref 2759), some (.ref a1), some (.int x2), some (.int x3), some (.int x4), some (.int (xs1 ||| xs0)), some (.int x6), none]) dX10_valueAt_128 (by decide) rfl ?_
  refine r_iinc (v := (x6 + (1 : Int32))) (ls2 := [some (.ref 2759), some (.ref a1), some (.int x2), some (.int x3), some (.int x4), some (.int (xs1 ||| xs0)), some (.int (x6 + (1 : Int32))), none]) dX10_valueAt_130 rfl rfl (by decide) rfl ?_
  refine r_goto (tgt := 53) dX10_valueAt_133 rfl ?_
  exact H
theorem s_X10_valueAt_136 {g : GX} {d : Nat} {av : List Value} {Q : QT} {n : Nat} {h : Hp} {a1 : Nat} {x2 : Int32} {x3 : Int32} {x4 : Int32} {x5 : Int32} (hp : g.2.2.2.2 = true) (t1 : lay a1 = (0, 11, 15)) (H : ((x4 = (-1 : Int32)) → (W_X10_valueAt g d av Q n 147 [none, none, none, none, some (.int x4), none, none, none] [] h)) ∧ ((¬ x4 = (-1 : Int32)) → (((x5 = (0 : Int32)) → (CallI g m_X10_pow d [.int (ri h a1 3), .long (x2).toInt64] n h (fun v1 h1 => (CallI g m_X10_pow d [.int (ri h1 a1 4), .long (x3).toInt64] n h1 (fun v2 h2 => (CallI g m_X10_mul d [.int v1, .int v2] n h2 (fun v3 h3 => (CallI g m_X10_mul d [.int x4, .int v3] n h3 (fun v4 h4 => (W_X10_valueAt g d av Q n 190 [some (.ref 2759), some (.ref a1), some (.int x2), some (.int x3), some (.int v4), none, some (.int (0 : Int32)), none] [] h4)))))))))) ∧ ((¬ x5 = (0 : Int32)) → (W_X10_valueAt g d av Q n 147 [none, none, none, none, some (.int x4), none, none, none] [] h))))) : W_X10_valueAt g d av Q n 136 [some (.ref 2759), some (.ref a1), some (.int x2), some (.int x3), some (.int x4), some (.int x5), none, none] [] h := by
  refine r_iload dX10_valueAt_136 rfl ?_
  refine r_iconst (v := (-1 : Int32)) dX10_valueAt_138 rfl ?_
  refine r_icmp_eq (tgt := 147) dX10_valueAt_139 rfl (fun cH => ?_) (fun cH => ?_)
  · replace H := H.1 cH
    refine r_prune [false, false, false, false, true, false, false, false] (ls2 := [none, none, none, none, some (.int x4), none, none, none]) rfl ?_
    exact H
  · replace H := H.2 cH
    refine r_iload dX10_valueAt_142 rfl ?_
    refine r_if_eq (tgt := 159) dX10_valueAt_144 rfl (fun cH => ?_) (fun cH => ?_)
    · replace H := H.1 cH
      refine r_iload dX10_valueAt_159 rfl ?_
      refine r_aload_n dX10_valueAt_161 rfl rfl ?_
      refine m_getI hp fw_X10_213 dX10_valueAt_162 rfl t1 ?_
      refine r_iload_n dX10_valueAt_165 rfl rfl ?_
      refine r_i2l dX10_valueAt_166 ?_
      refine k_SI (As := [.int (ri h a1 3), .long (x2).toInt64]) (stk := [.int x4]) cs_X10_8 dX10_valueAt_167 rfl (Nat.le_of_ble_eq_true rfl) (H.mono (fun v1 h1 H => ?_)) ⟨Nat.le_refl _, Nat.le_refl _⟩
      refine r_aload_n dX10_valueAt_170 rfl rfl ?_
      refine m_getI hp fw_X10_216 dX10_valueAt_171 rfl t1 ?_
      refine r_iload_n dX10_valueAt_174 rfl rfl ?_
      refine r_i2l dX10_valueAt_175 ?_
      refine k_SI (As := [.int (ri h1 a1 4), .long (x3).toInt64]) (stk := [.int v1, .int x4]) cs_X10_8 dX10_valueAt_176 rfl (Nat.le_of_ble_eq_true rfl) (H.mono (fun v2 h2 H => ?_)) ⟨Nat.le_refl _, Nat.le_refl _⟩
      refine k_SI (As := [.int v1, .int v2]) (stk := [.int x4]) cs_X10_56 dX10_valueAt_179 rfl (Nat.le_of_ble_eq_true rfl) (H.mono (fun v3 h3 H => ?_)) ⟨Nat.le_refl _, Nat.le_refl _⟩
      refine k_SI (As := [.int x4, .int v3]) (stk := []) cs_X10_56 dX10_valueAt_182 rfl (Nat.le_of_ble_eq_true rfl) (H.mono (fun v4 h4 H => ?_)) ⟨Nat.le_refl _, Nat.le_refl _⟩
      refine r_istore (ls2 := [some (.ref 2759), some (.ref a1), some (.int x2), some (.int x3), some (.int v4), some (.int x5), none, none]) dX10_valueAt_185 (by decide) rfl ?_
      refine r_iconst (v := (0 : Int32)) dX10_valueAt_187 rfl ?_
      refine r_istore (ls2 := [some (.ref 2759), some (.ref a1), some (.int x2), some (.int x3), some (.int v4), some (.int x5), some (.int (0 : Int32)), none]) dX10_valueAt_188 (by decide) rfl ?_
      refine r_prune [true, true, true, true, true, false, true, false] (ls2 := [some (.ref 2759), some (.ref a1), some (.int x2), some (.int x3), some (.int v4), none, some (.int (0 : Int32)), none]) rfl ?_
      exact H
    · replace H := H.2 cH
      refine r_prune [false, false, false, false, true, false, false, false] (ls2 := [none, none, none, none, some (.int x4), none, none, none]) rfl ?_
      exact H
theorem s_X10_valueAt_147 {g : GX} {d : Nat} {av : List Value} {Q : QT} {n : Nat} {h : Hp} {x4 : Int32} (hp : g.2.2.2.2 = true)  (H : ((¬ x4 = (-1 : Int32)) → (Q (some (.int (0 : Int32))) n h)) ∧ ((x4 = (-1 : Int32)) → (Q (some (.int (-1 : Int32))) n h))) : W_X10_valueAt g d av Q n 147 [none, none, none, none, some (.int x4), none, none, none] [] h := by
  refine r_iload dX10_valueAt_147 rfl ?_
  refine r_iconst (v := (-1 : Int32)) dX10_valueAt_149 rfl ?_
  refine r_icmp_ne (tgt := 157) dX10_valueAt_150 rfl (fun cH => ?_) (fun cH => ?_)
  · replace H := H.1 cH
    refine r_iconst (v := (0 : Int32)) dX10_valueAt_157 rfl ?_
    exact r_zret dX10_valueAt_158 rfl rfl (Nat.le_refl _) (Nat.le_refl _) H
  · replace H := H.2 cH
    refine r_iconst (v := (-1 : Int32)) dX10_valueAt_153 rfl ?_
    refine r_goto (tgt := 158) dX10_valueAt_154 rfl ?_
    exact r_zret dX10_valueAt_158 rfl rfl (Nat.le_refl _) (Nat.le_refl _) H
theorem s_X10_valueAt_190 {g : GX} {d : Nat} {av : List Value} {Q : QT} {n : Nat} {h : Hp} {a1 : Nat} {x2 : Int32} {x3 : Int32} {x4 : Int32} {x6 : Int32} (hp : g.2.2.2.2 = true) (t1 : lay a1 = (0, 11, 15)) (H : (((ri h a1 5) ≤ x6) → (Q (some (.int x4)) n h)) ∧ ((¬ (ri h a1 5) ≤ x6) → (vp_in x6 13 ∧ (vp_in x6 13 ∧ (vp_in x6 13 ∧ (CallI g m_X10_factorialOf d [.ref 2759, .int ((((ri h (a1 + 3) (x6).toNatClampNeg) * x2) + ((ri h (a1 + 4) (x6).toNatClampNeg) * x3)) + (ri h (a1 + 5) (x6).toNatClampNeg))] n h (fun v1 h1 => (vp_in x6 13 ∧ (CallI g m_X10_power d [.int v1, .int (ri h1 (a1 + 6) (x6).toNatClampNeg)] n h1 (fun v2 h2 => (CallI g m_X10_mul d [.int x4, .int v2] n h2 (fun v3 h3 => (W_X10_valueAt g d av Q n 190 [some (.ref 2759), some (.ref a1), some (.int x2), some (.int x3), some (.int v3), none, some (.int (x6 + (1 : Int32))), none] [] h3))))))))))))) : W_X10_valueAt g d av Q n 190 [some (.ref 2759), some (.ref a1), some (.int x2), some (.int x3), some (.int x4), none, some (.int x6), none] [] h := by
  refine r_iload dX10_valueAt_190 rfl ?_
  refine r_aload_n dX10_valueAt_192 rfl rfl ?_
  refine m_getI hp fw_X10_219 dX10_valueAt_193 rfl t1 ?_
  refine r_icmp_ge (tgt := 253) dX10_valueAt_196 rfl (fun cH => ?_) (fun cH => ?_)
  · replace H := H.1 cH
    refine r_iload dX10_valueAt_253 rfl ?_
    exact r_zret dX10_valueAt_255 rfl rfl (Nat.le_refl _) (Nat.le_refl _) H
  · replace H := H.2 cH
    refine r_iload dX10_valueAt_199 rfl ?_
    refine r_aload_n dX10_valueAt_201 rfl rfl ?_
    refine r_aload_n dX10_valueAt_202 rfl rfl ?_
    refine m_getF (x := (a1 + 3)) hp fw_X10_222 dX10_valueAt_203 rfl t1 (ff_11_6 t1) ?_
    refine r_iload dX10_valueAt_206 rfl ?_
    refine m_iald hp dX10_valueAt_208 (lf_11_6 t1) H.1 ?_
    replace H := H.2
    refine r_iload_n dX10_valueAt_209 rfl rfl ?_
    refine r_imul dX10_valueAt_210 ?_
    refine r_aload_n dX10_valueAt_211 rfl rfl ?_
    refine m_getF (x := (a1 + 4)) hp fw_X10_225 dX10_valueAt_212 rfl t1 (ff_11_7 t1) ?_
    refine r_iload dX10_valueAt_215 rfl ?_
    refine m_iald hp dX10_valueAt_217 (lf_11_7 t1) H.1 ?_
    replace H := H.2
    refine r_iload_n dX10_valueAt_218 rfl rfl ?_
    refine r_imul dX10_valueAt_219 ?_
    refine r_iadd dX10_valueAt_220 ?_
    refine r_aload_n dX10_valueAt_221 rfl rfl ?_
    refine m_getF (x := (a1 + 5)) hp fw_X10_228 dX10_valueAt_222 rfl t1 (ff_11_8 t1) ?_
    refine r_iload dX10_valueAt_225 rfl ?_
    refine m_iald hp dX10_valueAt_227 (lf_11_8 t1) H.1 ?_
    replace H := H.2
    refine r_iadd dX10_valueAt_228 ?_
    refine k_VI (As := [.int ((((ri h (a1 + 3) (x6).toNatClampNeg) * x2) + ((ri h (a1 + 4) (x6).toNatClampNeg) * x3)) + (ri h (a1 + 5) (x6).toNatClampNeg))]) (stk := [.int x4]) hp cv_X10_685 dX10_valueAt_229 rfl (Nat.le_of_ble_eq_true rfl) ly_10 (H.mono (fun v1 h1 H => ?_)) ⟨Nat.le_refl _, Nat.le_refl _⟩
    refine r_aload_n dX10_valueAt_232 rfl rfl ?_
    refine m_getF (x := (a1 + 6)) hp fw_X10_231 dX10_valueAt_233 rfl t1 (ff_11_9 t1) ?_
    refine r_iload dX10_valueAt_236 rfl ?_
    refine m_iald hp dX10_valueAt_238 (lf_11_9 t1) H.1 ?_
    replace H := H.2
    refine k_SI (As := [.int v1, .int (ri h1 (a1 + 6) (x6).toNatClampNeg)]) (stk := [.int x4]) cs_X10_317 dX10_valueAt_239 rfl (Nat.le_of_ble_eq_true rfl) (H.mono (fun v2 h2 H => ?_)) ⟨Nat.le_refl _, Nat.le_refl _⟩
    refine k_SI (As := [.int x4, .int v2]) (stk := []) cs_X10_56 dX10_valueAt_242 rfl (Nat.le_of_ble_eq_true rfl) (H.mono (fun v3 h3 H => ?_)) ⟨Nat.le_refl _, Nat.le_refl _⟩
    refine r_istore (ls2 := [some (.ref 2759), some (.ref a1), some (.int x2), some (.int x3), some (.int v3), none, some (.int x6), none]) dX10_valueAt_245 (by decide) rfl ?_
    refine r_iinc (v := (x6 + (1 : Int32))) (ls2 := [some (.ref 2759), some (.ref a1), some (.int x2), some (.int x3), some (.int v3), none, some (.int (x6 + (1 : Int32))), none]) dX10_valueAt_247 rfl rfl (by decide) rfl ?_
    refine r_goto (tgt := 190) dX10_valueAt_250 rfl ?_
    exact H
abbrev W_X10_ratioAt (g : GX) (d : Nat) (av : List Value) (Q : QT) (n : Nat) (pc : Nat) (ls : LV) (stk : List Value) (h : Hp) : Prop := RJ g m_X10_ratioAt (d + 1) 0 0 av Q pc ls stk n h 0 0
theorem s_X10_ratioAt_0 {g : GX} {d : Nat} {av : List Value} {Q : QT} {n : Nat} {h : Hp} {a1 : Nat} {x2 : Int32} {x3 : Int32} (hp : g.2.2.2.2 = true) (t1 : lay a1 = (0, 11, 15)) (H : CallI g m_X10_cells d [.ref 2759, .ref (a1 + 2), .int x2, .int x3] n h (fun v1 h1 => (((¬ v1 = (0 : Int32)) → (CallI g m_X10_cells d [.ref 2759, .ref (a1 + 1), .int x2, .int x3] n h1 (fun v2 h2 => (CallI g m_X10_inv d [.int v1] n h2 (fun v3 h3 => (CallI g m_X10_mul d [.int v2, .int v3] n h3 (fun v4 h4 => (Q (some (.int v4)) n h4)))))))) ∧ ((v1 = (0 : Int32)) → (Q (some (.int (-1 : Int32))) n h1))))) : W_X10_ratioAt g d av Q n 0 [some (.ref 2759), some (.ref a1), some (.int x2), some (.int x3), none] [] h := by
  refine r_aload_n dX10_ratioAt_0 rfl rfl ?_
  refine r_aload_n dX10_ratioAt_1 rfl rfl ?_
  refine m_getF (x := (a1 + 2)) hp fw_X10_210 dX10_ratioAt_2 rfl t1 (ff_11_2 t1) ?_
  refine r_iload_n dX10_ratioAt_5 rfl rfl ?_
  refine r_iload_n dX10_ratioAt_6 rfl rfl ?_
  refine k_VI (As := [.ref (a1 + 2), .int x2, .int x3]) (stk := []) hp cv_X10_674 dX10_ratioAt_7 rfl (Nat.le_of_ble_eq_true rfl) ly_10 (H.mono (fun v1 h1 H => ?_)) ⟨Nat.le_refl _, Nat.le_refl _⟩
  refine r_istore (ls2 := [some (.ref 2759), some (.ref a1), some (.int x2), some (.int x3), some (.int v1)]) dX10_ratioAt_10 (by decide) rfl ?_
  refine r_iload dX10_ratioAt_12 rfl ?_
  refine r_if_ne (tgt := 21) dX10_ratioAt_14 rfl (fun cH => ?_) (fun cH => ?_)
  · replace H := H.1 cH
    refine r_aload_n dX10_ratioAt_21 rfl rfl ?_
    refine r_aload_n dX10_ratioAt_22 rfl rfl ?_
    refine m_getF (x := (a1 + 1)) hp fw_X10_207 dX10_ratioAt_23 rfl t1 (ff_11_1 t1) ?_
    refine r_iload_n dX10_ratioAt_26 rfl rfl ?_
    refine r_iload_n dX10_ratioAt_27 rfl rfl ?_
    refine k_VI (As := [.ref (a1 + 1), .int x2, .int x3]) (stk := []) hp cv_X10_674 dX10_ratioAt_28 rfl (Nat.le_of_ble_eq_true rfl) ly_10 (H.mono (fun v2 h2 H => ?_)) ⟨Nat.le_refl _, Nat.le_refl _⟩
    refine r_iload dX10_ratioAt_31 rfl ?_
    refine k_SI (As := [.int v1]) (stk := [.int v2]) cs_X10_13 dX10_ratioAt_33 rfl (Nat.le_of_ble_eq_true rfl) (H.mono (fun v3 h3 H => ?_)) ⟨Nat.le_refl _, Nat.le_refl _⟩
    refine k_SI (As := [.int v2, .int v3]) (stk := []) cs_X10_56 dX10_ratioAt_36 rfl (Nat.le_of_ble_eq_true rfl) (H.mono (fun v4 h4 H => ?_)) ⟨Nat.le_refl _, Nat.le_refl _⟩
    exact r_zret dX10_ratioAt_39 rfl rfl (Nat.le_refl _) (Nat.le_refl _) H
  · replace H := H.2 cH
    refine r_iconst (v := (-1 : Int32)) dX10_ratioAt_17 rfl ?_
    refine r_goto (tgt := 39) dX10_ratioAt_18 rfl ?_
    exact r_zret dX10_ratioAt_39 rfl rfl (Nat.le_refl _) (Nat.le_refl _) H
abbrev W_X10_cells (g : GX) (d : Nat) (av : List Value) (Q : QT) (n : Nat) (pc : Nat) (ls : LV) (stk : List Value) (h : Hp) : Prop := RJ g m_X10_cells d 0 0 av Q pc ls stk n h 0 0
theorem s_X10_cells_0 {g : GX} {d : Nat} {av : List Value} {Q : QT} {n : Nat} {h : Hp} {a1 : Nat} {L1 : Nat} {x2 : Int32} {x3 : Int32} (hp : g.2.2.2.2 = true) (t1 : lay a1 = (1, L1, 0)) (H : W_X10_cells g d av Q n 7 [none, some (.ref a1), some (.int x2), some (.int x3), some (.long (0 : Int64)), none, some (.int (12 : Int32)), none, none, none] [] h) : W_X10_cells g d av Q n 0 [some (.ref 2759), some (.ref a1), some (.int x2), some (.int x3), none, none, none, none, none, none] [] h := by
  refine r_lconst (v := (0 : Int64)) dX10_cells_0 rfl ?_
  refine r_lstore (ls2 := [some (.ref 2759), some (.ref a1), some (.int x2), some (.int x3), some (.long (0 : Int64)), none, none, none, none, none]) dX10_cells_1 (by decide) rfl ?_
  refine r_bipush (v := (12 : Int32)) dX10_cells_3 rfl ?_
  refine r_istore (ls2 := [some (.ref 2759), some (.ref a1), some (.int x2), some (.int x3), some (.long (0 : Int64)), none, some (.int (12 : Int32)), none, none, none]) dX10_cells_5 (by decide) rfl ?_
  refine r_prune [false, true, true, true, true, false, true, false, false, false] (ls2 := [none, some (.ref a1), some (.int x2), some (.int x3), some (.long (0 : Int64)), none, some (.int (12 : Int32)), none, none, none]) rfl ?_
  exact H
theorem s_X10_cells_7 {g : GX} {d : Nat} {av : List Value} {Q : QT} {n : Nat} {h : Hp} {a1 : Nat} {L1 : Nat} {x2 : Int32} {x3 : Int32} {y4 : Int64} {x6 : Int32} (hp : g.2.2.2.2 = true) (t1 : lay a1 = (1, L1, 0)) (H : ((x6 < (0 : Int32)) → (Q (some (.int (y4).toInt32)) n h)) ∧ ((¬ x6 < (0 : Int32)) → (W_X10_cells g d av Q n 19 [none, some (.ref a1), some (.int x2), some (.int x3), some (.long y4), none, some (.int x6), some (.long (0 : Int64)), none, some (.int (24 : Int32))] [] h))) : W_X10_cells g d av Q n 7 [none, some (.ref a1), some (.int x2), some (.int x3), some (.long y4), none, some (.int x6), none, none, none] [] h := by
  refine r_iload dX10_cells_7 rfl ?_
  refine r_if_lt (tgt := 73) dX10_cells_9 rfl (fun cH => ?_) (fun cH => ?_)
  · replace H := H.1 cH
    refine r_lload dX10_cells_73 rfl ?_
    refine r_l2i dX10_cells_75 ?_
    exact r_zret dX10_cells_76 rfl rfl (Nat.le_refl _) (Nat.le_refl _) H
  · replace H := H.2 cH
    refine r_lconst (v := (0 : Int64)) dX10_cells_12 rfl ?_
    refine r_lstore (ls2 := [none, some (.ref a1), some (.int x2), some (.int x3), some (.long y4), none, some (.int x6), some (.long (0 : Int64)), none, none]) dX10_cells_13 (by decide) rfl ?_
    refine r_bipush (v := (24 : Int32)) dX10_cells_15 rfl ?_
    refine r_istore (ls2 := [none, some (.ref a1), some (.int x2), some (.int x3), some (.long y4), none, some (.int x6), some (.long (0 : Int64)), none, some (.int (24 : Int32))]) dX10_cells_17 (by decide) rfl ?_
    exact H
theorem s_X10_cells_19 {g : GX} {d : Nat} {av : List Value} {Q : QT} {n : Nat} {h : Hp} {a1 : Nat} {L1 : Nat} {x2 : Int32} {x3 : Int32} {y4 : Int64} {x6 : Int32} {y7 : Int64} {x9 : Int32} (hp : g.2.2.2.2 = true) (t1 : lay a1 = (1, L1, 0)) (H : ((x9 < (0 : Int32)) → (W_X10_cells g d av Q n 7 [none, some (.ref a1), some (.int x2), some (.int x3), some (.long (((y4 * (x3).toInt64) + y7) - ((y4 * (x3).toInt64) + y7) / (2147483647 : Int64) * (2147483647 : Int64))), none, some (.int (x6 + (-1 : Int32))), none, none, none] [] h)) ∧ ((¬ x9 < (0 : Int32)) → (vp_in (((25 : Int32) * x6) + x9) L1 ∧ (W_X10_cells g d av Q n 19 [none, some (.ref a1), some (.int x2), some (.int x3), some (.long y4), none, some (.int x6), some (.long (((y7 * (x2).toInt64) + ((ri h a1 ((((25 : Int32) * x6) + x9)).toNatClampNeg)).toInt64) - ((y7 * (x2).toInt64) + ((ri h a1 ((((25 : Int32) * x6) + x9)).toNatClampNeg)).toInt64) / (2147483647 : Int64) * (2147483647 : Int64))), none, some (.int (x9 + (-1 : Int32)))] [] h)))) : W_X10_cells g d av Q n 19 [none, some (.ref a1), some (.int x2), some (.int x3), some (.long y4), none, some (.int x6), some (.long y7), none, some (.int x9)] [] h := by
  refine r_iload dX10_cells_19 rfl ?_
  refine r_if_lt (tgt := 53) dX10_cells_21 rfl (fun cH => ?_) (fun cH => ?_)
  · replace H := H.1 cH
    refine r_lload dX10_cells_53 rfl ?_
    refine r_iload_n dX10_cells_55 rfl rfl ?_
    refine r_i2l dX10_cells_56 ?_
    refine r_lmul dX10_cells_57 ?_
    refine r_lload dX10_cells_58 rfl ?_
    refine r_ladd dX10_cells_60 ?_
    refine r_ldc2 (own := "") (v := (2147483647 : Int64)) dX10_cells_61 q2239 ?_
    refine r_lrem dX10_cells_64 (by decide) ?_
    refine r_lstore (ls2 := [none, some (.ref a1), some (.int x2), some (.int x3), some (.long (((y4 * (x3).toInt64) + y7) - ((y4 * (x3).toInt64) + y7) / (2147483647 : Int64) * (2147483647 : Int64))), none, some (.int x6), some (.long y7), none, some (.int x9)]) dX10_cells_65 (by decide) rfl ?_
    refine r_iinc (v := (x6 + (-1 : Int32))) (ls2 := [none, some (.ref a1), some (.int x2), some (.int x3), some (.long (((y4 * (x3).toInt64) + y7) - ((y4 * (x3).toInt64) + y7) / (2147483647 : Int64) * (2147483647 : Int64))), none, some (.int (x6 + (-1 : Int32))), some (.long y7), none, some (.int x9)]) dX10_cells_67 rfl rfl (by decide) rfl ?_
    refine r_goto (tgt := 7) dX10_cells_70 rfl ?_
    refine r_prune [false, true, true, true, true, false, true, false, false, false] (ls2 := [none, some (.ref a1), some (.int x2), some (.int x3), some (.long (((y4 * (x3).toInt64) + y7) - ((y4 * (x3).toInt64) + y7) / (2147483647 : Int64) * (2147483647 : Int64))), none, some (.int (x6 + (-1 : Int32))), none, none, none]) rfl ?_
    exact H
  · replace H := H.2 cH
    refine r_lload dX10_cells_24 rfl ?_
    refine r_iload_n dX10_cells_26 rfl rfl ?_
    refine r_i2l dX10_cells_27 ?_
    refine r_lmul dX10_cells_28 ?_
    refine r_aload_n dX10_cells_29 rfl rfl ?_
    refine r_bipush (v := (25 : Int32)) dX10_cells_30 rfl ?_
    refine r_iload dX10_cells_32 rfl ?_
    refine r_imul dX10_cells_34 ?_
    refine r_iload dX10_cells_35 rfl ?_
    refine r_iadd dX10_cells_37 ?_
    refine m_iald hp dX10_cells_38 t1 H.1 ?_
    replace H := H.2
    refine r_i2l dX10_cells_39 ?_
    refine r_ladd dX10_cells_40 ?_
    refine r_ldc2 (own := "") (v := (2147483647 : Int64)) dX10_cells_41 q2239 ?_
    refine r_lrem dX10_cells_44 (by decide) ?_
    refine r_lstore (ls2 := [none, some (.ref a1), some (.int x2), some (.int x3), some (.long y4), none, some (.int x6), some (.long (((y7 * (x2).toInt64) + ((ri h a1 ((((25 : Int32) * x6) + x9)).toNatClampNeg)).toInt64) - ((y7 * (x2).toInt64) + ((ri h a1 ((((25 : Int32) * x6) + x9)).toNatClampNeg)).toInt64) / (2147483647 : Int64) * (2147483647 : Int64))), none, some (.int x9)]) dX10_cells_45 (by decide) rfl ?_
    refine r_iinc (v := (x9 + (-1 : Int32))) (ls2 := [none, some (.ref a1), some (.int x2), some (.int x3), some (.long y4), none, some (.int x6), some (.long (((y7 * (x2).toInt64) + ((ri h a1 ((((25 : Int32) * x6) + x9)).toNatClampNeg)).toInt64) - ((y7 * (x2).toInt64) + ((ri h a1 ((((25 : Int32) * x6) + x9)).toNatClampNeg)).toInt64) / (2147483647 : Int64) * (2147483647 : Int64))), none, some (.int (x9 + (-1 : Int32)))]) dX10_cells_47 rfl rfl (by decide) rfl ?_
    refine r_goto (tgt := 19) dX10_cells_50 rfl ?_
    exact H
abbrev W_X10_isWhole (g : GX) (d : Nat) (av : List Value) (Q : QT) (n : Nat) (pc : Nat) (ls : LV) (stk : List Value) (h : Hp) : Prop := RJ g m_X10_isWhole d 0 0 av Q pc ls stk n h 0 0
theorem s_X10_isWhole_0 {g : GX} {d : Nat} {av : List Value} {Q : QT} {n : Nat} {h : Hp} {x0 : Int32} (hp : g.2.2.2.2 = true)  (H : ((x0 < (0 : Int32)) → (Q (some (.int (0 : Int32))) n h)) ∧ ((¬ x0 < (0 : Int32)) → ((((500 : Int32) < x0) → (Q (some (.int (0 : Int32))) n h)) ∧ ((¬ (500 : Int32) < x0) → (Q (some (.int (1 : Int32))) n h))))) : W_X10_isWhole g d av Q n 0 [some (.int x0)] [] h := by
  refine r_iload_n dX10_isWhole_0 rfl rfl ?_
  refine r_if_lt (tgt := 15) dX10_isWhole_1 rfl (fun cH => ?_) (fun cH => ?_)
  · replace H := H.1 cH
    refine r_iconst (v := (0 : Int32)) dX10_isWhole_15 rfl ?_
    exact r_zret dX10_isWhole_16 rfl rfl (Nat.le_refl _) (Nat.le_refl _) H
  · replace H := H.2 cH
    refine r_iload_n dX10_isWhole_4 rfl rfl ?_
    refine r_sipush (v := (500 : Int32)) dX10_isWhole_5 rfl ?_
    refine r_icmp_gt (tgt := 15) dX10_isWhole_8 rfl (fun cH => ?_) (fun cH => ?_)
    · replace H := H.1 cH
      refine r_iconst (v := (0 : Int32)) dX10_isWhole_15 rfl ?_
      exact r_zret dX10_isWhole_16 rfl rfl (Nat.le_refl _) (Nat.le_refl _) H
    · replace H := H.2 cH
      refine r_iconst (v := (1 : Int32)) dX10_isWhole_11 rfl ?_
      refine r_goto (tgt := 16) dX10_isWhole_12 rfl ?_
      exact r_zret dX10_isWhole_16 rfl rfl (Nat.le_refl _) (Nat.le_refl _) H
abbrev W_X10_factorialOf (g : GX) (d : Nat) (av : List Value) (Q : QT) (n : Nat) (pc : Nat) (ls : LV) (stk : List Value) (h : Hp) : Prop := RJ g m_X10_factorialOf (d + 1) 0 0 av Q pc ls stk n h 0 0
theorem s_X10_factorialOf_0 {g : GX} {d : Nat} {av : List Value} {Q : QT} {n : Nat} {h : Hp} {x1 : Int32} (hp : g.2.2.2.2 = true)  (H : W_X10_factorialOf g d av Q n 4 [none, some (.int x1), some (.int (1 : Int32)), some (.int (2 : Int32))] [] h) : W_X10_factorialOf g d av Q n 0 [some (.ref 2759), some (.int x1), none, none] [] h := by
  refine r_iconst (v := (1 : Int32)) dX10_factorialOf_0 rfl ?_
  refine r_istore_n (ls2 := [some (.ref 2759), some (.int x1), some (.int (1 : Int32)), none]) dX10_factorialOf_1 rfl (by decide) rfl ?_
  refine r_iconst (v := (2 : Int32)) dX10_factorialOf_2 rfl ?_
  refine r_istore_n (ls2 := [some (.ref 2759), some (.int x1), some (.int (1 : Int32)), some (.int (2 : Int32))]) dX10_factorialOf_3 rfl (by decide) rfl ?_
  refine r_prune [false, true, true, true] (ls2 := [none, some (.int x1), some (.int (1 : Int32)), some (.int (2 : Int32))]) rfl ?_
  exact H
theorem s_X10_factorialOf_4 {g : GX} {d : Nat} {av : List Value} {Q : QT} {n : Nat} {h : Hp} {x1 : Int32} {x2 : Int32} {x3 : Int32} (hp : g.2.2.2.2 = true)  (H : ((x1 < x3) → (Q (some (.int x2)) n h)) ∧ ((¬ x1 < x3) → (CallI g m_X10_mul d [.int x2, .int x3] n h (fun v1 h1 => (W_X10_factorialOf g d av Q n 4 [none, some (.int x1), some (.int v1), some (.int (x3 + (1 : Int32)))] [] h1))))) : W_X10_factorialOf g d av Q n 4 [none, some (.int x1), some (.int x2), some (.int x3)] [] h := by
  refine r_iload_n dX10_factorialOf_4 rfl rfl ?_
  refine r_iload_n dX10_factorialOf_5 rfl rfl ?_
  refine r_icmp_gt (tgt := 21) dX10_factorialOf_6 rfl (fun cH => ?_) (fun cH => ?_)
  · replace H := H.1 cH
    refine r_iload_n dX10_factorialOf_21 rfl rfl ?_
    exact r_zret dX10_factorialOf_22 rfl rfl (Nat.le_refl _) (Nat.le_refl _) H
  · replace H := H.2 cH
    refine r_iload_n dX10_factorialOf_9 rfl rfl ?_
    refine r_iload_n dX10_factorialOf_10 rfl rfl ?_
    refine k_SI (As := [.int x2, .int x3]) (stk := []) cs_X10_56 dX10_factorialOf_11 rfl (Nat.le_of_ble_eq_true rfl) (H.mono (fun v1 h1 H => ?_)) ⟨Nat.le_refl _, Nat.le_refl _⟩
    refine r_istore_n (ls2 := [none, some (.int x1), some (.int v1), some (.int x3)]) dX10_factorialOf_14 rfl (by decide) rfl ?_
    refine r_iinc (v := (x3 + (1 : Int32))) (ls2 := [none, some (.int x1), some (.int v1), some (.int (x3 + (1 : Int32)))]) dX10_factorialOf_15 rfl rfl (by decide) rfl ?_
    refine r_goto (tgt := 4) dX10_factorialOf_18 rfl ?_
    exact H
abbrev W_X10_sum_2 (g : GX) (d : Nat) (av : List Value) (Q : QT) (n : Nat) (pc : Nat) (ls : LV) (stk : List Value) (h : Hp) : Prop := RJ g m_X10_sum_2 (d + 1) 0 0 av Q pc ls stk n h 0 0
theorem s_X10_sum_2_0 {g : GX} {d : Nat} {av : List Value} {Q : QT} {n : Nat} {h : Hp} {x1 : Int32} {x2 : Int32} {x3 : Int32} {x4 : Int32} (hp : g.2.2.2.2 = true)  (H : CallI g m_X10_isSlot d [.int x1] n h (fun v1 h1 => (((¬ v1 = (0 : Int32)) → (vp_in x1 12 ∧ ∀ r2, r2 = 10245 + 9 * (x1).toNatClampNeg → ((((ri h1 r2 0) = (1 : Int32)) → (W_X10_sum_2 g d av Q n 38 [some (.ref 2759), none, some (.int x2), some (.int x3), some (.int x4), some (.ref r2)] [] h1)) ∧ ((¬ (ri h1 r2 0) = (1 : Int32)) → ((((ri h1 r2 0) = (2 : Int32)) → (W_X10_sum_2 g d av Q n 38 [some (.ref 2759), none, some (.int x2), some (.int x3), some (.int x4), some (.ref r2)] [] h1)) ∧ ((¬ (ri h1 r2 0) = (2 : Int32)) → (Q (some (.int (-3 : Int32))) n h1))))))) ∧ ((v1 = (0 : Int32)) → (Q (some (.int (-1 : Int32))) n h1))))) : W_X10_sum_2 g d av Q n 0 [some (.ref 2759), some (.int x1), some (.int x2), some (.int x3), some (.int x4), none] [] h := by
  refine r_iload_n dX10_sum_2_0 rfl rfl ?_
  refine k_SI (As := [.int x1]) (stk := []) cs_X10_551 dX10_sum_2_1 rfl (Nat.le_of_ble_eq_true rfl) (H.mono (fun v1 h1 H => ?_)) ⟨Nat.le_refl _, Nat.le_refl _⟩
  refine r_if_ne (tgt := 9) dX10_sum_2_4 rfl (fun cH => ?_) (fun cH => ?_)
  · replace H := H.1 cH
    refine r_aload_n dX10_sum_2_9 rfl rfl ?_
    refine m_getF (x := 2841) hp fw_X10_450 dX10_sum_2_10 rfl ly_10 (ff_10_20 ly_10) ?_
    refine r_iload_n dX10_sum_2_13 rfl rfl ?_
    obtain ⟨r2, er2⟩ : ∃ y, y = 10245 + 9 * (x1).toNatClampNeg := ⟨_, rfl⟩
    have hir2 := H.1
    replace H := H.2 r2 er2
    have tLr2 := la_2841 hir2 er2
    refine m_aalF (x := r2) hp dX10_sum_2_14 (lf_10_20 ly_10) rfl rfl (lu_10_20 ly_10) hir2 (fa_2841 hir2 er2) ?_
    refine r_astore (ls2 := [some (.ref 2759), some (.int x1), some (.int x2), some (.int x3), some (.int x4), some (.ref r2)]) dX10_sum_2_15 (by decide) rfl ?_
    refine r_aload dX10_sum_2_17 rfl ?_
    refine m_getI hp fw_X10_202 dX10_sum_2_19 rfl tLr2 ?_
    refine r_iconst (v := (1 : Int32)) dX10_sum_2_22 rfl ?_
    refine r_icmp_eq (tgt := 38) dX10_sum_2_23 rfl (fun cH => ?_) (fun cH => ?_)
    · replace H := H.1 cH
      refine r_prune [true, false, true, true, true, true] (ls2 := [some (.ref 2759), none, some (.int x2), some (.int x3), some (.int x4), some (.ref r2)]) rfl ?_
      exact H
    · replace H := H.2 cH
      refine r_aload dX10_sum_2_26 rfl ?_
      refine m_getI hp fw_X10_202 dX10_sum_2_28 rfl tLr2 ?_
      refine r_iconst (v := (2 : Int32)) dX10_sum_2_31 rfl ?_
      refine r_icmp_eq (tgt := 38) dX10_sum_2_32 rfl (fun cH => ?_) (fun cH => ?_)
      · replace H := H.1 cH
        refine r_prune [true, false, true, true, true, true] (ls2 := [some (.ref 2759), none, some (.int x2), some (.int x3), some (.int x4), some (.ref r2)]) rfl ?_
        exact H
      · replace H := H.2 cH
        refine r_bipush (v := (-3 : Int32)) dX10_sum_2_35 rfl ?_
        exact r_zret dX10_sum_2_37 rfl rfl (Nat.le_refl _) (Nat.le_refl _) H
  · replace H := H.2 cH
    refine r_iconst (v := (-1 : Int32)) dX10_sum_2_7 rfl ?_
    exact r_zret dX10_sum_2_8 rfl rfl (Nat.le_refl _) (Nat.le_refl _) H
theorem s_X10_sum_2_38 {g : GX} {d : Nat} {av : List Value} {Q : QT} {n : Nat} {h : Hp} {x2 : Int32} {x3 : Int32} {x4 : Int32} {a5 : Nat} (hp : g.2.2.2.2 = true) (t5 : lay a5 = (0, 11, 15)) (H : CallI g m_X10_isWhole d [.int x2] n h (fun v1 h1 => (((v1 = (0 : Int32)) → (Q (some (.int (-1 : Int32))) n h1)) ∧ ((¬ v1 = (0 : Int32)) → (CallI g m_X10_isWhole d [.int x3] n h1 (fun v2 h2 => (((v2 = (0 : Int32)) → (Q (some (.int (-1 : Int32))) n h2)) ∧ ((¬ v2 = (0 : Int32)) → (CallI g m_X10_isWhole d [.int x4] n h2 (fun v3 h3 => (((v3 = (0 : Int32)) → (Q (some (.int (-1 : Int32))) n h3)) ∧ ((¬ v3 = (0 : Int32)) → (CallI g m_X10_sumOf d [.ref 2759, .ref a5, .int x2, .int x3, .int x4] n h3 (fun v4 h4 => (Q (some (.int v4)) n h4))))))))))))))) : W_X10_sum_2 g d av Q n 38 [some (.ref 2759), none, some (.int x2), some (.int x3), some (.int x4), some (.ref a5)] [] h := by
  refine r_iload_n dX10_sum_2_38 rfl rfl ?_
  refine k_SI (As := [.int x2]) (stk := []) cs_X10_682 dX10_sum_2_39 rfl (Nat.le_of_ble_eq_true rfl) (H.mono (fun v1 h1 H => ?_)) ⟨Nat.le_refl _, Nat.le_refl _⟩
  refine r_if_eq (tgt := 73) dX10_sum_2_42 rfl (fun cH => ?_) (fun cH => ?_)
  · replace H := H.1 cH
    refine r_iconst (v := (-1 : Int32)) dX10_sum_2_73 rfl ?_
    exact r_zret dX10_sum_2_74 rfl rfl (Nat.le_refl _) (Nat.le_refl _) H
  · replace H := H.2 cH
    refine r_iload_n dX10_sum_2_45 rfl rfl ?_
    refine k_SI (As := [.int x3]) (stk := []) cs_X10_682 dX10_sum_2_46 rfl (Nat.le_of_ble_eq_true rfl) (H.mono (fun v2 h2 H => ?_)) ⟨Nat.le_refl _, Nat.le_refl _⟩
    refine r_if_eq (tgt := 73) dX10_sum_2_49 rfl (fun cH => ?_) (fun cH => ?_)
    · replace H := H.1 cH
      refine r_iconst (v := (-1 : Int32)) dX10_sum_2_73 rfl ?_
      exact r_zret dX10_sum_2_74 rfl rfl (Nat.le_refl _) (Nat.le_refl _) H
    · replace H := H.2 cH
      refine r_iload dX10_sum_2_52 rfl ?_
      refine k_SI (As := [.int x4]) (stk := []) cs_X10_682 dX10_sum_2_54 rfl (Nat.le_of_ble_eq_true rfl) (H.mono (fun v3 h3 H => ?_)) ⟨Nat.le_refl _, Nat.le_refl _⟩
      refine r_if_eq (tgt := 73) dX10_sum_2_57 rfl (fun cH => ?_) (fun cH => ?_)
      · replace H := H.1 cH
        refine r_iconst (v := (-1 : Int32)) dX10_sum_2_73 rfl ?_
        exact r_zret dX10_sum_2_74 rfl rfl (Nat.le_refl _) (Nat.le_refl _) H
      · replace H := H.2 cH
        refine r_aload_n dX10_sum_2_60 rfl rfl ?_
        refine r_aload dX10_sum_2_61 rfl ?_
        refine r_iload_n dX10_sum_2_63 rfl rfl ?_
        refine r_iload_n dX10_sum_2_64 rfl rfl ?_
        refine r_iload dX10_sum_2_65 rfl ?_
        refine k_VI (As := [.ref a5, .int x2, .int x3, .int x4]) (stk := []) hp cv_X10_691 dX10_sum_2_67 rfl (Nat.le_of_ble_eq_true rfl) ly_10 (H.mono (fun v4 h4 H => ?_)) ⟨Nat.le_refl _, Nat.le_refl _⟩
        refine r_goto (tgt := 74) dX10_sum_2_70 rfl ?_
        exact r_zret dX10_sum_2_74 rfl rfl (Nat.le_refl _) (Nat.le_refl _) H
abbrev W_X10_sumOf (g : GX) (d : Nat) (av : List Value) (Q : QT) (n : Nat) (pc : Nat) (ls : LV) (stk : List Value) (h : Hp) : Prop := RJ g m_X10_sumOf (d + 1) 0 0 av Q pc ls stk n h 0 0
theorem s_X10_sumOf_0 {g : GX} {d : Nat} {av : List Value} {Q : QT} {n : Nat} {h : Hp} {a1 : Nat} {x2 : Int32} {x3 : Int32} {x4 : Int32} (hp : g.2.2.2.2 = true) (t1 : lay a1 = (0, 11, 15)) (H : W_X10_sumOf g d av Q n 6 [some (.ref 2759), some (.ref a1), some (.int x2), none, some (.int x4), some (.int (0 : Int32)), some (.int x3), none] [] h) : W_X10_sumOf g d av Q n 0 [some (.ref 2759), some (.ref a1), some (.int x2), some (.int x3), some (.int x4), none, none, none] [] h := by
  refine r_iconst (v := (0 : Int32)) dX10_sumOf_0 rfl ?_
  refine r_istore (ls2 := [some (.ref 2759), some (.ref a1), some (.int x2), some (.int x3), some (.int x4), some (.int (0 : Int32)), none, none]) dX10_sumOf_1 (by decide) rfl ?_
  refine r_iload_n dX10_sumOf_3 rfl rfl ?_
  refine r_istore (ls2 := [some (.ref 2759), some (.ref a1), some (.int x2), some (.int x3), some (.int x4), some (.int (0 : Int32)), some (.int x3), none]) dX10_sumOf_4 (by decide) rfl ?_
  refine r_prune [true, true, true, false, true, true, true, false] (ls2 := [some (.ref 2759), some (.ref a1), some (.int x2), none, some (.int x4), some (.int (0 : Int32)), some (.int x3), none]) rfl ?_
  exact H
theorem s_X10_sumOf_6 {g : GX} {d : Nat} {av : List Value} {Q : QT} {n : Nat} {h : Hp} {a1 : Nat} {x2 : Int32} {x4 : Int32} {x5 : Int32} {x6 : Int32} (hp : g.2.2.2.2 = true) (t1 : lay a1 = (0, 11, 15)) (H : ((x4 < x6) → (Q (some (.int x5)) n h)) ∧ ((¬ x4 < x6) → (CallI g m_X10_valueAt d [.ref 2759, .ref a1, .int x2, .int x6] n h (fun v1 h1 => (((¬ v1 = (-1 : Int32)) → (CallI g m_X10_add d [.int x5, .int v1] n h1 (fun v2 h2 => (W_X10_sumOf g d av Q n 6 [some (.ref 2759), some (.ref a1), some (.int x2), none, some (.int x4), some (.int v2), some (.int (x6 + (1 : Int32))), none] [] h2)))) ∧ ((v1 = (-1 : Int32)) → (Q (some (.int (-1 : Int32))) n h1))))))) : W_X10_sumOf g d av Q n 6 [some (.ref 2759), some (.ref a1), some (.int x2), none, some (.int x4), some (.int x5), some (.int x6), none] [] h := by
  refine r_iload dX10_sumOf_6 rfl ?_
  refine r_iload dX10_sumOf_8 rfl ?_
  refine r_icmp_gt (tgt := 46) dX10_sumOf_10 rfl (fun cH => ?_) (fun cH => ?_)
  · replace H := H.1 cH
    refine r_iload dX10_sumOf_46 rfl ?_
    exact r_zret dX10_sumOf_48 rfl rfl (Nat.le_refl _) (Nat.le_refl _) H
  · replace H := H.2 cH
    refine r_aload_n dX10_sumOf_13 rfl rfl ?_
    refine r_aload_n dX10_sumOf_14 rfl rfl ?_
    refine r_iload_n dX10_sumOf_15 rfl rfl ?_
    refine r_iload dX10_sumOf_16 rfl ?_
    refine k_VI (As := [.ref a1, .int x2, .int x6]) (stk := []) hp cv_X10_688 dX10_sumOf_18 rfl (Nat.le_of_ble_eq_true rfl) ly_10 (H.mono (fun v1 h1 H => ?_)) ⟨Nat.le_refl _, Nat.le_refl _⟩
    refine r_istore (ls2 := [some (.ref 2759), some (.ref a1), some (.int x2), none, some (.int x4), some (.int x5), some (.int x6), some (.int v1)]) dX10_sumOf_21 (by decide) rfl ?_
    refine r_iload dX10_sumOf_23 rfl ?_
    refine r_iconst (v := (-1 : Int32)) dX10_sumOf_25 rfl ?_
    refine r_icmp_ne (tgt := 31) dX10_sumOf_26 rfl (fun cH => ?_) (fun cH => ?_)
    · replace H := H.1 cH
      refine r_iload dX10_sumOf_31 rfl ?_
      refine r_iload dX10_sumOf_33 rfl ?_
      refine k_SI (As := [.int x5, .int v1]) (stk := []) cs_X10_49 dX10_sumOf_35 rfl (Nat.le_of_ble_eq_true rfl) (H.mono (fun v2 h2 H => ?_)) ⟨Nat.le_refl _, Nat.le_refl _⟩
      refine r_istore (ls2 := [some (.ref 2759), some (.ref a1), some (.int x2), none, some (.int x4), some (.int v2), some (.int x6), some (.int v1)]) dX10_sumOf_38 (by decide) rfl ?_
      refine r_iinc (v := (x6 + (1 : Int32))) (ls2 := [some (.ref 2759), some (.ref a1), some (.int x2), none, some (.int x4), some (.int v2), some (.int (x6 + (1 : Int32))), some (.int v1)]) dX10_sumOf_40 rfl rfl (by decide) rfl ?_
      refine r_goto (tgt := 6) dX10_sumOf_43 rfl ?_
      refine r_prune [true, true, true, false, true, true, true, false] (ls2 := [some (.ref 2759), some (.ref a1), some (.int x2), none, some (.int x4), some (.int v2), some (.int (x6 + (1 : Int32))), none]) rfl ?_
      exact H
    · replace H := H.2 cH
      refine r_iconst (v := (-1 : Int32)) dX10_sumOf_29 rfl ?_
      exact r_zret dX10_sumOf_30 rfl rfl (Nat.le_refl _) (Nat.le_refl _) H
abbrev W_X10_form (g : GX) (d : Nat) (av : List Value) (Q : QT) (n : Nat) (pc : Nat) (ls : LV) (stk : List Value) (h : Hp) : Prop := RJ g m_X10_form (d + 1) 0 0 av Q pc ls stk n h 0 0
theorem s_X10_form_0 {g : GX} {d : Nat} {av : List Value} {Q : QT} {n : Nat} {h : Hp} {x1 : Int32} {x2 : Int32} {x3 : Int32} (hp : g.2.2.2.2 = true)  (H : CallI g m_X10_isSlot d [.int x1] n h (fun v1 h1 => (((v1 = (0 : Int32)) → (Q (some (.int (-1 : Int32))) n h1)) ∧ ((¬ v1 = (0 : Int32)) → (CallI g m_X10_isSlot d [.int x3] n h1 (fun v2 h2 => (((¬ v2 = (0 : Int32)) → (vp_in x1 12 ∧ ∀ r3, r3 = 10245 + 9 * (x1).toNatClampNeg → ((((ri h2 r3 0) = (1 : Int32)) → (((x2 < (0 : Int32)) → (Q (some (.int (-1 : Int32))) n h2)) ∧ ((¬ x2 < (0 : Int32)) → ((((2 : Int32) < x2) → (Q (some (.int (-1 : Int32))) n h2)) ∧ ((¬ (2 : Int32) < x2) → (CallI g m_X10_isZero d [.ref r3] n h2 (fun v4 h4 => (((v4 = (0 : Int32)) → (CallV g m_X10_begin d [.ref 2759] n h4 (fun h5 => (CallR g m_X10_newB d [.ref 2759] n h5 (fun v6 h6 => (lay v6 = (0, 14, 2) ∧ (CallR g m_X10_newB d [.ref 2759] n h6 (fun v7 h7 => (lay v7 = (0, 14, 2) ∧ (CallV g m_X10_load d [.ref v6, .ref (r3 + 1)] n h7 (fun h8 => (CallV g m_X10_load d [.ref v7, .ref (r3 + 2)] n h8 (fun h9 => (CallI g m_X10_form_2 d [.ref 2759, .ref v6, .ref v7] n h9 (fun v10 h10 => (((¬ v10 = (0 : Int32)) → (CallR g m_X10_newB d [.ref 2759] n h10 (fun v11 h11 => (lay v11 = (0, 14, 2) ∧ (CallR g m_X10_newB d [.ref 2759] n h11 (fun v12 h12 => (lay v12 = (0, 14, 2) ∧ (((¬ x2 = (0 : Int32)) → (((¬ x2 = (1 : Int32)) → (∃ r13, rr h12 2759 41 = some r13 ∧ lay r13 = (0, 14, 2) ∧ (W_X10_form g d av Q n 144 [some (.ref 2759), none, some (.int x2), some (.int x3), none, none, none, some (.ref v11), some (.ref v12), none] [.ref r13] h12))) ∧ ((x2 = (1 : Int32)) → (∃ r14, rr h12 2759 40 = some r14 ∧ lay r14 = (0, 14, 2) ∧ (W_X10_form g d av Q n 144 [some (.ref 2759), none, some (.int x2), some (.int x3), none, none, none, some (.ref v11), some (.ref v12), none] [.ref r14] h12))))) ∧ ((x2 = (0 : Int32)) → (∃ r15, rr h12 2759 39 = some r15 ∧ lay r15 = (0, 14, 2) ∧ (W_X10_form g d av Q n 144 [some (.ref 2759), none, some (.int x2), some (.int x3), none, none, none, some (.ref v11), some (.ref v12), none] [.ref r15] h12))))))))))) ∧ ((v10 = (0 : Int32)) → (Q (some (.int (-2 : Int32))) n h10)))))))))))))))))) ∧ ((¬ v4 = (0 : Int32)) → (Q (some (.int (-1 : Int32))) n h4)))))))))) ∧ ((¬ (ri h2 r3 0) = (1 : Int32)) → (Q (some (.int (-3 : Int32))) n h2))))) ∧ ((v2 = (0 : Int32)) → (Q (some (.int (-1 : Int32))) n h2))))))))) : W_X10_form g d av Q n 0 [some (.ref 2759), some (.int x1), some (.int x2), some (.int x3), none, none, none, none, none, none] [] h := by
  refine r_iload_n dX10_form_0 rfl rfl ?_
  refine k_SI (As := [.int x1]) (stk := []) cs_X10_551 dX10_form_1 rfl (Nat.le_of_ble_eq_true rfl) (H.mono (fun v1 h1 H => ?_)) ⟨Nat.le_refl _, Nat.le_refl _⟩
  refine r_if_eq (tgt := 14) dX10_form_4 rfl (fun cH => ?_) (fun cH => ?_)
  · replace H := H.1 cH
    refine r_iconst (v := (-1 : Int32)) dX10_form_14 rfl ?_
    exact r_zret dX10_form_15 rfl rfl (Nat.le_refl _) (Nat.le_refl _) H
  · replace H := H.2 cH
    refine r_iload_n dX10_form_7 rfl rfl ?_
    refine k_SI (As := [.int x3]) (stk := []) cs_X10_551 dX10_form_8 rfl (Nat.le_of_ble_eq_true rfl) (H.mono (fun v2 h2 H => ?_)) ⟨Nat.le_refl _, Nat.le_refl _⟩
    refine r_if_ne (tgt := 16) dX10_form_11 rfl (fun cH => ?_) (fun cH => ?_)
    · replace H := H.1 cH
      refine r_aload_n dX10_form_16 rfl rfl ?_
      refine m_getF (x := 2841) hp fw_X10_450 dX10_form_17 rfl ly_10 (ff_10_20 ly_10) ?_
      refine r_iload_n dX10_form_20 rfl rfl ?_
      obtain ⟨r3, er3⟩ : ∃ y, y = 10245 + 9 * (x1).toNatClampNeg := ⟨_, rfl⟩
      have hir3 := H.1
      replace H := H.2 r3 er3
      have tLr3 := la_2841 hir3 er3
      refine m_aalF (x := r3) hp dX10_form_21 (lf_10_20 ly_10) rfl rfl (lu_10_20 ly_10) hir3 (fa_2841 hir3 er3) ?_
      refine r_astore (ls2 := [some (.ref 2759), some (.int x1), some (.int x2), some (.int x3), some (.ref r3), none, none, none, none, none]) dX10_form_22 (by decide) rfl ?_
      refine r_aload dX10_form_24 rfl ?_
      refine m_getI hp fw_X10_202 dX10_form_26 rfl tLr3 ?_
      refine r_iconst (v := (1 : Int32)) dX10_form_29 rfl ?_
      refine r_icmp_eq (tgt := 36) dX10_form_30 rfl (fun cH => ?_) (fun cH => ?_)
      · replace H := H.1 cH
        refine r_iload_n dX10_form_36 rfl rfl ?_
        refine r_if_lt (tgt := 53) dX10_form_37 rfl (fun cH => ?_) (fun cH => ?_)
        · replace H := H.1 cH
          refine r_iconst (v := (-1 : Int32)) dX10_form_53 rfl ?_
          exact r_zret dX10_form_54 rfl rfl (Nat.le_refl _) (Nat.le_refl _) H
        · replace H := H.2 cH
          refine r_iload_n dX10_form_40 rfl rfl ?_
          refine r_iconst (v := (2 : Int32)) dX10_form_41 rfl ?_
          refine r_icmp_gt (tgt := 53) dX10_form_42 rfl (fun cH => ?_) (fun cH => ?_)
          · replace H := H.1 cH
            refine r_iconst (v := (-1 : Int32)) dX10_form_53 rfl ?_
            exact r_zret dX10_form_54 rfl rfl (Nat.le_refl _) (Nat.le_refl _) H
          · replace H := H.2 cH
            refine r_aload dX10_form_45 rfl ?_
            refine k_SI (As := [.ref r3]) (stk := []) cs_X10_288 dX10_form_47 rfl (Nat.le_of_ble_eq_true rfl) (H.mono (fun v4 h4 H => ?_)) ⟨Nat.le_refl _, Nat.le_refl _⟩
            refine r_if_eq (tgt := 55) dX10_form_50 rfl (fun cH => ?_) (fun cH => ?_)
            · replace H := H.1 cH
              refine r_aload_n dX10_form_55 rfl rfl ?_
              refine k_VV (As := []) (stk := []) hp cv_X10_555 dX10_form_56 rfl (Nat.le_of_ble_eq_true rfl) ly_10 (H.mono (fun h5 H => ?_)) ⟨Nat.le_refl _, Nat.le_refl _⟩
              refine r_aload_n dX10_form_59 rfl rfl ?_
              refine k_VR (As := []) (stk := []) hp cv_X10_140 dX10_form_60 rfl (Nat.le_of_ble_eq_true rfl) ly_10 (H.mono (fun v6 h6 H => ?_)) ⟨Nat.le_refl _, Nat.le_refl _⟩
              obtain ⟨tv6, H⟩ := H
              refine r_astore (ls2 := [some (.ref 2759), some (.int x1), some (.int x2), some (.int x3), some (.ref r3), some (.ref v6), none, none, none, none]) dX10_form_63 (by decide) rfl ?_
              refine r_aload_n dX10_form_65 rfl rfl ?_
              refine k_VR (As := []) (stk := []) hp cv_X10_140 dX10_form_66 rfl (Nat.le_of_ble_eq_true rfl) ly_10 (H.mono (fun v7 h7 H => ?_)) ⟨Nat.le_refl _, Nat.le_refl _⟩
              obtain ⟨tv7, H⟩ := H
              refine r_astore (ls2 := [some (.ref 2759), some (.int x1), some (.int x2), some (.int x3), some (.ref r3), some (.ref v6), some (.ref v7), none, none, none]) dX10_form_69 (by decide) rfl ?_
              refine r_aload dX10_form_71 rfl ?_
              refine r_aload dX10_form_73 rfl ?_
              refine m_getF (x := (r3 + 1)) hp fw_X10_207 dX10_form_75 rfl tLr3 (ff_11_1 tLr3) ?_
              refine k_SV (As := [.ref v6, .ref (r3 + 1)]) (stk := []) cs_X10_295 dX10_form_78 rfl (Nat.le_of_ble_eq_true rfl) (H.mono (fun h8 H => ?_)) ⟨Nat.le_refl _, Nat.le_refl _⟩
              refine r_aload dX10_form_81 rfl ?_
              refine r_aload dX10_form_83 rfl ?_
              refine m_getF (x := (r3 + 2)) hp fw_X10_210 dX10_form_85 rfl tLr3 (ff_11_2 tLr3) ?_
              refine k_SV (As := [.ref v7, .ref (r3 + 2)]) (stk := []) cs_X10_295 dX10_form_88 rfl (Nat.le_of_ble_eq_true rfl) (H.mono (fun h9 H => ?_)) ⟨Nat.le_refl _, Nat.le_refl _⟩
              refine r_aload_n dX10_form_91 rfl rfl ?_
              refine r_aload dX10_form_92 rfl ?_
              refine r_aload dX10_form_94 rfl ?_
              refine k_VI (As := [.ref v6, .ref v7]) (stk := []) hp cv_X10_712 dX10_form_96 rfl (Nat.le_of_ble_eq_true rfl) ly_10 (H.mono (fun v10 h10 H => ?_)) ⟨Nat.le_refl _, Nat.le_refl _⟩
              refine r_if_ne (tgt := 105) dX10_form_99 rfl (fun cH => ?_) (fun cH => ?_)
              · replace H := H.1 cH
                refine r_aload_n dX10_form_105 rfl rfl ?_
                refine k_VR (As := []) (stk := []) hp cv_X10_140 dX10_form_106 rfl (Nat.le_of_ble_eq_true rfl) ly_10 (H.mono (fun v11 h11 H => ?_)) ⟨Nat.le_refl _, Nat.le_refl _⟩
                obtain ⟨tv11, H⟩ := H
                refine r_astore (ls2 := [some (.ref 2759), some (.int x1), some (.int x2), some (.int x3), some (.ref r3), some (.ref v6), some (.ref v7), some (.ref v11), none, none]) dX10_form_109 (by decide) rfl ?_
                refine r_aload_n dX10_form_111 rfl rfl ?_
                refine k_VR (As := []) (stk := []) hp cv_X10_140 dX10_form_112 rfl (Nat.le_of_ble_eq_true rfl) ly_10 (H.mono (fun v12 h12 H => ?_)) ⟨Nat.le_refl _, Nat.le_refl _⟩
                obtain ⟨tv12, H⟩ := H
                refine r_astore (ls2 := [some (.ref 2759), some (.int x1), some (.int x2), some (.int x3), some (.ref r3), some (.ref v6), some (.ref v7), some (.ref v11), some (.ref v12), none]) dX10_form_115 (by decide) rfl ?_
                refine r_iload_n dX10_form_117 rfl rfl ?_
                refine r_if_ne (tgt := 128) dX10_form_118 rfl (fun cH => ?_) (fun cH => ?_)
                · replace H := H.1 cH
                  refine r_iload_n dX10_form_128 rfl rfl ?_
                  refine r_iconst (v := (1 : Int32)) dX10_form_129 rfl ?_
                  refine r_icmp_ne (tgt := 140) dX10_form_130 rfl (fun cH => ?_) (fun cH => ?_)
                  · replace H := H.1 cH
                    refine r_aload_n dX10_form_140 rfl rfl ?_
                    obtain ⟨r13, er13, tr13, H⟩ := H
                    refine m_getM (x := r13) hp fw_X10_702 dX10_form_141 rfl ly_10 er13 ?_
                    refine r_prune [true, false, true, true, false, false, false, true, true, false] (ls2 := [some (.ref 2759), none, some (.int x2), some (.int x3), none, none, none, some (.ref v11), some (.ref v12), none]) rfl ?_
                    exact H
                  · replace H := H.2 cH
                    refine r_aload_n dX10_form_133 rfl rfl ?_
                    obtain ⟨r14, er14, tr14, H⟩ := H
                    refine m_getM (x := r14) hp fw_X10_699 dX10_form_134 rfl ly_10 er14 ?_
                    refine r_goto (tgt := 144) dX10_form_137 rfl ?_
                    refine r_prune [true, false, true, true, false, false, false, true, true, false] (ls2 := [some (.ref 2759), none, some (.int x2), some (.int x3), none, none, none, some (.ref v11), some (.ref v12), none]) rfl ?_
                    exact H
                · replace H := H.2 cH
                  refine r_aload_n dX10_form_121 rfl rfl ?_
                  obtain ⟨r15, er15, tr15, H⟩ := H
                  refine m_getM (x := r15) hp fw_X10_695 dX10_form_122 rfl ly_10 er15 ?_
                  refine r_goto (tgt := 144) dX10_form_125 rfl ?_
                  refine r_prune [true, false, true, true, false, false, false, true, true, false] (ls2 := [some (.ref 2759), none, some (.int x2), some (.int x3), none, none, none, some (.ref v11), some (.ref v12), none]) rfl ?_
                  exact H
              · replace H := H.2 cH
                refine r_bipush (v := (-2 : Int32)) dX10_form_102 rfl ?_
                exact r_zret dX10_form_104 rfl rfl (Nat.le_refl _) (Nat.le_refl _) H
            · replace H := H.2 cH
              refine r_iconst (v := (-1 : Int32)) dX10_form_53 rfl ?_
              exact r_zret dX10_form_54 rfl rfl (Nat.le_refl _) (Nat.le_refl _) H
      · replace H := H.2 cH
        refine r_bipush (v := (-3 : Int32)) dX10_form_33 rfl ?_
        exact r_zret dX10_form_35 rfl rfl (Nat.le_refl _) (Nat.le_refl _) H
    · replace H := H.2 cH
      refine r_iconst (v := (-1 : Int32)) dX10_form_14 rfl ?_
      exact r_zret dX10_form_15 rfl rfl (Nat.le_refl _) (Nat.le_refl _) H
theorem s_X10_form_144 {g : GX} {d : Nat} {av : List Value} {Q : QT} {n : Nat} {h : Hp} {x2 : Int32} {x3 : Int32} {a7 : Nat} {a8 : Nat} {as0 : Nat} (hp : g.2.2.2.2 = true) (t7 : lay a7 = (0, 14, 2)) (t8 : lay a8 = (0, 14, 2)) (ts0 : lay as0 = (0, 14, 2)) (H : ((¬ x2 = (0 : Int32)) → (CallV g m_X10_set d [.ref a7, .ref as0] n h (fun h1 => (vp_in (0 : Int32) 64 ∧ ∀ r2, r2 = (a8 + 2) + 2 * ((0 : Int32)).toNatClampNeg → (CallR g m_X14_lead d [.ref as0] n h1 (fun v3 h3 => (lay v3 = (0, 13, 2) ∧ (CallV g m_X10_set_2 d [.ref r2, .ref v3] n h3 (fun h4 => (W_X10_form g d av Q n 201 [some (.ref 2759), none, none, some (.int x3), none, none, none, some (.ref a7), some (.ref a8), none] [] h4)))))))))) ∧ ((x2 = (0 : Int32)) → (∃ r5, rr h 2759 42 = some r5 ∧ lay r5 = (0, 13, 2) ∧ (CallV g m_X10_timesU d [.ref 2759, .ref a7, .ref as0, .ref r5] n h (fun h6 => (vp_in (0 : Int32) 64 ∧ ∀ r7, r7 = (a8 + 2) + 2 * ((0 : Int32)).toNatClampNeg → (∃ r8, rr h6 2759 43 = some r8 ∧ lay r8 = (0, 13, 2) ∧ (CallV g m_X10_set_2 d [.ref r7, .ref r8] n h6 (fun h9 => (W_X10_form g d av Q n 201 [some (.ref 2759), none, none, some (.int x3), none, none, none, some (.ref a7), some (.ref a8), none] [] h9)))))))))) : W_X10_form g d av Q n 144 [some (.ref 2759), none, some (.int x2), some (.int x3), none, none, none, some (.ref a7), some (.ref a8), none] [.ref as0] h := by
  refine r_astore (ls2 := [some (.ref 2759), none, some (.int x2), some (.int x3), none, none, none, some (.ref a7), some (.ref a8), some (.ref as0)]) dX10_form_144 (by decide) rfl ?_
  refine r_iload_n dX10_form_146 rfl rfl ?_
  refine r_if_ne (tgt := 179) dX10_form_147 rfl (fun cH => ?_) (fun cH => ?_)
  · replace H := H.1 cH
    refine r_aload dX10_form_179 rfl ?_
    refine r_aload dX10_form_181 rfl ?_
    refine k_SV (As := [.ref a7, .ref as0]) (stk := []) cs_X10_113 dX10_form_183 rfl (Nat.le_of_ble_eq_true rfl) (H.mono (fun h1 H => ?_)) ⟨Nat.le_refl _, Nat.le_refl _⟩
    refine r_aload dX10_form_186 rfl ?_
    refine m_getF (x := (a8 + 1)) hp fw_X10_98 dX10_form_188 rfl t8 (ff_14_0 t8) ?_
    refine r_iconst (v := (0 : Int32)) dX10_form_191 rfl ?_
    obtain ⟨r2, er2⟩ : ∃ y, y = (a8 + 2) + 2 * ((0 : Int32)).toNatClampNeg := ⟨_, rfl⟩
    have hir2 := H.1
    replace H := H.2 r2 er2
    have tLr2 := le_14 t8 hir2 er2
    refine m_aalF (x := r2) hp dX10_form_192 (lf_14_0 t8) rfl rfl (lu_14_0 t8) hir2 (fe_14 t8 hir2 er2) ?_
    refine r_aload dX10_form_193 rfl ?_
    refine k_VR (As := []) (stk := [.ref r2]) hp cv_X10_144 dX10_form_195 rfl (Nat.le_of_ble_eq_true rfl) ts0 (H.mono (fun v3 h3 H => ?_)) ⟨Nat.le_refl _, Nat.le_refl _⟩
    obtain ⟨tv3, H⟩ := H
    refine k_SV (As := [.ref r2, .ref v3]) (stk := []) cs_X10_62 dX10_form_198 rfl (Nat.le_of_ble_eq_true rfl) (H.mono (fun h4 H => ?_)) ⟨Nat.le_refl _, Nat.le_refl _⟩
    refine r_prune [true, false, false, true, false, false, false, true, true, false] (ls2 := [some (.ref 2759), none, none, some (.int x3), none, none, none, some (.ref a7), some (.ref a8), none]) rfl ?_
    exact H
  · replace H := H.2 cH
    refine r_aload_n dX10_form_150 rfl rfl ?_
    refine r_aload dX10_form_151 rfl ?_
    refine r_aload dX10_form_153 rfl ?_
    refine r_aload_n dX10_form_155 rfl rfl ?_
    obtain ⟨r5, er5, tr5, H⟩ := H
    refine m_getM (x := r5) hp fw_X10_705 dX10_form_156 rfl ly_10 er5 ?_
    refine k_VV (As := [.ref a7, .ref as0, .ref r5]) (stk := []) hp cv_X10_178 dX10_form_159 rfl (Nat.le_of_ble_eq_true rfl) ly_10 (H.mono (fun h6 H => ?_)) ⟨Nat.le_refl _, Nat.le_refl _⟩
    refine r_aload dX10_form_162 rfl ?_
    refine m_getF (x := (a8 + 1)) hp fw_X10_98 dX10_form_164 rfl t8 (ff_14_0 t8) ?_
    refine r_iconst (v := (0 : Int32)) dX10_form_167 rfl ?_
    obtain ⟨r7, er7⟩ : ∃ y, y = (a8 + 2) + 2 * ((0 : Int32)).toNatClampNeg := ⟨_, rfl⟩
    have hir7 := H.1
    replace H := H.2 r7 er7
    have tLr7 := le_14 t8 hir7 er7
    refine m_aalF (x := r7) hp dX10_form_168 (lf_14_0 t8) rfl rfl (lu_14_0 t8) hir7 (fe_14 t8 hir7 er7) ?_
    refine r_aload_n dX10_form_169 rfl rfl ?_
    obtain ⟨r8, er8, tr8, H⟩ := H
    refine m_getM (x := r8) hp fw_X10_709 dX10_form_170 rfl ly_10 er8 ?_
    refine k_SV (As := [.ref r7, .ref r8]) (stk := []) cs_X10_62 dX10_form_173 rfl (Nat.le_of_ble_eq_true rfl) (H.mono (fun h9 H => ?_)) ⟨Nat.le_refl _, Nat.le_refl _⟩
    refine r_goto (tgt := 201) dX10_form_176 rfl ?_
    refine r_prune [true, false, false, true, false, false, false, true, true, false] (ls2 := [some (.ref 2759), none, none, some (.int x3), none, none, none, some (.ref a7), some (.ref a8), none]) rfl ?_
    exact H
theorem s_X10_form_201 {g : GX} {d : Nat} {av : List Value} {Q : QT} {n : Nat} {h : Hp} {x3 : Int32} {a7 : Nat} {a8 : Nat} (hp : g.2.2.2.2 = true) (t7 : lay a7 = (0, 14, 2)) (t8 : lay a8 = (0, 14, 2)) (H : ∀ h1, h1 = wi h a8 1 (1 : Int32) → (CallV g m_X10_settle d [.ref a7, .ref a8] n h1 (fun h2 => (CallV g m_X10_plain d [.ref 2842] n h2 (fun h3 => (CallI g m_X10_put d [.ref 2842, .ref a7, .ref a8] n h3 (fun v4 h4 => (((v4 = (0 : Int32)) → (Q (some (.int (-2 : Int32))) n h4)) ∧ ((¬ v4 = (0 : Int32)) → (CallI g m_X10_keep d [.ref 2759, .int x3] n h4 (fun v5 h5 => (Q (some (.int v5)) n h5)))))))))))) : W_X10_form g d av Q n 201 [some (.ref 2759), none, none, some (.int x3), none, none, none, some (.ref a7), some (.ref a8), none] [] h := by
  refine r_aload dX10_form_201 rfl ?_
  refine r_iconst (v := (1 : Int32)) dX10_form_203 rfl ?_
  refine m_putI hp fw_X10_93 dX10_form_204 rfl rfl t8 (fun h1 eh1 => ?_)
  replace H := H h1 eh1
  refine r_aload dX10_form_207 rfl ?_
  refine r_aload dX10_form_209 rfl ?_
  refine k_SV (As := [.ref a7, .ref a8]) (stk := []) cs_X10_191 dX10_form_211 rfl (Nat.le_of_ble_eq_true rfl) (H.mono (fun h2 H => ?_)) ⟨Nat.le_refl _, Nat.le_refl _⟩
  refine r_aload_n dX10_form_214 rfl rfl ?_
  refine m_getF (x := 2842) hp fw_X10_453 dX10_form_215 rfl ly_10 (ff_10_21 ly_10) ?_
  refine k_SV (As := [.ref 2842]) (stk := []) cs_X10_257 dX10_form_218 rfl (Nat.le_of_ble_eq_true rfl) (H.mono (fun h3 H => ?_)) ⟨Nat.le_refl _, Nat.le_refl _⟩
  refine r_aload_n dX10_form_221 rfl rfl ?_
  refine m_getF (x := 2842) hp fw_X10_453 dX10_form_222 rfl ly_10 (ff_10_21 ly_10) ?_
  refine r_aload dX10_form_225 rfl ?_
  refine r_aload dX10_form_227 rfl ?_
  refine k_SI (As := [.ref 2842, .ref a7, .ref a8]) (stk := []) cs_X10_261 dX10_form_229 rfl (Nat.le_of_ble_eq_true rfl) (H.mono (fun v4 h4 H => ?_)) ⟨Nat.le_refl _, Nat.le_refl _⟩
  refine r_if_eq (tgt := 243) dX10_form_232 rfl (fun cH => ?_) (fun cH => ?_)
  · replace H := H.1 cH
    refine r_bipush (v := (-2 : Int32)) dX10_form_243 rfl ?_
    exact r_zret dX10_form_245 rfl rfl (Nat.le_refl _) (Nat.le_refl _) H
  · replace H := H.2 cH
    refine r_aload_n dX10_form_235 rfl rfl ?_
    refine r_iload_n dX10_form_236 rfl rfl ?_
    refine k_VI (As := [.int x3]) (stk := []) hp cv_X10_558 dX10_form_237 rfl (Nat.le_of_ble_eq_true rfl) ly_10 (H.mono (fun v5 h5 H => ?_)) ⟨Nat.le_refl _, Nat.le_refl _⟩
    refine r_goto (tgt := 245) dX10_form_240 rfl ?_
    exact r_zret dX10_form_245 rfl rfl (Nat.le_refl _) (Nat.le_refl _) H
abbrev W_X10_form_2 (g : GX) (d : Nat) (av : List Value) (Q : QT) (n : Nat) (pc : Nat) (ls : LV) (stk : List Value) (h : Hp) : Prop := RJ g m_X10_form_2 (d + 1) 0 0 av Q pc ls stk n h 0 0
theorem s_X10_form_2_0 {g : GX} {d : Nat} {av : List Value} {Q : QT} {n : Nat} {h : Hp} {a1 : Nat} {a2 : Nat} (hp : g.2.2.2.2 = true) (t1 : lay a1 = (0, 14, 2)) (t2 : lay a2 = (0, 14, 2)) (H : CallR g m_X10_newB d [.ref 2759] n h (fun v1 h1 => (lay v1 = (0, 14, 2) ∧ (∀ h2, h2 = wr h1 2759 39 (some v1) → (CallR g m_X10_newB d [.ref 2759] n h2 (fun v3 h3 => (lay v3 = (0, 14, 2) ∧ (∀ h4, h4 = wr h3 2759 40 (some v3) → (CallR g m_X10_newB d [.ref 2759] n h4 (fun v5 h5 => (lay v5 = (0, 14, 2) ∧ (∀ h6, h6 = wr h5 2759 41 (some v5) → (CallR g m_X10_newU d [.ref 2759] n h6 (fun v7 h7 => (lay v7 = (0, 13, 2) ∧ (∀ h8, h8 = wr h7 2759 42 (some v7) → (CallR g m_X10_newU d [.ref 2759] n h8 (fun v9 h9 => (lay v9 = (0, 13, 2) ∧ (∀ h10, h10 = wr h9 2759 43 (some v9) → (CallR g m_X10_newU d [.ref 2759] n h10 (fun v11 h11 => (lay v11 = (0, 13, 2) ∧ (CallR g m_X10_newU d [.ref 2759] n h11 (fun v12 h12 => (lay v12 = (0, 13, 2) ∧ (CallR g m_X10_newB d [.ref 2759] n h12 (fun v13 h13 => (lay v13 = (0, 14, 2) ∧ (CallR g m_X10_newB d [.ref 2759] n h13 (fun v14 h14 => (lay v14 = (0, 14, 2) ∧ (CallR g m_X10_newB d [.ref 2759] n h14 (fun v15 h15 => (lay v15 = (0, 14, 2) ∧ (CallR g m_X10_newB d [.ref 2759] n h15 (fun v16 h16 => (lay v16 = (0, 14, 2) ∧ (∃ r17, rr h16 2759 39 = some r17 ∧ lay r17 = (0, 14, 2) ∧ (CallV g m_X10_primitive d [.ref 2759, .ref r17, .ref a1, .ref v11] n h16 (fun h18 => (∃ r19, rr h18 2759 42 = some r19 ∧ lay r19 = (0, 13, 2) ∧ (CallV g m_X10_set_2 d [.ref r19, .ref v11] n h18 (fun h20 => (∃ r21, rr h20 2759 40 = some r21 ∧ lay r21 = (0, 14, 2) ∧ (CallV g m_X10_primitive d [.ref 2759, .ref r21, .ref a2, .ref v12] n h20 (fun h22 => (∃ r23, rr h22 2759 43 = some r23 ∧ lay r23 = (0, 13, 2) ∧ (∃ r24, rr h22 2759 40 = some r24 ∧ lay r24 = (0, 14, 2) ∧ (CallR g m_X14_lead d [.ref r24] n h22 (fun v25 h25 => (lay v25 = (0, 13, 2) ∧ (CallV g m_X10_times_2 d [.ref r23, .ref v12, .ref v25] n h25 (fun h26 => (∃ r27, rr h26 2759 41 = some r27 ∧ lay r27 = (0, 14, 2) ∧ (CallV g m_X14_number d [.ref r27, .int (1 : Int32)] n h26 (fun h28 => (W_X10_form_2 g d av Q n 148 [some (.ref 2759), none, none, some (.int (ri h10 2759 1)), some (.int (ri h10 2759 3)), some (.ref v11), none, some (.ref v13), some (.ref v14), some (.ref v15), some (.ref v16), some (.int (1 : Int32)), some (.int (0 : Int32)), none, none] [] h28)))))))))))))))))))))))))))))))))))))))))))))))))))))))))) : W_X10_form_2 g d av Q n 0 [some (.ref 2759), some (.ref a1), some (.ref a2), none, none, none, none, none, none, none, none, none, none, none, none] [] h := by
  refine r_aload_n dX10_form_2_0 rfl rfl ?_
  refine r_aload_n dX10_form_2_1 rfl rfl ?_
  refine k_VR (As := []) (stk := [.ref 2759]) hp cv_X10_140 dX10_form_2_2 rfl (Nat.le_of_ble_eq_true rfl) ly_10 (H.mono (fun v1 h1 H => ?_)) ⟨Nat.le_refl _, Nat.le_refl _⟩
  obtain ⟨tv1, H⟩ := H
  refine m_putM hp fw_X10_695 dX10_form_2_5 rfl rfl ly_10 (fo_10_39 ly_10) (fun h2 eh2 => ?_)
  replace H := H h2 eh2
  refine r_aload_n dX10_form_2_8 rfl rfl ?_
  refine r_aload_n dX10_form_2_9 rfl rfl ?_
  refine k_VR (As := []) (stk := [.ref 2759]) hp cv_X10_140 dX10_form_2_10 rfl (Nat.le_of_ble_eq_true rfl) ly_10 (H.mono (fun v3 h3 H => ?_)) ⟨Nat.le_refl _, Nat.le_refl _⟩
  obtain ⟨tv3, H⟩ := H
  refine m_putM hp fw_X10_699 dX10_form_2_13 rfl rfl ly_10 (fo_10_40 ly_10) (fun h4 eh4 => ?_)
  replace H := H h4 eh4
  refine r_aload_n dX10_form_2_16 rfl rfl ?_
  refine r_aload_n dX10_form_2_17 rfl rfl ?_
  refine k_VR (As := []) (stk := [.ref 2759]) hp cv_X10_140 dX10_form_2_18 rfl (Nat.le_of_ble_eq_true rfl) ly_10 (H.mono (fun v5 h5 H => ?_)) ⟨Nat.le_refl _, Nat.le_refl _⟩
  obtain ⟨tv5, H⟩ := H
  refine m_putM hp fw_X10_702 dX10_form_2_21 rfl rfl ly_10 (fo_10_41 ly_10) (fun h6 eh6 => ?_)
  replace H := H h6 eh6
  refine r_aload_n dX10_form_2_24 rfl rfl ?_
  refine r_aload_n dX10_form_2_25 rfl rfl ?_
  refine k_VR (As := []) (stk := [.ref 2759]) hp cv_X10_74 dX10_form_2_26 rfl (Nat.le_of_ble_eq_true rfl) ly_10 (H.mono (fun v7 h7 H => ?_)) ⟨Nat.le_refl _, Nat.le_refl _⟩
  obtain ⟨tv7, H⟩ := H
  refine m_putM hp fw_X10_705 dX10_form_2_29 rfl rfl ly_10 (fo_10_42 ly_10) (fun h8 eh8 => ?_)
  replace H := H h8 eh8
  refine r_aload_n dX10_form_2_32 rfl rfl ?_
  refine r_aload_n dX10_form_2_33 rfl rfl ?_
  refine k_VR (As := []) (stk := [.ref 2759]) hp cv_X10_74 dX10_form_2_34 rfl (Nat.le_of_ble_eq_true rfl) ly_10 (H.mono (fun v9 h9 H => ?_)) ⟨Nat.le_refl _, Nat.le_refl _⟩
  obtain ⟨tv9, H⟩ := H
  refine m_putM hp fw_X10_709 dX10_form_2_37 rfl rfl ly_10 (fo_10_43 ly_10) (fun h10 eh10 => ?_)
  replace H := H h10 eh10
  refine r_aload_n dX10_form_2_40 rfl rfl ?_
  refine m_getI hp fw_X10_21 dX10_form_2_41 rfl ly_10 ?_
  refine r_istore_n (ls2 := [some (.ref 2759), some (.ref a1), some (.ref a2), some (.int (ri h10 2759 1)), none, none, none, none, none, none, none, none, none, none, none]) dX10_form_2_44 rfl (by decide) rfl ?_
  refine r_aload_n dX10_form_2_45 rfl rfl ?_
  refine m_getI hp fw_X10_90 dX10_form_2_46 rfl ly_10 ?_
  refine r_istore (ls2 := [some (.ref 2759), some (.ref a1), some (.ref a2), some (.int (ri h10 2759 1)), some (.int (ri h10 2759 3)), none, none, none, none, none, none, none, none, none, none]) dX10_form_2_49 (by decide) rfl ?_
  refine r_aload_n dX10_form_2_51 rfl rfl ?_
  refine k_VR (As := []) (stk := []) hp cv_X10_74 dX10_form_2_52 rfl (Nat.le_of_ble_eq_true rfl) ly_10 (H.mono (fun v11 h11 H => ?_)) ⟨Nat.le_refl _, Nat.le_refl _⟩
  obtain ⟨tv11, H⟩ := H
  refine r_astore (ls2 := [some (.ref 2759), some (.ref a1), some (.ref a2), some (.int (ri h10 2759 1)), some (.int (ri h10 2759 3)), some (.ref v11), none, none, none, none, none, none, none, none, none]) dX10_form_2_55 (by decide) rfl ?_
  refine r_aload_n dX10_form_2_57 rfl rfl ?_
  refine k_VR (As := []) (stk := []) hp cv_X10_74 dX10_form_2_58 rfl (Nat.le_of_ble_eq_true rfl) ly_10 (H.mono (fun v12 h12 H => ?_)) ⟨Nat.le_refl _, Nat.le_refl _⟩
  obtain ⟨tv12, H⟩ := H
  refine r_astore (ls2 := [some (.ref 2759), some (.ref a1), some (.ref a2), some (.int (ri h10 2759 1)), some (.int (ri h10 2759 3)), some (.ref v11), some (.ref v12), none, none, none, none, none, none, none, none]) dX10_form_2_61 (by decide) rfl ?_
  refine r_aload_n dX10_form_2_63 rfl rfl ?_
  refine k_VR (As := []) (stk := []) hp cv_X10_140 dX10_form_2_64 rfl (Nat.le_of_ble_eq_true rfl) ly_10 (H.mono (fun v13 h13 H => ?_)) ⟨Nat.le_refl _, Nat.le_refl _⟩
  obtain ⟨tv13, H⟩ := H
  refine r_astore (ls2 := [some (.ref 2759), some (.ref a1), some (.ref a2), some (.int (ri h10 2759 1)), some (.int (ri h10 2759 3)), some (.ref v11), some (.ref v12), some (.ref v13), none, none, none, none, none, none, none]) dX10_form_2_67 (by decide) rfl ?_
  refine r_aload_n dX10_form_2_69 rfl rfl ?_
  refine k_VR (As := []) (stk := []) hp cv_X10_140 dX10_form_2_70 rfl (Nat.le_of_ble_eq_true rfl) ly_10 (H.mono (fun v14 h14 H => ?_)) ⟨Nat.le_refl _, Nat.le_refl _⟩
  obtain ⟨tv14, H⟩ := H
  refine r_astore (ls2 := [some (.ref 2759), some (.ref a1), some (.ref a2), some (.int (ri h10 2759 1)), some (.int (ri h10 2759 3)), some (.ref v11), some (.ref v12), some (.ref v13), some (.ref v14), none, none, none, none, none, none]) dX10_form_2_73 (by decide) rfl ?_
  refine r_aload_n dX10_form_2_75 rfl rfl ?_
  refine k_VR (As := []) (stk := []) hp cv_X10_140 dX10_form_2_76 rfl (Nat.le_of_ble_eq_true rfl) ly_10 (H.mono (fun v15 h15 H => ?_)) ⟨Nat.le_refl _, Nat.le_refl _⟩
  obtain ⟨tv15, H⟩ := H
  refine r_astore (ls2 := [some (.ref 2759), some (.ref a1), some (.ref a2), some (.int (ri h10 2759 1)), some (.int (ri h10 2759 3)), some (.ref v11), some (.ref v12), some (.ref v13), some (.ref v14), some (.ref v15), none, none, none, none, none]) dX10_form_2_79 (by decide) rfl ?_
  refine r_aload_n dX10_form_2_81 rfl rfl ?_
  refine k_VR (As := []) (stk := []) hp cv_X10_140 dX10_form_2_82 rfl (Nat.le_of_ble_eq_true rfl) ly_10 (H.mono (fun v16 h16 H => ?_)) ⟨Nat.le_refl _, Nat.le_refl _⟩
  obtain ⟨tv16, H⟩ := H
  refine r_astore (ls2 := [some (.ref 2759), some (.ref a1), some (.ref a2), some (.int (ri h10 2759 1)), some (.int (ri h10 2759 3)), some (.ref v11), some (.ref v12), some (.ref v13), some (.ref v14), some (.ref v15), some (.ref v16), none, none, none, none]) dX10_form_2_85 (by decide) rfl ?_
  refine r_aload_n dX10_form_2_87 rfl rfl ?_
  refine r_aload_n dX10_form_2_88 rfl rfl ?_
  obtain ⟨r17, er17, tr17, H⟩ := H
  refine m_getM (x := r17) hp fw_X10_695 dX10_form_2_89 rfl ly_10 er17 ?_
  refine r_aload_n dX10_form_2_92 rfl rfl ?_
  refine r_aload dX10_form_2_93 rfl ?_
  refine k_VV (As := [.ref r17, .ref a1, .ref v11]) (stk := []) hp cv_X10_167 dX10_form_2_95 rfl (Nat.le_of_ble_eq_true rfl) ly_10 (H.mono (fun h18 H => ?_)) ⟨Nat.le_refl _, Nat.le_refl _⟩
  refine r_aload_n dX10_form_2_98 rfl rfl ?_
  obtain ⟨r19, er19, tr19, H⟩ := H
  refine m_getM (x := r19) hp fw_X10_705 dX10_form_2_99 rfl ly_10 er19 ?_
  refine r_aload dX10_form_2_102 rfl ?_
  refine k_SV (As := [.ref r19, .ref v11]) (stk := []) cs_X10_62 dX10_form_2_104 rfl (Nat.le_of_ble_eq_true rfl) (H.mono (fun h20 H => ?_)) ⟨Nat.le_refl _, Nat.le_refl _⟩
  refine r_aload_n dX10_form_2_107 rfl rfl ?_
  refine r_aload_n dX10_form_2_108 rfl rfl ?_
  obtain ⟨r21, er21, tr21, H⟩ := H
  refine m_getM (x := r21) hp fw_X10_699 dX10_form_2_109 rfl ly_10 er21 ?_
  refine r_aload_n dX10_form_2_112 rfl rfl ?_
  refine r_aload dX10_form_2_113 rfl ?_
  refine k_VV (As := [.ref r21, .ref a2, .ref v12]) (stk := []) hp cv_X10_167 dX10_form_2_115 rfl (Nat.le_of_ble_eq_true rfl) ly_10 (H.mono (fun h22 H => ?_)) ⟨Nat.le_refl _, Nat.le_refl _⟩
  refine r_aload_n dX10_form_2_118 rfl rfl ?_
  obtain ⟨r23, er23, tr23, H⟩ := H
  refine m_getM (x := r23) hp fw_X10_709 dX10_form_2_119 rfl ly_10 er23 ?_
  refine r_aload dX10_form_2_122 rfl ?_
  refine r_aload_n dX10_form_2_124 rfl rfl ?_
  obtain ⟨r24, er24, tr24, H⟩ := H
  refine m_getM (x := r24) hp fw_X10_699 dX10_form_2_125 rfl ly_10 er24 ?_
  refine k_VR (As := []) (stk := [.ref v12, .ref r23]) hp cv_X10_144 dX10_form_2_128 rfl (Nat.le_of_ble_eq_true rfl) tr24 (H.mono (fun v25 h25 H => ?_)) ⟨Nat.le_refl _, Nat.le_refl _⟩
  obtain ⟨tv25, H⟩ := H
  refine k_SV (As := [.ref r23, .ref v12, .ref v25]) (stk := []) cs_X10_106 dX10_form_2_131 rfl (Nat.le_of_ble_eq_true rfl) (H.mono (fun h26 H => ?_)) ⟨Nat.le_refl _, Nat.le_refl _⟩
  refine r_aload_n dX10_form_2_134 rfl rfl ?_
  obtain ⟨r27, er27, tr27, H⟩ := H
  refine m_getM (x := r27) hp fw_X10_702 dX10_form_2_135 rfl ly_10 er27 ?_
  refine r_iconst (v := (1 : Int32)) dX10_form_2_138 rfl ?_
  refine k_VV (As := [.int (1 : Int32)]) (stk := []) hp cv_X10_158 dX10_form_2_139 rfl (Nat.le_of_ble_eq_true rfl) tr27 (H.mono (fun h28 H => ?_)) ⟨Nat.le_refl _, Nat.le_refl _⟩
  refine r_iconst (v := (1 : Int32)) dX10_form_2_142 rfl ?_
  refine r_istore (ls2 := [some (.ref 2759), some (.ref a1), some (.ref a2), some (.int (ri h10 2759 1)), some (.int (ri h10 2759 3)), some (.ref v11), some (.ref v12), some (.ref v13), some (.ref v14), some (.ref v15), some (.ref v16), some (.int (1 : Int32)), none, none, none]) dX10_form_2_143 (by decide) rfl ?_
  refine r_iconst (v := (0 : Int32)) dX10_form_2_145 rfl ?_
  refine r_istore (ls2 := [some (.ref 2759), some (.ref a1), some (.ref a2), some (.int (ri h10 2759 1)), some (.int (ri h10 2759 3)), some (.ref v11), some (.ref v12), some (.ref v13), some (.ref v14), some (.ref v15), some (.ref v16), some (.int (1 : Int32)), some (.int (0 : Int32)), none, none]) dX10_form_2_146 (by decide) rfl ?_
  refine r_prune [true, false, false, true, true, true, false, true, true, true, true, true, true, false, false] (ls2 := [some (.ref 2759), none, none, some (.int (ri h10 2759 1)), some (.int (ri h10 2759 3)), some (.ref v11), none, some (.ref v13), some (.ref v14), some (.ref v15), some (.ref v16), some (.int (1 : Int32)), some (.int (0 : Int32)), none, none]) rfl ?_
  exact H
theorem s_X10_form_2_148 {g : GX} {d : Nat} {av : List Value} {Q : QT} {n : Nat} {h : Hp} {x3 : Int32} {x4 : Int32} {a5 : Nat} {a7 : Nat} {a8 : Nat} {a9 : Nat} {a10 : Nat} {x11 : Int32} {x12 : Int32} (hp : g.2.2.2.2 = true) (t5 : lay a5 = (0, 13, 2)) (t7 : lay a7 = (0, 14, 2)) (t8 : lay a8 = (0, 14, 2)) (t9 : lay a9 = (0, 14, 2)) (t10 : lay a10 = (0, 14, 2)) (H : (((40 : Int32) < x12) → (W_X10_form_2 g d av Q n 388 [some (.ref 2759), none, none, some (.int x3), some (.int x4), some (.ref a5), none, none, none, none, none, some (.int x11), none, none, none] [] h)) ∧ ((¬ (40 : Int32) < x12) → (((x11 = (0 : Int32)) → (W_X10_form_2 g d av Q n 388 [some (.ref 2759), none, none, some (.int x3), some (.int x4), some (.ref a5), none, none, none, none, none, some (.int x11), none, none, none] [] h)) ∧ ((¬ x11 = (0 : Int32)) → (∃ r1, rr h 2759 40 = some r1 ∧ lay r1 = (0, 14, 2) ∧ (CallV g m_X10_shiftK d [.ref a7, .ref r1, .int x12] n h (fun h2 => (∃ r3, rr h2 2759 39 = some r3 ∧ lay r3 = (0, 14, 2) ∧ ((((ri h2 r3 1) = (1 : Int32)) → (W_X10_form_2 g d av Q n 388 [some (.ref 2759), none, none, some (.int x3), some (.int x4), some (.ref a5), none, none, none, none, none, some (.int x11), none, none, none] [] h2)) ∧ ((¬ (ri h2 r3 1) = (1 : Int32)) → (((¬ (ri h2 a7 1) = (1 : Int32)) → (∃ r4, rr h2 2759 39 = some r4 ∧ lay r4 = (0, 14, 2) ∧ (CallV g m_X10_gcdK d [.ref 2759, .ref a8, .ref r4, .ref a7] n h2 (fun h5 => ((((ri h5 a8 1) ≤ (1 : Int32)) → (W_X10_form_2 g d av Q n 382 [some (.ref 2759), none, none, some (.int x3), some (.int x4), some (.ref a5), none, some (.ref a7), some (.ref a8), some (.ref a9), some (.ref a10), some (.int x11), some (.int x12), none, none] [] h5)) ∧ ((¬ (ri h5 a8 1) ≤ (1 : Int32)) → (∃ r6, rr h5 2759 39 = some r6 ∧ lay r6 = (0, 14, 2) ∧ (CallI g m_X10_divides d [.ref 2759, .ref a9, .ref r6, .ref a8] n h5 (fun v7 h7 => (∃ r8, rr h7 2759 39 = some r8 ∧ lay r8 = (0, 14, 2) ∧ (CallV g m_X10_set d [.ref r8, .ref a9] n h7 (fun h9 => (∃ r10, rr h9 2759 42 = some r10 ∧ lay r10 = (0, 13, 2) ∧ (CallR g m_X14_lead d [.ref a8] n h9 (fun v11 h11 => (lay v11 = (0, 13, 2) ∧ (CallV g m_X10_times_2 d [.ref a5, .ref r10, .ref v11] n h11 (fun h12 => (∃ r13, rr h12 2759 42 = some r13 ∧ lay r13 = (0, 13, 2) ∧ (CallV g m_X10_set_2 d [.ref r13, .ref a5] n h12 (fun h14 => (CallV g m_X10_shiftK d [.ref a10, .ref a8, .int ((-x12) + (2147483647 : Int32))] n h14 (fun h15 => (∃ r16, rr h15 2759 40 = some r16 ∧ lay r16 = (0, 14, 2) ∧ (CallI g m_X10_divides d [.ref 2759, .ref a9, .ref r16, .ref a10] n h15 (fun v17 h17 => (∃ r18, rr h17 2759 40 = some r18 ∧ lay r18 = (0, 14, 2) ∧ (CallV g m_X10_set d [.ref r18, .ref a9] n h17 (fun h19 => (W_X10_form_2 g d av Q n 300 [some (.ref 2759), none, none, some (.int x3), some (.int x4), some (.ref a5), none, some (.ref a7), some (.ref a8), some (.ref a9), some (.ref a10), some (.int x11), some (.int x12), none, some (.int (1 : Int32))] [] h19)))))))))))))))))))))))))))))) ∧ (((ri h2 a7 1) = (1 : Int32)) → (W_X10_form_2 g d av Q n 388 [some (.ref 2759), none, none, some (.int x3), some (.int x4), some (.ref a5), none, none, none, none, none, some (.int x11), none, none, none] [] h2))))))))))))) : W_X10_form_2 g d av Q n 148 [some (.ref 2759), none, none, some (.int x3), some (.int x4), some (.ref a5), none, some (.ref a7), some (.ref a8), some (.ref a9), some (.ref a10), some (.int x11), some (.int x12), none, none] [] h := by
  refine r_iload dX10_form_2_148 rfl ?_
  refine r_bipush (v := (40 : Int32)) dX10_form_2_150 rfl ?_
  refine r_icmp_gt (tgt := 388) dX10_form_2_152 rfl (fun cH => ?_) (fun cH => ?_)
  · replace H := H.1 cH
    refine r_prune [true, false, false, true, true, true, false, false, false, false, false, true, false, false, false] (ls2 := [some (.ref 2759), none, none, some (.int x3), some (.int x4), some (.ref a5), none, none, none, none, none, some (.int x11), none, none, none]) rfl ?_
    exact H
  · replace H := H.2 cH
    refine r_iload dX10_form_2_155 rfl ?_
    refine r_if_eq (tgt := 388) dX10_form_2_157 rfl (fun cH => ?_) (fun cH => ?_)
    · replace H := H.1 cH
      refine r_prune [true, false, false, true, true, true, false, false, false, false, false, true, false, false, false] (ls2 := [some (.ref 2759), none, none, some (.int x3), some (.int x4), some (.ref a5), none, none, none, none, none, some (.int x11), none, none, none]) rfl ?_
      exact H
    · replace H := H.2 cH
      refine r_aload dX10_form_2_160 rfl ?_
      refine r_aload_n dX10_form_2_162 rfl rfl ?_
      obtain ⟨r1, er1, tr1, H⟩ := H
      refine m_getM (x := r1) hp fw_X10_699 dX10_form_2_163 rfl ly_10 er1 ?_
      refine r_iload dX10_form_2_166 rfl ?_
      refine k_SV (As := [.ref a7, .ref r1, .int x12]) (stk := []) cs_X10_626 dX10_form_2_168 rfl (Nat.le_of_ble_eq_true rfl) (H.mono (fun h2 H => ?_)) ⟨Nat.le_refl _, Nat.le_refl _⟩
      refine r_aload_n dX10_form_2_171 rfl rfl ?_
      obtain ⟨r3, er3, tr3, H⟩ := H
      refine m_getM (x := r3) hp fw_X10_695 dX10_form_2_172 rfl ly_10 er3 ?_
      refine m_getI hp fw_X10_93 dX10_form_2_175 rfl tr3 ?_
      refine r_iconst (v := (1 : Int32)) dX10_form_2_178 rfl ?_
      refine r_icmp_eq (tgt := 388) dX10_form_2_179 rfl (fun cH => ?_) (fun cH => ?_)
      · replace H := H.1 cH
        refine r_prune [true, false, false, true, true, true, false, false, false, false, false, true, false, false, false] (ls2 := [some (.ref 2759), none, none, some (.int x3), some (.int x4), some (.ref a5), none, none, none, none, none, some (.int x11), none, none, none]) rfl ?_
        exact H
      · replace H := H.2 cH
        refine r_aload dX10_form_2_182 rfl ?_
        refine m_getI hp fw_X10_93 dX10_form_2_184 rfl t7 ?_
        refine r_iconst (v := (1 : Int32)) dX10_form_2_187 rfl ?_
        refine r_icmp_ne (tgt := 194) dX10_form_2_188 rfl (fun cH => ?_) (fun cH => ?_)
        · replace H := H.1 cH
          refine r_aload_n dX10_form_2_194 rfl rfl ?_
          refine r_aload dX10_form_2_195 rfl ?_
          refine r_aload_n dX10_form_2_197 rfl rfl ?_
          obtain ⟨r4, er4, tr4, H⟩ := H
          refine m_getM (x := r4) hp fw_X10_695 dX10_form_2_198 rfl ly_10 er4 ?_
          refine r_aload dX10_form_2_201 rfl ?_
          refine k_VV (As := [.ref a8, .ref r4, .ref a7]) (stk := []) hp cv_X10_174 dX10_form_2_203 rfl (Nat.le_of_ble_eq_true rfl) ly_10 (H.mono (fun h5 H => ?_)) ⟨Nat.le_refl _, Nat.le_refl _⟩
          refine r_aload dX10_form_2_206 rfl ?_
          refine m_getI hp fw_X10_93 dX10_form_2_208 rfl t8 ?_
          refine r_iconst (v := (1 : Int32)) dX10_form_2_211 rfl ?_
          refine r_icmp_le (tgt := 382) dX10_form_2_212 rfl (fun cH => ?_) (fun cH => ?_)
          · replace H := H.1 cH
            exact H
          · replace H := H.2 cH
            refine r_aload_n dX10_form_2_215 rfl rfl ?_
            refine r_aload dX10_form_2_216 rfl ?_
            refine r_aload_n dX10_form_2_218 rfl rfl ?_
            obtain ⟨r6, er6, tr6, H⟩ := H
            refine m_getM (x := r6) hp fw_X10_695 dX10_form_2_219 rfl ly_10 er6 ?_
            refine r_aload dX10_form_2_222 rfl ?_
            refine k_VI (As := [.ref a9, .ref r6, .ref a8]) (stk := []) hp cv_X10_170 dX10_form_2_224 rfl (Nat.le_of_ble_eq_true rfl) ly_10 (H.mono (fun v7 h7 H => ?_)) ⟨Nat.le_refl _, Nat.le_refl _⟩
            refine r_istore (ls2 := [some (.ref 2759), none, none, some (.int x3), some (.int x4), some (.ref a5), none, some (.ref a7), some (.ref a8), some (.ref a9), some (.ref a10), some (.int x11), some (.int x12), some (.int v7), none]) dX10_form_2_227 (by decide) rfl ?_
            refine r_aload_n dX10_form_2_229 rfl rfl ?_
            obtain ⟨r8, er8, tr8, H⟩ := H
            refine m_getM (x := r8) hp fw_X10_695 dX10_form_2_230 rfl ly_10 er8 ?_
            refine r_aload dX10_form_2_233 rfl ?_
            refine k_SV (As := [.ref r8, .ref a9]) (stk := []) cs_X10_113 dX10_form_2_235 rfl (Nat.le_of_ble_eq_true rfl) (H.mono (fun h9 H => ?_)) ⟨Nat.le_refl _, Nat.le_refl _⟩
            refine r_aload dX10_form_2_238 rfl ?_
            refine r_aload_n dX10_form_2_240 rfl rfl ?_
            obtain ⟨r10, er10, tr10, H⟩ := H
            refine m_getM (x := r10) hp fw_X10_705 dX10_form_2_241 rfl ly_10 er10 ?_
            refine r_aload dX10_form_2_244 rfl ?_
            refine k_VR (As := []) (stk := [.ref r10, .ref a5]) hp cv_X10_144 dX10_form_2_246 rfl (Nat.le_of_ble_eq_true rfl) t8 (H.mono (fun v11 h11 H => ?_)) ⟨Nat.le_refl _, Nat.le_refl _⟩
            obtain ⟨tv11, H⟩ := H
            refine k_SV (As := [.ref a5, .ref r10, .ref v11]) (stk := []) cs_X10_106 dX10_form_2_249 rfl (Nat.le_of_ble_eq_true rfl) (H.mono (fun h12 H => ?_)) ⟨Nat.le_refl _, Nat.le_refl _⟩
            refine r_aload_n dX10_form_2_252 rfl rfl ?_
            obtain ⟨r13, er13, tr13, H⟩ := H
            refine m_getM (x := r13) hp fw_X10_705 dX10_form_2_253 rfl ly_10 er13 ?_
            refine r_aload dX10_form_2_256 rfl ?_
            refine k_SV (As := [.ref r13, .ref a5]) (stk := []) cs_X10_62 dX10_form_2_258 rfl (Nat.le_of_ble_eq_true rfl) (H.mono (fun h14 H => ?_)) ⟨Nat.le_refl _, Nat.le_refl _⟩
            refine r_aload dX10_form_2_261 rfl ?_
            refine r_aload dX10_form_2_263 rfl ?_
            refine r_iload dX10_form_2_265 rfl ?_
            refine r_ineg dX10_form_2_267 ?_
            refine r_ldc (own := "") (v := (2147483647 : Int32)) dX10_form_2_268 q2190 ?_
            refine r_iadd dX10_form_2_270 ?_
            refine k_SV (As := [.ref a10, .ref a8, .int ((-x12) + (2147483647 : Int32))]) (stk := []) cs_X10_626 dX10_form_2_271 rfl (Nat.le_of_ble_eq_true rfl) (H.mono (fun h15 H => ?_)) ⟨Nat.le_refl _, Nat.le_refl _⟩
            refine r_aload_n dX10_form_2_274 rfl rfl ?_
            refine r_aload dX10_form_2_275 rfl ?_
            refine r_aload_n dX10_form_2_277 rfl rfl ?_
            obtain ⟨r16, er16, tr16, H⟩ := H
            refine m_getM (x := r16) hp fw_X10_699 dX10_form_2_278 rfl ly_10 er16 ?_
            refine r_aload dX10_form_2_281 rfl ?_
            refine k_VI (As := [.ref a9, .ref r16, .ref a10]) (stk := []) hp cv_X10_170 dX10_form_2_283 rfl (Nat.le_of_ble_eq_true rfl) ly_10 (H.mono (fun v17 h17 H => ?_)) ⟨Nat.le_refl _, Nat.le_refl _⟩
            refine r_istore (ls2 := [some (.ref 2759), none, none, some (.int x3), some (.int x4), some (.ref a5), none, some (.ref a7), some (.ref a8), some (.ref a9), some (.ref a10), some (.int x11), some (.int x12), some (.int v17), none]) dX10_form_2_286 (by decide) rfl ?_
            refine r_aload_n dX10_form_2_288 rfl rfl ?_
            obtain ⟨r18, er18, tr18, H⟩ := H
            refine m_getM (x := r18) hp fw_X10_699 dX10_form_2_289 rfl ly_10 er18 ?_
            refine r_aload dX10_form_2_292 rfl ?_
            refine k_SV (As := [.ref r18, .ref a9]) (stk := []) cs_X10_113 dX10_form_2_294 rfl (Nat.le_of_ble_eq_true rfl) (H.mono (fun h19 H => ?_)) ⟨Nat.le_refl _, Nat.le_refl _⟩
            refine r_iconst (v := (1 : Int32)) dX10_form_2_297 rfl ?_
            refine r_istore (ls2 := [some (.ref 2759), none, none, some (.int x3), some (.int x4), some (.ref a5), none, some (.ref a7), some (.ref a8), some (.ref a9), some (.ref a10), some (.int x11), some (.int x12), some (.int v17), some (.int (1 : Int32))]) dX10_form_2_298 (by decide) rfl ?_
            refine r_prune [true, false, false, true, true, true, false, true, true, true, true, true, true, false, true] (ls2 := [some (.ref 2759), none, none, some (.int x3), some (.int x4), some (.ref a5), none, some (.ref a7), some (.ref a8), some (.ref a9), some (.ref a10), some (.int x11), some (.int x12), none, some (.int (1 : Int32))]) rfl ?_
            exact H
        · replace H := H.2 cH
          refine r_goto (tgt := 388) dX10_form_2_191 rfl ?_
          refine r_prune [true, false, false, true, true, true, false, false, false, false, false, true, false, false, false] (ls2 := [some (.ref 2759), none, none, some (.int x3), some (.int x4), some (.ref a5), none, none, none, none, none, some (.int x11), none, none, none]) rfl ?_
          exact H
theorem s_X10_form_2_300 {g : GX} {d : Nat} {av : List Value} {Q : QT} {n : Nat} {h : Hp} {x3 : Int32} {x4 : Int32} {a5 : Nat} {a7 : Nat} {a8 : Nat} {a9 : Nat} {a10 : Nat} {x11 : Int32} {x12 : Int32} {x14 : Int32} (hp : g.2.2.2.2 = true) (t5 : lay a5 = (0, 13, 2)) (t7 : lay a7 = (0, 14, 2)) (t8 : lay a8 = (0, 14, 2)) (t9 : lay a9 = (0, 14, 2)) (t10 : lay a10 = (0, 14, 2)) (H : ((x12 < x14) → (W_X10_form_2 g d av Q n 382 [some (.ref 2759), none, none, some (.int x3), some (.int x4), some (.ref a5), none, some (.ref a7), some (.ref a8), some (.ref a9), some (.ref a10), some (.int x11), some (.int x12), none, none] [] h)) ∧ ((¬ x12 < x14) → (((x11 = (0 : Int32)) → (W_X10_form_2 g d av Q n 382 [some (.ref 2759), none, none, some (.int x3), some (.int x4), some (.ref a5), none, some (.ref a7), some (.ref a8), some (.ref a9), some (.ref a10), some (.int x11), some (.int x12), none, none] [] h)) ∧ ((¬ x11 = (0 : Int32)) → (CallV g m_X10_shiftK d [.ref a10, .ref a8, .int ((2147483647 : Int32) - x14)] n h (fun h1 => (∃ r2, rr h1 2759 41 = some r2 ∧ lay r2 = (0, 14, 2) ∧ (CallV g m_X10_times d [.ref 2759, .ref a9, .ref r2, .ref a10] n h1 (fun h3 => (∃ r4, rr h3 2759 41 = some r4 ∧ lay r4 = (0, 14, 2) ∧ (CallV g m_X10_set d [.ref r4, .ref a9] n h3 (fun h5 => (∃ r6, rr h5 2759 41 = some r6 ∧ lay r6 = (0, 14, 2) ∧ ((((9 : Int32) < (ri h5 r6 1)) → (W_X10_form_2 g d av Q n 373 [some (.ref 2759), none, none, some (.int x3), some (.int x4), some (.ref a5), none, some (.ref a7), some (.ref a8), some (.ref a9), some (.ref a10), none, some (.int x12), none, some (.int x14)] [] h5)) ∧ ((¬ (9 : Int32) < (ri h5 r6 1)) → (∃ r7, rr h5 2759 41 = some r7 ∧ lay r7 = (0, 14, 2) ∧ (CallI g m_X14_degreeN d [.ref r7] n h5 (fun v8 h8 => ((((12 : Int32) < v8) → (W_X10_form_2 g d av Q n 373 [some (.ref 2759), none, none, some (.int x3), some (.int x4), some (.ref a5), none, some (.ref a7), some (.ref a8), some (.ref a9), some (.ref a10), none, some (.int x12), none, some (.int x14)] [] h8)) ∧ ((¬ (12 : Int32) < v8) → (W_X10_form_2 g d av Q n 374 [some (.ref 2759), none, none, some (.int x3), some (.int x4), some (.ref a5), none, some (.ref a7), some (.ref a8), some (.ref a9), some (.ref a10), none, some (.int x12), none, some (.int x14)] [.int (1 : Int32)] h8))))))))))))))))))))) : W_X10_form_2 g d av Q n 300 [some (.ref 2759), none, none, some (.int x3), some (.int x4), some (.ref a5), none, some (.ref a7), some (.ref a8), some (.ref a9), some (.ref a10), some (.int x11), some (.int x12), none, some (.int x14)] [] h := by
  refine r_iload dX10_form_2_300 rfl ?_
  refine r_iload dX10_form_2_302 rfl ?_
  refine r_icmp_gt (tgt := 382) dX10_form_2_304 rfl (fun cH => ?_) (fun cH => ?_)
  · replace H := H.1 cH
    refine r_prune [true, false, false, true, true, true, false, true, true, true, true, true, true, false, false] (ls2 := [some (.ref 2759), none, none, some (.int x3), some (.int x4), some (.ref a5), none, some (.ref a7), some (.ref a8), some (.ref a9), some (.ref a10), some (.int x11), some (.int x12), none, none]) rfl ?_
    exact H
  · replace H := H.2 cH
    refine r_iload dX10_form_2_307 rfl ?_
    refine r_if_eq (tgt := 382) dX10_form_2_309 rfl (fun cH => ?_) (fun cH => ?_)
    · replace H := H.1 cH
      refine r_prune [true, false, false, true, true, true, false, true, true, true, true, true, true, false, false] (ls2 := [some (.ref 2759), none, none, some (.int x3), some (.int x4), some (.ref a5), none, some (.ref a7), some (.ref a8), some (.ref a9), some (.ref a10), some (.int x11), some (.int x12), none, none]) rfl ?_
      exact H
    · replace H := H.2 cH
      refine r_aload dX10_form_2_312 rfl ?_
      refine r_aload dX10_form_2_314 rfl ?_
      refine r_ldc (own := "") (v := (2147483647 : Int32)) dX10_form_2_316 q2190 ?_
      refine r_iload dX10_form_2_318 rfl ?_
      refine r_isub dX10_form_2_320 ?_
      refine k_SV (As := [.ref a10, .ref a8, .int ((2147483647 : Int32) - x14)]) (stk := []) cs_X10_626 dX10_form_2_321 rfl (Nat.le_of_ble_eq_true rfl) (H.mono (fun h1 H => ?_)) ⟨Nat.le_refl _, Nat.le_refl _⟩
      refine r_aload_n dX10_form_2_324 rfl rfl ?_
      refine r_aload dX10_form_2_325 rfl ?_
      refine r_aload_n dX10_form_2_327 rfl rfl ?_
      obtain ⟨r2, er2, tr2, H⟩ := H
      refine m_getM (x := r2) hp fw_X10_702 dX10_form_2_328 rfl ly_10 er2 ?_
      refine r_aload dX10_form_2_331 rfl ?_
      refine k_VV (As := [.ref a9, .ref r2, .ref a10]) (stk := []) hp cv_X10_197 dX10_form_2_333 rfl (Nat.le_of_ble_eq_true rfl) ly_10 (H.mono (fun h3 H => ?_)) ⟨Nat.le_refl _, Nat.le_refl _⟩
      refine r_aload_n dX10_form_2_336 rfl rfl ?_
      obtain ⟨r4, er4, tr4, H⟩ := H
      refine m_getM (x := r4) hp fw_X10_702 dX10_form_2_337 rfl ly_10 er4 ?_
      refine r_aload dX10_form_2_340 rfl ?_
      refine k_SV (As := [.ref r4, .ref a9]) (stk := []) cs_X10_113 dX10_form_2_342 rfl (Nat.le_of_ble_eq_true rfl) (H.mono (fun h5 H => ?_)) ⟨Nat.le_refl _, Nat.le_refl _⟩
      refine r_aload_n dX10_form_2_345 rfl rfl ?_
      obtain ⟨r6, er6, tr6, H⟩ := H
      refine m_getM (x := r6) hp fw_X10_702 dX10_form_2_346 rfl ly_10 er6 ?_
      refine m_getI hp fw_X10_93 dX10_form_2_349 rfl tr6 ?_
      refine r_bipush (v := (9 : Int32)) dX10_form_2_352 rfl ?_
      refine r_icmp_gt (tgt := 373) dX10_form_2_354 rfl (fun cH => ?_) (fun cH => ?_)
      · replace H := H.1 cH
        refine r_prune [true, false, false, true, true, true, false, true, true, true, true, false, true, false, true] (ls2 := [some (.ref 2759), none, none, some (.int x3), some (.int x4), some (.ref a5), none, some (.ref a7), some (.ref a8), some (.ref a9), some (.ref a10), none, some (.int x12), none, some (.int x14)]) rfl ?_
        exact H
      · replace H := H.2 cH
        refine r_aload_n dX10_form_2_357 rfl rfl ?_
        obtain ⟨r7, er7, tr7, H⟩ := H
        refine m_getM (x := r7) hp fw_X10_702 dX10_form_2_358 rfl ly_10 er7 ?_
        refine k_VI (As := []) (stk := []) hp cv_X10_119 dX10_form_2_361 rfl (Nat.le_of_ble_eq_true rfl) tr7 (H.mono (fun v8 h8 H => ?_)) ⟨Nat.le_refl _, Nat.le_refl _⟩
        refine r_bipush (v := (12 : Int32)) dX10_form_2_364 rfl ?_
        refine r_icmp_gt (tgt := 373) dX10_form_2_366 rfl (fun cH => ?_) (fun cH => ?_)
        · replace H := H.1 cH
          refine r_prune [true, false, false, true, true, true, false, true, true, true, true, false, true, false, true] (ls2 := [some (.ref 2759), none, none, some (.int x3), some (.int x4), some (.ref a5), none, some (.ref a7), some (.ref a8), some (.ref a9), some (.ref a10), none, some (.int x12), none, some (.int x14)]) rfl ?_
          exact H
        · replace H := H.2 cH
          refine r_iconst (v := (1 : Int32)) dX10_form_2_369 rfl ?_
          refine r_goto (tgt := 374) dX10_form_2_370 rfl ?_
          refine r_prune [true, false, false, true, true, true, false, true, true, true, true, false, true, false, true] (ls2 := [some (.ref 2759), none, none, some (.int x3), some (.int x4), some (.ref a5), none, some (.ref a7), some (.ref a8), some (.ref a9), some (.ref a10), none, some (.int x12), none, some (.int x14)]) rfl ?_
          exact H
theorem s_X10_form_2_373 {g : GX} {d : Nat} {av : List Value} {Q : QT} {n : Nat} {h : Hp} {x3 : Int32} {x4 : Int32} {a5 : Nat} {a7 : Nat} {a8 : Nat} {a9 : Nat} {a10 : Nat} {x12 : Int32} {x14 : Int32} (hp : g.2.2.2.2 = true) (t5 : lay a5 = (0, 13, 2)) (t7 : lay a7 = (0, 14, 2)) (t8 : lay a8 = (0, 14, 2)) (t9 : lay a9 = (0, 14, 2)) (t10 : lay a10 = (0, 14, 2)) (H : W_X10_form_2 g d av Q n 374 [some (.ref 2759), none, none, some (.int x3), some (.int x4), some (.ref a5), none, some (.ref a7), some (.ref a8), some (.ref a9), some (.ref a10), none, some (.int x12), none, some (.int x14)] [.int (0 : Int32)] h) : W_X10_form_2 g d av Q n 373 [some (.ref 2759), none, none, some (.int x3), some (.int x4), some (.ref a5), none, some (.ref a7), some (.ref a8), some (.ref a9), some (.ref a10), none, some (.int x12), none, some (.int x14)] [] h := by
  refine r_iconst (v := (0 : Int32)) dX10_form_2_373 rfl ?_
  exact H
theorem s_X10_form_2_374 {g : GX} {d : Nat} {av : List Value} {Q : QT} {n : Nat} {h : Hp} {x3 : Int32} {x4 : Int32} {a5 : Nat} {a7 : Nat} {a8 : Nat} {a9 : Nat} {a10 : Nat} {x12 : Int32} {x14 : Int32} {xs0 : Int32} (hp : g.2.2.2.2 = true) (t5 : lay a5 = (0, 13, 2)) (t7 : lay a7 = (0, 14, 2)) (t8 : lay a8 = (0, 14, 2)) (t9 : lay a9 = (0, 14, 2)) (t10 : lay a10 = (0, 14, 2)) (H : W_X10_form_2 g d av Q n 300 [some (.ref 2759), none, none, some (.int x3), some (.int x4), some (.ref a5), none, some (.ref a7), some (.ref a8), some (.ref a9), some (.ref a10), some (.int xs0), some (.int x12), none, some (.int (x14 + (1 : Int32)))] [] h) : W_X10_form_2 g d av Q n 374 [some (.ref 2759), none, none, some (.int x3), some (.int x4), some (.ref a5), none, some (.ref a7), some (.ref a8), some (.ref a9), some (.ref a10), none, some (.int x12), none, some (.int x14)] [.int xs0] h := by
  refine r_istore (ls2 := [some (.ref 2759), none, none, some (.int x3), some (.int x4), some (.ref a5), none, some (.ref a7), some (.ref a8), some (.ref a9), some (.ref a10), some (.int xs0), some (.int x12), none, some (.int x14)]) dX10_form_2_374 (by decide) rfl ?_
  refine r_iinc (v := (x14 + (1 : Int32))) (ls2 := [some (.ref 2759), none, none, some (.int x3), some (.int x4), some (.ref a5), none, some (.ref a7), some (.ref a8), some (.ref a9), some (.ref a10), some (.int xs0), some (.int x12), none, some (.int (x14 + (1 : Int32)))]) dX10_form_2_376 rfl rfl (by decide) rfl ?_
  refine r_goto (tgt := 300) dX10_form_2_379 rfl ?_
  exact H
theorem s_X10_form_2_382 {g : GX} {d : Nat} {av : List Value} {Q : QT} {n : Nat} {h : Hp} {x3 : Int32} {x4 : Int32} {a5 : Nat} {a7 : Nat} {a8 : Nat} {a9 : Nat} {a10 : Nat} {x11 : Int32} {x12 : Int32} (hp : g.2.2.2.2 = true) (t5 : lay a5 = (0, 13, 2)) (t7 : lay a7 = (0, 14, 2)) (t8 : lay a8 = (0, 14, 2)) (t9 : lay a9 = (0, 14, 2)) (t10 : lay a10 = (0, 14, 2)) (H : W_X10_form_2 g d av Q n 148 [some (.ref 2759), none, none, some (.int x3), some (.int x4), some (.ref a5), none, some (.ref a7), some (.ref a8), some (.ref a9), some (.ref a10), some (.int x11), some (.int (x12 + (1 : Int32))), none, none] [] h) : W_X10_form_2 g d av Q n 382 [some (.ref 2759), none, none, some (.int x3), some (.int x4), some (.ref a5), none, some (.ref a7), some (.ref a8), some (.ref a9), some (.ref a10), some (.int x11), some (.int x12), none, none] [] h := by
  refine r_iinc (v := (x12 + (1 : Int32))) (ls2 := [some (.ref 2759), none, none, some (.int x3), some (.int x4), some (.ref a5), none, some (.ref a7), some (.ref a8), some (.ref a9), some (.ref a10), some (.int x11), some (.int (x12 + (1 : Int32))), none, none]) dX10_form_2_382 rfl rfl (by decide) rfl ?_
  refine r_goto (tgt := 148) dX10_form_2_385 rfl ?_
  exact H
theorem s_X10_form_2_388 {g : GX} {d : Nat} {av : List Value} {Q : QT} {n : Nat} {h : Hp} {x3 : Int32} {x4 : Int32} {a5 : Nat} {x11 : Int32} (hp : g.2.2.2.2 = true) (t5 : lay a5 = (0, 13, 2)) (H : ∃ r1, rr h 2759 42 = some r1 ∧ lay r1 = (0, 13, 2) ∧ (∃ r2, rr h 2759 43 = some r2 ∧ lay r2 = (0, 13, 2) ∧ (CallV g m_X10_gcd_2 d [.ref 2759, .ref a5, .ref r1, .ref r2] n h (fun h3 => (∃ r4, rr h3 2759 42 = some r4 ∧ lay r4 = (0, 13, 2) ∧ (∃ r5, rr h3 2759 42 = some r5 ∧ lay r5 = (0, 13, 2) ∧ (CallV g m_X10_exact d [.ref 2759, .ref r4, .ref r5, .ref a5] n h3 (fun h6 => (∃ r7, rr h6 2759 43 = some r7 ∧ lay r7 = (0, 13, 2) ∧ (∃ r8, rr h6 2759 43 = some r8 ∧ lay r8 = (0, 13, 2) ∧ (CallV g m_X10_exact d [.ref 2759, .ref r7, .ref r8, .ref a5] n h6 (fun h9 => (∀ h10, h10 = wi h9 2759 3 x4 → (∀ h11, h11 = wi h10 2759 1 x3 → (((x11 = (0 : Int32)) → (Q (some (.int (0 : Int32))) n h11)) ∧ ((¬ x11 = (0 : Int32)) → (∃ r12, rr h11 2759 39 = some r12 ∧ lay r12 = (0, 14, 2) ∧ ((((9 : Int32) < (ri h11 r12 1)) → (Q (some (.int (0 : Int32))) n h11)) ∧ ((¬ (9 : Int32) < (ri h11 r12 1)) → (∃ r13, rr h11 2759 40 = some r13 ∧ lay r13 = (0, 14, 2) ∧ ((((9 : Int32) < (ri h11 r13 1)) → (Q (some (.int (0 : Int32))) n h11)) ∧ ((¬ (9 : Int32) < (ri h11 r13 1)) → (∃ r14, rr h11 2759 39 = some r14 ∧ lay r14 = (0, 14, 2) ∧ (CallI g m_X14_degreeN d [.ref r14] n h11 (fun v15 h15 => (∃ r16, rr h15 2759 42 = some r16 ∧ lay r16 = (0, 13, 2) ∧ ((((12 : Int32) < ((v15 + (ri h15 r16 1)) - (1 : Int32))) → (Q (some (.int (0 : Int32))) n h15)) ∧ ((¬ (12 : Int32) < ((v15 + (ri h15 r16 1)) - (1 : Int32))) → (∃ r17, rr h15 2759 43 = some r17 ∧ lay r17 = (0, 13, 2) ∧ ((((13 : Int32) < (ri h15 r17 1)) → (Q (some (.int (0 : Int32))) n h15)) ∧ ((¬ (13 : Int32) < (ri h15 r17 1)) → (∃ r18, rr h15 2759 40 = some r18 ∧ lay r18 = (0, 14, 2) ∧ (CallI g m_X14_degreeN d [.ref r18] n h15 (fun v19 h19 => ((((12 : Int32) < v19) → (Q (some (.int (0 : Int32))) n h19)) ∧ ((¬ (12 : Int32) < v19) → (Q (some (.int (1 : Int32))) n h19))))))))))))))))))))))))))))))))))))) : W_X10_form_2 g d av Q n 388 [some (.ref 2759), none, none, some (.int x3), some (.int x4), some (.ref a5), none, none, none, none, none, some (.int x11), none, none, none] [] h := by
  refine r_aload_n dX10_form_2_388 rfl rfl ?_
  refine r_aload dX10_form_2_389 rfl ?_
  refine r_aload_n dX10_form_2_391 rfl rfl ?_
  obtain ⟨r1, er1, tr1, H⟩ := H
  refine m_getM (x := r1) hp fw_X10_705 dX10_form_2_392 rfl ly_10 er1 ?_
  refine r_aload_n dX10_form_2_395 rfl rfl ?_
  obtain ⟨r2, er2, tr2, H⟩ := H
  refine m_getM (x := r2) hp fw_X10_709 dX10_form_2_396 rfl ly_10 er2 ?_
  refine k_VV (As := [.ref a5, .ref r1, .ref r2]) (stk := []) hp cv_X10_125 dX10_form_2_399 rfl (Nat.le_of_ble_eq_true rfl) ly_10 (H.mono (fun h3 H => ?_)) ⟨Nat.le_refl _, Nat.le_refl _⟩
  refine r_aload_n dX10_form_2_402 rfl rfl ?_
  refine r_aload_n dX10_form_2_403 rfl rfl ?_
  obtain ⟨r4, er4, tr4, H⟩ := H
  refine m_getM (x := r4) hp fw_X10_705 dX10_form_2_404 rfl ly_10 er4 ?_
  refine r_aload_n dX10_form_2_407 rfl rfl ?_
  obtain ⟨r5, er5, tr5, H⟩ := H
  refine m_getM (x := r5) hp fw_X10_705 dX10_form_2_408 rfl ly_10 er5 ?_
  refine r_aload dX10_form_2_411 rfl ?_
  refine k_VV (As := [.ref r4, .ref r5, .ref a5]) (stk := []) hp cv_X10_110 dX10_form_2_413 rfl (Nat.le_of_ble_eq_true rfl) ly_10 (H.mono (fun h6 H => ?_)) ⟨Nat.le_refl _, Nat.le_refl _⟩
  refine r_aload_n dX10_form_2_416 rfl rfl ?_
  refine r_aload_n dX10_form_2_417 rfl rfl ?_
  obtain ⟨r7, er7, tr7, H⟩ := H
  refine m_getM (x := r7) hp fw_X10_709 dX10_form_2_418 rfl ly_10 er7 ?_
  refine r_aload_n dX10_form_2_421 rfl rfl ?_
  obtain ⟨r8, er8, tr8, H⟩ := H
  refine m_getM (x := r8) hp fw_X10_709 dX10_form_2_422 rfl ly_10 er8 ?_
  refine r_aload dX10_form_2_425 rfl ?_
  refine k_VV (As := [.ref r7, .ref r8, .ref a5]) (stk := []) hp cv_X10_110 dX10_form_2_427 rfl (Nat.le_of_ble_eq_true rfl) ly_10 (H.mono (fun h9 H => ?_)) ⟨Nat.le_refl _, Nat.le_refl _⟩
  refine r_aload_n dX10_form_2_430 rfl rfl ?_
  refine r_iload dX10_form_2_431 rfl ?_
  refine m_putI hp fw_X10_90 dX10_form_2_433 rfl rfl ly_10 (fun h10 eh10 => ?_)
  replace H := H h10 eh10
  refine r_aload_n dX10_form_2_436 rfl rfl ?_
  refine r_iload_n dX10_form_2_437 rfl rfl ?_
  refine m_putI hp fw_X10_21 dX10_form_2_438 rfl rfl ly_10 (fun h11 eh11 => ?_)
  replace H := H h11 eh11
  refine r_iload dX10_form_2_441 rfl ?_
  refine r_if_eq (tgt := 520) dX10_form_2_443 rfl (fun cH => ?_) (fun cH => ?_)
  · replace H := H.1 cH
    refine r_iconst (v := (0 : Int32)) dX10_form_2_520 rfl ?_
    refine r_istore (ls2 := [some (.ref 2759), none, none, some (.int x3), some (.int x4), some (.ref a5), none, none, none, none, none, some (.int (0 : Int32)), none, none, none]) dX10_form_2_521 (by decide) rfl ?_
    refine r_iload dX10_form_2_523 rfl ?_
    exact r_zret dX10_form_2_525 rfl rfl (Nat.le_refl _) (Nat.le_refl _) H
  · replace H := H.2 cH
    refine r_aload_n dX10_form_2_446 rfl rfl ?_
    obtain ⟨r12, er12, tr12, H⟩ := H
    refine m_getM (x := r12) hp fw_X10_695 dX10_form_2_447 rfl ly_10 er12 ?_
    refine m_getI hp fw_X10_93 dX10_form_2_450 rfl tr12 ?_
    refine r_bipush (v := (9 : Int32)) dX10_form_2_453 rfl ?_
    refine r_icmp_gt (tgt := 520) dX10_form_2_455 rfl (fun cH => ?_) (fun cH => ?_)
    · replace H := H.1 cH
      refine r_iconst (v := (0 : Int32)) dX10_form_2_520 rfl ?_
      refine r_istore (ls2 := [some (.ref 2759), none, none, some (.int x3), some (.int x4), some (.ref a5), none, none, none, none, none, some (.int (0 : Int32)), none, none, none]) dX10_form_2_521 (by decide) rfl ?_
      refine r_iload dX10_form_2_523 rfl ?_
      exact r_zret dX10_form_2_525 rfl rfl (Nat.le_refl _) (Nat.le_refl _) H
    · replace H := H.2 cH
      refine r_aload_n dX10_form_2_458 rfl rfl ?_
      obtain ⟨r13, er13, tr13, H⟩ := H
      refine m_getM (x := r13) hp fw_X10_699 dX10_form_2_459 rfl ly_10 er13 ?_
      refine m_getI hp fw_X10_93 dX10_form_2_462 rfl tr13 ?_
      refine r_bipush (v := (9 : Int32)) dX10_form_2_465 rfl ?_
      refine r_icmp_gt (tgt := 520) dX10_form_2_467 rfl (fun cH => ?_) (fun cH => ?_)
      · replace H := H.1 cH
        refine r_iconst (v := (0 : Int32)) dX10_form_2_520 rfl ?_
        refine r_istore (ls2 := [some (.ref 2759), none, none, some (.int x3), some (.int x4), some (.ref a5), none, none, none, none, none, some (.int (0 : Int32)), none, none, none]) dX10_form_2_521 (by decide) rfl ?_
        refine r_iload dX10_form_2_523 rfl ?_
        exact r_zret dX10_form_2_525 rfl rfl (Nat.le_refl _) (Nat.le_refl _) H
      · replace H := H.2 cH
        refine r_aload_n dX10_form_2_470 rfl rfl ?_
        obtain ⟨r14, er14, tr14, H⟩ := H
        refine m_getM (x := r14) hp fw_X10_695 dX10_form_2_471 rfl ly_10 er14 ?_
        refine k_VI (As := []) (stk := []) hp cv_X10_119 dX10_form_2_474 rfl (Nat.le_of_ble_eq_true rfl) tr14 (H.mono (fun v15 h15 H => ?_)) ⟨Nat.le_refl _, Nat.le_refl _⟩
        refine r_aload_n dX10_form_2_477 rfl rfl ?_
        obtain ⟨r16, er16, tr16, H⟩ := H
        refine m_getM (x := r16) hp fw_X10_705 dX10_form_2_478 rfl ly_10 er16 ?_
        refine m_getI hp fw_X10_25 dX10_form_2_481 rfl tr16 ?_
        refine r_iadd dX10_form_2_484 ?_
        refine r_iconst (v := (1 : Int32)) dX10_form_2_485 rfl ?_
        refine r_isub dX10_form_2_486 ?_
        refine r_bipush (v := (12 : Int32)) dX10_form_2_487 rfl ?_
        refine r_icmp_gt (tgt := 520) dX10_form_2_489 rfl (fun cH => ?_) (fun cH => ?_)
        · replace H := H.1 cH
          refine r_iconst (v := (0 : Int32)) dX10_form_2_520 rfl ?_
          refine r_istore (ls2 := [some (.ref 2759), none, none, some (.int x3), some (.int x4), some (.ref a5), none, none, none, none, none, some (.int (0 : Int32)), none, none, none]) dX10_form_2_521 (by decide) rfl ?_
          refine r_iload dX10_form_2_523 rfl ?_
          exact r_zret dX10_form_2_525 rfl rfl (Nat.le_refl _) (Nat.le_refl _) H
        · replace H := H.2 cH
          refine r_aload_n dX10_form_2_492 rfl rfl ?_
          obtain ⟨r17, er17, tr17, H⟩ := H
          refine m_getM (x := r17) hp fw_X10_709 dX10_form_2_493 rfl ly_10 er17 ?_
          refine m_getI hp fw_X10_25 dX10_form_2_496 rfl tr17 ?_
          refine r_bipush (v := (13 : Int32)) dX10_form_2_499 rfl ?_
          refine r_icmp_gt (tgt := 520) dX10_form_2_501 rfl (fun cH => ?_) (fun cH => ?_)
          · replace H := H.1 cH
            refine r_iconst (v := (0 : Int32)) dX10_form_2_520 rfl ?_
            refine r_istore (ls2 := [some (.ref 2759), none, none, some (.int x3), some (.int x4), some (.ref a5), none, none, none, none, none, some (.int (0 : Int32)), none, none, none]) dX10_form_2_521 (by decide) rfl ?_
            refine r_iload dX10_form_2_523 rfl ?_
            exact r_zret dX10_form_2_525 rfl rfl (Nat.le_refl _) (Nat.le_refl _) H
          · replace H := H.2 cH
            refine r_aload_n dX10_form_2_504 rfl rfl ?_
            obtain ⟨r18, er18, tr18, H⟩ := H
            refine m_getM (x := r18) hp fw_X10_699 dX10_form_2_505 rfl ly_10 er18 ?_
            refine k_VI (As := []) (stk := []) hp cv_X10_119 dX10_form_2_508 rfl (Nat.le_of_ble_eq_true rfl) tr18 (H.mono (fun v19 h19 H => ?_)) ⟨Nat.le_refl _, Nat.le_refl _⟩
            refine r_bipush (v := (12 : Int32)) dX10_form_2_511 rfl ?_
            refine r_icmp_gt (tgt := 520) dX10_form_2_513 rfl (fun cH => ?_) (fun cH => ?_)
            · replace H := H.1 cH
              refine r_iconst (v := (0 : Int32)) dX10_form_2_520 rfl ?_
              refine r_istore (ls2 := [some (.ref 2759), none, none, some (.int x3), some (.int x4), some (.ref a5), none, none, none, none, none, some (.int (0 : Int32)), none, none, none]) dX10_form_2_521 (by decide) rfl ?_
              refine r_iload dX10_form_2_523 rfl ?_
              exact r_zret dX10_form_2_525 rfl rfl (Nat.le_refl _) (Nat.le_refl _) H
            · replace H := H.2 cH
              refine r_iconst (v := (1 : Int32)) dX10_form_2_516 rfl ?_
              refine r_goto (tgt := 521) dX10_form_2_517 rfl ?_
              refine r_istore (ls2 := [some (.ref 2759), none, none, some (.int x3), some (.int x4), some (.ref a5), none, none, none, none, none, some (.int (1 : Int32)), none, none, none]) dX10_form_2_521 (by decide) rfl ?_
              refine r_iload dX10_form_2_523 rfl ?_
              exact r_zret dX10_form_2_525 rfl rfl (Nat.le_refl _) (Nat.le_refl _) H
abbrev W_X10_close (g : GX) (d : Nat) (av : List Value) (Q : QT) (n : Nat) (pc : Nat) (ls : LV) (stk : List Value) (h : Hp) : Prop := RJ g m_X10_close (d + 1) 0 0 av Q pc ls stk n h 0 0
theorem s_X10_close_0 {g : GX} {d : Nat} {av : List Value} {Q : QT} {n : Nat} {h : Hp} {x1 : Int32} {x2 : Int32} (hp : g.2.2.2.2 = true)  (H : CallI g m_X10_isSlot d [.int x1] n h (fun v1 h1 => (((v1 = (0 : Int32)) → (Q (some (.int (-1 : Int32))) n h1)) ∧ ((¬ v1 = (0 : Int32)) → (CallI g m_X10_isSlot d [.int x2] n h1 (fun v2 h2 => (((¬ v2 = (0 : Int32)) → (vp_in x1 12 ∧ ∀ r3, r3 = 10245 + 9 * (x1).toNatClampNeg → ((((ri h2 r3 0) = (1 : Int32)) → (W_X10_close g d av Q n 42 [some (.ref 2759), none, some (.int x2), some (.ref r3), none, none, none, none, none, none, none] [] h2)) ∧ ((¬ (ri h2 r3 0) = (1 : Int32)) → ((((ri h2 r3 0) = (2 : Int32)) → (W_X10_close g d av Q n 42 [some (.ref 2759), none, some (.int x2), some (.ref r3), none, none, none, none, none, none, none] [] h2)) ∧ ((¬ (ri h2 r3 0) = (2 : Int32)) → (Q (some (.int (-3 : Int32))) n h2))))))) ∧ ((v2 = (0 : Int32)) → (Q (some (.int (-1 : Int32))) n h2))))))))) : W_X10_close g d av Q n 0 [some (.ref 2759), some (.int x1), some (.int x2), none, none, none, none, none, none, none, none] [] h := by
  refine r_iload_n dX10_close_0 rfl rfl ?_
  refine k_SI (As := [.int x1]) (stk := []) cs_X10_551 dX10_close_1 rfl (Nat.le_of_ble_eq_true rfl) (H.mono (fun v1 h1 H => ?_)) ⟨Nat.le_refl _, Nat.le_refl _⟩
  refine r_if_eq (tgt := 14) dX10_close_4 rfl (fun cH => ?_) (fun cH => ?_)
  · replace H := H.1 cH
    refine r_iconst (v := (-1 : Int32)) dX10_close_14 rfl ?_
    exact r_zret dX10_close_15 rfl rfl (Nat.le_refl _) (Nat.le_refl _) H
  · replace H := H.2 cH
    refine r_iload_n dX10_close_7 rfl rfl ?_
    refine k_SI (As := [.int x2]) (stk := []) cs_X10_551 dX10_close_8 rfl (Nat.le_of_ble_eq_true rfl) (H.mono (fun v2 h2 H => ?_)) ⟨Nat.le_refl _, Nat.le_refl _⟩
    refine r_if_ne (tgt := 16) dX10_close_11 rfl (fun cH => ?_) (fun cH => ?_)
    · replace H := H.1 cH
      refine r_aload_n dX10_close_16 rfl rfl ?_
      refine m_getF (x := 2841) hp fw_X10_450 dX10_close_17 rfl ly_10 (ff_10_20 ly_10) ?_
      refine r_iload_n dX10_close_20 rfl rfl ?_
      obtain ⟨r3, er3⟩ : ∃ y, y = 10245 + 9 * (x1).toNatClampNeg := ⟨_, rfl⟩
      have hir3 := H.1
      replace H := H.2 r3 er3
      have tLr3 := la_2841 hir3 er3
      refine m_aalF (x := r3) hp dX10_close_21 (lf_10_20 ly_10) rfl rfl (lu_10_20 ly_10) hir3 (fa_2841 hir3 er3) ?_
      refine r_astore_n (ls2 := [some (.ref 2759), some (.int x1), some (.int x2), some (.ref r3), none, none, none, none, none, none, none]) dX10_close_22 rfl (by decide) rfl ?_
      refine r_aload_n dX10_close_23 rfl rfl ?_
      refine m_getI hp fw_X10_202 dX10_close_24 rfl tLr3 ?_
      refine r_iconst (v := (1 : Int32)) dX10_close_27 rfl ?_
      refine r_icmp_eq (tgt := 42) dX10_close_28 rfl (fun cH => ?_) (fun cH => ?_)
      · replace H := H.1 cH
        refine r_prune [true, false, true, true, false, false, false, false, false, false, false] (ls2 := [some (.ref 2759), none, some (.int x2), some (.ref r3), none, none, none, none, none, none, none]) rfl ?_
        exact H
      · replace H := H.2 cH
        refine r_aload_n dX10_close_31 rfl rfl ?_
        refine m_getI hp fw_X10_202 dX10_close_32 rfl tLr3 ?_
        refine r_iconst (v := (2 : Int32)) dX10_close_35 rfl ?_
        refine r_icmp_eq (tgt := 42) dX10_close_36 rfl (fun cH => ?_) (fun cH => ?_)
        · replace H := H.1 cH
          refine r_prune [true, false, true, true, false, false, false, false, false, false, false] (ls2 := [some (.ref 2759), none, some (.int x2), some (.ref r3), none, none, none, none, none, none, none]) rfl ?_
          exact H
        · replace H := H.2 cH
          refine r_bipush (v := (-3 : Int32)) dX10_close_39 rfl ?_
          exact r_zret dX10_close_41 rfl rfl (Nat.le_refl _) (Nat.le_refl _) H
    · replace H := H.2 cH
      refine r_iconst (v := (-1 : Int32)) dX10_close_14 rfl ?_
      exact r_zret dX10_close_15 rfl rfl (Nat.le_refl _) (Nat.le_refl _) H
theorem s_X10_close_42 {g : GX} {d : Nat} {av : List Value} {Q : QT} {n : Nat} {h : Hp} {x2 : Int32} {a3 : Nat} (hp : g.2.2.2.2 = true) (t3 : lay a3 = (0, 11, 15)) (H : CallI g m_X10_isZero d [.ref a3] n h (fun v1 h1 => (((v1 = (0 : Int32)) → (CallV g m_X10_begin d [.ref 2759] n h1 (fun h2 => (CallR g m_X10_newB d [.ref 2759] n h2 (fun v3 h3 => (lay v3 = (0, 14, 2) ∧ (CallR g m_X10_newB d [.ref 2759] n h3 (fun v4 h4 => (lay v4 = (0, 14, 2) ∧ (CallI g m_X10_quotient_2 d [.ref 2759, .ref v3, .ref v4, .ref a3, .int (0 : Int32), .int (1 : Int32)] n h4 (fun v5 h5 => (((v5 = (0 : Int32)) → (Q (some (.int (-2 : Int32))) n h5)) ∧ ((¬ v5 = (0 : Int32)) → (CallI g m_X10_form_2 d [.ref 2759, .ref v3, .ref v4] n h5 (fun v6 h6 => (((¬ v6 = (0 : Int32)) → (∃ r7, rr h6 2759 41 = some r7 ∧ lay r7 = (0, 14, 2) ∧ (CallI g m_X14_degreeK d [.ref r7] n h6 (fun v8 h8 => (CallI g m_X10_depth d [.ref 2759, .int v8] n h8 (fun v9 h9 => (((v9 < (0 : Int32)) → (W_X10_close g d av Q n 120 [none, none, none, none, none, none, some (.int v9), none, none, none, none] [] h9)) ∧ ((¬ v9 < (0 : Int32)) → (((v9 ≤ (8 : Int32)) → (CallR g m_X10_newB d [.ref 2759] n h9 (fun v10 h10 => (lay v10 = (0, 14, 2) ∧ (CallV g m_X14_number d [.ref v10, .int (1 : Int32)] n h10 (fun h11 => (vp_in (0 : Int32) 4 ∧ fin 2938 ((0 : Int32)).toNatClampNeg = none ∧ ∀ h12, h12 = wr h11 2938 ((0 : Int32)).toNatClampNeg (some v10) → (CallI g m_X10_lay d [.ref 2759, .int v9, .ref 2938, .int (1 : Int32)] n h12 (fun v13 h13 => (CallR g m_X10_clear d [.ref 2759, .int v13] n h13 (fun v14 h14 => (lay v14 = (0, 13, 2) ∧ (vp_in (v13 - (1 : Int32)) 14 ∧ ((((ri h14 2936 ((v13 - (1 : Int32))).toNatClampNeg) = (0 : Int32)) → (CallV g m_X10_solveBy d [.ref 2759, .int (v13 - (1 : Int32)), .int v13, .ref v14] n h14 (fun h15 => (∃ r16, rr h15 2759 43 = some r16 ∧ lay r16 = (0, 13, 2) ∧ (vp_in (v13 - (1 : Int32)) 14 ∧ ∃ r17, rr h15 2935 ((v13 - (1 : Int32))).toNatClampNeg = some r17 ∧ lay r17 = (0, 13, 2) ∧ (CallI g m_X10_certificate d [.ref 2759, .ref v3, .ref v4, .int v9, .ref r16, .ref r17, .ref v10] n h15 (fun v18 h18 => (((¬ v18 = (0 : Int32)) → (CallV g m_X10_plain d [.ref 2842] n h18 (fun h19 => (CallI g m_X10_put d [.ref 2842, .ref v3, .ref v4] n h19 (fun v20 h20 => (CallI g m_X10_keep d [.ref 2759, .int x2] n h20 (fun v21 h21 => (Q (some (.int v21)) n h21)))))))) ∧ ((v18 = (0 : Int32)) → (Q (some (.int (-2 : Int32))) n h18)))))))))) ∧ ((¬ (ri h14 2936 ((v13 - (1 : Int32))).toNatClampNeg) = (0 : Int32)) → (Q (some (.int (-1 : Int32))) n h14)))))))))))))))) ∧ ((¬ v9 ≤ (8 : Int32)) → (W_X10_close g d av Q n 120 [none, none, none, none, none, none, some (.int v9), none, none, none, none] [] h9))))))))))) ∧ ((v6 = (0 : Int32)) → (Q (some (.int (-2 : Int32))) n h6)))))))))))))))))) ∧ ((¬ v1 = (0 : Int32)) → (Q (some (.int (-1 : Int32))) n h1))))) : W_X10_close g d av Q n 42 [some (.ref 2759), none, some (.int x2), some (.ref a3), none, none, none, none, none, none, none] [] h := by
  refine r_aload_n dX10_close_42 rfl rfl ?_
  refine k_SI (As := [.ref a3]) (stk := []) cs_X10_288 dX10_close_43 rfl (Nat.le_of_ble_eq_true rfl) (H.mono (fun v1 h1 H => ?_)) ⟨Nat.le_refl _, Nat.le_refl _⟩
  refine r_if_eq (tgt := 51) dX10_close_46 rfl (fun cH => ?_) (fun cH => ?_)
  · replace H := H.1 cH
    refine r_aload_n dX10_close_51 rfl rfl ?_
    refine k_VV (As := []) (stk := []) hp cv_X10_555 dX10_close_52 rfl (Nat.le_of_ble_eq_true rfl) ly_10 (H.mono (fun h2 H => ?_)) ⟨Nat.le_refl _, Nat.le_refl _⟩
    refine r_aload_n dX10_close_55 rfl rfl ?_
    refine k_VR (As := []) (stk := []) hp cv_X10_140 dX10_close_56 rfl (Nat.le_of_ble_eq_true rfl) ly_10 (H.mono (fun v3 h3 H => ?_)) ⟨Nat.le_refl _, Nat.le_refl _⟩
    obtain ⟨tv3, H⟩ := H
    refine r_astore (ls2 := [some (.ref 2759), none, some (.int x2), some (.ref a3), some (.ref v3), none, none, none, none, none, none]) dX10_close_59 (by decide) rfl ?_
    refine r_aload_n dX10_close_61 rfl rfl ?_
    refine k_VR (As := []) (stk := []) hp cv_X10_140 dX10_close_62 rfl (Nat.le_of_ble_eq_true rfl) ly_10 (H.mono (fun v4 h4 H => ?_)) ⟨Nat.le_refl _, Nat.le_refl _⟩
    obtain ⟨tv4, H⟩ := H
    refine r_astore (ls2 := [some (.ref 2759), none, some (.int x2), some (.ref a3), some (.ref v3), some (.ref v4), none, none, none, none, none]) dX10_close_65 (by decide) rfl ?_
    refine r_aload_n dX10_close_67 rfl rfl ?_
    refine r_aload dX10_close_68 rfl ?_
    refine r_aload dX10_close_70 rfl ?_
    refine r_aload_n dX10_close_72 rfl rfl ?_
    refine r_iconst (v := (0 : Int32)) dX10_close_73 rfl ?_
    refine r_iconst (v := (1 : Int32)) dX10_close_74 rfl ?_
    refine k_VI (As := [.ref v3, .ref v4, .ref a3, .int (0 : Int32), .int (1 : Int32)]) (stk := []) hp cv_X10_633 dX10_close_75 rfl (Nat.le_of_ble_eq_true rfl) ly_10 (H.mono (fun v5 h5 H => ?_)) ⟨Nat.le_refl _, Nat.le_refl _⟩
    refine r_if_eq (tgt := 92) dX10_close_78 rfl (fun cH => ?_) (fun cH => ?_)
    · replace H := H.1 cH
      refine r_bipush (v := (-2 : Int32)) dX10_close_92 rfl ?_
      exact r_zret dX10_close_94 rfl rfl (Nat.le_refl _) (Nat.le_refl _) H
    · replace H := H.2 cH
      refine r_aload_n dX10_close_81 rfl rfl ?_
      refine r_aload dX10_close_82 rfl ?_
      refine r_aload dX10_close_84 rfl ?_
      refine k_VI (As := [.ref v3, .ref v4]) (stk := []) hp cv_X10_712 dX10_close_86 rfl (Nat.le_of_ble_eq_true rfl) ly_10 (H.mono (fun v6 h6 H => ?_)) ⟨Nat.le_refl _, Nat.le_refl _⟩
      refine r_if_ne (tgt := 95) dX10_close_89 rfl (fun cH => ?_) (fun cH => ?_)
      · replace H := H.1 cH
        refine r_aload_n dX10_close_95 rfl rfl ?_
        refine r_aload_n dX10_close_96 rfl rfl ?_
        obtain ⟨r7, er7, tr7, H⟩ := H
        refine m_getM (x := r7) hp fw_X10_702 dX10_close_97 rfl ly_10 er7 ?_
        refine k_VI (As := []) (stk := [.ref 2759]) hp cv_X10_314 dX10_close_100 rfl (Nat.le_of_ble_eq_true rfl) tr7 (H.mono (fun v8 h8 H => ?_)) ⟨Nat.le_refl _, Nat.le_refl _⟩
        refine k_VI (As := [.int v8]) (stk := []) hp cv_X10_728 dX10_close_103 rfl (Nat.le_of_ble_eq_true rfl) ly_10 (H.mono (fun v9 h9 H => ?_)) ⟨Nat.le_refl _, Nat.le_refl _⟩
        refine r_istore (ls2 := [some (.ref 2759), none, some (.int x2), some (.ref a3), some (.ref v3), some (.ref v4), some (.int v9), none, none, none, none]) dX10_close_106 (by decide) rfl ?_
        refine r_iload dX10_close_108 rfl ?_
        refine r_if_lt (tgt := 120) dX10_close_110 rfl (fun cH => ?_) (fun cH => ?_)
        · replace H := H.1 cH
          refine r_prune [false, false, false, false, false, false, true, false, false, false, false] (ls2 := [none, none, none, none, none, none, some (.int v9), none, none, none, none]) rfl ?_
          exact H
        · replace H := H.2 cH
          refine r_iload dX10_close_113 rfl ?_
          refine r_bipush (v := (8 : Int32)) dX10_close_115 rfl ?_
          refine r_icmp_le (tgt := 132) dX10_close_117 rfl (fun cH => ?_) (fun cH => ?_)
          · replace H := H.1 cH
            refine r_aload_n dX10_close_132 rfl rfl ?_
            refine k_VR (As := []) (stk := []) hp cv_X10_140 dX10_close_133 rfl (Nat.le_of_ble_eq_true rfl) ly_10 (H.mono (fun v10 h10 H => ?_)) ⟨Nat.le_refl _, Nat.le_refl _⟩
            obtain ⟨tv10, H⟩ := H
            refine r_astore (ls2 := [some (.ref 2759), none, some (.int x2), some (.ref a3), some (.ref v3), some (.ref v4), some (.int v9), some (.ref v10), none, none, none]) dX10_close_136 (by decide) rfl ?_
            refine r_aload dX10_close_138 rfl ?_
            refine r_iconst (v := (1 : Int32)) dX10_close_140 rfl ?_
            refine k_VV (As := [.int (1 : Int32)]) (stk := []) hp cv_X10_158 dX10_close_141 rfl (Nat.le_of_ble_eq_true rfl) tv10 (H.mono (fun h11 H => ?_)) ⟨Nat.le_refl _, Nat.le_refl _⟩
            refine r_aload_n dX10_close_144 rfl rfl ?_
            refine m_getF (x := 2938) hp fw_X10_499 dX10_close_145 rfl ly_10 (ff_10_49 ly_10) ?_
            refine r_iconst (v := (0 : Int32)) dX10_close_148 rfl ?_
            refine r_aload dX10_close_149 rfl ?_
            refine m_aast (nf := 0) hp dX10_close_151 (lf_10_49 ly_10) rfl (cw14).1 tv10 (lu_10_49 ly_10) H.1 H.2.1 (fun h12 eh12 => ?_)
            replace H := H.2.2 h12 eh12
            refine r_aload_n dX10_close_152 rfl rfl ?_
            refine r_iload dX10_close_153 rfl ?_
            refine r_aload_n dX10_close_155 rfl rfl ?_
            refine m_getF (x := 2938) hp fw_X10_499 dX10_close_156 rfl ly_10 (ff_10_49 ly_10) ?_
            refine r_iconst (v := (1 : Int32)) dX10_close_159 rfl ?_
            refine k_VI (As := [.int v9, .ref 2938, .int (1 : Int32)]) (stk := []) hp cv_X10_731 dX10_close_160 rfl (Nat.le_of_ble_eq_true rfl) ly_10 (H.mono (fun v13 h13 H => ?_)) ⟨Nat.le_refl _, Nat.le_refl _⟩
            refine r_istore (ls2 := [some (.ref 2759), none, some (.int x2), some (.ref a3), some (.ref v3), some (.ref v4), some (.int v9), some (.ref v10), some (.int v13), none, none]) dX10_close_163 (by decide) rfl ?_
            refine r_aload_n dX10_close_165 rfl rfl ?_
            refine r_iload dX10_close_166 rfl ?_
            refine k_VR (As := [.int v13]) (stk := []) hp cv_X10_735 dX10_close_168 rfl (Nat.le_of_ble_eq_true rfl) ly_10 (H.mono (fun v14 h14 H => ?_)) ⟨Nat.le_refl _, Nat.le_refl _⟩
            obtain ⟨tv14, H⟩ := H
            refine r_astore (ls2 := [some (.ref 2759), none, some (.int x2), some (.ref a3), some (.ref v3), some (.ref v4), some (.int v9), some (.ref v10), some (.int v13), some (.ref v14), none]) dX10_close_171 (by decide) rfl ?_
            refine r_aload_n dX10_close_173 rfl rfl ?_
            refine m_getF (x := 2936) hp fw_X10_493 dX10_close_174 rfl ly_10 (ff_10_46 ly_10) ?_
            refine r_iload dX10_close_177 rfl ?_
            refine r_iconst (v := (1 : Int32)) dX10_close_179 rfl ?_
            refine r_isub dX10_close_180 ?_
            refine m_zald hp dX10_close_181 (lf_10_46 ly_10) H.1 ?_
            replace H := H.2
            refine r_if_eq (tgt := 187) dX10_close_182 rfl (fun cH => ?_) (fun cH => ?_)
            · replace H := H.1 cH
              refine r_aload_n dX10_close_187 rfl rfl ?_
              refine r_iload dX10_close_188 rfl ?_
              refine r_iconst (v := (1 : Int32)) dX10_close_190 rfl ?_
              refine r_isub dX10_close_191 ?_
              refine r_iload dX10_close_192 rfl ?_
              refine r_aload dX10_close_194 rfl ?_
              refine k_VV (As := [.int (v13 - (1 : Int32)), .int v13, .ref v14]) (stk := []) hp cv_X10_739 dX10_close_196 rfl (Nat.le_of_ble_eq_true rfl) ly_10 (H.mono (fun h15 H => ?_)) ⟨Nat.le_refl _, Nat.le_refl _⟩
              refine r_aload_n dX10_close_199 rfl rfl ?_
              refine r_aload dX10_close_200 rfl ?_
              refine r_aload dX10_close_202 rfl ?_
              refine r_iload dX10_close_204 rfl ?_
              refine r_aload_n dX10_close_206 rfl rfl ?_
              obtain ⟨r16, er16, tr16, H⟩ := H
              refine m_getM (x := r16) hp fw_X10_709 dX10_close_207 rfl ly_10 er16 ?_
              refine r_aload_n dX10_close_210 rfl rfl ?_
              refine m_getF (x := 2935) hp fw_X10_490 dX10_close_211 rfl ly_10 (ff_10_45 ly_10) ?_
              refine r_iload dX10_close_214 rfl ?_
              refine r_iconst (v := (1 : Int32)) dX10_close_216 rfl ?_
              refine r_isub dX10_close_217 ?_
              have hir17 := H.1
              obtain ⟨r17, er17, tr17, H⟩ := H.2
              refine m_aalM (x := r17) hp dX10_close_218 (lf_10_45 ly_10) rfl rfl (lu_10_45 ly_10) hir17 er17 ?_
              refine r_aload dX10_close_219 rfl ?_
              refine k_VI (As := [.ref v3, .ref v4, .int v9, .ref r16, .ref r17, .ref v10]) (stk := []) hp cv_X10_743 dX10_close_221 rfl (Nat.le_of_ble_eq_true rfl) ly_10 (H.mono (fun v18 h18 H => ?_)) ⟨Nat.le_refl _, Nat.le_refl _⟩
              refine r_if_ne (tgt := 230) dX10_close_224 rfl (fun cH => ?_) (fun cH => ?_)
              · replace H := H.1 cH
                refine r_aload_n dX10_close_230 rfl rfl ?_
                refine m_getF (x := 2842) hp fw_X10_453 dX10_close_231 rfl ly_10 (ff_10_21 ly_10) ?_
                refine k_SV (As := [.ref 2842]) (stk := []) cs_X10_257 dX10_close_234 rfl (Nat.le_of_ble_eq_true rfl) (H.mono (fun h19 H => ?_)) ⟨Nat.le_refl _, Nat.le_refl _⟩
                refine r_aload_n dX10_close_237 rfl rfl ?_
                refine m_getF (x := 2842) hp fw_X10_453 dX10_close_238 rfl ly_10 (ff_10_21 ly_10) ?_
                refine r_aload dX10_close_241 rfl ?_
                refine r_aload dX10_close_243 rfl ?_
                refine k_SI (As := [.ref 2842, .ref v3, .ref v4]) (stk := []) cs_X10_261 dX10_close_245 rfl (Nat.le_of_ble_eq_true rfl) (H.mono (fun v20 h20 H => ?_)) ⟨Nat.le_refl _, Nat.le_refl _⟩
                refine r_istore (ls2 := [some (.ref 2759), none, some (.int x2), some (.ref a3), some (.ref v3), some (.ref v4), some (.int v9), some (.ref v10), some (.int v13), some (.ref v14), some (.int v20)]) dX10_close_248 (by decide) rfl ?_
                refine r_aload_n dX10_close_250 rfl rfl ?_
                refine r_iload_n dX10_close_251 rfl rfl ?_
                refine k_VI (As := [.int x2]) (stk := []) hp cv_X10_558 dX10_close_252 rfl (Nat.le_of_ble_eq_true rfl) ly_10 (H.mono (fun v21 h21 H => ?_)) ⟨Nat.le_refl _, Nat.le_refl _⟩
                exact r_zret dX10_close_255 rfl rfl (Nat.le_refl _) (Nat.le_refl _) H
              · replace H := H.2 cH
                refine r_bipush (v := (-2 : Int32)) dX10_close_227 rfl ?_
                exact r_zret dX10_close_229 rfl rfl (Nat.le_refl _) (Nat.le_refl _) H
            · replace H := H.2 cH
              refine r_iconst (v := (-1 : Int32)) dX10_close_185 rfl ?_
              exact r_zret dX10_close_186 rfl rfl (Nat.le_refl _) (Nat.le_refl _) H
          · replace H := H.2 cH
            refine r_prune [false, false, false, false, false, false, true, false, false, false, false] (ls2 := [none, none, none, none, none, none, some (.int v9), none, none, none, none]) rfl ?_
            exact H
      · replace H := H.2 cH
        refine r_bipush (v := (-2 : Int32)) dX10_close_92 rfl ?_
        exact r_zret dX10_close_94 rfl rfl (Nat.le_refl _) (Nat.le_refl _) H
  · replace H := H.2 cH
    refine r_iconst (v := (-1 : Int32)) dX10_close_49 rfl ?_
    exact r_zret dX10_close_50 rfl rfl (Nat.le_refl _) (Nat.le_refl _) H
theorem s_X10_close_120 {g : GX} {d : Nat} {av : List Value} {Q : QT} {n : Nat} {h : Hp} {x6 : Int32} (hp : g.2.2.2.2 = true)  (H : (((0 : Int32) ≤ x6) → (Q (some (.int (-2 : Int32))) n h)) ∧ ((¬ (0 : Int32) ≤ x6) → (Q (some (.int (-1 : Int32))) n h))) : W_X10_close g d av Q n 120 [none, none, none, none, none, none, some (.int x6), none, none, none, none] [] h := by
  refine r_iload dX10_close_120 rfl ?_
  refine r_if_ge (tgt := 129) dX10_close_122 rfl (fun cH => ?_) (fun cH => ?_)
  · replace H := H.1 cH
    refine r_bipush (v := (-2 : Int32)) dX10_close_129 rfl ?_
    exact r_zret dX10_close_131 rfl rfl (Nat.le_refl _) (Nat.le_refl _) H
  · replace H := H.2 cH
    refine r_iconst (v := (-1 : Int32)) dX10_close_125 rfl ?_
    refine r_goto (tgt := 131) dX10_close_126 rfl ?_
    exact r_zret dX10_close_131 rfl rfl (Nat.le_refl _) (Nat.le_refl _) H
abbrev W_X10_depth (g : GX) (d : Nat) (av : List Value) (Q : QT) (n : Nat) (pc : Nat) (ls : LV) (stk : List Value) (h : Hp) : Prop := RJ g m_X10_depth (d + 1) 0 0 av Q pc ls stk n h 0 0
theorem s_X10_depth_0 {g : GX} {d : Nat} {av : List Value} {Q : QT} {n : Nat} {h : Hp} {x1 : Int32} (hp : g.2.2.2.2 = true)  (H : ∃ r1, rr h 2759 39 = some r1 ∧ lay r1 = (0, 14, 2) ∧ (CallI g m_X14_degreeK d [.ref r1] n h (fun v2 h2 => (∃ r3, rr h2 2759 40 = some r3 ∧ lay r3 = (0, 14, 2) ∧ (CallI g m_X14_degreeK d [.ref r3] n h2 (fun v4 h4 => (CallI g m_J3_max d [.int v2, .int v4] n h4 (fun v5 h5 => (CallR g m_X10_newU d [.ref 2759] n h5 (fun v6 h6 => (lay v6 = (0, 13, 2) ∧ (CallR g m_X10_newU d [.ref 2759] n h6 (fun v7 h7 => (lay v7 = (0, 13, 2) ∧ (∃ r8, rr h7 2759 42 = some r8 ∧ lay r8 = (0, 13, 2) ∧ (∃ r9, rr h7 2759 39 = some r9 ∧ lay r9 = (0, 14, 2) ∧ (CallR g m_X14_lead d [.ref r9] n h7 (fun v10 h10 => (lay v10 = (0, 13, 2) ∧ (CallV g m_X10_times_2 d [.ref v6, .ref r8, .ref v10] n h10 (fun h11 => (∃ r12, rr h11 2759 39 = some r12 ∧ lay r12 = (0, 14, 2) ∧ (∃ r13, rr h11 2759 40 = some r13 ∧ lay r13 = (0, 14, 2) ∧ (((¬ (ri h11 r12 1) = (ri h11 r13 1)) → (W_X10_depth g d av Q n 307 [some (.ref 2759), none, some (.int (ri h 2759 1)), some (.int (ri h 2759 3)), none, some (.int (x1 - v5)), none, none, none, none, none, none] [] h11)) ∧ (((ri h11 r12 1) = (ri h11 r13 1)) → (∃ r14, rr h11 2759 43 = some r14 ∧ lay r14 = (0, 13, 2) ∧ (CallI g m_X10_areSame d [.ref v6, .ref r14] n h11 (fun v15 h15 => (((v15 = (0 : Int32)) → (W_X10_depth g d av Q n 307 [some (.ref 2759), none, some (.int (ri h 2759 1)), some (.int (ri h 2759 3)), none, some (.int (x1 - v5)), none, none, none, none, none, none] [] h15)) ∧ ((¬ v15 = (0 : Int32)) → (((v5 ≤ (0 : Int32)) → (W_X10_depth g d av Q n 279 [some (.ref 2759), none, some (.int (ri h 2759 1)), some (.int (ri h 2759 3)), none, some (.int ((x1 - v5) + (1 : Int32))), none, none, some (.int (0 : Int32)), some (.int (1 : Int32)), none, none] [] h15)) ∧ ((¬ v5 ≤ (0 : Int32)) → (CallR g m_X10_newB d [.ref 2759] n h15 (fun v16 h16 => (lay v16 = (0, 14, 2) ∧ (∃ r17, rr h16 2759 40 = some r17 ∧ lay r17 = (0, 14, 2) ∧ (CallV g m_X10_shiftK d [.ref v16, .ref r17, .int (2147483646 : Int32)] n h16 (fun h18 => (vp_in (v5 - (1 : Int32)) 64 ∧ ∀ r19, r19 = (v16 + 2) + 2 * ((v5 - (1 : Int32))).toNatClampNeg → (∃ r20, rr h18 2759 43 = some r20 ∧ lay r20 = (0, 13, 2) ∧ (CallV g m_X10_times_2 d [.ref v6, .ref r19, .ref r20] n h18 (fun h21 => (CallR g m_X10_newU d [.ref 2759] n h21 (fun v22 h22 => (lay v22 = (0, 13, 2) ∧ (∃ r23, rr h22 2759 42 = some r23 ∧ lay r23 = (0, 13, 2) ∧ (∃ r24, rr h22 2759 39 = some r24 ∧ lay r24 = (0, 14, 2) ∧ (vp_in (v5 - (1 : Int32)) 64 ∧ ∀ r25, r25 = (r24 + 2) + 2 * ((v5 - (1 : Int32))).toNatClampNeg → (CallV g m_X10_times_2 d [.ref v22, .ref r23, .ref r25] n h22 (fun h26 => (∃ r27, rr h26 2759 40 = some r27 ∧ lay r27 = (0, 14, 2) ∧ (CallR g m_X14_lead d [.ref r27] n h26 (fun v28 h28 => (lay v28 = (0, 13, 2) ∧ (CallV g m_X10_times_2 d [.ref v7, .ref v22, .ref v28] n h28 (fun h29 => (CallV g m_X10_plus d [.ref v6, .ref v6, .ref v7, .int (1 : Int32)] n h29 (fun h30 => (∃ r31, rr h30 2759 40 = some r31 ∧ lay r31 = (0, 14, 2) ∧ (CallR g m_X14_lead d [.ref r31] n h30 (fun v32 h32 => (lay v32 = (0, 13, 2) ∧ (∃ r33, rr h32 2759 43 = some r33 ∧ lay r33 = (0, 13, 2) ∧ (CallV g m_X10_times_2 d [.ref v7, .ref v32, .ref r33] n h32 (fun h34 => (((¬ (ri h34 v6 1) = (0 : Int32)) → (CallI g m_X13_head d [.ref v6] n h34 (fun v35 h35 => (CallI g m_X13_head d [.ref v7] n h35 (fun v36 h36 => (CallI g m_X10_inv d [.int v36] n h36 (fun v37 h37 => (CallI g m_X10_mul d [.int v35, .int v37] n h37 (fun v38 h38 => (W_X10_depth g d av Q n 238 [some (.ref 2759), none, some (.int (ri h 2759 1)), some (.int (ri h 2759 3)), none, some (.int ((x1 - v5) + (1 : Int32))), some (.ref v6), some (.ref v7), none, none, none, none] [.int v38] h38)))))))))) ∧ (((ri h34 v6 1) = (0 : Int32)) → (W_X10_depth g d av Q n 238 [some (.ref 2759), none, some (.int (ri h 2759 1)), some (.int (ri h 2759 3)), none, some (.int ((x1 - v5) + (1 : Int32))), some (.ref v6), some (.ref v7), none, none, none, none] [.int (0 : Int32)] h34)))))))))))))))))))))))))))))))))))))))))))))))))))))))))))))))))))) : W_X10_depth g d av Q n 0 [some (.ref 2759), some (.int x1), none, none, none, none, none, none, none, none, none, none] [] h := by
  refine r_aload_n dX10_depth_0 rfl rfl ?_
  refine m_getI hp fw_X10_21 dX10_depth_1 rfl ly_10 ?_
  refine r_istore_n (ls2 := [some (.ref 2759), some (.int x1), some (.int (ri h 2759 1)), none, none, none, none, none, none, none, none, none]) dX10_depth_4 rfl (by decide) rfl ?_
  refine r_aload_n dX10_depth_5 rfl rfl ?_
  refine m_getI hp fw_X10_90 dX10_depth_6 rfl ly_10 ?_
  refine r_istore_n (ls2 := [some (.ref 2759), some (.int x1), some (.int (ri h 2759 1)), some (.int (ri h 2759 3)), none, none, none, none, none, none, none, none]) dX10_depth_9 rfl (by decide) rfl ?_
  refine r_aload_n dX10_depth_10 rfl rfl ?_
  obtain ⟨r1, er1, tr1, H⟩ := H
  refine m_getM (x := r1) hp fw_X10_695 dX10_depth_11 rfl ly_10 er1 ?_
  refine k_VI (As := []) (stk := []) hp cv_X10_314 dX10_depth_14 rfl (Nat.le_of_ble_eq_true rfl) tr1 (H.mono (fun v2 h2 H => ?_)) ⟨Nat.le_refl _, Nat.le_refl _⟩
  refine r_aload_n dX10_depth_17 rfl rfl ?_
  obtain ⟨r3, er3, tr3, H⟩ := H
  refine m_getM (x := r3) hp fw_X10_699 dX10_depth_18 rfl ly_10 er3 ?_
  refine k_VI (As := []) (stk := [.int v2]) hp cv_X10_314 dX10_depth_21 rfl (Nat.le_of_ble_eq_true rfl) tr3 (H.mono (fun v4 h4 H => ?_)) ⟨Nat.le_refl _, Nat.le_refl _⟩
  refine k_SI (As := [.int v2, .int v4]) (stk := []) cs_X10_40 dX10_depth_24 rfl (Nat.le_of_ble_eq_true rfl) (H.mono (fun v5 h5 H => ?_)) ⟨Nat.le_refl _, Nat.le_refl _⟩
  refine r_istore (ls2 := [some (.ref 2759), some (.int x1), some (.int (ri h 2759 1)), some (.int (ri h 2759 3)), some (.int v5), none, none, none, none, none, none, none]) dX10_depth_27 (by decide) rfl ?_
  refine r_iload_n dX10_depth_29 rfl rfl ?_
  refine r_iload dX10_depth_30 rfl ?_
  refine r_isub dX10_depth_32 ?_
  refine r_istore (ls2 := [some (.ref 2759), some (.int x1), some (.int (ri h 2759 1)), some (.int (ri h 2759 3)), some (.int v5), some (.int (x1 - v5)), none, none, none, none, none, none]) dX10_depth_33 (by decide) rfl ?_
  refine r_aload_n dX10_depth_35 rfl rfl ?_
  refine k_VR (As := []) (stk := []) hp cv_X10_74 dX10_depth_36 rfl (Nat.le_of_ble_eq_true rfl) ly_10 (H.mono (fun v6 h6 H => ?_)) ⟨Nat.le_refl _, Nat.le_refl _⟩
  obtain ⟨tv6, H⟩ := H
  refine r_astore (ls2 := [some (.ref 2759), some (.int x1), some (.int (ri h 2759 1)), some (.int (ri h 2759 3)), some (.int v5), some (.int (x1 - v5)), some (.ref v6), none, none, none, none, none]) dX10_depth_39 (by decide) rfl ?_
  refine r_aload_n dX10_depth_41 rfl rfl ?_
  refine k_VR (As := []) (stk := []) hp cv_X10_74 dX10_depth_42 rfl (Nat.le_of_ble_eq_true rfl) ly_10 (H.mono (fun v7 h7 H => ?_)) ⟨Nat.le_refl _, Nat.le_refl _⟩
  obtain ⟨tv7, H⟩ := H
  refine r_astore (ls2 := [some (.ref 2759), some (.int x1), some (.int (ri h 2759 1)), some (.int (ri h 2759 3)), some (.int v5), some (.int (x1 - v5)), some (.ref v6), some (.ref v7), none, none, none, none]) dX10_depth_45 (by decide) rfl ?_
  refine r_aload dX10_depth_47 rfl ?_
  refine r_aload_n dX10_depth_49 rfl rfl ?_
  obtain ⟨r8, er8, tr8, H⟩ := H
  refine m_getM (x := r8) hp fw_X10_705 dX10_depth_50 rfl ly_10 er8 ?_
  refine r_aload_n dX10_depth_53 rfl rfl ?_
  obtain ⟨r9, er9, tr9, H⟩ := H
  refine m_getM (x := r9) hp fw_X10_695 dX10_depth_54 rfl ly_10 er9 ?_
  refine k_VR (As := []) (stk := [.ref r8, .ref v6]) hp cv_X10_144 dX10_depth_57 rfl (Nat.le_of_ble_eq_true rfl) tr9 (H.mono (fun v10 h10 H => ?_)) ⟨Nat.le_refl _, Nat.le_refl _⟩
  obtain ⟨tv10, H⟩ := H
  refine k_SV (As := [.ref v6, .ref r8, .ref v10]) (stk := []) cs_X10_106 dX10_depth_60 rfl (Nat.le_of_ble_eq_true rfl) (H.mono (fun h11 H => ?_)) ⟨Nat.le_refl _, Nat.le_refl _⟩
  refine r_aload_n dX10_depth_63 rfl rfl ?_
  obtain ⟨r12, er12, tr12, H⟩ := H
  refine m_getM (x := r12) hp fw_X10_695 dX10_depth_64 rfl ly_10 er12 ?_
  refine m_getI hp fw_X10_93 dX10_depth_67 rfl tr12 ?_
  refine r_aload_n dX10_depth_70 rfl rfl ?_
  obtain ⟨r13, er13, tr13, H⟩ := H
  refine m_getM (x := r13) hp fw_X10_699 dX10_depth_71 rfl ly_10 er13 ?_
  refine m_getI hp fw_X10_93 dX10_depth_74 rfl tr13 ?_
  refine r_icmp_ne (tgt := 307) dX10_depth_77 rfl (fun cH => ?_) (fun cH => ?_)
  · replace H := H.1 cH
    refine r_prune [true, false, true, true, false, true, false, false, false, false, false, false] (ls2 := [some (.ref 2759), none, some (.int (ri h 2759 1)), some (.int (ri h 2759 3)), none, some (.int (x1 - v5)), none, none, none, none, none, none]) rfl ?_
    exact H
  · replace H := H.2 cH
    refine r_aload dX10_depth_80 rfl ?_
    refine r_aload_n dX10_depth_82 rfl rfl ?_
    obtain ⟨r14, er14, tr14, H⟩ := H
    refine m_getM (x := r14) hp fw_X10_709 dX10_depth_83 rfl ly_10 er14 ?_
    refine k_SI (As := [.ref v6, .ref r14]) (stk := []) cs_X10_716 dX10_depth_86 rfl (Nat.le_of_ble_eq_true rfl) (H.mono (fun v15 h15 H => ?_)) ⟨Nat.le_refl _, Nat.le_refl _⟩
    refine r_if_eq (tgt := 307) dX10_depth_89 rfl (fun cH => ?_) (fun cH => ?_)
    · replace H := H.1 cH
      refine r_prune [true, false, true, true, false, true, false, false, false, false, false, false] (ls2 := [some (.ref 2759), none, some (.int (ri h 2759 1)), some (.int (ri h 2759 3)), none, some (.int (x1 - v5)), none, none, none, none, none, none]) rfl ?_
      exact H
    · replace H := H.2 cH
      refine r_iinc (v := ((x1 - v5) + (1 : Int32))) (ls2 := [some (.ref 2759), some (.int x1), some (.int (ri h 2759 1)), some (.int (ri h 2759 3)), some (.int v5), some (.int ((x1 - v5) + (1 : Int32))), some (.ref v6), some (.ref v7), none, none, none, none]) dX10_depth_92 rfl rfl (by decide) rfl ?_
      refine r_iconst (v := (0 : Int32)) dX10_depth_95 rfl ?_
      refine r_istore (ls2 := [some (.ref 2759), some (.int x1), some (.int (ri h 2759 1)), some (.int (ri h 2759 3)), some (.int v5), some (.int ((x1 - v5) + (1 : Int32))), some (.ref v6), some (.ref v7), some (.int (0 : Int32)), none, none, none]) dX10_depth_96 (by decide) rfl ?_
      refine r_iconst (v := (1 : Int32)) dX10_depth_98 rfl ?_
      refine r_istore (ls2 := [some (.ref 2759), some (.int x1), some (.int (ri h 2759 1)), some (.int (ri h 2759 3)), some (.int v5), some (.int ((x1 - v5) + (1 : Int32))), some (.ref v6), some (.ref v7), some (.int (0 : Int32)), some (.int (1 : Int32)), none, none]) dX10_depth_99 (by decide) rfl ?_
      refine r_iload dX10_depth_101 rfl ?_
      refine r_if_le (tgt := 279) dX10_depth_103 rfl (fun cH => ?_) (fun cH => ?_)
      · replace H := H.1 cH
        refine r_prune [true, false, true, true, false, true, false, false, true, true, false, false] (ls2 := [some (.ref 2759), none, some (.int (ri h 2759 1)), some (.int (ri h 2759 3)), none, some (.int ((x1 - v5) + (1 : Int32))), none, none, some (.int (0 : Int32)), some (.int (1 : Int32)), none, none]) rfl ?_
        exact H
      · replace H := H.2 cH
        refine r_aload_n dX10_depth_106 rfl rfl ?_
        refine k_VR (As := []) (stk := []) hp cv_X10_140 dX10_depth_107 rfl (Nat.le_of_ble_eq_true rfl) ly_10 (H.mono (fun v16 h16 H => ?_)) ⟨Nat.le_refl _, Nat.le_refl _⟩
        obtain ⟨tv16, H⟩ := H
        refine r_astore (ls2 := [some (.ref 2759), some (.int x1), some (.int (ri h 2759 1)), some (.int (ri h 2759 3)), some (.int v5), some (.int ((x1 - v5) + (1 : Int32))), some (.ref v6), some (.ref v7), some (.int (0 : Int32)), some (.int (1 : Int32)), some (.ref v16), none]) dX10_depth_110 (by decide) rfl ?_
        refine r_aload dX10_depth_112 rfl ?_
        refine r_aload_n dX10_depth_114 rfl rfl ?_
        obtain ⟨r17, er17, tr17, H⟩ := H
        refine m_getM (x := r17) hp fw_X10_699 dX10_depth_115 rfl ly_10 er17 ?_
        refine r_ldcw (own := "") (v := (2147483646 : Int32)) dX10_depth_118 q2644 ?_
        refine k_SV (As := [.ref v16, .ref r17, .int (2147483646 : Int32)]) (stk := []) cs_X10_626 dX10_depth_121 rfl (Nat.le_of_ble_eq_true rfl) (H.mono (fun h18 H => ?_)) ⟨Nat.le_refl _, Nat.le_refl _⟩
        refine r_aload dX10_depth_124 rfl ?_
        refine r_aload dX10_depth_126 rfl ?_
        refine m_getF (x := (v16 + 1)) hp fw_X10_98 dX10_depth_128 rfl tv16 (ff_14_0 tv16) ?_
        refine r_iload dX10_depth_131 rfl ?_
        refine r_iconst (v := (1 : Int32)) dX10_depth_133 rfl ?_
        refine r_isub dX10_depth_134 ?_
        obtain ⟨r19, er19⟩ : ∃ y, y = (v16 + 2) + 2 * ((v5 - (1 : Int32))).toNatClampNeg := ⟨_, rfl⟩
        have hir19 := H.1
        replace H := H.2 r19 er19
        have tLr19 := le_14 tv16 hir19 er19
        refine m_aalF (x := r19) hp dX10_depth_135 (lf_14_0 tv16) rfl rfl (lu_14_0 tv16) hir19 (fe_14 tv16 hir19 er19) ?_
        refine r_aload_n dX10_depth_136 rfl rfl ?_
        obtain ⟨r20, er20, tr20, H⟩ := H
        refine m_getM (x := r20) hp fw_X10_709 dX10_depth_137 rfl ly_10 er20 ?_
        refine k_SV (As := [.ref v6, .ref r19, .ref r20]) (stk := []) cs_X10_106 dX10_depth_140 rfl (Nat.le_of_ble_eq_true rfl) (H.mono (fun h21 H => ?_)) ⟨Nat.le_refl _, Nat.le_refl _⟩
        refine r_aload_n dX10_depth_143 rfl rfl ?_
        refine k_VR (As := []) (stk := []) hp cv_X10_74 dX10_depth_144 rfl (Nat.le_of_ble_eq_true rfl) ly_10 (H.mono (fun v22 h22 H => ?_)) ⟨Nat.le_refl _, Nat.le_refl _⟩
        obtain ⟨tv22, H⟩ := H
        refine r_astore (ls2 := [some (.ref 2759), some (.int x1), some (.int (ri h 2759 1)), some (.int (ri h 2759 3)), some (.int v5), some (.int ((x1 - v5) + (1 : Int32))), some (.ref v6), some (.ref v7), some (.int (0 : Int32)), some (.int (1 : Int32)), some (.ref v16), some (.ref v22)]) dX10_depth_147 (by decide) rfl ?_
        refine r_aload dX10_depth_149 rfl ?_
        refine r_aload_n dX10_depth_151 rfl rfl ?_
        obtain ⟨r23, er23, tr23, H⟩ := H
        refine m_getM (x := r23) hp fw_X10_705 dX10_depth_152 rfl ly_10 er23 ?_
        refine r_aload_n dX10_depth_155 rfl rfl ?_
        obtain ⟨r24, er24, tr24, H⟩ := H
        refine m_getM (x := r24) hp fw_X10_695 dX10_depth_156 rfl ly_10 er24 ?_
        refine m_getF (x := (r24 + 1)) hp fw_X10_98 dX10_depth_159 rfl tr24 (ff_14_0 tr24) ?_
        refine r_iload dX10_depth_162 rfl ?_
        refine r_iconst (v := (1 : Int32)) dX10_depth_164 rfl ?_
        refine r_isub dX10_depth_165 ?_
        obtain ⟨r25, er25⟩ : ∃ y, y = (r24 + 2) + 2 * ((v5 - (1 : Int32))).toNatClampNeg := ⟨_, rfl⟩
        have hir25 := H.1
        replace H := H.2 r25 er25
        have tLr25 := le_14 tr24 hir25 er25
        refine m_aalF (x := r25) hp dX10_depth_166 (lf_14_0 tr24) rfl rfl (lu_14_0 tr24) hir25 (fe_14 tr24 hir25 er25) ?_
        refine k_SV (As := [.ref v22, .ref r23, .ref r25]) (stk := []) cs_X10_106 dX10_depth_167 rfl (Nat.le_of_ble_eq_true rfl) (H.mono (fun h26 H => ?_)) ⟨Nat.le_refl _, Nat.le_refl _⟩
        refine r_aload dX10_depth_170 rfl ?_
        refine r_aload dX10_depth_172 rfl ?_
        refine r_aload_n dX10_depth_174 rfl rfl ?_
        obtain ⟨r27, er27, tr27, H⟩ := H
        refine m_getM (x := r27) hp fw_X10_699 dX10_depth_175 rfl ly_10 er27 ?_
        refine k_VR (As := []) (stk := [.ref v22, .ref v7]) hp cv_X10_144 dX10_depth_178 rfl (Nat.le_of_ble_eq_true rfl) tr27 (H.mono (fun v28 h28 H => ?_)) ⟨Nat.le_refl _, Nat.le_refl _⟩
        obtain ⟨tv28, H⟩ := H
        refine k_SV (As := [.ref v7, .ref v22, .ref v28]) (stk := []) cs_X10_106 dX10_depth_181 rfl (Nat.le_of_ble_eq_true rfl) (H.mono (fun h29 H => ?_)) ⟨Nat.le_refl _, Nat.le_refl _⟩
        refine r_aload dX10_depth_184 rfl ?_
        refine r_aload dX10_depth_186 rfl ?_
        refine r_aload dX10_depth_188 rfl ?_
        refine r_iconst (v := (1 : Int32)) dX10_depth_190 rfl ?_
        refine k_SV (As := [.ref v6, .ref v6, .ref v7, .int (1 : Int32)]) (stk := []) cs_X10_101 dX10_depth_191 rfl (Nat.le_of_ble_eq_true rfl) (H.mono (fun h30 H => ?_)) ⟨Nat.le_refl _, Nat.le_refl _⟩
        refine r_aload dX10_depth_194 rfl ?_
        refine r_aload_n dX10_depth_196 rfl rfl ?_
        obtain ⟨r31, er31, tr31, H⟩ := H
        refine m_getM (x := r31) hp fw_X10_699 dX10_depth_197 rfl ly_10 er31 ?_
        refine k_VR (As := []) (stk := [.ref v7]) hp cv_X10_144 dX10_depth_200 rfl (Nat.le_of_ble_eq_true rfl) tr31 (H.mono (fun v32 h32 H => ?_)) ⟨Nat.le_refl _, Nat.le_refl _⟩
        obtain ⟨tv32, H⟩ := H
        refine r_aload_n dX10_depth_203 rfl rfl ?_
        obtain ⟨r33, er33, tr33, H⟩ := H
        refine m_getM (x := r33) hp fw_X10_709 dX10_depth_204 rfl ly_10 er33 ?_
        refine k_SV (As := [.ref v7, .ref v32, .ref r33]) (stk := []) cs_X10_106 dX10_depth_207 rfl (Nat.le_of_ble_eq_true rfl) (H.mono (fun h34 H => ?_)) ⟨Nat.le_refl _, Nat.le_refl _⟩
        refine r_aload dX10_depth_210 rfl ?_
        refine m_getI hp fw_X10_25 dX10_depth_212 rfl tv6 ?_
        refine r_if_ne (tgt := 222) dX10_depth_215 rfl (fun cH => ?_) (fun cH => ?_)
        · replace H := H.1 cH
          refine r_aload dX10_depth_222 rfl ?_
          refine k_VI (As := []) (stk := []) hp cv_X10_66 dX10_depth_224 rfl (Nat.le_of_ble_eq_true rfl) tv6 (H.mono (fun v35 h35 H => ?_)) ⟨Nat.le_refl _, Nat.le_refl _⟩
          refine r_aload dX10_depth_227 rfl ?_
          refine k_VI (As := []) (stk := [.int v35]) hp cv_X10_66 dX10_depth_229 rfl (Nat.le_of_ble_eq_true rfl) tv7 (H.mono (fun v36 h36 H => ?_)) ⟨Nat.le_refl _, Nat.le_refl _⟩
          refine k_SI (As := [.int v36]) (stk := [.int v35]) cs_X10_13 dX10_depth_232 rfl (Nat.le_of_ble_eq_true rfl) (H.mono (fun v37 h37 H => ?_)) ⟨Nat.le_refl _, Nat.le_refl _⟩
          refine k_SI (As := [.int v35, .int v37]) (stk := []) cs_X10_56 dX10_depth_235 rfl (Nat.le_of_ble_eq_true rfl) (H.mono (fun v38 h38 H => ?_)) ⟨Nat.le_refl _, Nat.le_refl _⟩
          refine r_prune [true, false, true, true, false, true, true, true, false, false, false, false] (ls2 := [some (.ref 2759), none, some (.int (ri h 2759 1)), some (.int (ri h 2759 3)), none, some (.int ((x1 - v5) + (1 : Int32))), some (.ref v6), some (.ref v7), none, none, none, none]) rfl ?_
          exact H
        · replace H := H.2 cH
          refine r_iconst (v := (0 : Int32)) dX10_depth_218 rfl ?_
          refine r_goto (tgt := 238) dX10_depth_219 rfl ?_
          refine r_prune [true, false, true, true, false, true, true, true, false, false, false, false] (ls2 := [some (.ref 2759), none, some (.int (ri h 2759 1)), some (.int (ri h 2759 3)), none, some (.int ((x1 - v5) + (1 : Int32))), some (.ref v6), some (.ref v7), none, none, none, none]) rfl ?_
          exact H
theorem s_X10_depth_238 {g : GX} {d : Nat} {av : List Value} {Q : QT} {n : Nat} {h : Hp} {x2 : Int32} {x3 : Int32} {x5 : Int32} {a6 : Nat} {a7 : Nat} {xs0 : Int32} (hp : g.2.2.2.2 = true) (t6 : lay a6 = (0, 13, 2)) (t7 : lay a7 = (0, 13, 2)) (H : CallV g m_X10_scale_2 d [.ref a7, .ref a7, .int xs0] n h (fun h1 => (((¬ xs0 = (0 : Int32)) → (CallI g m_X10_areSame d [.ref a6, .ref a7] n h1 (fun v2 h2 => (W_X10_depth g d av Q n 277 [some (.ref 2759), none, some (.int x2), some (.int x3), none, some (.int x5), none, none, some (.int xs0), none, none, none] [.int v2] h2)))) ∧ ((xs0 = (0 : Int32)) → (((¬ (ri h1 a6 1) = (0 : Int32)) → (W_X10_depth g d av Q n 277 [some (.ref 2759), none, some (.int x2), some (.int x3), none, some (.int x5), none, none, some (.int xs0), none, none, none] [.int (0 : Int32)] h1)) ∧ (((ri h1 a6 1) = (0 : Int32)) → (W_X10_depth g d av Q n 277 [some (.ref 2759), none, some (.int x2), some (.int x3), none, some (.int x5), none, none, some (.int xs0), none, none, none] [.int (1 : Int32)] h1))))))) : W_X10_depth g d av Q n 238 [some (.ref 2759), none, some (.int x2), some (.int x3), none, some (.int x5), some (.ref a6), some (.ref a7), none, none, none, none] [.int xs0] h := by
  refine r_istore (ls2 := [some (.ref 2759), none, some (.int x2), some (.int x3), none, some (.int x5), some (.ref a6), some (.ref a7), some (.int xs0), none, none, none]) dX10_depth_238 (by decide) rfl ?_
  refine r_aload dX10_depth_240 rfl ?_
  refine r_aload dX10_depth_242 rfl ?_
  refine r_iload dX10_depth_244 rfl ?_
  refine k_SV (As := [.ref a7, .ref a7, .int xs0]) (stk := []) cs_X10_70 dX10_depth_246 rfl (Nat.le_of_ble_eq_true rfl) (H.mono (fun h1 H => ?_)) ⟨Nat.le_refl _, Nat.le_refl _⟩
  refine r_iload dX10_depth_249 rfl ?_
  refine r_if_ne (tgt := 270) dX10_depth_251 rfl (fun cH => ?_) (fun cH => ?_)
  · replace H := H.1 cH
    refine r_aload dX10_depth_270 rfl ?_
    refine r_aload dX10_depth_272 rfl ?_
    refine k_SI (As := [.ref a6, .ref a7]) (stk := []) cs_X10_716 dX10_depth_274 rfl (Nat.le_of_ble_eq_true rfl) (H.mono (fun v2 h2 H => ?_)) ⟨Nat.le_refl _, Nat.le_refl _⟩
    refine r_prune [true, false, true, true, false, true, false, false, true, false, false, false] (ls2 := [some (.ref 2759), none, some (.int x2), some (.int x3), none, some (.int x5), none, none, some (.int xs0), none, none, none]) rfl ?_
    exact H
  · replace H := H.2 cH
    refine r_aload dX10_depth_254 rfl ?_
    refine m_getI hp fw_X10_25 dX10_depth_256 rfl t6 ?_
    refine r_if_ne (tgt := 266) dX10_depth_259 rfl (fun cH => ?_) (fun cH => ?_)
    · replace H := H.1 cH
      refine r_iconst (v := (0 : Int32)) dX10_depth_266 rfl ?_
      refine r_goto (tgt := 277) dX10_depth_267 rfl ?_
      refine r_prune [true, false, true, true, false, true, false, false, true, false, false, false] (ls2 := [some (.ref 2759), none, some (.int x2), some (.int x3), none, some (.int x5), none, none, some (.int xs0), none, none, none]) rfl ?_
      exact H
    · replace H := H.2 cH
      refine r_iconst (v := (1 : Int32)) dX10_depth_262 rfl ?_
      refine r_goto (tgt := 277) dX10_depth_263 rfl ?_
      refine r_prune [true, false, true, true, false, true, false, false, true, false, false, false] (ls2 := [some (.ref 2759), none, some (.int x2), some (.int x3), none, some (.int x5), none, none, some (.int xs0), none, none, none]) rfl ?_
      exact H
theorem s_X10_depth_277 {g : GX} {d : Nat} {av : List Value} {Q : QT} {n : Nat} {h : Hp} {x2 : Int32} {x3 : Int32} {x5 : Int32} {x8 : Int32} {xs0 : Int32} (hp : g.2.2.2.2 = true)  (H : W_X10_depth g d av Q n 279 [some (.ref 2759), none, some (.int x2), some (.int x3), none, some (.int x5), none, none, some (.int x8), some (.int xs0), none, none] [] h) : W_X10_depth g d av Q n 277 [some (.ref 2759), none, some (.int x2), some (.int x3), none, some (.int x5), none, none, some (.int x8), none, none, none] [.int xs0] h := by
  refine r_istore (ls2 := [some (.ref 2759), none, some (.int x2), some (.int x3), none, some (.int x5), none, none, some (.int x8), some (.int xs0), none, none]) dX10_depth_277 (by decide) rfl ?_
  exact H
theorem s_X10_depth_279 {g : GX} {d : Nat} {av : List Value} {Q : QT} {n : Nat} {h : Hp} {x2 : Int32} {x3 : Int32} {x5 : Int32} {x8 : Int32} {x9 : Int32} (hp : g.2.2.2.2 = true)  (H : ((x9 = (0 : Int32)) → (W_X10_depth g d av Q n 303 [some (.ref 2759), none, some (.int x2), some (.int x3), none, some (.int x5), none, none, none, none, none, none] [] h)) ∧ ((¬ x9 = (0 : Int32)) → ((((12 : Int32) < x8) → (W_X10_depth g d av Q n 303 [some (.ref 2759), none, some (.int x2), some (.int x3), none, some (.int x5), none, none, none, none, none, none] [] h)) ∧ ((¬ (12 : Int32) < x8) → (((x8 ≤ x5) → (W_X10_depth g d av Q n 303 [some (.ref 2759), none, some (.int x2), some (.int x3), none, some (.int x5), none, none, none, none, none, none] [] h)) ∧ ((¬ x8 ≤ x5) → (W_X10_depth g d av Q n 305 [some (.ref 2759), none, some (.int x2), some (.int x3), none, none, none, none, none, none, none, none] [.int x8] h))))))) : W_X10_depth g d av Q n 279 [some (.ref 2759), none, some (.int x2), some (.int x3), none, some (.int x5), none, none, some (.int x8), some (.int x9), none, none] [] h := by
  refine r_iload dX10_depth_279 rfl ?_
  refine r_if_eq (tgt := 303) dX10_depth_281 rfl (fun cH => ?_) (fun cH => ?_)
  · replace H := H.1 cH
    refine r_prune [true, false, true, true, false, true, false, false, false, false, false, false] (ls2 := [some (.ref 2759), none, some (.int x2), some (.int x3), none, some (.int x5), none, none, none, none, none, none]) rfl ?_
    exact H
  · replace H := H.2 cH
    refine r_iload dX10_depth_284 rfl ?_
    refine r_bipush (v := (12 : Int32)) dX10_depth_286 rfl ?_
    refine r_icmp_gt (tgt := 303) dX10_depth_288 rfl (fun cH => ?_) (fun cH => ?_)
    · replace H := H.1 cH
      refine r_prune [true, false, true, true, false, true, false, false, false, false, false, false] (ls2 := [some (.ref 2759), none, some (.int x2), some (.int x3), none, some (.int x5), none, none, none, none, none, none]) rfl ?_
      exact H
    · replace H := H.2 cH
      refine r_iload dX10_depth_291 rfl ?_
      refine r_iload dX10_depth_293 rfl ?_
      refine r_icmp_le (tgt := 303) dX10_depth_295 rfl (fun cH => ?_) (fun cH => ?_)
      · replace H := H.1 cH
        refine r_prune [true, false, true, true, false, true, false, false, false, false, false, false] (ls2 := [some (.ref 2759), none, some (.int x2), some (.int x3), none, some (.int x5), none, none, none, none, none, none]) rfl ?_
        exact H
      · replace H := H.2 cH
        refine r_iload dX10_depth_298 rfl ?_
        refine r_goto (tgt := 305) dX10_depth_300 rfl ?_
        refine r_prune [true, false, true, true, false, false, false, false, false, false, false, false] (ls2 := [some (.ref 2759), none, some (.int x2), some (.int x3), none, none, none, none, none, none, none, none]) rfl ?_
        exact H
theorem s_X10_depth_303 {g : GX} {d : Nat} {av : List Value} {Q : QT} {n : Nat} {h : Hp} {x2 : Int32} {x3 : Int32} {x5 : Int32} (hp : g.2.2.2.2 = true)  (H : W_X10_depth g d av Q n 305 [some (.ref 2759), none, some (.int x2), some (.int x3), none, none, none, none, none, none, none, none] [.int x5] h) : W_X10_depth g d av Q n 303 [some (.ref 2759), none, some (.int x2), some (.int x3), none, some (.int x5), none, none, none, none, none, none] [] h := by
  refine r_iload dX10_depth_303 rfl ?_
  refine r_prune [true, false, true, true, false, false, false, false, false, false, false, false] (ls2 := [some (.ref 2759), none, some (.int x2), some (.int x3), none, none, none, none, none, none, none, none]) rfl ?_
  exact H
theorem s_X10_depth_305 {g : GX} {d : Nat} {av : List Value} {Q : QT} {n : Nat} {h : Hp} {x2 : Int32} {x3 : Int32} {xs0 : Int32} (hp : g.2.2.2.2 = true)  (H : W_X10_depth g d av Q n 307 [some (.ref 2759), none, some (.int x2), some (.int x3), none, some (.int xs0), none, none, none, none, none, none] [] h) : W_X10_depth g d av Q n 305 [some (.ref 2759), none, some (.int x2), some (.int x3), none, none, none, none, none, none, none, none] [.int xs0] h := by
  refine r_istore (ls2 := [some (.ref 2759), none, some (.int x2), some (.int x3), none, some (.int xs0), none, none, none, none, none, none]) dX10_depth_305 (by decide) rfl ?_
  exact H
theorem s_X10_depth_307 {g : GX} {d : Nat} {av : List Value} {Q : QT} {n : Nat} {h : Hp} {x2 : Int32} {x3 : Int32} {x5 : Int32} (hp : g.2.2.2.2 = true)  (H : ∀ h1, h1 = wi h 2759 3 x3 → (∀ h2, h2 = wi h1 2759 1 x2 → (Q (some (.int x5)) n h2))) : W_X10_depth g d av Q n 307 [some (.ref 2759), none, some (.int x2), some (.int x3), none, some (.int x5), none, none, none, none, none, none] [] h := by
  refine r_aload_n dX10_depth_307 rfl rfl ?_
  refine r_iload_n dX10_depth_308 rfl rfl ?_
  refine m_putI hp fw_X10_90 dX10_depth_309 rfl rfl ly_10 (fun h1 eh1 => ?_)
  replace H := H h1 eh1
  refine r_aload_n dX10_depth_312 rfl rfl ?_
  refine r_iload_n dX10_depth_313 rfl rfl ?_
  refine m_putI hp fw_X10_21 dX10_depth_314 rfl rfl ly_10 (fun h2 eh2 => ?_)
  replace H := H h2 eh2
  refine r_iload dX10_depth_317 rfl ?_
  exact r_zret dX10_depth_319 rfl rfl (Nat.le_refl _) (Nat.le_refl _) H
abbrev W_X10_areSame (g : GX) (d : Nat) (av : List Value) (Q : QT) (n : Nat) (pc : Nat) (ls : LV) (stk : List Value) (h : Hp) : Prop := RJ g m_X10_areSame d 0 0 av Q pc ls stk n h 0 0
theorem s_X10_areSame_0 {g : GX} {d : Nat} {av : List Value} {Q : QT} {n : Nat} {h : Hp} {a0 : Nat} {a1 : Nat} (hp : g.2.2.2.2 = true) (t0 : lay a0 = (0, 13, 2)) (t1 : lay a1 = (0, 13, 2)) (H : ((¬ (ri h a0 1) = (ri h a1 1)) → (W_X10_areSame g d av Q n 16 [some (.ref a0), some (.ref a1), none, none] [.int (0 : Int32)] h)) ∧ (((ri h a0 1) = (ri h a1 1)) → (W_X10_areSame g d av Q n 16 [some (.ref a0), some (.ref a1), none, none] [.int (1 : Int32)] h))) : W_X10_areSame g d av Q n 0 [some (.ref a0), some (.ref a1), none, none] [] h := by
  refine r_aload_n dX10_areSame_0 rfl rfl ?_
  refine m_getI hp fw_X10_25 dX10_areSame_1 rfl t0 ?_
  refine r_aload_n dX10_areSame_4 rfl rfl ?_
  refine m_getI hp fw_X10_25 dX10_areSame_5 rfl t1 ?_
  refine r_icmp_ne (tgt := 15) dX10_areSame_8 rfl (fun cH => ?_) (fun cH => ?_)
  · replace H := H.1 cH
    refine r_iconst (v := (0 : Int32)) dX10_areSame_15 rfl ?_
    exact H
  · replace H := H.2 cH
    refine r_iconst (v := (1 : Int32)) dX10_areSame_11 rfl ?_
    refine r_goto (tgt := 16) dX10_areSame_12 rfl ?_
    exact H
theorem s_X10_areSame_16 {g : GX} {d : Nat} {av : List Value} {Q : QT} {n : Nat} {h : Hp} {a0 : Nat} {a1 : Nat} {xs0 : Int32} (hp : g.2.2.2.2 = true) (t0 : lay a0 = (0, 13, 2)) (t1 : lay a1 = (0, 13, 2)) (H : W_X10_areSame g d av Q n 19 [some (.ref a0), some (.ref a1), some (.int xs0), some (.int (0 : Int32))] [] h) : W_X10_areSame g d av Q n 16 [some (.ref a0), some (.ref a1), none, none] [.int xs0] h := by
  refine r_istore_n (ls2 := [some (.ref a0), some (.ref a1), some (.int xs0), none]) dX10_areSame_16 rfl (by decide) rfl ?_
  refine r_iconst (v := (0 : Int32)) dX10_areSame_17 rfl ?_
  refine r_istore_n (ls2 := [some (.ref a0), some (.ref a1), some (.int xs0), some (.int (0 : Int32))]) dX10_areSame_18 rfl (by decide) rfl ?_
  exact H
theorem s_X10_areSame_19 {g : GX} {d : Nat} {av : List Value} {Q : QT} {n : Nat} {h : Hp} {a0 : Nat} {a1 : Nat} {x2 : Int32} {x3 : Int32} (hp : g.2.2.2.2 = true) (t0 : lay a0 = (0, 13, 2)) (t1 : lay a1 = (0, 13, 2)) (H : (((ri h a0 1) ≤ x3) → ((x2 = 0 ∨ x2 = 1) ∧ Q (some (.int x2)) n h)) ∧ ((¬ (ri h a0 1) ≤ x3) → (((x2 = (0 : Int32)) → ((x2 = 0 ∨ x2 = 1) ∧ Q (some (.int x2)) n h)) ∧ ((¬ x2 = (0 : Int32)) → (vp_in x3 (rm (a0 + 1)) ∧ (vp_in x3 (rm (a1 + 1)) ∧ (((¬ (ri h (a0 + 1) (x3).toNatClampNeg) = (ri h (a1 + 1) (x3).toNatClampNeg)) → (W_X10_areSame g d av Q n 51 [some (.ref a0), some (.ref a1), none, some (.int x3)] [.int (0 : Int32)] h)) ∧ (((ri h (a0 + 1) (x3).toNatClampNeg) = (ri h (a1 + 1) (x3).toNatClampNeg)) → (W_X10_areSame g d av Q n 51 [some (.ref a0), some (.ref a1), none, some (.int x3)] [.int (1 : Int32)] h))))))))) : W_X10_areSame g d av Q n 19 [some (.ref a0), some (.ref a1), some (.int x2), some (.int x3)] [] h := by
  refine r_iload_n dX10_areSame_19 rfl rfl ?_
  refine r_aload_n dX10_areSame_20 rfl rfl ?_
  refine m_getI hp fw_X10_25 dX10_areSame_21 rfl t0 ?_
  refine r_icmp_ge (tgt := 58) dX10_areSame_24 rfl (fun cH => ?_) (fun cH => ?_)
  · replace H := H.1 cH
    refine r_iload_n dX10_areSame_58 rfl rfl ?_
    exact r_zret dX10_areSame_59 rfl (nar01 H.1) (Nat.le_refl _) (Nat.le_refl _) H.2
  · replace H := H.2 cH
    refine r_iload_n dX10_areSame_27 rfl rfl ?_
    refine r_if_eq (tgt := 58) dX10_areSame_28 rfl (fun cH => ?_) (fun cH => ?_)
    · replace H := H.1 cH
      refine r_iload_n dX10_areSame_58 rfl rfl ?_
      exact r_zret dX10_areSame_59 rfl (nar01 H.1) (Nat.le_refl _) (Nat.le_refl _) H.2
    · replace H := H.2 cH
      refine r_aload_n dX10_areSame_31 rfl rfl ?_
      refine m_getF (x := (a0 + 1)) hp fw_X10_30 dX10_areSame_32 rfl t0 (ff_13_0 t0) ?_
      refine r_iload_n dX10_areSame_35 rfl rfl ?_
      refine m_iald hp dX10_areSame_36 (lf_13_0 t0) H.1 ?_
      replace H := H.2
      refine r_aload_n dX10_areSame_37 rfl rfl ?_
      refine m_getF (x := (a1 + 1)) hp fw_X10_30 dX10_areSame_38 rfl t1 (ff_13_0 t1) ?_
      refine r_iload_n dX10_areSame_41 rfl rfl ?_
      refine m_iald hp dX10_areSame_42 (lf_13_0 t1) H.1 ?_
      replace H := H.2
      refine r_icmp_ne (tgt := 50) dX10_areSame_43 rfl (fun cH => ?_) (fun cH => ?_)
      · replace H := H.1 cH
        refine r_iconst (v := (0 : Int32)) dX10_areSame_50 rfl ?_
        refine r_prune [true, true, false, true] (ls2 := [some (.ref a0), some (.ref a1), none, some (.int x3)]) rfl ?_
        exact H
      · replace H := H.2 cH
        refine r_iconst (v := (1 : Int32)) dX10_areSame_46 rfl ?_
        refine r_goto (tgt := 51) dX10_areSame_47 rfl ?_
        refine r_prune [true, true, false, true] (ls2 := [some (.ref a0), some (.ref a1), none, some (.int x3)]) rfl ?_
        exact H
theorem s_X10_areSame_51 {g : GX} {d : Nat} {av : List Value} {Q : QT} {n : Nat} {h : Hp} {a0 : Nat} {a1 : Nat} {x3 : Int32} {xs0 : Int32} (hp : g.2.2.2.2 = true) (t0 : lay a0 = (0, 13, 2)) (t1 : lay a1 = (0, 13, 2)) (H : W_X10_areSame g d av Q n 19 [some (.ref a0), some (.ref a1), some (.int xs0), some (.int (x3 + (1 : Int32)))] [] h) : W_X10_areSame g d av Q n 51 [some (.ref a0), some (.ref a1), none, some (.int x3)] [.int xs0] h := by
  refine r_istore_n (ls2 := [some (.ref a0), some (.ref a1), some (.int xs0), some (.int x3)]) dX10_areSame_51 rfl (by decide) rfl ?_
  refine r_iinc (v := (x3 + (1 : Int32))) (ls2 := [some (.ref a0), some (.ref a1), some (.int xs0), some (.int (x3 + (1 : Int32)))]) dX10_areSame_52 rfl rfl (by decide) rfl ?_
  refine r_goto (tgt := 19) dX10_areSame_55 rfl ?_
  exact H
abbrev W_X10_lay (g : GX) (d : Nat) (av : List Value) (Q : QT) (n : Nat) (pc : Nat) (ls : LV) (stk : List Value) (h : Hp) : Prop := RJ g m_X10_lay (d + 1) 0 0 av Q pc ls stk n h 0 0
theorem s_X10_lay_0 {g : GX} {d : Nat} {av : List Value} {Q : QT} {n : Nat} {h : Hp} {x1 : Int32} {a2 : Nat} {L2 : Nat} {x3 : Int32} (hp : g.2.2.2.2 = true) (t2 : lay a2 = (2, L2, 11)) (u2 : a2 < N0) (H : CallR g m_X10_newB d [.ref 2759] n h (fun v1 h1 => (lay v1 = (0, 14, 2) ∧ (CallR g m_X10_newB d [.ref 2759] n h1 (fun v2 h2 => (lay v2 = (0, 14, 2) ∧ (CallR g m_X10_newB d [.ref 2759] n h2 (fun v3 h3 => (lay v3 = (0, 14, 2) ∧ (CallR g m_X10_newB d [.ref 2759] n h3 (fun v4 h4 => (lay v4 = (0, 14, 2) ∧ (CallR g m_X10_newU d [.ref 2759] n h4 (fun v5 h5 => (lay v5 = (0, 13, 2) ∧ (∀ h6, h6 = wi h5 2759 48 (26 : Int32) → (∃ r7, rr h6 2759 42 = some r7 ∧ lay r7 = (0, 13, 2) ∧ (∃ r8, rr h6 2759 40 = some r8 ∧ lay r8 = (0, 14, 2) ∧ (CallR g m_X14_lead d [.ref r8] n h6 (fun v9 h9 => (lay v9 = (0, 13, 2) ∧ (CallV g m_X10_times_2 d [.ref v5, .ref r7, .ref v9] n h9 (fun h10 => (∃ r11, rr h10 2759 39 = some r11 ∧ lay r11 = (0, 14, 2) ∧ (CallV g m_X10_timesU d [.ref 2759, .ref v1, .ref r11, .ref v5] n h10 (fun h12 => (∃ r13, rr h12 2759 40 = some r13 ∧ lay r13 = (0, 14, 2) ∧ (CallV g m_X10_shiftK d [.ref v3, .ref r13, .int (2147483646 : Int32)] n h12 (fun h14 => (∃ r15, rr h14 2759 43 = some r15 ∧ lay r15 = (0, 13, 2) ∧ (CallV g m_X10_timesU d [.ref 2759, .ref v2, .ref v3, .ref r15] n h14 (fun h16 => (vp_in (0 : Int32) 64 ∧ ∀ r17, r17 = (v3 + 2) + 2 * ((0 : Int32)).toNatClampNeg → (CallV g m_X13_number d [.ref r17, .int (1 : Int32)] n h16 (fun h18 => (vp_in (1 : Int32) 64 ∧ ∀ r19, r19 = (v3 + 2) + 2 * ((1 : Int32)).toNatClampNeg → (CallV g m_X13_number d [.ref r19, .int (1 : Int32)] n h18 (fun h20 => (∀ h21, h21 = wi h20 v3 1 (2 : Int32) → (W_X10_lay g d av Q n 131 [some (.ref 2759), some (.int x1), some (.ref a2), some (.int x3), some (.int (ri h 2759 3)), some (.int (ri h 2759 1)), some (.ref v1), some (.ref v2), some (.ref v3), some (.ref v4), none, some (.int (0 : Int32)), none] [] h21)))))))))))))))))))))))))))))))))))))))) : W_X10_lay g d av Q n 0 [some (.ref 2759), some (.int x1), some (.ref a2), some (.int x3), none, none, none, none, none, none, none, none, none] [] h := by
  refine r_aload_n dX10_lay_0 rfl rfl ?_
  refine m_getI hp fw_X10_90 dX10_lay_1 rfl ly_10 ?_
  refine r_istore (ls2 := [some (.ref 2759), some (.int x1), some (.ref a2), some (.int x3), some (.int (ri h 2759 3)), none, none, none, none, none, none, none, none]) dX10_lay_4 (by decide) rfl ?_
  refine r_aload_n dX10_lay_6 rfl rfl ?_
  refine m_getI hp fw_X10_21 dX10_lay_7 rfl ly_10 ?_
  refine r_istore (ls2 := [some (.ref 2759), some (.int x1), some (.ref a2), some (.int x3), some (.int (ri h 2759 3)), some (.int (ri h 2759 1)), none, none, none, none, none, none, none]) dX10_lay_10 (by decide) rfl ?_
  refine r_aload_n dX10_lay_12 rfl rfl ?_
  refine k_VR (As := []) (stk := []) hp cv_X10_140 dX10_lay_13 rfl (Nat.le_of_ble_eq_true rfl) ly_10 (H.mono (fun v1 h1 H => ?_)) ⟨Nat.le_refl _, Nat.le_refl _⟩
  obtain ⟨tv1, H⟩ := H
  refine r_astore (ls2 := [some (.ref 2759), some (.int x1), some (.ref a2), some (.int x3), some (.int (ri h 2759 3)), some (.int (ri h 2759 1)), some (.ref v1), none, none, none, none, none, none]) dX10_lay_16 (by decide) rfl ?_
  refine r_aload_n dX10_lay_18 rfl rfl ?_
  refine k_VR (As := []) (stk := []) hp cv_X10_140 dX10_lay_19 rfl (Nat.le_of_ble_eq_true rfl) ly_10 (H.mono (fun v2 h2 H => ?_)) ⟨Nat.le_refl _, Nat.le_refl _⟩
  obtain ⟨tv2, H⟩ := H
  refine r_astore (ls2 := [some (.ref 2759), some (.int x1), some (.ref a2), some (.int x3), some (.int (ri h 2759 3)), some (.int (ri h 2759 1)), some (.ref v1), some (.ref v2), none, none, none, none, none]) dX10_lay_22 (by decide) rfl ?_
  refine r_aload_n dX10_lay_24 rfl rfl ?_
  refine k_VR (As := []) (stk := []) hp cv_X10_140 dX10_lay_25 rfl (Nat.le_of_ble_eq_true rfl) ly_10 (H.mono (fun v3 h3 H => ?_)) ⟨Nat.le_refl _, Nat.le_refl _⟩
  obtain ⟨tv3, H⟩ := H
  refine r_astore (ls2 := [some (.ref 2759), some (.int x1), some (.ref a2), some (.int x3), some (.int (ri h 2759 3)), some (.int (ri h 2759 1)), some (.ref v1), some (.ref v2), some (.ref v3), none, none, none, none]) dX10_lay_28 (by decide) rfl ?_
  refine r_aload_n dX10_lay_30 rfl rfl ?_
  refine k_VR (As := []) (stk := []) hp cv_X10_140 dX10_lay_31 rfl (Nat.le_of_ble_eq_true rfl) ly_10 (H.mono (fun v4 h4 H => ?_)) ⟨Nat.le_refl _, Nat.le_refl _⟩
  obtain ⟨tv4, H⟩ := H
  refine r_astore (ls2 := [some (.ref 2759), some (.int x1), some (.ref a2), some (.int x3), some (.int (ri h 2759 3)), some (.int (ri h 2759 1)), some (.ref v1), some (.ref v2), some (.ref v3), some (.ref v4), none, none, none]) dX10_lay_34 (by decide) rfl ?_
  refine r_aload_n dX10_lay_36 rfl rfl ?_
  refine k_VR (As := []) (stk := []) hp cv_X10_74 dX10_lay_37 rfl (Nat.le_of_ble_eq_true rfl) ly_10 (H.mono (fun v5 h5 H => ?_)) ⟨Nat.le_refl _, Nat.le_refl _⟩
  obtain ⟨tv5, H⟩ := H
  refine r_astore (ls2 := [some (.ref 2759), some (.int x1), some (.ref a2), some (.int x3), some (.int (ri h 2759 3)), some (.int (ri h 2759 1)), some (.ref v1), some (.ref v2), some (.ref v3), some (.ref v4), some (.ref v5), none, none]) dX10_lay_40 (by decide) rfl ?_
  refine r_aload_n dX10_lay_42 rfl rfl ?_
  refine r_bipush (v := (26 : Int32)) dX10_lay_43 rfl ?_
  refine m_putI hp fw_X10_721 dX10_lay_45 rfl rfl ly_10 (fun h6 eh6 => ?_)
  replace H := H h6 eh6
  refine r_aload dX10_lay_48 rfl ?_
  refine r_aload_n dX10_lay_50 rfl rfl ?_
  obtain ⟨r7, er7, tr7, H⟩ := H
  refine m_getM (x := r7) hp fw_X10_705 dX10_lay_51 rfl ly_10 er7 ?_
  refine r_aload_n dX10_lay_54 rfl rfl ?_
  obtain ⟨r8, er8, tr8, H⟩ := H
  refine m_getM (x := r8) hp fw_X10_699 dX10_lay_55 rfl ly_10 er8 ?_
  refine k_VR (As := []) (stk := [.ref r7, .ref v5]) hp cv_X10_144 dX10_lay_58 rfl (Nat.le_of_ble_eq_true rfl) tr8 (H.mono (fun v9 h9 H => ?_)) ⟨Nat.le_refl _, Nat.le_refl _⟩
  obtain ⟨tv9, H⟩ := H
  refine k_SV (As := [.ref v5, .ref r7, .ref v9]) (stk := []) cs_X10_106 dX10_lay_61 rfl (Nat.le_of_ble_eq_true rfl) (H.mono (fun h10 H => ?_)) ⟨Nat.le_refl _, Nat.le_refl _⟩
  refine r_aload_n dX10_lay_64 rfl rfl ?_
  refine r_aload dX10_lay_65 rfl ?_
  refine r_aload_n dX10_lay_67 rfl rfl ?_
  obtain ⟨r11, er11, tr11, H⟩ := H
  refine m_getM (x := r11) hp fw_X10_695 dX10_lay_68 rfl ly_10 er11 ?_
  refine r_aload dX10_lay_71 rfl ?_
  refine k_VV (As := [.ref v1, .ref r11, .ref v5]) (stk := []) hp cv_X10_178 dX10_lay_73 rfl (Nat.le_of_ble_eq_true rfl) ly_10 (H.mono (fun h12 H => ?_)) ⟨Nat.le_refl _, Nat.le_refl _⟩
  refine r_aload dX10_lay_76 rfl ?_
  refine r_aload_n dX10_lay_78 rfl rfl ?_
  obtain ⟨r13, er13, tr13, H⟩ := H
  refine m_getM (x := r13) hp fw_X10_699 dX10_lay_79 rfl ly_10 er13 ?_
  refine r_ldcw (own := "") (v := (2147483646 : Int32)) dX10_lay_82 q2644 ?_
  refine k_SV (As := [.ref v3, .ref r13, .int (2147483646 : Int32)]) (stk := []) cs_X10_626 dX10_lay_85 rfl (Nat.le_of_ble_eq_true rfl) (H.mono (fun h14 H => ?_)) ⟨Nat.le_refl _, Nat.le_refl _⟩
  refine r_aload_n dX10_lay_88 rfl rfl ?_
  refine r_aload dX10_lay_89 rfl ?_
  refine r_aload dX10_lay_91 rfl ?_
  refine r_aload_n dX10_lay_93 rfl rfl ?_
  obtain ⟨r15, er15, tr15, H⟩ := H
  refine m_getM (x := r15) hp fw_X10_709 dX10_lay_94 rfl ly_10 er15 ?_
  refine k_VV (As := [.ref v2, .ref v3, .ref r15]) (stk := []) hp cv_X10_178 dX10_lay_97 rfl (Nat.le_of_ble_eq_true rfl) ly_10 (H.mono (fun h16 H => ?_)) ⟨Nat.le_refl _, Nat.le_refl _⟩
  refine r_aload dX10_lay_100 rfl ?_
  refine m_getF (x := (v3 + 1)) hp fw_X10_98 dX10_lay_102 rfl tv3 (ff_14_0 tv3) ?_
  refine r_iconst (v := (0 : Int32)) dX10_lay_105 rfl ?_
  obtain ⟨r17, er17⟩ : ∃ y, y = (v3 + 2) + 2 * ((0 : Int32)).toNatClampNeg := ⟨_, rfl⟩
  have hir17 := H.1
  replace H := H.2 r17 er17
  have tLr17 := le_14 tv3 hir17 er17
  refine m_aalF (x := r17) hp dX10_lay_106 (lf_14_0 tv3) rfl rfl (lu_14_0 tv3) hir17 (fe_14 tv3 hir17 er17) ?_
  refine r_iconst (v := (1 : Int32)) dX10_lay_107 rfl ?_
  refine k_VV (As := [.int (1 : Int32)]) (stk := []) hp cv_X10_147 dX10_lay_108 rfl (Nat.le_of_ble_eq_true rfl) tLr17 (H.mono (fun h18 H => ?_)) ⟨Nat.le_refl _, Nat.le_refl _⟩
  refine r_aload dX10_lay_111 rfl ?_
  refine m_getF (x := (v3 + 1)) hp fw_X10_98 dX10_lay_113 rfl tv3 (ff_14_0 tv3) ?_
  refine r_iconst (v := (1 : Int32)) dX10_lay_116 rfl ?_
  obtain ⟨r19, er19⟩ : ∃ y, y = (v3 + 2) + 2 * ((1 : Int32)).toNatClampNeg := ⟨_, rfl⟩
  have hir19 := H.1
  replace H := H.2 r19 er19
  have tLr19 := le_14 tv3 hir19 er19
  refine m_aalF (x := r19) hp dX10_lay_117 (lf_14_0 tv3) rfl rfl (lu_14_0 tv3) hir19 (fe_14 tv3 hir19 er19) ?_
  refine r_iconst (v := (1 : Int32)) dX10_lay_118 rfl ?_
  refine k_VV (As := [.int (1 : Int32)]) (stk := []) hp cv_X10_147 dX10_lay_119 rfl (Nat.le_of_ble_eq_true rfl) tLr19 (H.mono (fun h20 H => ?_)) ⟨Nat.le_refl _, Nat.le_refl _⟩
  refine r_aload dX10_lay_122 rfl ?_
  refine r_iconst (v := (2 : Int32)) dX10_lay_124 rfl ?_
  refine m_putI hp fw_X10_93 dX10_lay_125 rfl rfl tv3 (fun h21 eh21 => ?_)
  replace H := H h21 eh21
  refine r_iconst (v := (0 : Int32)) dX10_lay_128 rfl ?_
  refine r_istore (ls2 := [some (.ref 2759), some (.int x1), some (.ref a2), some (.int x3), some (.int (ri h 2759 3)), some (.int (ri h 2759 1)), some (.ref v1), some (.ref v2), some (.ref v3), some (.ref v4), some (.ref v5), some (.int (0 : Int32)), none]) dX10_lay_129 (by decide) rfl ?_
  refine r_prune [true, true, true, true, true, true, true, true, true, true, false, true, false] (ls2 := [some (.ref 2759), some (.int x1), some (.ref a2), some (.int x3), some (.int (ri h 2759 3)), some (.int (ri h 2759 1)), some (.ref v1), some (.ref v2), some (.ref v3), some (.ref v4), none, some (.int (0 : Int32)), none]) rfl ?_
  exact H
theorem s_X10_lay_131 {g : GX} {d : Nat} {av : List Value} {Q : QT} {n : Nat} {h : Hp} {x1 : Int32} {a2 : Nat} {L2 : Nat} {x3 : Int32} {x4 : Int32} {x5 : Int32} {a6 : Nat} {a7 : Nat} {a8 : Nat} {a9 : Nat} {x11 : Int32} (hp : g.2.2.2.2 = true) (t2 : lay a2 = (2, L2, 11)) (u2 : a2 < N0) (t6 : lay a6 = (0, 14, 2)) (t7 : lay a7 = (0, 14, 2)) (t8 : lay a8 = (0, 14, 2)) (t9 : lay a9 = (0, 14, 2)) (H : ((x1 < x11) → (CallI g m_J3_max d [.int (0 : Int32), .int (x1 + (1 : Int32))] n h (fun v1 h1 => (W_X10_lay g d av Q n 259 [some (.ref 2759), none, some (.ref a2), some (.int x3), some (.int x4), some (.int x5), none, none, none, some (.ref a9), none, some (.int v1), some (.int (0 : Int32))] [] h1)))) ∧ ((¬ x1 < x11) → (CallV g m_X10_set d [.ref a9, .ref a6] n h (fun h2 => (CallV g m_X10_plus_2 d [.ref a9, .ref a9, .ref a7, .int (1 : Int32)] n h2 (fun h3 => (CallV g m_X10_column d [.ref 2759, .int x11, .ref a9, .int (0 : Int32)] n h3 (fun h4 => (CallV g m_X10_times d [.ref 2759, .ref a9, .ref a6, .ref a8] n h4 (fun h5 => (CallV g m_X10_set d [.ref a6, .ref a9] n h5 (fun h6 => (W_X10_lay g d av Q n 187 [some (.ref 2759), some (.int x1), some (.ref a2), some (.int x3), some (.int x4), some (.int x5), some (.ref a6), some (.ref a7), some (.ref a8), some (.ref a9), none, some (.int x11), some (.int (ri h6 a7 1))] [] h6))))))))))))) : W_X10_lay g d av Q n 131 [some (.ref 2759), some (.int x1), some (.ref a2), some (.int x3), some (.int x4), some (.int x5), some (.ref a6), some (.ref a7), some (.ref a8), some (.ref a9), none, some (.int x11), none] [] h := by
  refine r_iload dX10_lay_131 rfl ?_
  refine r_iload_n dX10_lay_133 rfl rfl ?_
  refine r_icmp_gt (tgt := 247) dX10_lay_134 rfl (fun cH => ?_) (fun cH => ?_)
  · replace H := H.1 cH
    refine r_iconst (v := (0 : Int32)) dX10_lay_247 rfl ?_
    refine r_iload_n dX10_lay_248 rfl rfl ?_
    refine r_iconst (v := (1 : Int32)) dX10_lay_249 rfl ?_
    refine r_iadd dX10_lay_250 ?_
    refine k_SI (As := [.int (0 : Int32), .int (x1 + (1 : Int32))]) (stk := []) cs_X10_40 dX10_lay_251 rfl (Nat.le_of_ble_eq_true rfl) (H.mono (fun v1 h1 H => ?_)) ⟨Nat.le_refl _, Nat.le_refl _⟩
    refine r_istore (ls2 := [some (.ref 2759), some (.int x1), some (.ref a2), some (.int x3), some (.int x4), some (.int x5), some (.ref a6), some (.ref a7), some (.ref a8), some (.ref a9), none, some (.int v1), none]) dX10_lay_254 (by decide) rfl ?_
    refine r_iconst (v := (0 : Int32)) dX10_lay_256 rfl ?_
    refine r_istore (ls2 := [some (.ref 2759), some (.int x1), some (.ref a2), some (.int x3), some (.int x4), some (.int x5), some (.ref a6), some (.ref a7), some (.ref a8), some (.ref a9), none, some (.int v1), some (.int (0 : Int32))]) dX10_lay_257 (by decide) rfl ?_
    refine r_prune [true, false, true, true, true, true, false, false, false, true, false, true, true] (ls2 := [some (.ref 2759), none, some (.ref a2), some (.int x3), some (.int x4), some (.int x5), none, none, none, some (.ref a9), none, some (.int v1), some (.int (0 : Int32))]) rfl ?_
    exact H
  · replace H := H.2 cH
    refine r_aload dX10_lay_137 rfl ?_
    refine r_aload dX10_lay_139 rfl ?_
    refine k_SV (As := [.ref a9, .ref a6]) (stk := []) cs_X10_113 dX10_lay_141 rfl (Nat.le_of_ble_eq_true rfl) (H.mono (fun h2 H => ?_)) ⟨Nat.le_refl _, Nat.le_refl _⟩
    refine r_aload dX10_lay_144 rfl ?_
    refine r_aload dX10_lay_146 rfl ?_
    refine r_aload dX10_lay_148 rfl ?_
    refine r_iconst (v := (1 : Int32)) dX10_lay_150 rfl ?_
    refine k_SV (As := [.ref a9, .ref a9, .ref a7, .int (1 : Int32)]) (stk := []) cs_X10_199 dX10_lay_151 rfl (Nat.le_of_ble_eq_true rfl) (H.mono (fun h3 H => ?_)) ⟨Nat.le_refl _, Nat.le_refl _⟩
    refine r_aload_n dX10_lay_154 rfl rfl ?_
    refine r_iload dX10_lay_155 rfl ?_
    refine r_aload dX10_lay_157 rfl ?_
    refine r_iconst (v := (0 : Int32)) dX10_lay_159 rfl ?_
    refine k_VV (As := [.int x11, .ref a9, .int (0 : Int32)]) (stk := []) hp cv_X10_724 dX10_lay_160 rfl (Nat.le_of_ble_eq_true rfl) ly_10 (H.mono (fun h4 H => ?_)) ⟨Nat.le_refl _, Nat.le_refl _⟩
    refine r_aload_n dX10_lay_163 rfl rfl ?_
    refine r_aload dX10_lay_164 rfl ?_
    refine r_aload dX10_lay_166 rfl ?_
    refine r_aload dX10_lay_168 rfl ?_
    refine k_VV (As := [.ref a9, .ref a6, .ref a8]) (stk := []) hp cv_X10_197 dX10_lay_170 rfl (Nat.le_of_ble_eq_true rfl) ly_10 (H.mono (fun h5 H => ?_)) ⟨Nat.le_refl _, Nat.le_refl _⟩
    refine r_aload dX10_lay_173 rfl ?_
    refine r_aload dX10_lay_175 rfl ?_
    refine k_SV (As := [.ref a6, .ref a9]) (stk := []) cs_X10_113 dX10_lay_177 rfl (Nat.le_of_ble_eq_true rfl) (H.mono (fun h6 H => ?_)) ⟨Nat.le_refl _, Nat.le_refl _⟩
    refine r_aload dX10_lay_180 rfl ?_
    refine m_getI hp fw_X10_93 dX10_lay_182 rfl t7 ?_
    refine r_istore (ls2 := [some (.ref 2759), some (.int x1), some (.ref a2), some (.int x3), some (.int x4), some (.int x5), some (.ref a6), some (.ref a7), some (.ref a8), some (.ref a9), none, some (.int x11), some (.int (ri h6 a7 1))]) dX10_lay_185 (by decide) rfl ?_
    exact H
theorem s_X10_lay_187 {g : GX} {d : Nat} {av : List Value} {Q : QT} {n : Nat} {h : Hp} {x1 : Int32} {a2 : Nat} {L2 : Nat} {x3 : Int32} {x4 : Int32} {x5 : Int32} {a6 : Nat} {a7 : Nat} {a8 : Nat} {a9 : Nat} {x11 : Int32} {x12 : Int32} (hp : g.2.2.2.2 = true) (t2 : lay a2 = (2, L2, 11)) (u2 : a2 < N0) (t6 : lay a6 = (0, 14, 2)) (t7 : lay a7 = (0, 14, 2)) (t8 : lay a8 = (0, 14, 2)) (t9 : lay a9 = (0, 14, 2)) (H : ((x12 ≤ (0 : Int32)) → (vp_in (0 : Int32) 64 ∧ ∀ r1, r1 = (a7 + 2) + 2 * ((0 : Int32)).toNatClampNeg → (∀ h2, h2 = wi h r1 1 (0 : Int32) → (∀ h3, h3 = wi h2 a7 1 ((ri h2 a7 1) + (1 : Int32)) → (W_X10_lay g d av Q n 131 [some (.ref 2759), some (.int x1), some (.ref a2), some (.int x3), some (.int x4), some (.int x5), some (.ref a6), some (.ref a7), some (.ref a8), some (.ref a9), none, some (.int (x11 + (1 : Int32))), none] [] h3))))) ∧ ((¬ x12 ≤ (0 : Int32)) → (vp_in x12 64 ∧ ∀ r4, r4 = (a7 + 2) + 2 * (x12).toNatClampNeg → (vp_in (x12 - (1 : Int32)) 64 ∧ ∀ r5, r5 = (a7 + 2) + 2 * ((x12 - (1 : Int32))).toNatClampNeg → (CallV g m_X10_set_2 d [.ref r4, .ref r5] n h (fun h6 => (W_X10_lay g d av Q n 187 [some (.ref 2759), some (.int x1), some (.ref a2), some (.int x3), some (.int x4), some (.int x5), some (.ref a6), some (.ref a7), some (.ref a8), some (.ref a9), none, some (.int x11), some (.int (x12 + (-1 : Int32)))] [] h6))))))) : W_X10_lay g d av Q n 187 [some (.ref 2759), some (.int x1), some (.ref a2), some (.int x3), some (.int x4), some (.int x5), some (.ref a6), some (.ref a7), some (.ref a8), some (.ref a9), none, some (.int x11), some (.int x12)] [] h := by
  refine r_iload dX10_lay_187 rfl ?_
  refine r_if_le (tgt := 219) dX10_lay_189 rfl (fun cH => ?_) (fun cH => ?_)
  · replace H := H.1 cH
    refine r_aload dX10_lay_219 rfl ?_
    refine m_getF (x := (a7 + 1)) hp fw_X10_98 dX10_lay_221 rfl t7 (ff_14_0 t7) ?_
    refine r_iconst (v := (0 : Int32)) dX10_lay_224 rfl ?_
    obtain ⟨r1, er1⟩ : ∃ y, y = (a7 + 2) + 2 * ((0 : Int32)).toNatClampNeg := ⟨_, rfl⟩
    have hir1 := H.1
    replace H := H.2 r1 er1
    have tLr1 := le_14 t7 hir1 er1
    refine m_aalF (x := r1) hp dX10_lay_225 (lf_14_0 t7) rfl rfl (lu_14_0 t7) hir1 (fe_14 t7 hir1 er1) ?_
    refine r_iconst (v := (0 : Int32)) dX10_lay_226 rfl ?_
    refine m_putI hp fw_X10_25 dX10_lay_227 rfl rfl tLr1 (fun h2 eh2 => ?_)
    replace H := H h2 eh2
    refine r_aload dX10_lay_230 rfl ?_
    refine r_dup dX10_lay_232 rfl ?_
    refine m_getI hp fw_X10_93 dX10_lay_233 rfl t7 ?_
    refine r_iconst (v := (1 : Int32)) dX10_lay_236 rfl ?_
    refine r_iadd dX10_lay_237 ?_
    refine m_putI hp fw_X10_93 dX10_lay_238 rfl rfl t7 (fun h3 eh3 => ?_)
    replace H := H h3 eh3
    refine r_iinc (v := (x11 + (1 : Int32))) (ls2 := [some (.ref 2759), some (.int x1), some (.ref a2), some (.int x3), some (.int x4), some (.int x5), some (.ref a6), some (.ref a7), some (.ref a8), some (.ref a9), none, some (.int (x11 + (1 : Int32))), some (.int x12)]) dX10_lay_241 rfl rfl (by decide) rfl ?_
    refine r_goto (tgt := 131) dX10_lay_244 rfl ?_
    refine r_prune [true, true, true, true, true, true, true, true, true, true, false, true, false] (ls2 := [some (.ref 2759), some (.int x1), some (.ref a2), some (.int x3), some (.int x4), some (.int x5), some (.ref a6), some (.ref a7), some (.ref a8), some (.ref a9), none, some (.int (x11 + (1 : Int32))), none]) rfl ?_
    exact H
  · replace H := H.2 cH
    refine r_aload dX10_lay_192 rfl ?_
    refine m_getF (x := (a7 + 1)) hp fw_X10_98 dX10_lay_194 rfl t7 (ff_14_0 t7) ?_
    refine r_iload dX10_lay_197 rfl ?_
    obtain ⟨r4, er4⟩ : ∃ y, y = (a7 + 2) + 2 * (x12).toNatClampNeg := ⟨_, rfl⟩
    have hir4 := H.1
    replace H := H.2 r4 er4
    have tLr4 := le_14 t7 hir4 er4
    refine m_aalF (x := r4) hp dX10_lay_199 (lf_14_0 t7) rfl rfl (lu_14_0 t7) hir4 (fe_14 t7 hir4 er4) ?_
    refine r_aload dX10_lay_200 rfl ?_
    refine m_getF (x := (a7 + 1)) hp fw_X10_98 dX10_lay_202 rfl t7 (ff_14_0 t7) ?_
    refine r_iload dX10_lay_205 rfl ?_
    refine r_iconst (v := (1 : Int32)) dX10_lay_207 rfl ?_
    refine r_isub dX10_lay_208 ?_
    obtain ⟨r5, er5⟩ : ∃ y, y = (a7 + 2) + 2 * ((x12 - (1 : Int32))).toNatClampNeg := ⟨_, rfl⟩
    have hir5 := H.1
    replace H := H.2 r5 er5
    have tLr5 := le_14 t7 hir5 er5
    refine m_aalF (x := r5) hp dX10_lay_209 (lf_14_0 t7) rfl rfl (lu_14_0 t7) hir5 (fe_14 t7 hir5 er5) ?_
    refine k_SV (As := [.ref r4, .ref r5]) (stk := []) cs_X10_62 dX10_lay_210 rfl (Nat.le_of_ble_eq_true rfl) (H.mono (fun h6 H => ?_)) ⟨Nat.le_refl _, Nat.le_refl _⟩
    refine r_iinc (v := (x12 + (-1 : Int32))) (ls2 := [some (.ref 2759), some (.int x1), some (.ref a2), some (.int x3), some (.int x4), some (.int x5), some (.ref a6), some (.ref a7), some (.ref a8), some (.ref a9), none, some (.int x11), some (.int (x12 + (-1 : Int32)))]) dX10_lay_213 rfl rfl (by decide) rfl ?_
    refine r_goto (tgt := 187) dX10_lay_216 rfl ?_
    exact H
theorem s_X10_lay_259 {g : GX} {d : Nat} {av : List Value} {Q : QT} {n : Nat} {h : Hp} {a2 : Nat} {L2 : Nat} {x3 : Int32} {x4 : Int32} {x5 : Int32} {a9 : Nat} {x11 : Int32} {x12 : Int32} (hp : g.2.2.2.2 = true) (t2 : lay a2 = (2, L2, 11)) (u2 : a2 < N0) (t9 : lay a9 = (0, 14, 2)) (H : ((x3 ≤ x12) → (∀ h1, h1 = wi h 2759 3 x4 → (∀ h2, h2 = wi h1 2759 1 x5 → (Q (some (.int (x11 + x3))) n h2)))) ∧ ((¬ x3 ≤ x12) → (∃ r3, rr h 2759 41 = some r3 ∧ lay r3 = (0, 14, 2) ∧ (vp_in x12 L2 ∧ ∃ r4, rr h a2 (x12).toNatClampNeg = some r4 ∧ lay r4 = (0, 14, 2) ∧ (CallV g m_X10_times d [.ref 2759, .ref a9, .ref r3, .ref r4] n h (fun h5 => (CallV g m_X10_column d [.ref 2759, .int (x11 + x12), .ref a9, .int (1 : Int32)] n h5 (fun h6 => (W_X10_lay g d av Q n 259 [some (.ref 2759), none, some (.ref a2), some (.int x3), some (.int x4), some (.int x5), none, none, none, some (.ref a9), none, some (.int x11), some (.int (x12 + (1 : Int32)))] [] h6))))))))) : W_X10_lay g d av Q n 259 [some (.ref 2759), none, some (.ref a2), some (.int x3), some (.int x4), some (.int x5), none, none, none, some (.ref a9), none, some (.int x11), some (.int x12)] [] h := by
  refine r_iload dX10_lay_259 rfl ?_
  refine r_iload_n dX10_lay_261 rfl rfl ?_
  refine r_icmp_ge (tgt := 297) dX10_lay_262 rfl (fun cH => ?_) (fun cH => ?_)
  · replace H := H.1 cH
    refine r_aload_n dX10_lay_297 rfl rfl ?_
    refine r_iload dX10_lay_298 rfl ?_
    refine m_putI hp fw_X10_90 dX10_lay_300 rfl rfl ly_10 (fun h1 eh1 => ?_)
    replace H := H h1 eh1
    refine r_aload_n dX10_lay_303 rfl rfl ?_
    refine r_iload dX10_lay_304 rfl ?_
    refine m_putI hp fw_X10_21 dX10_lay_306 rfl rfl ly_10 (fun h2 eh2 => ?_)
    replace H := H h2 eh2
    refine r_iload dX10_lay_309 rfl ?_
    refine r_iload_n dX10_lay_311 rfl rfl ?_
    refine r_iadd dX10_lay_312 ?_
    exact r_zret dX10_lay_313 rfl rfl (Nat.le_refl _) (Nat.le_refl _) H
  · replace H := H.2 cH
    refine r_aload_n dX10_lay_265 rfl rfl ?_
    refine r_aload dX10_lay_266 rfl ?_
    refine r_aload_n dX10_lay_268 rfl rfl ?_
    obtain ⟨r3, er3, tr3, H⟩ := H
    refine m_getM (x := r3) hp fw_X10_702 dX10_lay_269 rfl ly_10 er3 ?_
    refine r_aload_n dX10_lay_272 rfl rfl ?_
    refine r_iload dX10_lay_273 rfl ?_
    have hir4 := H.1
    obtain ⟨r4, er4, tr4, H⟩ := H.2
    refine m_aalM (x := r4) hp dX10_lay_275 t2 rfl rfl u2 hir4 er4 ?_
    refine k_VV (As := [.ref a9, .ref r3, .ref r4]) (stk := []) hp cv_X10_197 dX10_lay_276 rfl (Nat.le_of_ble_eq_true rfl) ly_10 (H.mono (fun h5 H => ?_)) ⟨Nat.le_refl _, Nat.le_refl _⟩
    refine r_aload_n dX10_lay_279 rfl rfl ?_
    refine r_iload dX10_lay_280 rfl ?_
    refine r_iload dX10_lay_282 rfl ?_
    refine r_iadd dX10_lay_284 ?_
    refine r_aload dX10_lay_285 rfl ?_
    refine r_iconst (v := (1 : Int32)) dX10_lay_287 rfl ?_
    refine k_VV (As := [.int (x11 + x12), .ref a9, .int (1 : Int32)]) (stk := []) hp cv_X10_724 dX10_lay_288 rfl (Nat.le_of_ble_eq_true rfl) ly_10 (H.mono (fun h6 H => ?_)) ⟨Nat.le_refl _, Nat.le_refl _⟩
    refine r_iinc (v := (x12 + (1 : Int32))) (ls2 := [some (.ref 2759), none, some (.ref a2), some (.int x3), some (.int x4), some (.int x5), none, none, none, some (.ref a9), none, some (.int x11), some (.int (x12 + (1 : Int32)))]) dX10_lay_291 rfl rfl (by decide) rfl ?_
    refine r_goto (tgt := 259) dX10_lay_294 rfl ?_
    exact H
