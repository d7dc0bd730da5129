set_option maxRecDepth 100000
theorem dX10_atN_0 : decode cX10_atN 0 = .ok (.iconst 0, 1) := by decide +kernel
theorem dX10_atN_1 : decode cX10_atN 1 = .ok (.istore_n 3, 1) := by decide +kernel
theorem dX10_atN_2 : decode cX10_atN 2 = .ok (.iload_n 3, 1) := by decide +kernel
theorem dX10_atN_3 : decode cX10_atN 3 = .ok (.aload_n 1, 1) := by decide +kernel
theorem dX10_atN_4 : decode cX10_atN 4 = .ok (.getfield 93, 3) := by decide +kernel
theorem dX10_atN_7 : decode cX10_atN 7 = .ok (.if_icmp .ge 25, 3) := by decide +kernel
theorem dX10_atN_10 : decode cX10_atN 10 = .ok (.aload_n 0, 1) := by decide +kernel
theorem dX10_atN_11 : decode cX10_atN 11 = .ok (.getfield 30, 3) := by decide +kernel
theorem dX10_atN_14 : decode cX10_atN 14 = .ok (.iload_n 3, 1) := by decide +kernel
theorem dX10_atN_15 : decode cX10_atN 15 = .ok (.aload_n 1, 1) := by decide +kernel
theorem dX10_atN_16 : decode cX10_atN 16 = .ok (.getfield 98, 3) := by decide +kernel
theorem dX10_atN_19 : decode cX10_atN 19 = .ok (.iload_n 3, 1) := by decide +kernel
theorem dX10_atN_20 : decode cX10_atN 20 = .ok (.aaload, 1) := by decide +kernel
theorem dX10_atN_21 : decode cX10_atN 21 = .ok (.iload_n 2, 1) := by decide +kernel
theorem dX10_atN_22 : decode cX10_atN 22 = .ok (.invokestatic 136, 3) := by decide +kernel
theorem dX10_atN_25 : decode cX10_atN 25 = .ok (.iastore, 1) := by decide +kernel
theorem dX10_atN_26 : decode cX10_atN 26 = .ok (.iinc 3 1, 3) := by decide +kernel
theorem dX10_atN_29 : decode cX10_atN 29 = .ok (.goto (-27), 3) := by decide +kernel
theorem dX10_atN_32 : decode cX10_atN 32 = .ok (.aload_n 0, 1) := by decide +kernel
theorem dX10_atN_33 : decode cX10_atN 33 = .ok (.aload_n 1, 1) := by decide +kernel
theorem dX10_atN_34 : decode cX10_atN 34 = .ok (.getfield 93, 3) := by decide +kernel
theorem dX10_atN_37 : decode cX10_atN 37 = .ok (.putfield 25, 3) := by decide +kernel
theorem dX10_atN_40 : decode cX10_atN 40 = .ok (.aload_n 0, 1) := by decide +kernel
theorem dX10_atN_41 : decode cX10_atN 41 = .ok (.invokevirtual 52, 3) := by decide +kernel
theorem dX10_atN_44 : decode cX10_atN 44 = .ok (.return_, 1) := by decide +kernel
theorem dX10_through_0 : decode cX10_through 0 = .ok (.aload_n 0, 1) := by decide +kernel
theorem dX10_through_1 : decode cX10_through 1 = .ok (.getfield 21, 3) := by decide +kernel
theorem dX10_through_4 : decode cX10_through 4 = .ok (.istore 4, 2) := by decide +kernel
theorem dX10_through_6 : decode cX10_through 6 = .ok (.aload_n 0, 1) := by decide +kernel
theorem dX10_through_7 : decode cX10_through 7 = .ok (.invokevirtual 74, 3) := by decide +kernel
theorem dX10_through_10 : decode cX10_through 10 = .ok (.astore 5, 2) := by decide +kernel
theorem dX10_through_12 : decode cX10_through 12 = .ok (.aload_n 0, 1) := by decide +kernel
theorem dX10_through_13 : decode cX10_through 13 = .ok (.invokevirtual 74, 3) := by decide +kernel
theorem dX10_through_16 : decode cX10_through 16 = .ok (.astore 6, 2) := by decide +kernel
theorem dX10_through_18 : decode cX10_through 18 = .ok (.aload_n 0, 1) := by decide +kernel
theorem dX10_through_19 : decode cX10_through 19 = .ok (.invokevirtual 74, 3) := by decide +kernel
theorem dX10_through_22 : decode cX10_through 22 = .ok (.astore 7, 2) := by decide +kernel
theorem dX10_through_24 : decode cX10_through 24 = .ok (.aload 5, 2) := by decide +kernel
theorem dX10_through_26 : decode cX10_through 26 = .ok (.iconst 1, 1) := by decide +kernel
theorem dX10_through_27 : decode cX10_through 27 = .ok (.invokevirtual 147, 3) := by decide +kernel
theorem dX10_through_30 : decode cX10_through 30 = .ok (.aload_n 1, 1) := by decide +kernel
theorem dX10_through_31 : decode cX10_through 31 = .ok (.iconst 0, 1) := by decide +kernel
theorem dX10_through_32 : decode cX10_through 32 = .ok (.putfield 25, 3) := by decide +kernel
theorem dX10_through_35 : decode cX10_through 35 = .ok (.iconst 0, 1) := by decide +kernel
theorem dX10_through_36 : decode cX10_through 36 = .ok (.istore 8, 2) := by decide +kernel
theorem dX10_through_38 : decode cX10_through 38 = .ok (.iload 8, 2) := by decide +kernel
theorem dX10_through_40 : decode cX10_through 40 = .ok (.iload_n 3, 1) := by decide +kernel
theorem dX10_through_41 : decode cX10_through 41 = .ok (.if_icmp .ge 112, 3) := by decide +kernel
theorem dX10_through_44 : decode cX10_through 44 = .ok (.aload_n 2, 1) := by decide +kernel
theorem dX10_through_45 : decode cX10_through 45 = .ok (.iload 8, 2) := by decide +kernel
theorem dX10_through_47 : decode cX10_through 47 = .ok (.iaload, 1) := by decide +kernel
theorem dX10_through_48 : decode cX10_through 48 = .ok (.aload_n 1, 1) := by decide +kernel
theorem dX10_through_49 : decode cX10_through 49 = .ok (.aload_n 0, 1) := by decide +kernel
theorem dX10_through_50 : decode cX10_through 50 = .ok (.getfield 151, 3) := by decide +kernel
theorem dX10_through_53 : decode cX10_through 53 = .ok (.iload 8, 2) := by decide +kernel
theorem dX10_through_55 : decode cX10_through 55 = .ok (.iaload, 1) := by decide +kernel
theorem dX10_through_56 : decode cX10_through 56 = .ok (.invokestatic 136, 3) := by decide +kernel
theorem dX10_through_59 : decode cX10_through 59 = .ok (.invokestatic 46, 3) := by decide +kernel
theorem dX10_through_62 : decode cX10_through 62 = .ok (.istore 9, 2) := by decide +kernel
theorem dX10_through_64 : decode cX10_through 64 = .ok (.aload 6, 2) := by decide +kernel
theorem dX10_through_66 : decode cX10_through 66 = .ok (.aload 5, 2) := by decide +kernel
theorem dX10_through_68 : decode cX10_through 68 = .ok (.iload 9, 2) := by decide +kernel
theorem dX10_through_70 : decode cX10_through 70 = .ok (.aload 5, 2) := by decide +kernel
theorem dX10_through_72 : decode cX10_through 72 = .ok (.aload_n 0, 1) := by decide +kernel
theorem dX10_through_73 : decode cX10_through 73 = .ok (.getfield 151, 3) := by decide +kernel
theorem dX10_through_76 : decode cX10_through 76 = .ok (.iload 8, 2) := by decide +kernel
theorem dX10_through_78 : decode cX10_through 78 = .ok (.iaload, 1) := by decide +kernel
theorem dX10_through_79 : decode cX10_through 79 = .ok (.invokestatic 136, 3) := by decide +kernel
theorem dX10_through_82 : decode cX10_through 82 = .ok (.invokestatic 13, 3) := by decide +kernel
theorem dX10_through_85 : decode cX10_through 85 = .ok (.invokestatic 56, 3) := by decide +kernel
theorem dX10_through_88 : decode cX10_through 88 = .ok (.invokestatic 70, 3) := by decide +kernel
theorem dX10_through_91 : decode cX10_through 91 = .ok (.aload_n 1, 1) := by decide +kernel
theorem dX10_through_92 : decode cX10_through 92 = .ok (.aload_n 1, 1) := by decide +kernel
theorem dX10_through_93 : decode cX10_through 93 = .ok (.aload 6, 2) := by decide +kernel
theorem dX10_through_95 : decode cX10_through 95 = .ok (.iconst 0, 1) := by decide +kernel
theorem dX10_through_96 : decode cX10_through 96 = .ok (.invokestatic 101, 3) := by decide +kernel
theorem dX10_through_99 : decode cX10_through 99 = .ok (.aload 7, 2) := by decide +kernel
theorem dX10_through_101 : decode cX10_through 101 = .ok (.getfield 30, 3) := by decide +kernel
theorem dX10_through_104 : decode cX10_through 104 = .ok (.iconst 0, 1) := by decide +kernel
theorem dX10_through_105 : decode cX10_through 105 = .ok (.iconst 0, 1) := by decide +kernel
theorem dX10_through_106 : decode cX10_through 106 = .ok (.aload_n 0, 1) := by decide +kernel
theorem dX10_through_107 : decode cX10_through 107 = .ok (.getfield 151, 3) := by decide +kernel
theorem dX10_through_110 : decode cX10_through 110 = .ok (.iload 8, 2) := by decide +kernel
theorem dX10_through_112 : decode cX10_through 112 = .ok (.iaload, 1) := by decide +kernel
theorem dX10_through_113 : decode cX10_through 113 = .ok (.invokestatic 46, 3) := by decide +kernel
theorem dX10_through_116 : decode cX10_through 116 = .ok (.iastore, 1) := by decide +kernel
theorem dX10_through_117 : decode cX10_through 117 = .ok (.aload 7, 2) := by decide +kernel
theorem dX10_through_119 : decode cX10_through 119 = .ok (.getfield 30, 3) := by decide +kernel
theorem dX10_through_122 : decode cX10_through 122 = .ok (.iconst 1, 1) := by decide +kernel
theorem dX10_through_123 : decode cX10_through 123 = .ok (.iconst 1, 1) := by decide +kernel
theorem dX10_through_124 : decode cX10_through 124 = .ok (.iastore, 1) := by decide +kernel
theorem dX10_through_125 : decode cX10_through 125 = .ok (.aload 7, 2) := by decide +kernel
theorem dX10_through_127 : decode cX10_through 127 = .ok (.iconst 2, 1) := by decide +kernel
theorem dX10_through_128 : decode cX10_through 128 = .ok (.putfield 25, 3) := by decide +kernel
theorem dX10_through_131 : decode cX10_through 131 = .ok (.aload 6, 2) := by decide +kernel
theorem dX10_through_133 : decode cX10_through 133 = .ok (.aload 5, 2) := by decide +kernel
theorem dX10_through_135 : decode cX10_through 135 = .ok (.aload 7, 2) := by decide +kernel
theorem dX10_through_137 : decode cX10_through 137 = .ok (.invokestatic 106, 3) := by decide +kernel
theorem dX10_through_140 : decode cX10_through 140 = .ok (.aload 5, 2) := by decide +kernel
theorem dX10_through_142 : decode cX10_through 142 = .ok (.aload 6, 2) := by decide +kernel
theorem dX10_through_144 : decode cX10_through 144 = .ok (.invokestatic 62, 3) := by decide +kernel
theorem dX10_through_147 : decode cX10_through 147 = .ok (.iinc 8 1, 3) := by decide +kernel
theorem dX10_through_150 : decode cX10_through 150 = .ok (.goto (-112), 3) := by decide +kernel
theorem dX10_through_153 : decode cX10_through 153 = .ok (.aload_n 0, 1) := by decide +kernel
theorem dX10_through_154 : decode cX10_through 154 = .ok (.iload 4, 2) := by decide +kernel
theorem dX10_through_156 : decode cX10_through 156 = .ok (.putfield 21, 3) := by decide +kernel
theorem dX10_through_159 : decode cX10_through 159 = .ok (.return_, 1) := by decide +kernel
theorem dX10_divides_0 : decode cX10_divides 0 = .ok (.aload_n 0, 1) := by decide +kernel
theorem dX10_divides_1 : decode cX10_divides 1 = .ok (.getfield 90, 3) := by decide +kernel
theorem dX10_divides_4 : decode cX10_divides 4 = .ok (.istore 4, 2) := by decide +kernel
theorem dX10_divides_6 : decode cX10_divides 6 = .ok (.aload_n 0, 1) := by decide +kernel
theorem dX10_divides_7 : decode cX10_divides 7 = .ok (.getfield 21, 3) := by decide +kernel
theorem dX10_divides_10 : decode cX10_divides 10 = .ok (.istore 5, 2) := by decide +kernel
theorem dX10_divides_12 : decode cX10_divides 12 = .ok (.aload_n 0, 1) := by decide +kernel
theorem dX10_divides_13 : decode cX10_divides 13 = .ok (.invokevirtual 140, 3) := by decide +kernel
theorem dX10_divides_16 : decode cX10_divides 16 = .ok (.astore 6, 2) := by decide +kernel
theorem dX10_divides_18 : decode cX10_divides 18 = .ok (.aload_n 0, 1) := by decide +kernel
theorem dX10_divides_19 : decode cX10_divides 19 = .ok (.invokevirtual 74, 3) := by decide +kernel
theorem dX10_divides_22 : decode cX10_divides 22 = .ok (.astore 7, 2) := by decide +kernel
theorem dX10_divides_24 : decode cX10_divides 24 = .ok (.aload_n 0, 1) := by decide +kernel
theorem dX10_divides_25 : decode cX10_divides 25 = .ok (.invokevirtual 74, 3) := by decide +kernel
theorem dX10_divides_28 : decode cX10_divides 28 = .ok (.astore 8, 2) := by decide +kernel
theorem dX10_divides_30 : decode cX10_divides 30 = .ok (.aload_n 0, 1) := by decide +kernel
theorem dX10_divides_31 : decode cX10_divides 31 = .ok (.invokevirtual 74, 3) := by decide +kernel
theorem dX10_divides_34 : decode cX10_divides 34 = .ok (.astore 9, 2) := by decide +kernel
theorem dX10_divides_36 : decode cX10_divides 36 = .ok (.aload 6, 2) := by decide +kernel
theorem dX10_divides_38 : decode cX10_divides 38 = .ok (.aload_n 2, 1) := by decide +kernel
theorem dX10_divides_39 : decode cX10_divides 39 = .ok (.invokestatic 113, 3) := by decide +kernel
theorem dX10_divides_42 : decode cX10_divides 42 = .ok (.aload_n 1, 1) := by decide +kernel
theorem dX10_divides_43 : decode cX10_divides 43 = .ok (.iconst 0, 1) := by decide +kernel
theorem dX10_divides_44 : decode cX10_divides 44 = .ok (.aload_n 2, 1) := by decide +kernel
theorem dX10_divides_45 : decode cX10_divides 45 = .ok (.getfield 93, 3) := by decide +kernel
theorem dX10_divides_48 : decode cX10_divides 48 = .ok (.aload_n 3, 1) := by decide +kernel
theorem dX10_divides_49 : decode cX10_divides 49 = .ok (.getfield 93, 3) := by decide +kernel
theorem dX10_divides_52 : decode cX10_divides 52 = .ok (.isub, 1) := by decide +kernel
theorem dX10_divides_53 : decode cX10_divides 53 = .ok (.iconst 1, 1) := by decide +kernel
theorem dX10_divides_54 : decode cX10_divides 54 = .ok (.iadd, 1) := by decide +kernel
theorem dX10_divides_55 : decode cX10_divides 55 = .ok (.invokestatic 40, 3) := by decide +kernel
theorem dX10_divides_58 : decode cX10_divides 58 = .ok (.putfield 93, 3) := by decide +kernel
theorem dX10_divides_61 : decode cX10_divides 61 = .ok (.iconst 0, 1) := by decide +kernel
theorem dX10_divides_62 : decode cX10_divides 62 = .ok (.istore 10, 2) := by decide +kernel
theorem dX10_divides_64 : decode cX10_divides 64 = .ok (.iload 10, 2) := by decide +kernel
theorem dX10_divides_66 : decode cX10_divides 66 = .ok (.aload_n 1, 1) := by decide +kernel
theorem dX10_divides_67 : decode cX10_divides 67 = .ok (.getfield 93, 3) := by decide +kernel
theorem dX10_divides_70 : decode cX10_divides 70 = .ok (.if_icmp .ge 20, 3) := by decide +kernel
theorem dX10_divides_73 : decode cX10_divides 73 = .ok (.aload_n 1, 1) := by decide +kernel
theorem dX10_divides_74 : decode cX10_divides 74 = .ok (.getfield 98, 3) := by decide +kernel
theorem dX10_divides_77 : decode cX10_divides 77 = .ok (.iload 10, 2) := by decide +kernel
theorem dX10_divides_79 : decode cX10_divides 79 = .ok (.aaload, 1) := by decide +kernel
theorem dX10_divides_80 : decode cX10_divides 80 = .ok (.iconst 0, 1) := by decide +kernel
theorem dX10_divides_81 : decode cX10_divides 81 = .ok (.putfield 25, 3) := by decide +kernel
theorem dX10_divides_84 : decode cX10_divides 84 = .ok (.iinc 10 1, 3) := by decide +kernel
theorem dX10_divides_87 : decode cX10_divides 87 = .ok (.goto (-23), 3) := by decide +kernel
theorem dX10_divides_90 : decode cX10_divides 90 = .ok (.aload_n 2, 1) := by decide +kernel
theorem dX10_divides_91 : decode cX10_divides 91 = .ok (.getfield 93, 3) := by decide +kernel
theorem dX10_divides_94 : decode cX10_divides 94 = .ok (.ifCond .eq 14, 3) := by decide +kernel
theorem dX10_divides_97 : decode cX10_divides 97 = .ok (.aload_n 2, 1) := by decide +kernel
theorem dX10_divides_98 : decode cX10_divides 98 = .ok (.getfield 93, 3) := by decide +kernel
theorem dX10_divides_101 : decode cX10_divides 101 = .ok (.aload_n 3, 1) := by decide +kernel
theorem dX10_divides_102 : decode cX10_divides 102 = .ok (.getfield 93, 3) := by decide +kernel
theorem dX10_divides_105 : decode cX10_divides 105 = .ok (.if_icmp .lt 7, 3) := by decide +kernel
theorem dX10_divides_108 : decode cX10_divides 108 = .ok (.iconst 1, 1) := by decide +kernel
theorem dX10_divides_109 : decode cX10_divides 109 = .ok (.goto 4, 3) := by decide +kernel
theorem dX10_divides_112 : decode cX10_divides 112 = .ok (.iconst 0, 1) := by decide +kernel
theorem dX10_divides_113 : decode cX10_divides 113 = .ok (.istore 10, 2) := by decide +kernel
theorem dX10_divides_115 : decode cX10_divides 115 = .ok (.iload 10, 2) := by decide +kernel
theorem dX10_divides_117 : decode cX10_divides 117 = .ok (.ifCond .eq 177, 3) := by decide +kernel
theorem dX10_divides_120 : decode cX10_divides 120 = .ok (.aload 6, 2) := by decide +kernel
theorem dX10_divides_122 : decode cX10_divides 122 = .ok (.getfield 93, 3) := by decide +kernel
theorem dX10_divides_125 : decode cX10_divides 125 = .ok (.aload_n 3, 1) := by decide +kernel
theorem dX10_divides_126 : decode cX10_divides 126 = .ok (.getfield 93, 3) := by decide +kernel
theorem dX10_divides_129 : decode cX10_divides 129 = .ok (.if_icmp .lt 165, 3) := by decide +kernel
theorem dX10_divides_132 : decode cX10_divides 132 = .ok (.aload 7, 2) := by decide +kernel
theorem dX10_divides_134 : decode cX10_divides 134 = .ok (.aload 8, 2) := by decide +kernel
theorem dX10_divides_136 : decode cX10_divides 136 = .ok (.aload 6, 2) := by decide +kernel
theorem dX10_divides_138 : decode cX10_divides 138 = .ok (.invokevirtual 144, 3) := by decide +kernel
theorem dX10_divides_141 : decode cX10_divides 141 = .ok (.aload_n 3, 1) := by decide +kernel
theorem dX10_divides_142 : decode cX10_divides 142 = .ok (.invokevirtual 144, 3) := by decide +kernel
theorem dX10_divides_145 : decode cX10_divides 145 = .ok (.invokestatic 78, 3) := by decide +kernel
theorem dX10_divides_148 : decode cX10_divides 148 = .ok (.aload 8, 2) := by decide +kernel
theorem dX10_divides_150 : decode cX10_divides 150 = .ok (.getfield 25, 3) := by decide +kernel
theorem dX10_divides_153 : decode cX10_divides 153 = .ok (.ifCond .ne 17, 3) := by decide +kernel
theorem dX10_divides_156 : decode cX10_divides 156 = .ok (.aload 7, 2) := by decide +kernel
theorem dX10_divides_158 : decode cX10_divides 158 = .ok (.getfield 25, 3) := by decide +kernel
theorem dX10_divides_161 : decode cX10_divides 161 = .ok (.bipush 100, 2) := by decide +kernel
theorem dX10_divides_163 : decode cX10_divides 163 = .ok (.if_icmp .gt 7, 3) := by decide +kernel
theorem dX10_divides_166 : decode cX10_divides 166 = .ok (.iconst 1, 1) := by decide +kernel
theorem dX10_divides_167 : decode cX10_divides 167 = .ok (.goto 4, 3) := by decide +kernel
theorem dX10_divides_170 : decode cX10_divides 170 = .ok (.iconst 0, 1) := by decide +kernel
theorem dX10_divides_171 : decode cX10_divides 171 = .ok (.istore 10, 2) := by decide +kernel
theorem dX10_divides_173 : decode cX10_divides 173 = .ok (.aload 6, 2) := by decide +kernel
theorem dX10_divides_175 : decode cX10_divides 175 = .ok (.getfield 93, 3) := by decide +kernel
theorem dX10_divides_178 : decode cX10_divides 178 = .ok (.aload_n 3, 1) := by decide +kernel
theorem dX10_divides_179 : decode cX10_divides 179 = .ok (.getfield 93, 3) := by decide +kernel
theorem dX10_divides_182 : decode cX10_divides 182 = .ok (.isub, 1) := by decide +kernel
theorem dX10_divides_183 : decode cX10_divides 183 = .ok (.istore 11, 2) := by decide +kernel
theorem dX10_divides_185 : decode cX10_divides 185 = .ok (.iload 10, 2) := by decide +kernel
theorem dX10_divides_187 : decode cX10_divides 187 = .ok (.ifCond .eq 104, 3) := by decide +kernel
theorem dX10_divides_190 : decode cX10_divides 190 = .ok (.aload_n 1, 1) := by decide +kernel
theorem dX10_divides_191 : decode cX10_divides 191 = .ok (.getfield 98, 3) := by decide +kernel
theorem dX10_divides_194 : decode cX10_divides 194 = .ok (.iload 11, 2) := by decide +kernel
theorem dX10_divides_196 : decode cX10_divides 196 = .ok (.aaload, 1) := by decide +kernel
theorem dX10_divides_197 : decode cX10_divides 197 = .ok (.aload 7, 2) := by decide +kernel
theorem dX10_divides_199 : decode cX10_divides 199 = .ok (.invokestatic 62, 3) := by decide +kernel
theorem dX10_divides_202 : decode cX10_divides 202 = .ok (.iconst 0, 1) := by decide +kernel
theorem dX10_divides_203 : decode cX10_divides 203 = .ok (.istore 12, 2) := by decide +kernel
theorem dX10_divides_205 : decode cX10_divides 205 = .ok (.iload 12, 2) := by decide +kernel
theorem dX10_divides_207 : decode cX10_divides 207 = .ok (.aload_n 3, 1) := by decide +kernel
theorem dX10_divides_208 : decode cX10_divides 208 = .ok (.getfield 93, 3) := by decide +kernel
theorem dX10_divides_211 : decode cX10_divides 211 = .ok (.if_icmp .ge 51, 3) := by decide +kernel
theorem dX10_divides_214 : decode cX10_divides 214 = .ok (.aload 9, 2) := by decide +kernel
theorem dX10_divides_216 : decode cX10_divides 216 = .ok (.aload 7, 2) := by decide +kernel
theorem dX10_divides_218 : decode cX10_divides 218 = .ok (.aload_n 3, 1) := by decide +kernel
theorem dX10_divides_219 : decode cX10_divides 219 = .ok (.getfield 98, 3) := by decide +kernel
theorem dX10_divides_222 : decode cX10_divides 222 = .ok (.iload 12, 2) := by decide +kernel
theorem dX10_divides_224 : decode cX10_divides 224 = .ok (.aaload, 1) := by decide +kernel
theorem dX10_divides_225 : decode cX10_divides 225 = .ok (.invokestatic 106, 3) := by decide +kernel
theorem dX10_divides_228 : decode cX10_divides 228 = .ok (.aload 6, 2) := by decide +kernel
theorem dX10_divides_230 : decode cX10_divides 230 = .ok (.getfield 98, 3) := by decide +kernel
theorem dX10_divides_233 : decode cX10_divides 233 = .ok (.iload 11, 2) := by decide +kernel
theorem dX10_divides_235 : decode cX10_divides 235 = .ok (.iload 12, 2) := by decide +kernel
theorem dX10_divides_237 : decode cX10_divides 237 = .ok (.iadd, 1) := by decide +kernel
theorem dX10_divides_238 : decode cX10_divides 238 = .ok (.aaload, 1) := by decide +kernel
theorem dX10_divides_239 : decode cX10_divides 239 = .ok (.aload 6, 2) := by decide +kernel
theorem dX10_divides_241 : decode cX10_divides 241 = .ok (.getfield 98, 3) := by decide +kernel
theorem dX10_divides_244 : decode cX10_divides 244 = .ok (.iload 11, 2) := by decide +kernel
theorem dX10_divides_246 : decode cX10_divides 246 = .ok (.iload 12, 2) := by decide +kernel
theorem dX10_divides_248 : decode cX10_divides 248 = .ok (.iadd, 1) := by decide +kernel
theorem dX10_divides_249 : decode cX10_divides 249 = .ok (.aaload, 1) := by decide +kernel
theorem dX10_divides_250 : decode cX10_divides 250 = .ok (.aload 9, 2) := by decide +kernel
theorem dX10_divides_252 : decode cX10_divides 252 = .ok (.iconst 1, 1) := by decide +kernel
theorem dX10_divides_253 : decode cX10_divides 253 = .ok (.invokestatic 101, 3) := by decide +kernel
theorem dX10_divides_256 : decode cX10_divides 256 = .ok (.iinc 12 1, 3) := by decide +kernel
theorem dX10_divides_259 : decode cX10_divides 259 = .ok (.goto (-54), 3) := by decide +kernel
theorem dX10_divides_262 : decode cX10_divides 262 = .ok (.aload 6, 2) := by decide +kernel
theorem dX10_divides_264 : decode cX10_divides 264 = .ok (.getfield 93, 3) := by decide +kernel
theorem dX10_divides_267 : decode cX10_divides 267 = .ok (.istore 12, 2) := by decide +kernel
theorem dX10_divides_269 : decode cX10_divides 269 = .ok (.aload 6, 2) := by decide +kernel
theorem dX10_divides_271 : decode cX10_divides 271 = .ok (.invokevirtual 105, 3) := by decide +kernel
theorem dX10_divides_274 : decode cX10_divides 274 = .ok (.aload 6, 2) := by decide +kernel
theorem dX10_divides_276 : decode cX10_divides 276 = .ok (.getfield 93, 3) := by decide +kernel
theorem dX10_divides_279 : decode cX10_divides 279 = .ok (.iload 12, 2) := by decide +kernel
theorem dX10_divides_281 : decode cX10_divides 281 = .ok (.if_icmp .ge 7, 3) := by decide +kernel
theorem dX10_divides_284 : decode cX10_divides 284 = .ok (.iconst 1, 1) := by decide +kernel
theorem dX10_divides_285 : decode cX10_divides 285 = .ok (.goto 4, 3) := by decide +kernel
theorem dX10_divides_288 : decode cX10_divides 288 = .ok (.iconst 0, 1) := by decide +kernel
theorem dX10_divides_289 : decode cX10_divides 289 = .ok (.istore 10, 2) := by decide +kernel
theorem dX10_divides_291 : decode cX10_divides 291 = .ok (.goto (-176), 3) := by decide +kernel
theorem dX10_divides_294 : decode cX10_divides 294 = .ok (.iload 10, 2) := by decide +kernel
theorem dX10_divides_296 : decode cX10_divides 296 = .ok (.ifCond .eq 15, 3) := by decide +kernel
theorem dX10_divides_299 : decode cX10_divides 299 = .ok (.aload 6, 2) := by decide +kernel
theorem dX10_divides_301 : decode cX10_divides 301 = .ok (.getfield 93, 3) := by decide +kernel
theorem dX10_divides_304 : decode cX10_divides 304 = .ok (.ifCond .ne 7, 3) := by decide +kernel
theorem dX10_divides_307 : decode cX10_divides 307 = .ok (.iconst 1, 1) := by decide +kernel
theorem dX10_divides_308 : decode cX10_divides 308 = .ok (.goto 4, 3) := by decide +kernel
theorem dX10_divides_311 : decode cX10_divides 311 = .ok (.iconst 0, 1) := by decide +kernel
theorem dX10_divides_312 : decode cX10_divides 312 = .ok (.istore 10, 2) := by decide +kernel
theorem dX10_divides_314 : decode cX10_divides 314 = .ok (.aload_n 1, 1) := by decide +kernel
theorem dX10_divides_315 : decode cX10_divides 315 = .ok (.invokevirtual 105, 3) := by decide +kernel
theorem dX10_divides_318 : decode cX10_divides 318 = .ok (.aload_n 0, 1) := by decide +kernel
theorem dX10_divides_319 : decode cX10_divides 319 = .ok (.iload 4, 2) := by decide +kernel
theorem dX10_divides_321 : decode cX10_divides 321 = .ok (.putfield 90, 3) := by decide +kernel
theorem dX10_divides_324 : decode cX10_divides 324 = .ok (.aload_n 0, 1) := by decide +kernel
theorem dX10_divides_325 : decode cX10_divides 325 = .ok (.iload 5, 2) := by decide +kernel
theorem dX10_divides_327 : decode cX10_divides 327 = .ok (.putfield 21, 3) := by decide +kernel
theorem dX10_divides_330 : decode cX10_divides 330 = .ok (.iload 10, 2) := by decide +kernel
theorem dX10_divides_332 : decode cX10_divides 332 = .ok (.ireturn, 1) := by decide +kernel
theorem dX10_timesU_0 : decode cX10_timesU 0 = .ok (.aload_n 0, 1) := by decide +kernel
theorem dX10_timesU_1 : decode cX10_timesU 1 = .ok (.getfield 21, 3) := by decide +kernel
theorem dX10_timesU_4 : decode cX10_timesU 4 = .ok (.istore 4, 2) := by decide +kernel
theorem dX10_timesU_6 : decode cX10_timesU 6 = .ok (.aload_n 0, 1) := by decide +kernel
theorem dX10_timesU_7 : decode cX10_timesU 7 = .ok (.invokevirtual 74, 3) := by decide +kernel
theorem dX10_timesU_10 : decode cX10_timesU 10 = .ok (.astore 5, 2) := by decide +kernel
theorem dX10_timesU_12 : decode cX10_timesU 12 = .ok (.iconst 0, 1) := by decide +kernel
theorem dX10_timesU_13 : decode cX10_timesU 13 = .ok (.istore 6, 2) := by decide +kernel
theorem dX10_timesU_15 : decode cX10_timesU 15 = .ok (.iload 6, 2) := by decide +kernel
theorem dX10_timesU_17 : decode cX10_timesU 17 = .ok (.aload_n 2, 1) := by decide +kernel
theorem dX10_timesU_18 : decode cX10_timesU 18 = .ok (.getfield 93, 3) := by decide +kernel
theorem dX10_timesU_21 : decode cX10_timesU 21 = .ok (.if_icmp .ge 34, 3) := by decide +kernel
theorem dX10_timesU_24 : decode cX10_timesU 24 = .ok (.aload 5, 2) := by decide +kernel
theorem dX10_timesU_26 : decode cX10_timesU 26 = .ok (.aload_n 2, 1) := by decide +kernel
theorem dX10_timesU_27 : decode cX10_timesU 27 = .ok (.getfield 98, 3) := by decide +kernel
theorem dX10_timesU_30 : decode cX10_timesU 30 = .ok (.iload 6, 2) := by decide +kernel
theorem dX10_timesU_32 : decode cX10_timesU 32 = .ok (.aaload, 1) := by decide +kernel
theorem dX10_timesU_33 : decode cX10_timesU 33 = .ok (.aload_n 3, 1) := by decide +kernel
theorem dX10_timesU_34 : decode cX10_timesU 34 = .ok (.invokestatic 106, 3) := by decide +kernel
theorem dX10_timesU_37 : decode cX10_timesU 37 = .ok (.aload_n 1, 1) := by decide +kernel
theorem dX10_timesU_38 : decode cX10_timesU 38 = .ok (.getfield 98, 3) := by decide +kernel
theorem dX10_timesU_41 : decode cX10_timesU 41 = .ok (.iload 6, 2) := by decide +kernel
theorem dX10_timesU_43 : decode cX10_timesU 43 = .ok (.aaload, 1) := by decide +kernel
theorem dX10_timesU_44 : decode cX10_timesU 44 = .ok (.aload 5, 2) := by decide +kernel
theorem dX10_timesU_46 : decode cX10_timesU 46 = .ok (.invokestatic 62, 3) := by decide +kernel
theorem dX10_timesU_49 : decode cX10_timesU 49 = .ok (.iinc 6 1, 3) := by decide +kernel
theorem dX10_timesU_52 : decode cX10_timesU 52 = .ok (.goto (-37), 3) := by decide +kernel
theorem dX10_timesU_55 : decode cX10_timesU 55 = .ok (.aload_n 1, 1) := by decide +kernel
theorem dX10_timesU_56 : decode cX10_timesU 56 = .ok (.aload_n 2, 1) := by decide +kernel
theorem dX10_timesU_57 : decode cX10_timesU 57 = .ok (.getfield 93, 3) := by decide +kernel
theorem dX10_timesU_60 : decode cX10_timesU 60 = .ok (.putfield 93, 3) := by decide +kernel
theorem dX10_timesU_63 : decode cX10_timesU 63 = .ok (.aload_n 1, 1) := by decide +kernel
theorem dX10_timesU_64 : decode cX10_timesU 64 = .ok (.invokevirtual 105, 3) := by decide +kernel
theorem dX10_timesU_67 : decode cX10_timesU 67 = .ok (.aload_n 0, 1) := by decide +kernel
theorem dX10_timesU_68 : decode cX10_timesU 68 = .ok (.iload 4, 2) := by decide +kernel
theorem dX10_timesU_70 : decode cX10_timesU 70 = .ok (.putfield 21, 3) := by decide +kernel
theorem dX10_timesU_73 : decode cX10_timesU 73 = .ok (.return_, 1) := by decide +kernel
theorem dX10_joined_0 : decode cX10_joined 0 = .ok (.iconst 0, 1) := by decide +kernel
theorem dX10_joined_1 : decode cX10_joined 1 = .ok (.istore_n 3, 1) := by decide +kernel
theorem dX10_joined_2 : decode cX10_joined 2 = .ok (.iconst 0, 1) := by decide +kernel
theorem dX10_joined_3 : decode cX10_joined 3 = .ok (.istore 4, 2) := by decide +kernel
theorem dX10_joined_5 : decode cX10_joined 5 = .ok (.iload 4, 2) := by decide +kernel
theorem dX10_joined_7 : decode cX10_joined 7 = .ok (.aload_n 0, 1) := by decide +kernel
theorem dX10_joined_8 : decode cX10_joined 8 = .ok (.getfield 219, 3) := by decide +kernel
theorem dX10_joined_11 : decode cX10_joined 11 = .ok (.if_icmp .ge 113, 3) := by decide +kernel
theorem dX10_joined_14 : decode cX10_joined 14 = .ok (.aload_n 0, 1) := by decide +kernel
theorem dX10_joined_15 : decode cX10_joined 15 = .ok (.getfield 231, 3) := by decide +kernel
theorem dX10_joined_18 : decode cX10_joined 18 = .ok (.iload 4, 2) := by decide +kernel
theorem dX10_joined_20 : decode cX10_joined 20 = .ok (.iaload, 1) := by decide +kernel
theorem dX10_joined_21 : decode cX10_joined 21 = .ok (.istore 5, 2) := by decide +kernel
theorem dX10_joined_23 : decode cX10_joined 23 = .ok (.iconst 0, 1) := by decide +kernel
theorem dX10_joined_24 : decode cX10_joined 24 = .ok (.istore 6, 2) := by decide +kernel
theorem dX10_joined_26 : decode cX10_joined 26 = .ok (.iload 6, 2) := by decide +kernel
theorem dX10_joined_28 : decode cX10_joined 28 = .ok (.aload_n 1, 1) := by decide +kernel
theorem dX10_joined_29 : decode cX10_joined 29 = .ok (.getfield 219, 3) := by decide +kernel
theorem dX10_joined_32 : decode cX10_joined 32 = .ok (.if_icmp .ge 78, 3) := by decide +kernel
theorem dX10_joined_35 : decode cX10_joined 35 = .ok (.iload 5, 2) := by decide +kernel
theorem dX10_joined_37 : decode cX10_joined 37 = .ok (.aload_n 0, 1) := by decide +kernel
theorem dX10_joined_38 : decode cX10_joined 38 = .ok (.getfield 222, 3) := by decide +kernel
theorem dX10_joined_41 : decode cX10_joined 41 = .ok (.iload 4, 2) := by decide +kernel
theorem dX10_joined_43 : decode cX10_joined 43 = .ok (.iaload, 1) := by decide +kernel
theorem dX10_joined_44 : decode cX10_joined 44 = .ok (.aload_n 1, 1) := by decide +kernel
theorem dX10_joined_45 : decode cX10_joined 45 = .ok (.getfield 222, 3) := by decide +kernel
theorem dX10_joined_48 : decode cX10_joined 48 = .ok (.iload 6, 2) := by decide +kernel
theorem dX10_joined_50 : decode cX10_joined 50 = .ok (.iaload, 1) := by decide +kernel
theorem dX10_joined_51 : decode cX10_joined 51 = .ok (.if_icmp .ne 49, 3) := by decide +kernel
theorem dX10_joined_54 : decode cX10_joined 54 = .ok (.aload_n 0, 1) := by decide +kernel
theorem dX10_joined_55 : decode cX10_joined 55 = .ok (.getfield 225, 3) := by decide +kernel
theorem dX10_joined_58 : decode cX10_joined 58 = .ok (.iload 4, 2) := by decide +kernel
theorem dX10_joined_60 : decode cX10_joined 60 = .ok (.iaload, 1) := by decide +kernel
theorem dX10_joined_61 : decode cX10_joined 61 = .ok (.aload_n 1, 1) := by decide +kernel
theorem dX10_joined_62 : decode cX10_joined 62 = .ok (.getfield 225, 3) := by decide +kernel
theorem dX10_joined_65 : decode cX10_joined 65 = .ok (.iload 6, 2) := by decide +kernel
theorem dX10_joined_67 : decode cX10_joined 67 = .ok (.iaload, 1) := by decide +kernel
theorem dX10_joined_68 : decode cX10_joined 68 = .ok (.if_icmp .ne 32, 3) := by decide +kernel
theorem dX10_joined_71 : decode cX10_joined 71 = .ok (.aload_n 0, 1) := by decide +kernel
theorem dX10_joined_72 : decode cX10_joined 72 = .ok (.getfield 228, 3) := by decide +kernel
theorem dX10_joined_75 : decode cX10_joined 75 = .ok (.iload 4, 2) := by decide +kernel
theorem dX10_joined_77 : decode cX10_joined 77 = .ok (.iaload, 1) := by decide +kernel
theorem dX10_joined_78 : decode cX10_joined 78 = .ok (.aload_n 1, 1) := by decide +kernel
theorem dX10_joined_79 : decode cX10_joined 79 = .ok (.getfield 228, 3) := by decide +kernel
theorem dX10_joined_82 : decode cX10_joined 82 = .ok (.iload 6, 2) := by decide +kernel
theorem dX10_joined_84 : decode cX10_joined 84 = .ok (.iaload, 1) := by decide +kernel
theorem dX10_joined_85 : decode cX10_joined 85 = .ok (.if_icmp .ne 15, 3) := by decide +kernel
theorem dX10_joined_88 : decode cX10_joined 88 = .ok (.iload_n 2, 1) := by decide +kernel
theorem dX10_joined_89 : decode cX10_joined 89 = .ok (.aload_n 1, 1) := by decide +kernel
theorem dX10_joined_90 : decode cX10_joined 90 = .ok (.getfield 231, 3) := by decide +kernel
theorem dX10_joined_93 : decode cX10_joined 93 = .ok (.iload 6, 2) := by decide +kernel
theorem dX10_joined_95 : decode cX10_joined 95 = .ok (.iaload, 1) := by decide +kernel
theorem dX10_joined_96 : decode cX10_joined 96 = .ok (.imul, 1) := by decide +kernel
theorem dX10_joined_97 : decode cX10_joined 97 = .ok (.goto 4, 3) := by decide +kernel
theorem dX10_joined_100 : decode cX10_joined 100 = .ok (.iconst 0, 1) := by decide +kernel
theorem dX10_joined_101 : decode cX10_joined 101 = .ok (.iadd, 1) := by decide +kernel
theorem dX10_joined_102 : decode cX10_joined 102 = .ok (.istore 5, 2) := by decide +kernel
theorem dX10_joined_104 : decode cX10_joined 104 = .ok (.iinc 6 1, 3) := by decide +kernel
theorem dX10_joined_107 : decode cX10_joined 107 = .ok (.goto (-81), 3) := by decide +kernel
theorem dX10_joined_110 : decode cX10_joined 110 = .ok (.iload_n 3, 1) := by decide +kernel
theorem dX10_joined_111 : decode cX10_joined 111 = .ok (.iload 5, 2) := by decide +kernel
theorem dX10_joined_113 : decode cX10_joined 113 = .ok (.invokestatic 273, 3) := by decide +kernel
theorem dX10_joined_116 : decode cX10_joined 116 = .ok (.iadd, 1) := by decide +kernel
theorem dX10_joined_117 : decode cX10_joined 117 = .ok (.istore_n 3, 1) := by decide +kernel
theorem dX10_joined_118 : decode cX10_joined 118 = .ok (.iinc 4 1, 3) := by decide +kernel
theorem dX10_joined_121 : decode cX10_joined 121 = .ok (.goto (-116), 3) := by decide +kernel
theorem dX10_joined_124 : decode cX10_joined 124 = .ok (.iconst 0, 1) := by decide +kernel
theorem dX10_joined_125 : decode cX10_joined 125 = .ok (.istore 4, 2) := by decide +kernel
theorem dX10_joined_127 : decode cX10_joined 127 = .ok (.iload 4, 2) := by decide +kernel
theorem dX10_joined_129 : decode cX10_joined 129 = .ok (.aload_n 1, 1) := by decide +kernel
theorem dX10_joined_130 : decode cX10_joined 130 = .ok (.getfield 219, 3) := by decide +kernel
theorem dX10_joined_133 : decode cX10_joined 133 = .ok (.if_icmp .ge 115, 3) := by decide +kernel
theorem dX10_joined_136 : decode cX10_joined 136 = .ok (.iconst 0, 1) := by decide +kernel
theorem dX10_joined_137 : decode cX10_joined 137 = .ok (.istore 5, 2) := by decide +kernel
theorem dX10_joined_139 : decode cX10_joined 139 = .ok (.iconst 0, 1) := by decide +kernel
theorem dX10_joined_140 : decode cX10_joined 140 = .ok (.istore 6, 2) := by decide +kernel
theorem dX10_joined_142 : decode cX10_joined 142 = .ok (.iload 6, 2) := by decide +kernel
theorem dX10_joined_144 : decode cX10_joined 144 = .ok (.aload_n 0, 1) := by decide +kernel
theorem dX10_joined_145 : decode cX10_joined 145 = .ok (.getfield 219, 3) := by decide +kernel
theorem dX10_joined_148 : decode cX10_joined 148 = .ok (.if_icmp .ge 70, 3) := by decide +kernel
theorem dX10_joined_151 : decode cX10_joined 151 = .ok (.iload 5, 2) := by decide +kernel
theorem dX10_joined_153 : decode cX10_joined 153 = .ok (.aload_n 0, 1) := by decide +kernel
theorem dX10_joined_154 : decode cX10_joined 154 = .ok (.getfield 222, 3) := by decide +kernel
theorem dX10_joined_157 : decode cX10_joined 157 = .ok (.iload 6, 2) := by decide +kernel
theorem dX10_joined_159 : decode cX10_joined 159 = .ok (.iaload, 1) := by decide +kernel
theorem dX10_joined_160 : decode cX10_joined 160 = .ok (.aload_n 1, 1) := by decide +kernel
theorem dX10_joined_161 : decode cX10_joined 161 = .ok (.getfield 222, 3) := by decide +kernel
theorem dX10_joined_164 : decode cX10_joined 164 = .ok (.iload 4, 2) := by decide +kernel
theorem dX10_joined_166 : decode cX10_joined 166 = .ok (.iaload, 1) := by decide +kernel
theorem dX10_joined_167 : decode cX10_joined 167 = .ok (.if_icmp .ne 41, 3) := by decide +kernel
theorem dX10_joined_170 : decode cX10_joined 170 = .ok (.aload_n 0, 1) := by decide +kernel
theorem dX10_joined_171 : decode cX10_joined 171 = .ok (.getfield 225, 3) := by decide +kernel
theorem dX10_joined_174 : decode cX10_joined 174 = .ok (.iload 6, 2) := by decide +kernel
theorem dX10_joined_176 : decode cX10_joined 176 = .ok (.iaload, 1) := by decide +kernel
theorem dX10_joined_177 : decode cX10_joined 177 = .ok (.aload_n 1, 1) := by decide +kernel
theorem dX10_joined_178 : decode cX10_joined 178 = .ok (.getfield 225, 3) := by decide +kernel
theorem dX10_joined_181 : decode cX10_joined 181 = .ok (.iload 4, 2) := by decide +kernel
theorem dX10_joined_183 : decode cX10_joined 183 = .ok (.iaload, 1) := by decide +kernel
theorem dX10_joined_184 : decode cX10_joined 184 = .ok (.if_icmp .ne 24, 3) := by decide +kernel
theorem dX10_joined_187 : decode cX10_joined 187 = .ok (.aload_n 0, 1) := by decide +kernel
theorem dX10_joined_188 : decode cX10_joined 188 = .ok (.getfield 228, 3) := by decide +kernel
theorem dX10_joined_191 : decode cX10_joined 191 = .ok (.iload 6, 2) := by decide +kernel
theorem dX10_joined_193 : decode cX10_joined 193 = .ok (.iaload, 1) := by decide +kernel
theorem dX10_joined_194 : decode cX10_joined 194 = .ok (.aload_n 1, 1) := by decide +kernel
theorem dX10_joined_195 : decode cX10_joined 195 = .ok (.getfield 228, 3) := by decide +kernel
theorem dX10_joined_198 : decode cX10_joined 198 = .ok (.iload 4, 2) := by decide +kernel
theorem dX10_joined_200 : decode cX10_joined 200 = .ok (.iaload, 1) := by decide +kernel
theorem dX10_joined_201 : decode cX10_joined 201 = .ok (.if_icmp .ne 7, 3) := by decide +kernel
theorem dX10_joined_204 : decode cX10_joined 204 = .ok (.iconst 1, 1) := by decide +kernel
theorem dX10_joined_205 : decode cX10_joined 205 = .ok (.goto 4, 3) := by decide +kernel
theorem dX10_joined_208 : decode cX10_joined 208 = .ok (.iconst 0, 1) := by decide +kernel
theorem dX10_joined_209 : decode cX10_joined 209 = .ok (.ior, 1) := by decide +kernel
theorem dX10_joined_210 : decode cX10_joined 210 = .ok (.istore 5, 2) := by decide +kernel
theorem dX10_joined_212 : decode cX10_joined 212 = .ok (.iinc 6 1, 3) := by decide +kernel
theorem dX10_joined_215 : decode cX10_joined 215 = .ok (.goto (-73), 3) := by decide +kernel
theorem dX10_joined_218 : decode cX10_joined 218 = .ok (.iload_n 3, 1) := by decide +kernel
theorem dX10_joined_219 : decode cX10_joined 219 = .ok (.iload 5, 2) := by decide +kernel
theorem dX10_joined_221 : decode cX10_joined 221 = .ok (.ifCond .eq 7, 3) := by decide +kernel
theorem dX10_joined_224 : decode cX10_joined 224 = .ok (.iconst 0, 1) := by decide +kernel
theorem dX10_joined_225 : decode cX10_joined 225 = .ok (.goto 15, 3) := by decide +kernel
theorem dX10_joined_228 : decode cX10_joined 228 = .ok (.iload_n 2, 1) := by decide +kernel
theorem dX10_joined_229 : decode cX10_joined 229 = .ok (.aload_n 1, 1) := by decide +kernel
theorem dX10_joined_230 : decode cX10_joined 230 = .ok (.getfield 231, 3) := by decide +kernel
theorem dX10_joined_233 : decode cX10_joined 233 = .ok (.iload 4, 2) := by decide +kernel
theorem dX10_joined_235 : decode cX10_joined 235 = .ok (.iaload, 1) := by decide +kernel
theorem dX10_joined_236 : decode cX10_joined 236 = .ok (.imul, 1) := by decide +kernel
theorem dX10_joined_237 : decode cX10_joined 237 = .ok (.invokestatic 273, 3) := by decide +kernel
theorem dX10_joined_240 : decode cX10_joined 240 = .ok (.iadd, 1) := by decide +kernel
theorem dX10_joined_241 : decode cX10_joined 241 = .ok (.istore_n 3, 1) := by decide +kernel
theorem dX10_joined_242 : decode cX10_joined 242 = .ok (.iinc 4 1, 3) := by decide +kernel
theorem dX10_joined_245 : decode cX10_joined 245 = .ok (.goto (-118), 3) := by decide +kernel
theorem dX10_joined_248 : decode cX10_joined 248 = .ok (.iload_n 3, 1) := by decide +kernel
theorem dX10_joined_249 : decode cX10_joined 249 = .ok (.ireturn, 1) := by decide +kernel
theorem dX10_mergeAll_0 : decode cX10_mergeAll 0 = .ok (.iconst 0, 1) := by decide +kernel
theorem dX10_mergeAll_1 : decode cX10_mergeAll 1 = .ok (.istore 4, 2) := by decide +kernel
theorem dX10_mergeAll_3 : decode cX10_mergeAll 3 = .ok (.iload 4, 2) := by decide +kernel
theorem dX10_mergeAll_5 : decode cX10_mergeAll 5 = .ok (.iconst 2, 1) := by decide +kernel
theorem dX10_mergeAll_6 : decode cX10_mergeAll 6 = .ok (.if_icmp .ge 190, 3) := by decide +kernel
theorem dX10_mergeAll_9 : decode cX10_mergeAll 9 = .ok (.iconst 0, 1) := by decide +kernel
theorem dX10_mergeAll_10 : decode cX10_mergeAll 10 = .ok (.istore 5, 2) := by decide +kernel
theorem dX10_mergeAll_12 : decode cX10_mergeAll 12 = .ok (.iload 5, 2) := by decide +kernel
theorem dX10_mergeAll_14 : decode cX10_mergeAll 14 = .ok (.aload_n 2, 1) := by decide +kernel
theorem dX10_mergeAll_15 : decode cX10_mergeAll 15 = .ok (.getfield 219, 3) := by decide +kernel
theorem dX10_mergeAll_18 : decode cX10_mergeAll 18 = .ok (.if_icmp .ge 172, 3) := by decide +kernel
theorem dX10_mergeAll_21 : decode cX10_mergeAll 21 = .ok (.iconst 0, 1) := by decide +kernel
theorem dX10_mergeAll_22 : decode cX10_mergeAll 22 = .ok (.istore 6, 2) := by decide +kernel
theorem dX10_mergeAll_24 : decode cX10_mergeAll 24 = .ok (.iconst 0, 1) := by decide +kernel
theorem dX10_mergeAll_25 : decode cX10_mergeAll 25 = .ok (.istore 7, 2) := by decide +kernel
theorem dX10_mergeAll_27 : decode cX10_mergeAll 27 = .ok (.iload 7, 2) := by decide +kernel
theorem dX10_mergeAll_29 : decode cX10_mergeAll 29 = .ok (.aload_n 1, 1) := by decide +kernel
theorem dX10_mergeAll_30 : decode cX10_mergeAll 30 = .ok (.getfield 219, 3) := by decide +kernel
theorem dX10_mergeAll_33 : decode cX10_mergeAll 33 = .ok (.if_icmp .ge 70, 3) := by decide +kernel
theorem dX10_mergeAll_36 : decode cX10_mergeAll 36 = .ok (.iload 6, 2) := by decide +kernel
theorem dX10_mergeAll_38 : decode cX10_mergeAll 38 = .ok (.aload_n 1, 1) := by decide +kernel
theorem dX10_mergeAll_39 : decode cX10_mergeAll 39 = .ok (.getfield 222, 3) := by decide +kernel
theorem dX10_mergeAll_42 : decode cX10_mergeAll 42 = .ok (.iload 7, 2) := by decide +kernel
theorem dX10_mergeAll_44 : decode cX10_mergeAll 44 = .ok (.iaload, 1) := by decide +kernel
theorem dX10_mergeAll_45 : decode cX10_mergeAll 45 = .ok (.aload_n 2, 1) := by decide +kernel
theorem dX10_mergeAll_46 : decode cX10_mergeAll 46 = .ok (.getfield 222, 3) := by decide +kernel
theorem dX10_mergeAll_49 : decode cX10_mergeAll 49 = .ok (.iload 5, 2) := by decide +kernel
theorem dX10_mergeAll_51 : decode cX10_mergeAll 51 = .ok (.iaload, 1) := by decide +kernel
theorem dX10_mergeAll_52 : decode cX10_mergeAll 52 = .ok (.if_icmp .ne 41, 3) := by decide +kernel
theorem dX10_mergeAll_55 : decode cX10_mergeAll 55 = .ok (.aload_n 1, 1) := by decide +kernel
theorem dX10_mergeAll_56 : decode cX10_mergeAll 56 = .ok (.getfield 225, 3) := by decide +kernel
theorem dX10_mergeAll_59 : decode cX10_mergeAll 59 = .ok (.iload 7, 2) := by decide +kernel
theorem dX10_mergeAll_61 : decode cX10_mergeAll 61 = .ok (.iaload, 1) := by decide +kernel
theorem dX10_mergeAll_62 : decode cX10_mergeAll 62 = .ok (.aload_n 2, 1) := by decide +kernel
theorem dX10_mergeAll_63 : decode cX10_mergeAll 63 = .ok (.getfield 225, 3) := by decide +kernel
theorem dX10_mergeAll_66 : decode cX10_mergeAll 66 = .ok (.iload 5, 2) := by decide +kernel
theorem dX10_mergeAll_68 : decode cX10_mergeAll 68 = .ok (.iaload, 1) := by decide +kernel
theorem dX10_mergeAll_69 : decode cX10_mergeAll 69 = .ok (.if_icmp .ne 24, 3) := by decide +kernel
theorem dX10_mergeAll_72 : decode cX10_mergeAll 72 = .ok (.aload_n 1, 1) := by decide +kernel
theorem dX10_mergeAll_73 : decode cX10_mergeAll 73 = .ok (.getfield 228, 3) := by decide +kernel
theorem dX10_mergeAll_76 : decode cX10_mergeAll 76 = .ok (.iload 7, 2) := by decide +kernel
theorem dX10_mergeAll_78 : decode cX10_mergeAll 78 = .ok (.iaload, 1) := by decide +kernel
theorem dX10_mergeAll_79 : decode cX10_mergeAll 79 = .ok (.aload_n 2, 1) := by decide +kernel
theorem dX10_mergeAll_80 : decode cX10_mergeAll 80 = .ok (.getfield 228, 3) := by decide +kernel
theorem dX10_mergeAll_83 : decode cX10_mergeAll 83 = .ok (.iload 5, 2) := by decide +kernel
theorem dX10_mergeAll_85 : decode cX10_mergeAll 85 = .ok (.iaload, 1) := by decide +kernel
theorem dX10_mergeAll_86 : decode cX10_mergeAll 86 = .ok (.if_icmp .ne 7, 3) := by decide +kernel
theorem dX10_mergeAll_89 : decode cX10_mergeAll 89 = .ok (.iconst 1, 1) := by decide +kernel
theorem dX10_mergeAll_90 : decode cX10_mergeAll 90 = .ok (.goto 4, 3) := by decide +kernel
theorem dX10_mergeAll_93 : decode cX10_mergeAll 93 = .ok (.iconst 0, 1) := by decide +kernel
theorem dX10_mergeAll_94 : decode cX10_mergeAll 94 = .ok (.ior, 1) := by decide +kernel
theorem dX10_mergeAll_95 : decode cX10_mergeAll 95 = .ok (.istore 6, 2) := by decide +kernel
theorem dX10_mergeAll_97 : decode cX10_mergeAll 97 = .ok (.iinc 7 1, 3) := by decide +kernel
theorem dX10_mergeAll_100 : decode cX10_mergeAll 100 = .ok (.goto (-73), 3) := by decide +kernel
theorem dX10_mergeAll_103 : decode cX10_mergeAll 103 = .ok (.aload_n 0, 1) := by decide +kernel
theorem dX10_mergeAll_104 : decode cX10_mergeAll 104 = .ok (.getfield 310, 3) := by decide +kernel
theorem dX10_mergeAll_107 : decode cX10_mergeAll 107 = .ok (.iload 5, 2) := by decide +kernel
theorem dX10_mergeAll_109 : decode cX10_mergeAll 109 = .ok (.iload 4, 2) := by decide +kernel
theorem dX10_mergeAll_111 : decode cX10_mergeAll 111 = .ok (.ifCond .ne 8, 3) := by decide +kernel
theorem dX10_mergeAll_114 : decode cX10_mergeAll 114 = .ok (.iload 6, 2) := by decide +kernel
theorem dX10_mergeAll_116 : decode cX10_mergeAll 116 = .ok (.goto 10, 3) := by decide +kernel
theorem dX10_mergeAll_119 : decode cX10_mergeAll 119 = .ok (.aload_n 0, 1) := by decide +kernel
theorem dX10_mergeAll_120 : decode cX10_mergeAll 120 = .ok (.getfield 310, 3) := by decide +kernel
theorem dX10_mergeAll_123 : decode cX10_mergeAll 123 = .ok (.iload 5, 2) := by decide +kernel
theorem dX10_mergeAll_125 : decode cX10_mergeAll 125 = .ok (.baload, 1) := by decide +kernel
theorem dX10_mergeAll_126 : decode cX10_mergeAll 126 = .ok (.bastore, 1) := by decide +kernel
theorem dX10_mergeAll_127 : decode cX10_mergeAll 127 = .ok (.iload 4, 2) := by decide +kernel
theorem dX10_mergeAll_129 : decode cX10_mergeAll 129 = .ok (.ifCond .ne 11, 3) := by decide +kernel
theorem dX10_mergeAll_132 : decode cX10_mergeAll 132 = .ok (.iload 6, 2) := by decide +kernel
theorem dX10_mergeAll_134 : decode cX10_mergeAll 134 = .ok (.ifCond .eq 50, 3) := by decide +kernel
theorem dX10_mergeAll_137 : decode cX10_mergeAll 137 = .ok (.goto 13, 3) := by decide +kernel
theorem dX10_mergeAll_140 : decode cX10_mergeAll 140 = .ok (.aload_n 0, 1) := by decide +kernel
theorem dX10_mergeAll_141 : decode cX10_mergeAll 141 = .ok (.getfield 310, 3) := by decide +kernel
theorem dX10_mergeAll_144 : decode cX10_mergeAll 144 = .ok (.iload 5, 2) := by decide +kernel
theorem dX10_mergeAll_146 : decode cX10_mergeAll 146 = .ok (.baload, 1) := by decide +kernel
theorem dX10_mergeAll_147 : decode cX10_mergeAll 147 = .ok (.ifCond .ne 37, 3) := by decide +kernel
theorem dX10_mergeAll_150 : decode cX10_mergeAll 150 = .ok (.aload_n 1, 1) := by decide +kernel
theorem dX10_mergeAll_151 : decode cX10_mergeAll 151 = .ok (.aload_n 2, 1) := by decide +kernel
theorem dX10_mergeAll_152 : decode cX10_mergeAll 152 = .ok (.getfield 222, 3) := by decide +kernel
theorem dX10_mergeAll_155 : decode cX10_mergeAll 155 = .ok (.iload 5, 2) := by decide +kernel
theorem dX10_mergeAll_157 : decode cX10_mergeAll 157 = .ok (.iaload, 1) := by decide +kernel
theorem dX10_mergeAll_158 : decode cX10_mergeAll 158 = .ok (.aload_n 2, 1) := by decide +kernel
theorem dX10_mergeAll_159 : decode cX10_mergeAll 159 = .ok (.getfield 225, 3) := by decide +kernel
theorem dX10_mergeAll_162 : decode cX10_mergeAll 162 = .ok (.iload 5, 2) := by decide +kernel
theorem dX10_mergeAll_164 : decode cX10_mergeAll 164 = .ok (.iaload, 1) := by decide +kernel
theorem dX10_mergeAll_165 : decode cX10_mergeAll 165 = .ok (.aload_n 2, 1) := by decide +kernel
theorem dX10_mergeAll_166 : decode cX10_mergeAll 166 = .ok (.getfield 228, 3) := by decide +kernel
theorem dX10_mergeAll_169 : decode cX10_mergeAll 169 = .ok (.iload 5, 2) := by decide +kernel
theorem dX10_mergeAll_171 : decode cX10_mergeAll 171 = .ok (.iaload, 1) := by decide +kernel
theorem dX10_mergeAll_172 : decode cX10_mergeAll 172 = .ok (.iload_n 3, 1) := by decide +kernel
theorem dX10_mergeAll_173 : decode cX10_mergeAll 173 = .ok (.aload_n 2, 1) := by decide +kernel
theorem dX10_mergeAll_174 : decode cX10_mergeAll 174 = .ok (.getfield 231, 3) := by decide +kernel
theorem dX10_mergeAll_177 : decode cX10_mergeAll 177 = .ok (.iload 5, 2) := by decide +kernel
theorem dX10_mergeAll_179 : decode cX10_mergeAll 179 = .ok (.iaload, 1) := by decide +kernel
theorem dX10_mergeAll_180 : decode cX10_mergeAll 180 = .ok (.imul, 1) := by decide +kernel
theorem dX10_mergeAll_181 : decode cX10_mergeAll 181 = .ok (.invokestatic 284, 3) := by decide +kernel
theorem dX10_mergeAll_184 : decode cX10_mergeAll 184 = .ok (.iinc 5 1, 3) := by decide +kernel
theorem dX10_mergeAll_187 : decode cX10_mergeAll 187 = .ok (.goto (-175), 3) := by decide +kernel
theorem dX10_mergeAll_190 : decode cX10_mergeAll 190 = .ok (.iinc 4 1, 3) := by decide +kernel
theorem dX10_mergeAll_193 : decode cX10_mergeAll 193 = .ok (.goto (-190), 3) := by decide +kernel
theorem dX10_mergeAll_196 : decode cX10_mergeAll 196 = .ok (.return_, 1) := by decide +kernel
theorem dX10_add_2_0 : decode cX10_add_2 0 = .ok (.aload_n 0, 1) := by decide +kernel
theorem dX10_add_2_1 : decode cX10_add_2 1 = .ok (.getfield 90, 3) := by decide +kernel
theorem dX10_add_2_4 : decode cX10_add_2 4 = .ok (.istore 4, 2) := by decide +kernel
theorem dX10_add_2_6 : decode cX10_add_2 6 = .ok (.aload_n 0, 1) := by decide +kernel
theorem dX10_add_2_7 : decode cX10_add_2 7 = .ok (.invokevirtual 140, 3) := by decide +kernel
theorem dX10_add_2_10 : decode cX10_add_2 10 = .ok (.astore 5, 2) := by decide +kernel
theorem dX10_add_2_12 : decode cX10_add_2 12 = .ok (.aload_n 0, 1) := by decide +kernel
theorem dX10_add_2_13 : decode cX10_add_2 13 = .ok (.invokevirtual 140, 3) := by decide +kernel
theorem dX10_add_2_16 : decode cX10_add_2 16 = .ok (.astore 6, 2) := by decide +kernel
theorem dX10_add_2_18 : decode cX10_add_2 18 = .ok (.aload_n 0, 1) := by decide +kernel
theorem dX10_add_2_19 : decode cX10_add_2 19 = .ok (.invokevirtual 140, 3) := by decide +kernel
theorem dX10_add_2_22 : decode cX10_add_2 22 = .ok (.astore 7, 2) := by decide +kernel
theorem dX10_add_2_24 : decode cX10_add_2 24 = .ok (.aload_n 0, 1) := by decide +kernel
theorem dX10_add_2_25 : decode cX10_add_2 25 = .ok (.invokevirtual 140, 3) := by decide +kernel
theorem dX10_add_2_28 : decode cX10_add_2 28 = .ok (.astore 8, 2) := by decide +kernel
theorem dX10_add_2_30 : decode cX10_add_2 30 = .ok (.aload_n 0, 1) := by decide +kernel
theorem dX10_add_2_31 : decode cX10_add_2 31 = .ok (.invokevirtual 140, 3) := by decide +kernel
theorem dX10_add_2_34 : decode cX10_add_2 34 = .ok (.astore 9, 2) := by decide +kernel
theorem dX10_add_2_36 : decode cX10_add_2 36 = .ok (.aload_n 0, 1) := by decide +kernel
theorem dX10_add_2_37 : decode cX10_add_2 37 = .ok (.invokevirtual 140, 3) := by decide +kernel
theorem dX10_add_2_40 : decode cX10_add_2 40 = .ok (.astore 10, 2) := by decide +kernel
theorem dX10_add_2_42 : decode cX10_add_2 42 = .ok (.aload 5, 2) := by decide +kernel
theorem dX10_add_2_44 : decode cX10_add_2 44 = .ok (.aload_n 1, 1) := by decide +kernel
theorem dX10_add_2_45 : decode cX10_add_2 45 = .ok (.getfield 207, 3) := by decide +kernel
theorem dX10_add_2_48 : decode cX10_add_2 48 = .ok (.invokestatic 295, 3) := by decide +kernel
theorem dX10_add_2_51 : decode cX10_add_2 51 = .ok (.aload 6, 2) := by decide +kernel
theorem dX10_add_2_53 : decode cX10_add_2 53 = .ok (.aload_n 1, 1) := by decide +kernel
theorem dX10_add_2_54 : decode cX10_add_2 54 = .ok (.getfield 210, 3) := by decide +kernel
theorem dX10_add_2_57 : decode cX10_add_2 57 = .ok (.invokestatic 295, 3) := by decide +kernel
theorem dX10_add_2_60 : decode cX10_add_2 60 = .ok (.aload 7, 2) := by decide +kernel
theorem dX10_add_2_62 : decode cX10_add_2 62 = .ok (.aload_n 2, 1) := by decide +kernel
theorem dX10_add_2_63 : decode cX10_add_2 63 = .ok (.getfield 207, 3) := by decide +kernel
theorem dX10_add_2_66 : decode cX10_add_2 66 = .ok (.invokestatic 295, 3) := by decide +kernel
theorem dX10_add_2_69 : decode cX10_add_2 69 = .ok (.aload 8, 2) := by decide +kernel
theorem dX10_add_2_71 : decode cX10_add_2 71 = .ok (.aload_n 2, 1) := by decide +kernel
theorem dX10_add_2_72 : decode cX10_add_2 72 = .ok (.getfield 210, 3) := by decide +kernel
theorem dX10_add_2_75 : decode cX10_add_2 75 = .ok (.invokestatic 295, 3) := by decide +kernel
theorem dX10_add_2_78 : decode cX10_add_2 78 = .ok (.aload_n 0, 1) := by decide +kernel
theorem dX10_add_2_79 : decode cX10_add_2 79 = .ok (.aload 9, 2) := by decide +kernel
theorem dX10_add_2_81 : decode cX10_add_2 81 = .ok (.aload 10, 2) := by decide +kernel
theorem dX10_add_2_83 : decode cX10_add_2 83 = .ok (.aload 5, 2) := by decide +kernel
theorem dX10_add_2_85 : decode cX10_add_2 85 = .ok (.aload 6, 2) := by decide +kernel
theorem dX10_add_2_87 : decode cX10_add_2 87 = .ok (.aload 7, 2) := by decide +kernel
theorem dX10_add_2_89 : decode cX10_add_2 89 = .ok (.aload 8, 2) := by decide +kernel
theorem dX10_add_2_91 : decode cX10_add_2 91 = .ok (.iload_n 3, 1) := by decide +kernel
theorem dX10_add_2_92 : decode cX10_add_2 92 = .ok (.invokevirtual 320, 3) := by decide +kernel
theorem dX10_add_2_95 : decode cX10_add_2 95 = .ok (.aload_n 1, 1) := by decide +kernel
theorem dX10_add_2_96 : decode cX10_add_2 96 = .ok (.aload 9, 2) := by decide +kernel
theorem dX10_add_2_98 : decode cX10_add_2 98 = .ok (.aload 10, 2) := by decide +kernel
theorem dX10_add_2_100 : decode cX10_add_2 100 = .ok (.invokestatic 261, 3) := by decide +kernel
theorem dX10_add_2_103 : decode cX10_add_2 103 = .ok (.istore 11, 2) := by decide +kernel
theorem dX10_add_2_105 : decode cX10_add_2 105 = .ok (.aload_n 0, 1) := by decide +kernel
theorem dX10_add_2_106 : decode cX10_add_2 106 = .ok (.iload 4, 2) := by decide +kernel
theorem dX10_add_2_108 : decode cX10_add_2 108 = .ok (.putfield 90, 3) := by decide +kernel
theorem dX10_add_2_111 : decode cX10_add_2 111 = .ok (.iload 11, 2) := by decide +kernel
theorem dX10_add_2_113 : decode cX10_add_2 113 = .ok (.ireturn, 1) := by decide +kernel
theorem dX10_sum_0 : decode cX10_sum 0 = .ok (.aload_n 0, 1) := by decide +kernel
theorem dX10_sum_1 : decode cX10_sum 1 = .ok (.getfield 90, 3) := by decide +kernel
theorem dX10_sum_4 : decode cX10_sum 4 = .ok (.istore 8, 2) := by decide +kernel
theorem dX10_sum_6 : decode cX10_sum 6 = .ok (.aload_n 0, 1) := by decide +kernel
theorem dX10_sum_7 : decode cX10_sum 7 = .ok (.invokevirtual 140, 3) := by decide +kernel
theorem dX10_sum_10 : decode cX10_sum 10 = .ok (.astore 9, 2) := by decide +kernel
theorem dX10_sum_12 : decode cX10_sum 12 = .ok (.aload_n 0, 1) := by decide +kernel
theorem dX10_sum_13 : decode cX10_sum 13 = .ok (.invokevirtual 140, 3) := by decide +kernel
theorem dX10_sum_16 : decode cX10_sum 16 = .ok (.astore 10, 2) := by decide +kernel
theorem dX10_sum_18 : decode cX10_sum 18 = .ok (.aload_n 0, 1) := by decide +kernel
theorem dX10_sum_19 : decode cX10_sum 19 = .ok (.invokevirtual 140, 3) := by decide +kernel
theorem dX10_sum_22 : decode cX10_sum 22 = .ok (.astore 11, 2) := by decide +kernel
theorem dX10_sum_24 : decode cX10_sum 24 = .ok (.aload_n 0, 1) := by decide +kernel
theorem dX10_sum_25 : decode cX10_sum 25 = .ok (.invokevirtual 140, 3) := by decide +kernel
theorem dX10_sum_28 : decode cX10_sum 28 = .ok (.astore 12, 2) := by decide +kernel
theorem dX10_sum_30 : decode cX10_sum 30 = .ok (.aload_n 0, 1) := by decide +kernel
theorem dX10_sum_31 : decode cX10_sum 31 = .ok (.aload 9, 2) := by decide +kernel
theorem dX10_sum_33 : decode cX10_sum 33 = .ok (.aload 4, 2) := by decide +kernel
theorem dX10_sum_35 : decode cX10_sum 35 = .ok (.aload 6, 2) := by decide +kernel
theorem dX10_sum_37 : decode cX10_sum 37 = .ok (.invokevirtual 185, 3) := by decide +kernel
theorem dX10_sum_40 : decode cX10_sum 40 = .ok (.aload_n 0, 1) := by decide +kernel
theorem dX10_sum_41 : decode cX10_sum 41 = .ok (.aload 10, 2) := by decide +kernel
theorem dX10_sum_43 : decode cX10_sum 43 = .ok (.aload 4, 2) := by decide +kernel
theorem dX10_sum_45 : decode cX10_sum 45 = .ok (.aload 9, 2) := by decide +kernel
theorem dX10_sum_47 : decode cX10_sum 47 = .ok (.invokevirtual 170, 3) := by decide +kernel
theorem dX10_sum_50 : decode cX10_sum 50 = .ok (.istore 13, 2) := by decide +kernel
theorem dX10_sum_52 : decode cX10_sum 52 = .ok (.aload_n 0, 1) := by decide +kernel
theorem dX10_sum_53 : decode cX10_sum 53 = .ok (.aload 11, 2) := by decide +kernel
theorem dX10_sum_55 : decode cX10_sum 55 = .ok (.aload 6, 2) := by decide +kernel
theorem dX10_sum_57 : decode cX10_sum 57 = .ok (.aload 9, 2) := by decide +kernel
theorem dX10_sum_59 : decode cX10_sum 59 = .ok (.invokevirtual 170, 3) := by decide +kernel
theorem dX10_sum_62 : decode cX10_sum 62 = .ok (.istore 13, 2) := by decide +kernel
theorem dX10_sum_64 : decode cX10_sum 64 = .ok (.aload_n 0, 1) := by decide +kernel
theorem dX10_sum_65 : decode cX10_sum 65 = .ok (.aload 12, 2) := by decide +kernel
theorem dX10_sum_67 : decode cX10_sum 67 = .ok (.aload_n 3, 1) := by decide +kernel
theorem dX10_sum_68 : decode cX10_sum 68 = .ok (.aload 11, 2) := by decide +kernel
theorem dX10_sum_70 : decode cX10_sum 70 = .ok (.invokevirtual 197, 3) := by decide +kernel
theorem dX10_sum_73 : decode cX10_sum 73 = .ok (.aload_n 0, 1) := by decide +kernel
theorem dX10_sum_74 : decode cX10_sum 74 = .ok (.aload_n 1, 1) := by decide +kernel
theorem dX10_sum_75 : decode cX10_sum 75 = .ok (.aload 5, 2) := by decide +kernel
theorem dX10_sum_77 : decode cX10_sum 77 = .ok (.aload 10, 2) := by decide +kernel
theorem dX10_sum_79 : decode cX10_sum 79 = .ok (.invokevirtual 197, 3) := by decide +kernel
theorem dX10_sum_82 : decode cX10_sum 82 = .ok (.aload_n 1, 1) := by decide +kernel
theorem dX10_sum_83 : decode cX10_sum 83 = .ok (.aload 12, 2) := by decide +kernel
theorem dX10_sum_85 : decode cX10_sum 85 = .ok (.aload_n 1, 1) := by decide +kernel
theorem dX10_sum_86 : decode cX10_sum 86 = .ok (.iload 7, 2) := by decide +kernel
theorem dX10_sum_88 : decode cX10_sum 88 = .ok (.invokestatic 199, 3) := by decide +kernel
theorem dX10_sum_91 : decode cX10_sum 91 = .ok (.aload_n 0, 1) := by decide +kernel
theorem dX10_sum_92 : decode cX10_sum 92 = .ok (.aload 12, 2) := by decide +kernel
theorem dX10_sum_94 : decode cX10_sum 94 = .ok (.aload 10, 2) := by decide +kernel
theorem dX10_sum_96 : decode cX10_sum 96 = .ok (.aload 11, 2) := by decide +kernel
theorem dX10_sum_98 : decode cX10_sum 98 = .ok (.invokevirtual 197, 3) := by decide +kernel
theorem dX10_sum_101 : decode cX10_sum 101 = .ok (.aload_n 2, 1) := by decide +kernel
theorem dX10_sum_102 : decode cX10_sum 102 = .ok (.aload 12, 2) := by decide +kernel
theorem dX10_sum_104 : decode cX10_sum 104 = .ok (.invokestatic 113, 3) := by decide +kernel
theorem dX10_sum_107 : decode cX10_sum 107 = .ok (.aload_n 0, 1) := by decide +kernel
theorem dX10_sum_108 : decode cX10_sum 108 = .ok (.aload_n 1, 1) := by decide +kernel
theorem dX10_sum_109 : decode cX10_sum 109 = .ok (.aload 9, 2) := by decide +kernel
theorem dX10_sum_111 : decode cX10_sum 111 = .ok (.invokevirtual 194, 3) := by decide +kernel
theorem dX10_sum_114 : decode cX10_sum 114 = .ok (.aload_n 0, 1) := by decide +kernel
theorem dX10_sum_115 : decode cX10_sum 115 = .ok (.aload 12, 2) := by decide +kernel
theorem dX10_sum_117 : decode cX10_sum 117 = .ok (.aload_n 2, 1) := by decide +kernel
theorem dX10_sum_118 : decode cX10_sum 118 = .ok (.aload 9, 2) := by decide +kernel
theorem dX10_sum_120 : decode cX10_sum 120 = .ok (.invokevirtual 197, 3) := by decide +kernel
theorem dX10_sum_123 : decode cX10_sum 123 = .ok (.aload_n 2, 1) := by decide +kernel
theorem dX10_sum_124 : decode cX10_sum 124 = .ok (.aload 12, 2) := by decide +kernel
theorem dX10_sum_126 : decode cX10_sum 126 = .ok (.invokestatic 113, 3) := by decide +kernel
theorem dX10_sum_129 : decode cX10_sum 129 = .ok (.aload_n 1, 1) := by decide +kernel
theorem dX10_sum_130 : decode cX10_sum 130 = .ok (.aload_n 2, 1) := by decide +kernel
theorem dX10_sum_131 : decode cX10_sum 131 = .ok (.invokestatic 191, 3) := by decide +kernel
theorem dX10_sum_134 : decode cX10_sum 134 = .ok (.aload_n 0, 1) := by decide +kernel
theorem dX10_sum_135 : decode cX10_sum 135 = .ok (.iload 8, 2) := by decide +kernel
theorem dX10_sum_137 : decode cX10_sum 137 = .ok (.putfield 90, 3) := by decide +kernel
theorem dX10_sum_140 : decode cX10_sum 140 = .ok (.return_, 1) := by decide +kernel
theorem dX10_plus_2_0 : decode cX10_plus_2 0 = .ok (.aload_n 1, 1) := by decide +kernel
theorem dX10_plus_2_1 : decode cX10_plus_2 1 = .ok (.getfield 93, 3) := by decide +kernel
theorem dX10_plus_2_4 : decode cX10_plus_2 4 = .ok (.aload_n 2, 1) := by decide +kernel
theorem dX10_plus_2_5 : decode cX10_plus_2 5 = .ok (.getfield 93, 3) := by decide +kernel
theorem dX10_plus_2_8 : decode cX10_plus_2 8 = .ok (.invokestatic 40, 3) := by decide +kernel
theorem dX10_plus_2_11 : decode cX10_plus_2 11 = .ok (.istore 4, 2) := by decide +kernel
theorem dX10_plus_2_13 : decode cX10_plus_2 13 = .ok (.aload_n 1, 1) := by decide +kernel
theorem dX10_plus_2_14 : decode cX10_plus_2 14 = .ok (.getfield 93, 3) := by decide +kernel
theorem dX10_plus_2_17 : decode cX10_plus_2 17 = .ok (.istore 5, 2) := by decide +kernel
theorem dX10_plus_2_19 : decode cX10_plus_2 19 = .ok (.iload 5, 2) := by decide +kernel
theorem dX10_plus_2_21 : decode cX10_plus_2 21 = .ok (.iload 4, 2) := by decide +kernel
theorem dX10_plus_2_23 : decode cX10_plus_2 23 = .ok (.if_icmp .ge 20, 3) := by decide +kernel
theorem dX10_plus_2_26 : decode cX10_plus_2 26 = .ok (.aload_n 1, 1) := by decide +kernel
theorem dX10_plus_2_27 : decode cX10_plus_2 27 = .ok (.getfield 98, 3) := by decide +kernel
theorem dX10_plus_2_30 : decode cX10_plus_2 30 = .ok (.iload 5, 2) := by decide +kernel
theorem dX10_plus_2_32 : decode cX10_plus_2 32 = .ok (.aaload, 1) := by decide +kernel
theorem dX10_plus_2_33 : decode cX10_plus_2 33 = .ok (.iconst 0, 1) := by decide +kernel
theorem dX10_plus_2_34 : decode cX10_plus_2 34 = .ok (.putfield 25, 3) := by decide +kernel
theorem dX10_plus_2_37 : decode cX10_plus_2 37 = .ok (.iinc 5 1, 3) := by decide +kernel
theorem dX10_plus_2_40 : decode cX10_plus_2 40 = .ok (.goto (-21), 3) := by decide +kernel
theorem dX10_plus_2_43 : decode cX10_plus_2 43 = .ok (.aload_n 2, 1) := by decide +kernel
theorem dX10_plus_2_44 : decode cX10_plus_2 44 = .ok (.getfield 93, 3) := by decide +kernel
theorem dX10_plus_2_47 : decode cX10_plus_2 47 = .ok (.istore 5, 2) := by decide +kernel
theorem dX10_plus_2_49 : decode cX10_plus_2 49 = .ok (.iload 5, 2) := by decide +kernel
theorem dX10_plus_2_51 : decode cX10_plus_2 51 = .ok (.iload 4, 2) := by decide +kernel
theorem dX10_plus_2_53 : decode cX10_plus_2 53 = .ok (.if_icmp .ge 20, 3) := by decide +kernel
theorem dX10_plus_2_56 : decode cX10_plus_2 56 = .ok (.aload_n 2, 1) := by decide +kernel
theorem dX10_plus_2_57 : decode cX10_plus_2 57 = .ok (.getfield 98, 3) := by decide +kernel
theorem dX10_plus_2_60 : decode cX10_plus_2 60 = .ok (.iload 5, 2) := by decide +kernel
theorem dX10_plus_2_62 : decode cX10_plus_2 62 = .ok (.aaload, 1) := by decide +kernel
theorem dX10_plus_2_63 : decode cX10_plus_2 63 = .ok (.iconst 0, 1) := by decide +kernel
theorem dX10_plus_2_64 : decode cX10_plus_2 64 = .ok (.putfield 25, 3) := by decide +kernel
theorem dX10_plus_2_67 : decode cX10_plus_2 67 = .ok (.iinc 5 1, 3) := by decide +kernel
theorem dX10_plus_2_70 : decode cX10_plus_2 70 = .ok (.goto (-21), 3) := by decide +kernel
theorem dX10_plus_2_73 : decode cX10_plus_2 73 = .ok (.iconst 0, 1) := by decide +kernel
theorem dX10_plus_2_74 : decode cX10_plus_2 74 = .ok (.istore 5, 2) := by decide +kernel
theorem dX10_plus_2_76 : decode cX10_plus_2 76 = .ok (.iload 5, 2) := by decide +kernel
theorem dX10_plus_2_78 : decode cX10_plus_2 78 = .ok (.iload 4, 2) := by decide +kernel
theorem dX10_plus_2_80 : decode cX10_plus_2 80 = .ok (.if_icmp .ge 34, 3) := by decide +kernel
theorem dX10_plus_2_83 : decode cX10_plus_2 83 = .ok (.aload_n 0, 1) := by decide +kernel
theorem dX10_plus_2_84 : decode cX10_plus_2 84 = .ok (.getfield 98, 3) := by decide +kernel
theorem dX10_plus_2_87 : decode cX10_plus_2 87 = .ok (.iload 5, 2) := by decide +kernel
theorem dX10_plus_2_89 : decode cX10_plus_2 89 = .ok (.aaload, 1) := by decide +kernel
theorem dX10_plus_2_90 : decode cX10_plus_2 90 = .ok (.aload_n 1, 1) := by decide +kernel
theorem dX10_plus_2_91 : decode cX10_plus_2 91 = .ok (.getfield 98, 3) := by decide +kernel
theorem dX10_plus_2_94 : decode cX10_plus_2 94 = .ok (.iload 5, 2) := by decide +kernel
theorem dX10_plus_2_96 : decode cX10_plus_2 96 = .ok (.aaload, 1) := by decide +kernel
theorem dX10_plus_2_97 : decode cX10_plus_2 97 = .ok (.aload_n 2, 1) := by decide +kernel
theorem dX10_plus_2_98 : decode cX10_plus_2 98 = .ok (.getfield 98, 3) := by decide +kernel
theorem dX10_plus_2_101 : decode cX10_plus_2 101 = .ok (.iload 5, 2) := by decide +kernel
theorem dX10_plus_2_103 : decode cX10_plus_2 103 = .ok (.aaload, 1) := by decide +kernel
theorem dX10_plus_2_104 : decode cX10_plus_2 104 = .ok (.iload_n 3, 1) := by decide +kernel
theorem dX10_plus_2_105 : decode cX10_plus_2 105 = .ok (.invokestatic 101, 3) := by decide +kernel
theorem dX10_plus_2_108 : decode cX10_plus_2 108 = .ok (.iinc 5 1, 3) := by decide +kernel
theorem dX10_plus_2_111 : decode cX10_plus_2 111 = .ok (.goto (-35), 3) := by decide +kernel
theorem dX10_plus_2_114 : decode cX10_plus_2 114 = .ok (.aload_n 0, 1) := by decide +kernel
theorem dX10_plus_2_115 : decode cX10_plus_2 115 = .ok (.iload 4, 2) := by decide +kernel
theorem dX10_plus_2_117 : decode cX10_plus_2 117 = .ok (.putfield 93, 3) := by decide +kernel
theorem dX10_plus_2_120 : decode cX10_plus_2 120 = .ok (.aload_n 0, 1) := by decide +kernel
theorem dX10_plus_2_121 : decode cX10_plus_2 121 = .ok (.invokevirtual 105, 3) := by decide +kernel
theorem dX10_plus_2_124 : decode cX10_plus_2 124 = .ok (.return_, 1) := by decide +kernel
theorem dX10_copy_0 : decode cX10_copy 0 = .ok (.aload_n 0, 1) := by decide +kernel
theorem dX10_copy_1 : decode cX10_copy 1 = .ok (.aload_n 1, 1) := by decide +kernel
theorem dX10_copy_2 : decode cX10_copy 2 = .ok (.getfield 202, 3) := by decide +kernel
theorem dX10_copy_5 : decode cX10_copy 5 = .ok (.putfield 202, 3) := by decide +kernel
theorem dX10_copy_8 : decode cX10_copy 8 = .ok (.aload_n 1, 1) := by decide +kernel
theorem dX10_copy_9 : decode cX10_copy 9 = .ok (.getfield 207, 3) := by decide +kernel
theorem dX10_copy_12 : decode cX10_copy 12 = .ok (.iconst 0, 1) := by decide +kernel
theorem dX10_copy_13 : decode cX10_copy 13 = .ok (.aload_n 0, 1) := by decide +kernel
theorem dX10_copy_14 : decode cX10_copy 14 = .ok (.getfield 207, 3) := by decide +kernel
theorem dX10_copy_17 : decode cX10_copy 17 = .ok (.iconst 0, 1) := by decide +kernel
theorem dX10_copy_18 : decode cX10_copy 18 = .ok (.sipush 325, 3) := by decide +kernel
theorem dX10_copy_21 : decode cX10_copy 21 = .ok (.invokestatic 34, 3) := by decide +kernel
theorem dX10_copy_24 : decode cX10_copy 24 = .ok (.aload_n 1, 1) := by decide +kernel
theorem dX10_copy_25 : decode cX10_copy 25 = .ok (.getfield 210, 3) := by decide +kernel
theorem dX10_copy_28 : decode cX10_copy 28 = .ok (.iconst 0, 1) := by decide +kernel
theorem dX10_copy_29 : decode cX10_copy 29 = .ok (.aload_n 0, 1) := by decide +kernel
theorem dX10_copy_30 : decode cX10_copy 30 = .ok (.getfield 210, 3) := by decide +kernel
theorem dX10_copy_33 : decode cX10_copy 33 = .ok (.iconst 0, 1) := by decide +kernel
theorem dX10_copy_34 : decode cX10_copy 34 = .ok (.sipush 325, 3) := by decide +kernel
theorem dX10_copy_37 : decode cX10_copy 37 = .ok (.invokestatic 34, 3) := by decide +kernel
theorem dX10_copy_40 : decode cX10_copy 40 = .ok (.aload_n 0, 1) := by decide +kernel
theorem dX10_copy_41 : decode cX10_copy 41 = .ok (.aload_n 1, 1) := by decide +kernel
theorem dX10_copy_42 : decode cX10_copy 42 = .ok (.getfield 213, 3) := by decide +kernel
theorem dX10_copy_45 : decode cX10_copy 45 = .ok (.putfield 213, 3) := by decide +kernel
theorem dX10_copy_48 : decode cX10_copy 48 = .ok (.aload_n 0, 1) := by decide +kernel
theorem dX10_copy_49 : decode cX10_copy 49 = .ok (.aload_n 1, 1) := by decide +kernel
theorem dX10_copy_50 : decode cX10_copy 50 = .ok (.getfield 216, 3) := by decide +kernel
theorem dX10_copy_53 : decode cX10_copy 53 = .ok (.putfield 216, 3) := by decide +kernel
theorem dX10_copy_56 : decode cX10_copy 56 = .ok (.aload_n 0, 1) := by decide +kernel
theorem dX10_copy_57 : decode cX10_copy 57 = .ok (.aload_n 1, 1) := by decide +kernel
theorem dX10_copy_58 : decode cX10_copy 58 = .ok (.getfield 219, 3) := by decide +kernel
theorem dX10_copy_61 : decode cX10_copy 61 = .ok (.putfield 219, 3) := by decide +kernel
theorem dX10_copy_64 : decode cX10_copy 64 = .ok (.iconst 0, 1) := by decide +kernel
theorem dX10_copy_65 : decode cX10_copy 65 = .ok (.istore_n 2, 1) := by decide +kernel
theorem dX10_copy_66 : decode cX10_copy 66 = .ok (.iload_n 2, 1) := by decide +kernel
theorem dX10_copy_67 : decode cX10_copy 67 = .ok (.aload_n 1, 1) := by decide +kernel
theorem dX10_copy_68 : decode cX10_copy 68 = .ok (.getfield 219, 3) := by decide +kernel
theorem dX10_copy_71 : decode cX10_copy 71 = .ok (.if_icmp .ge 57, 3) := by decide +kernel
theorem dX10_copy_74 : decode cX10_copy 74 = .ok (.aload_n 0, 1) := by decide +kernel
theorem dX10_copy_75 : decode cX10_copy 75 = .ok (.getfield 222, 3) := by decide +kernel
theorem dX10_copy_78 : decode cX10_copy 78 = .ok (.iload_n 2, 1) := by decide +kernel
theorem dX10_copy_79 : decode cX10_copy 79 = .ok (.aload_n 1, 1) := by decide +kernel
theorem dX10_copy_80 : decode cX10_copy 80 = .ok (.getfield 222, 3) := by decide +kernel
theorem dX10_copy_83 : decode cX10_copy 83 = .ok (.iload_n 2, 1) := by decide +kernel
theorem dX10_copy_84 : decode cX10_copy 84 = .ok (.iaload, 1) := by decide +kernel
theorem dX10_copy_85 : decode cX10_copy 85 = .ok (.iastore, 1) := by decide +kernel
theorem dX10_copy_86 : decode cX10_copy 86 = .ok (.aload_n 0, 1) := by decide +kernel
theorem dX10_copy_87 : decode cX10_copy 87 = .ok (.getfield 225, 3) := by decide +kernel
theorem dX10_copy_90 : decode cX10_copy 90 = .ok (.iload_n 2, 1) := by decide +kernel
theorem dX10_copy_91 : decode cX10_copy 91 = .ok (.aload_n 1, 1) := by decide +kernel
theorem dX10_copy_92 : decode cX10_copy 92 = .ok (.getfield 225, 3) := by decide +kernel
theorem dX10_copy_95 : decode cX10_copy 95 = .ok (.iload_n 2, 1) := by decide +kernel
theorem dX10_copy_96 : decode cX10_copy 96 = .ok (.iaload, 1) := by decide +kernel
theorem dX10_copy_97 : decode cX10_copy 97 = .ok (.iastore, 1) := by decide +kernel
theorem dX10_copy_98 : decode cX10_copy 98 = .ok (.aload_n 0, 1) := by decide +kernel
theorem dX10_copy_99 : decode cX10_copy 99 = .ok (.getfield 228, 3) := by decide +kernel
theorem dX10_copy_102 : decode cX10_copy 102 = .ok (.iload_n 2, 1) := by decide +kernel
theorem dX10_copy_103 : decode cX10_copy 103 = .ok (.aload_n 1, 1) := by decide +kernel
theorem dX10_copy_104 : decode cX10_copy 104 = .ok (.getfield 228, 3) := by decide +kernel
theorem dX10_copy_107 : decode cX10_copy 107 = .ok (.iload_n 2, 1) := by decide +kernel
theorem dX10_copy_108 : decode cX10_copy 108 = .ok (.iaload, 1) := by decide +kernel
theorem dX10_copy_109 : decode cX10_copy 109 = .ok (.iastore, 1) := by decide +kernel
theorem dX10_copy_110 : decode cX10_copy 110 = .ok (.aload_n 0, 1) := by decide +kernel
theorem dX10_copy_111 : decode cX10_copy 111 = .ok (.getfield 231, 3) := by decide +kernel
theorem dX10_copy_114 : decode cX10_copy 114 = .ok (.iload_n 2, 1) := by decide +kernel
theorem dX10_copy_115 : decode cX10_copy 115 = .ok (.aload_n 1, 1) := by decide +kernel
theorem dX10_copy_116 : decode cX10_copy 116 = .ok (.getfield 231, 3) := by decide +kernel
theorem dX10_copy_119 : decode cX10_copy 119 = .ok (.iload_n 2, 1) := by decide +kernel
theorem dX10_copy_120 : decode cX10_copy 120 = .ok (.iaload, 1) := by decide +kernel
theorem dX10_copy_121 : decode cX10_copy 121 = .ok (.iastore, 1) := by decide +kernel
theorem dX10_copy_122 : decode cX10_copy 122 = .ok (.iinc 2 1, 3) := by decide +kernel
theorem dX10_copy_125 : decode cX10_copy 125 = .ok (.goto (-59), 3) := by decide +kernel
theorem dX10_copy_128 : decode cX10_copy 128 = .ok (.aload_n 0, 1) := by decide +kernel
theorem dX10_copy_129 : decode cX10_copy 129 = .ok (.aload_n 1, 1) := by decide +kernel
theorem dX10_copy_130 : decode cX10_copy 130 = .ok (.getfield 234, 3) := by decide +kernel
theorem dX10_copy_133 : decode cX10_copy 133 = .ok (.putfield 234, 3) := by decide +kernel
theorem dX10_copy_136 : decode cX10_copy 136 = .ok (.aload_n 1, 1) := by decide +kernel
theorem dX10_copy_137 : decode cX10_copy 137 = .ok (.getfield 237, 3) := by decide +kernel
theorem dX10_copy_140 : decode cX10_copy 140 = .ok (.iconst 0, 1) := by decide +kernel
theorem dX10_copy_141 : decode cX10_copy 141 = .ok (.aload_n 0, 1) := by decide +kernel
theorem dX10_copy_142 : decode cX10_copy 142 = .ok (.getfield 237, 3) := by decide +kernel
theorem dX10_copy_145 : decode cX10_copy 145 = .ok (.iconst 0, 1) := by decide +kernel
theorem dX10_copy_146 : decode cX10_copy 146 = .ok (.sipush 175, 3) := by decide +kernel
theorem dX10_copy_149 : decode cX10_copy 149 = .ok (.invokestatic 34, 3) := by decide +kernel
theorem dX10_copy_152 : decode cX10_copy 152 = .ok (.aload_n 0, 1) := by decide +kernel
theorem dX10_copy_153 : decode cX10_copy 153 = .ok (.aload_n 1, 1) := by decide +kernel
theorem dX10_copy_154 : decode cX10_copy 154 = .ok (.getfield 240, 3) := by decide +kernel
theorem dX10_copy_157 : decode cX10_copy 157 = .ok (.putfield 240, 3) := by decide +kernel
theorem dX10_copy_160 : decode cX10_copy 160 = .ok (.aload_n 0, 1) := by decide +kernel
theorem dX10_copy_161 : decode cX10_copy 161 = .ok (.aload_n 1, 1) := by decide +kernel
theorem dX10_copy_162 : decode cX10_copy 162 = .ok (.getfield 243, 3) := by decide +kernel
theorem dX10_copy_165 : decode cX10_copy 165 = .ok (.putfield 243, 3) := by decide +kernel
theorem dX10_copy_168 : decode cX10_copy 168 = .ok (.aload_n 1, 1) := by decide +kernel
theorem dX10_copy_169 : decode cX10_copy 169 = .ok (.getfield 246, 3) := by decide +kernel
theorem dX10_copy_172 : decode cX10_copy 172 = .ok (.iconst 0, 1) := by decide +kernel
theorem dX10_copy_173 : decode cX10_copy 173 = .ok (.aload_n 0, 1) := by decide +kernel
theorem dX10_copy_174 : decode cX10_copy 174 = .ok (.getfield 246, 3) := by decide +kernel
theorem dX10_copy_177 : decode cX10_copy 177 = .ok (.iconst 0, 1) := by decide +kernel
theorem dX10_copy_178 : decode cX10_copy 178 = .ok (.sipush 361, 3) := by decide +kernel
theorem dX10_copy_181 : decode cX10_copy 181 = .ok (.invokestatic 34, 3) := by decide +kernel
theorem dX10_copy_184 : decode cX10_copy 184 = .ok (.return_, 1) := by decide +kernel
theorem dX10_keep_0 : decode cX10_keep 0 = .ok (.aload_n 0, 1) := by decide +kernel
theorem dX10_keep_1 : decode cX10_keep 1 = .ok (.getfield 450, 3) := by decide +kernel
theorem dX10_keep_4 : decode cX10_keep 4 = .ok (.iload_n 1, 1) := by decide +kernel
theorem dX10_keep_5 : decode cX10_keep 5 = .ok (.aaload, 1) := by decide +kernel
theorem dX10_keep_6 : decode cX10_keep 6 = .ok (.aload_n 0, 1) := by decide +kernel
theorem dX10_keep_7 : decode cX10_keep 7 = .ok (.getfield 453, 3) := by decide +kernel
theorem dX10_keep_10 : decode cX10_keep 10 = .ok (.invokestatic 547, 3) := by decide +kernel
theorem dX10_keep_13 : decode cX10_keep 13 = .ok (.aload_n 0, 1) := by decide +kernel
theorem dX10_keep_14 : decode cX10_keep 14 = .ok (.getfield 453, 3) := by decide +kernel
theorem dX10_keep_17 : decode cX10_keep 17 = .ok (.getfield 202, 3) := by decide +kernel
theorem dX10_keep_20 : decode cX10_keep 20 = .ok (.ireturn, 1) := by decide +kernel
theorem dX10_place_0 : decode cX10_place 0 = .ok (.aload_n 0, 1) := by decide +kernel
theorem dX10_place_1 : decode cX10_place 1 = .ok (.getfield 456, 3) := by decide +kernel
theorem dX10_place_4 : decode cX10_place 4 = .ok (.ireturn, 1) := by decide +kernel
theorem dX10_write_0 : decode cX10_write 0 = .ok (.iload_n 1, 1) := by decide +kernel
theorem dX10_write_1 : decode cX10_write 1 = .ok (.invokestatic 551, 3) := by decide +kernel
theorem dX10_write_4 : decode cX10_write 4 = .ok (.ifCond .ne 5, 3) := by decide +kernel
theorem dX10_write_7 : decode cX10_write 7 = .ok (.iconst (-1), 1) := by decide +kernel
theorem dX10_write_8 : decode cX10_write 8 = .ok (.ireturn, 1) := by decide +kernel
theorem dX10_write_9 : decode cX10_write 9 = .ok (.aload_n 0, 1) := by decide +kernel
theorem dX10_write_10 : decode cX10_write 10 = .ok (.getfield 450, 3) := by decide +kernel
theorem dX10_write_13 : decode cX10_write 13 = .ok (.iload_n 1, 1) := by decide +kernel
theorem dX10_write_14 : decode cX10_write 14 = .ok (.aaload, 1) := by decide +kernel
theorem dX10_write_15 : decode cX10_write 15 = .ok (.astore_n 2, 1) := by decide +kernel
theorem dX10_write_16 : decode cX10_write 16 = .ok (.aload_n 2, 1) := by decide +kernel
theorem dX10_write_17 : decode cX10_write 17 = .ok (.getfield 202, 3) := by decide +kernel
theorem dX10_write_20 : decode cX10_write 20 = .ok (.iconst 1, 1) := by decide +kernel
theorem dX10_write_21 : decode cX10_write 21 = .ok (.if_icmp .eq 14, 3) := by decide +kernel
theorem dX10_write_24 : decode cX10_write 24 = .ok (.aload_n 2, 1) := by decide +kernel
theorem dX10_write_25 : decode cX10_write 25 = .ok (.getfield 202, 3) := by decide +kernel
theorem dX10_write_28 : decode cX10_write 28 = .ok (.iconst 2, 1) := by decide +kernel
theorem dX10_write_29 : decode cX10_write 29 = .ok (.if_icmp .eq 6, 3) := by decide +kernel
theorem dX10_write_32 : decode cX10_write 32 = .ok (.bipush (-3), 2) := by decide +kernel
theorem dX10_write_34 : decode cX10_write 34 = .ok (.ireturn, 1) := by decide +kernel
theorem dX10_write_35 : decode cX10_write 35 = .ok (.aload_n 0, 1) := by decide +kernel
theorem dX10_write_36 : decode cX10_write 36 = .ok (.iconst 0, 1) := by decide +kernel
theorem dX10_write_37 : decode cX10_write 37 = .ok (.putfield 561, 3) := by decide +kernel
theorem dX10_write_40 : decode cX10_write 40 = .ok (.aload_n 2, 1) := by decide +kernel
theorem dX10_write_41 : decode cX10_write 41 = .ok (.getfield 202, 3) := by decide +kernel
theorem dX10_write_44 : decode cX10_write 44 = .ok (.iconst 1, 1) := by decide +kernel
theorem dX10_write_45 : decode cX10_write 45 = .ok (.if_icmp .ne 11, 3) := by decide +kernel
theorem dX10_write_48 : decode cX10_write 48 = .ok (.aload_n 0, 1) := by decide +kernel
theorem dX10_write_49 : decode cX10_write 49 = .ok (.aload_n 2, 1) := by decide +kernel
theorem dX10_write_50 : decode cX10_write 50 = .ok (.invokevirtual 587, 3) := by decide +kernel
theorem dX10_write_53 : decode cX10_write 53 = .ok (.goto 168, 3) := by decide +kernel
theorem dX10_write_56 : decode cX10_write 56 = .ok (.aload_n 0, 1) := by decide +kernel
theorem dX10_write_57 : decode cX10_write 57 = .ok (.bipush 40, 2) := by decide +kernel
theorem dX10_write_59 : decode cX10_write 59 = .ok (.invokevirtual 564, 3) := by decide +kernel
theorem dX10_write_62 : decode cX10_write 62 = .ok (.aload_n 0, 1) := by decide +kernel
theorem dX10_write_63 : decode cX10_write 63 = .ok (.aload_n 2, 1) := by decide +kernel
theorem dX10_write_64 : decode cX10_write 64 = .ok (.invokevirtual 587, 3) := by decide +kernel
theorem dX10_write_67 : decode cX10_write 67 = .ok (.aload_n 0, 1) := by decide +kernel
theorem dX10_write_68 : decode cX10_write 68 = .ok (.bipush 41, 2) := by decide +kernel
theorem dX10_write_70 : decode cX10_write 70 = .ok (.invokevirtual 564, 3) := by decide +kernel
theorem dX10_write_73 : decode cX10_write 73 = .ok (.aload_n 0, 1) := by decide +kernel
theorem dX10_write_74 : decode cX10_write 74 = .ok (.aload_n 2, 1) := by decide +kernel
theorem dX10_write_75 : decode cX10_write 75 = .ok (.getfield 213, 3) := by decide +kernel
theorem dX10_write_78 : decode cX10_write 78 = .ok (.bipush 110, 2) := by decide +kernel
theorem dX10_write_80 : decode cX10_write 80 = .ok (.invokevirtual 590, 3) := by decide +kernel
theorem dX10_write_83 : decode cX10_write 83 = .ok (.aload_n 0, 1) := by decide +kernel
theorem dX10_write_84 : decode cX10_write 84 = .ok (.aload_n 2, 1) := by decide +kernel
theorem dX10_write_85 : decode cX10_write 85 = .ok (.getfield 216, 3) := by decide +kernel
theorem dX10_write_88 : decode cX10_write 88 = .ok (.bipush 107, 2) := by decide +kernel
theorem dX10_write_90 : decode cX10_write 90 = .ok (.invokevirtual 590, 3) := by decide +kernel
theorem dX10_write_93 : decode cX10_write 93 = .ok (.iconst 0, 1) := by decide +kernel
theorem dX10_write_94 : decode cX10_write 94 = .ok (.istore_n 3, 1) := by decide +kernel
theorem dX10_write_95 : decode cX10_write 95 = .ok (.iload_n 3, 1) := by decide +kernel
theorem dX10_write_96 : decode cX10_write 96 = .ok (.aload_n 2, 1) := by decide +kernel
theorem dX10_write_97 : decode cX10_write 97 = .ok (.getfield 219, 3) := by decide +kernel
theorem dX10_write_100 : decode cX10_write 100 = .ok (.if_icmp .ge 121, 3) := by decide +kernel
theorem dX10_write_103 : decode cX10_write 103 = .ok (.aload_n 0, 1) := by decide +kernel
theorem dX10_write_104 : decode cX10_write 104 = .ok (.aload_n 2, 1) := by decide +kernel
theorem dX10_write_105 : decode cX10_write 105 = .ok (.getfield 231, 3) := by decide +kernel
theorem dX10_write_108 : decode cX10_write 108 = .ok (.iload_n 3, 1) := by decide +kernel
theorem dX10_write_109 : decode cX10_write 109 = .ok (.iaload, 1) := by decide +kernel
theorem dX10_write_110 : decode cX10_write 110 = .ok (.ifCond .le 8, 3) := by decide +kernel
theorem dX10_write_113 : decode cX10_write 113 = .ok (.bipush 42, 2) := by decide +kernel
theorem dX10_write_115 : decode cX10_write 115 = .ok (.goto 5, 3) := by decide +kernel
theorem dX10_write_118 : decode cX10_write 118 = .ok (.bipush 47, 2) := by decide +kernel
theorem dX10_write_120 : decode cX10_write 120 = .ok (.invokevirtual 564, 3) := by decide +kernel
theorem dX10_write_123 : decode cX10_write 123 = .ok (.aload_n 0, 1) := by decide +kernel
theorem dX10_write_124 : decode cX10_write 124 = .ok (.bipush 40, 2) := by decide +kernel
theorem dX10_write_126 : decode cX10_write 126 = .ok (.invokevirtual 564, 3) := by decide +kernel
theorem dX10_write_129 : decode cX10_write 129 = .ok (.aload_n 0, 1) := by decide +kernel
theorem dX10_write_130 : decode cX10_write 130 = .ok (.iconst 1, 1) := by decide +kernel
theorem dX10_write_131 : decode cX10_write 131 = .ok (.putfield 567, 3) := by decide +kernel
theorem dX10_write_134 : decode cX10_write 134 = .ok (.aload_n 0, 1) := by decide +kernel
theorem dX10_write_135 : decode cX10_write 135 = .ok (.aload_n 2, 1) := by decide +kernel
theorem dX10_write_136 : decode cX10_write 136 = .ok (.getfield 225, 3) := by decide +kernel
theorem dX10_write_139 : decode cX10_write 139 = .ok (.iload_n 3, 1) := by decide +kernel
theorem dX10_write_140 : decode cX10_write 140 = .ok (.iaload, 1) := by decide +kernel
theorem dX10_write_141 : decode cX10_write 141 = .ok (.iconst 0, 1) := by decide +kernel
theorem dX10_write_142 : decode cX10_write 142 = .ok (.iconst 1, 1) := by decide +kernel
theorem dX10_write_143 : decode cX10_write 143 = .ok (.invokevirtual 594, 3) := by decide +kernel
theorem dX10_write_146 : decode cX10_write 146 = .ok (.aload_n 0, 1) := by decide +kernel
theorem dX10_write_147 : decode cX10_write 147 = .ok (.aload_n 2, 1) := by decide +kernel
theorem dX10_write_148 : decode cX10_write 148 = .ok (.getfield 222, 3) := by decide +kernel
theorem dX10_write_151 : decode cX10_write 151 = .ok (.iload_n 3, 1) := by decide +kernel
theorem dX10_write_152 : decode cX10_write 152 = .ok (.iaload, 1) := by decide +kernel
theorem dX10_write_153 : decode cX10_write 153 = .ok (.iconst 1, 1) := by decide +kernel
theorem dX10_write_154 : decode cX10_write 154 = .ok (.iconst 0, 1) := by decide +kernel
theorem dX10_write_155 : decode cX10_write 155 = .ok (.invokevirtual 594, 3) := by decide +kernel
theorem dX10_write_158 : decode cX10_write 158 = .ok (.aload_n 0, 1) := by decide +kernel
theorem dX10_write_159 : decode cX10_write 159 = .ok (.aload_n 2, 1) := by decide +kernel
theorem dX10_write_160 : decode cX10_write 160 = .ok (.getfield 228, 3) := by decide +kernel
theorem dX10_write_163 : decode cX10_write 163 = .ok (.iload_n 3, 1) := by decide +kernel
theorem dX10_write_164 : decode cX10_write 164 = .ok (.iaload, 1) := by decide +kernel
theorem dX10_write_165 : decode cX10_write 165 = .ok (.iconst 0, 1) := by decide +kernel
theorem dX10_write_166 : decode cX10_write 166 = .ok (.iconst 0, 1) := by decide +kernel
theorem dX10_write_167 : decode cX10_write 167 = .ok (.invokevirtual 594, 3) := by decide +kernel
theorem dX10_write_170 : decode cX10_write 170 = .ok (.aload_n 0, 1) := by decide +kernel
theorem dX10_write_171 : decode cX10_write 171 = .ok (.bipush 41, 2) := by decide +kernel
theorem dX10_write_173 : decode cX10_write 173 = .ok (.invokevirtual 564, 3) := by decide +kernel
theorem dX10_write_176 : decode cX10_write 176 = .ok (.aload_n 0, 1) := by decide +kernel
theorem dX10_write_177 : decode cX10_write 177 = .ok (.bipush 33, 2) := by decide +kernel
theorem dX10_write_179 : decode cX10_write 179 = .ok (.invokevirtual 564, 3) := by decide +kernel
theorem dX10_write_182 : decode cX10_write 182 = .ok (.aload_n 2, 1) := by decide +kernel
theorem dX10_write_183 : decode cX10_write 183 = .ok (.getfield 231, 3) := by decide +kernel
theorem dX10_write_186 : decode cX10_write 186 = .ok (.iload_n 3, 1) := by decide +kernel
theorem dX10_write_187 : decode cX10_write 187 = .ok (.iaload, 1) := by decide +kernel
theorem dX10_write_188 : decode cX10_write 188 = .ok (.invokestatic 273, 3) := by decide +kernel
theorem dX10_write_191 : decode cX10_write 191 = .ok (.iconst 1, 1) := by decide +kernel
theorem dX10_write_192 : decode cX10_write 192 = .ok (.if_icmp .le 23, 3) := by decide +kernel
theorem dX10_write_195 : decode cX10_write 195 = .ok (.aload_n 0, 1) := by decide +kernel
theorem dX10_write_196 : decode cX10_write 196 = .ok (.bipush 94, 2) := by decide +kernel
theorem dX10_write_198 : decode cX10_write 198 = .ok (.invokevirtual 564, 3) := by decide +kernel
theorem dX10_write_201 : decode cX10_write 201 = .ok (.aload_n 0, 1) := by decide +kernel
theorem dX10_write_202 : decode cX10_write 202 = .ok (.aload_n 2, 1) := by decide +kernel
theorem dX10_write_203 : decode cX10_write 203 = .ok (.getfield 231, 3) := by decide +kernel
theorem dX10_write_206 : decode cX10_write 206 = .ok (.iload_n 3, 1) := by decide +kernel
theorem dX10_write_207 : decode cX10_write 207 = .ok (.iaload, 1) := by decide +kernel
theorem dX10_write_208 : decode cX10_write 208 = .ok (.invokestatic 273, 3) := by decide +kernel
theorem dX10_write_211 : decode cX10_write 211 = .ok (.i2l, 1) := by decide +kernel
theorem dX10_write_212 : decode cX10_write 212 = .ok (.invokevirtual 571, 3) := by decide +kernel
theorem dX10_write_215 : decode cX10_write 215 = .ok (.iinc 3 1, 3) := by decide +kernel
theorem dX10_write_218 : decode cX10_write 218 = .ok (.goto (-123), 3) := by decide +kernel
theorem dX10_write_221 : decode cX10_write 221 = .ok (.aload_n 0, 1) := by decide +kernel
theorem dX10_write_222 : decode cX10_write 222 = .ok (.getfield 561, 3) := by decide +kernel
theorem dX10_write_225 : decode cX10_write 225 = .ok (.sipush 4000, 3) := by decide +kernel
theorem dX10_write_228 : decode cX10_write 228 = .ok (.if_icmp .le 6, 3) := by decide +kernel
theorem dX10_write_231 : decode cX10_write 231 = .ok (.bipush (-2), 2) := by decide +kernel
theorem dX10_write_233 : decode cX10_write 233 = .ok (.ireturn, 1) := by decide +kernel
theorem dX10_write_234 : decode cX10_write 234 = .ok (.aload_n 0, 1) := by decide +kernel
theorem dX10_write_235 : decode cX10_write 235 = .ok (.getfield 462, 3) := by decide +kernel
theorem dX10_write_238 : decode cX10_write 238 = .ok (.iconst 0, 1) := by decide +kernel
theorem dX10_write_239 : decode cX10_write 239 = .ok (.aload_n 0, 1) := by decide +kernel
theorem dX10_write_240 : decode cX10_write 240 = .ok (.getfield 459, 3) := by decide +kernel
theorem dX10_write_243 : decode cX10_write 243 = .ok (.iconst 0, 1) := by decide +kernel
theorem dX10_write_244 : decode cX10_write 244 = .ok (.aload_n 0, 1) := by decide +kernel
theorem dX10_write_245 : decode cX10_write 245 = .ok (.getfield 561, 3) := by decide +kernel
theorem dX10_write_248 : decode cX10_write 248 = .ok (.invokestatic 34, 3) := by decide +kernel
theorem dX10_write_251 : decode cX10_write 251 = .ok (.aload_n 0, 1) := by decide +kernel
theorem dX10_write_252 : decode cX10_write 252 = .ok (.aload_n 0, 1) := by decide +kernel
theorem dX10_write_253 : decode cX10_write 253 = .ok (.getfield 561, 3) := by decide +kernel
theorem dX10_write_256 : decode cX10_write 256 = .ok (.putfield 597, 3) := by decide +kernel
theorem dX10_write_259 : decode cX10_write 259 = .ok (.aload_n 0, 1) := by decide +kernel
theorem dX10_write_260 : decode cX10_write 260 = .ok (.getfield 597, 3) := by decide +kernel
theorem dX10_write_263 : decode cX10_write 263 = .ok (.ireturn, 1) := by decide +kernel
theorem dX10_sayRatio_0 : decode cX10_sayRatio 0 = .ok (.aload_n 1, 1) := by decide +kernel
theorem dX10_sayRatio_1 : decode cX10_sayRatio 1 = .ok (.getfield 210, 3) := by decide +kernel
theorem dX10_sayRatio_4 : decode cX10_sayRatio 4 = .ok (.invokestatic 265, 3) := by decide +kernel
theorem dX10_sayRatio_7 : decode cX10_sayRatio 7 = .ok (.istore_n 2, 1) := by decide +kernel
theorem dX10_sayRatio_8 : decode cX10_sayRatio 8 = .ok (.iload_n 2, 1) := by decide +kernel
theorem dX10_sayRatio_9 : decode cX10_sayRatio 9 = .ok (.ifCond .ne 9, 3) := by decide +kernel
theorem dX10_sayRatio_12 : decode cX10_sayRatio 12 = .ok (.aload_n 0, 1) := by decide +kernel
theorem dX10_sayRatio_13 : decode cX10_sayRatio 13 = .ok (.bipush 40, 2) := by decide +kernel
theorem dX10_sayRatio_15 : decode cX10_sayRatio 15 = .ok (.invokevirtual 564, 3) := by decide +kernel
theorem dX10_sayRatio_18 : decode cX10_sayRatio 18 = .ok (.aload_n 0, 1) := by decide +kernel
theorem dX10_sayRatio_19 : decode cX10_sayRatio 19 = .ok (.aload_n 1, 1) := by decide +kernel
theorem dX10_sayRatio_20 : decode cX10_sayRatio 20 = .ok (.getfield 207, 3) := by decide +kernel
theorem dX10_sayRatio_23 : decode cX10_sayRatio 23 = .ok (.invokevirtual 583, 3) := by decide +kernel
theorem dX10_sayRatio_26 : decode cX10_sayRatio 26 = .ok (.iload_n 2, 1) := by decide +kernel
theorem dX10_sayRatio_27 : decode cX10_sayRatio 27 = .ok (.ifCond .ne 35, 3) := by decide +kernel
theorem dX10_sayRatio_30 : decode cX10_sayRatio 30 = .ok (.aload_n 0, 1) := by decide +kernel
theorem dX10_sayRatio_31 : decode cX10_sayRatio 31 = .ok (.bipush 41, 2) := by decide +kernel
theorem dX10_sayRatio_33 : decode cX10_sayRatio 33 = .ok (.invokevirtual 564, 3) := by decide +kernel
theorem dX10_sayRatio_36 : decode cX10_sayRatio 36 = .ok (.aload_n 0, 1) := by decide +kernel
theorem dX10_sayRatio_37 : decode cX10_sayRatio 37 = .ok (.bipush 47, 2) := by decide +kernel
theorem dX10_sayRatio_39 : decode cX10_sayRatio 39 = .ok (.invokevirtual 564, 3) := by decide +kernel
theorem dX10_sayRatio_42 : decode cX10_sayRatio 42 = .ok (.aload_n 0, 1) := by decide +kernel
theorem dX10_sayRatio_43 : decode cX10_sayRatio 43 = .ok (.bipush 40, 2) := by decide +kernel
theorem dX10_sayRatio_45 : decode cX10_sayRatio 45 = .ok (.invokevirtual 564, 3) := by decide +kernel
theorem dX10_sayRatio_48 : decode cX10_sayRatio 48 = .ok (.aload_n 0, 1) := by decide +kernel
theorem dX10_sayRatio_49 : decode cX10_sayRatio 49 = .ok (.aload_n 1, 1) := by decide +kernel
theorem dX10_sayRatio_50 : decode cX10_sayRatio 50 = .ok (.getfield 210, 3) := by decide +kernel
theorem dX10_sayRatio_53 : decode cX10_sayRatio 53 = .ok (.invokevirtual 583, 3) := by decide +kernel
theorem dX10_sayRatio_56 : decode cX10_sayRatio 56 = .ok (.aload_n 0, 1) := by decide +kernel
theorem dX10_sayRatio_57 : decode cX10_sayRatio 57 = .ok (.bipush 41, 2) := by decide +kernel
theorem dX10_sayRatio_59 : decode cX10_sayRatio 59 = .ok (.invokevirtual 564, 3) := by decide +kernel
theorem dX10_sayRatio_62 : decode cX10_sayRatio 62 = .ok (.return_, 1) := by decide +kernel
theorem dX10_say_0 : decode cX10_say 0 = .ok (.aload_n 0, 1) := by decide +kernel
theorem dX10_say_1 : decode cX10_say 1 = .ok (.getfield 561, 3) := by decide +kernel
theorem dX10_say_4 : decode cX10_say 4 = .ok (.sipush 4000, 3) := by decide +kernel
theorem dX10_say_7 : decode cX10_say 7 = .ok (.if_icmp .ge 14, 3) := by decide +kernel
theorem dX10_say_10 : decode cX10_say 10 = .ok (.aload_n 0, 1) := by decide +kernel
theorem dX10_say_11 : decode cX10_say 11 = .ok (.getfield 462, 3) := by decide +kernel
theorem dX10_say_14 : decode cX10_say 14 = .ok (.aload_n 0, 1) := by decide +kernel
theorem dX10_say_15 : decode cX10_say 15 = .ok (.getfield 561, 3) := by decide +kernel
theorem dX10_say_18 : decode cX10_say 18 = .ok (.iload_n 1, 1) := by decide +kernel
theorem dX10_say_19 : decode cX10_say 19 = .ok (.i2b, 1) := by decide +kernel
theorem dX10_say_20 : decode cX10_say 20 = .ok (.bastore, 1) := by decide +kernel
theorem dX10_say_21 : decode cX10_say 21 = .ok (.aload_n 0, 1) := by decide +kernel
theorem dX10_say_22 : decode cX10_say 22 = .ok (.dup, 1) := by decide +kernel
theorem dX10_say_23 : decode cX10_say 23 = .ok (.getfield 561, 3) := by decide +kernel
theorem dX10_say_26 : decode cX10_say 26 = .ok (.iconst 1, 1) := by decide +kernel
theorem dX10_say_27 : decode cX10_say 27 = .ok (.iadd, 1) := by decide +kernel
theorem dX10_say_28 : decode cX10_say 28 = .ok (.putfield 561, 3) := by decide +kernel
theorem dX10_say_31 : decode cX10_say 31 = .ok (.return_, 1) := by decide +kernel
theorem dX10_sayCells_0 : decode cX10_sayCells 0 = .ok (.aload_n 0, 1) := by decide +kernel
theorem dX10_sayCells_1 : decode cX10_sayCells 1 = .ok (.iconst 1, 1) := by decide +kernel
theorem dX10_sayCells_2 : decode cX10_sayCells 2 = .ok (.putfield 567, 3) := by decide +kernel
theorem dX10_sayCells_5 : decode cX10_sayCells 5 = .ok (.bipush 12, 2) := by decide +kernel
theorem dX10_sayCells_7 : decode cX10_sayCells 7 = .ok (.istore_n 2, 1) := by decide +kernel
theorem dX10_sayCells_8 : decode cX10_sayCells 8 = .ok (.iload_n 2, 1) := by decide +kernel
theorem dX10_sayCells_9 : decode cX10_sayCells 9 = .ok (.ifCond .lt 47, 3) := by decide +kernel
theorem dX10_sayCells_12 : decode cX10_sayCells 12 = .ok (.bipush 24, 2) := by decide +kernel
theorem dX10_sayCells_14 : decode cX10_sayCells 14 = .ok (.istore_n 3, 1) := by decide +kernel
theorem dX10_sayCells_15 : decode cX10_sayCells 15 = .ok (.iload_n 3, 1) := by decide +kernel
theorem dX10_sayCells_16 : decode cX10_sayCells 16 = .ok (.ifCond .lt 34, 3) := by decide +kernel
theorem dX10_sayCells_19 : decode cX10_sayCells 19 = .ok (.aload_n 1, 1) := by decide +kernel
theorem dX10_sayCells_20 : decode cX10_sayCells 20 = .ok (.bipush 25, 2) := by decide +kernel
theorem dX10_sayCells_22 : decode cX10_sayCells 22 = .ok (.iload_n 2, 1) := by decide +kernel
theorem dX10_sayCells_23 : decode cX10_sayCells 23 = .ok (.imul, 1) := by decide +kernel
theorem dX10_sayCells_24 : decode cX10_sayCells 24 = .ok (.iload_n 3, 1) := by decide +kernel
theorem dX10_sayCells_25 : decode cX10_sayCells 25 = .ok (.iadd, 1) := by decide +kernel
theorem dX10_sayCells_26 : decode cX10_sayCells 26 = .ok (.iaload, 1) := by decide +kernel
theorem dX10_sayCells_27 : decode cX10_sayCells 27 = .ok (.ifCond .eq 17, 3) := by decide +kernel
theorem dX10_sayCells_30 : decode cX10_sayCells 30 = .ok (.aload_n 0, 1) := by decide +kernel
theorem dX10_sayCells_31 : decode cX10_sayCells 31 = .ok (.aload_n 1, 1) := by decide +kernel
theorem dX10_sayCells_32 : decode cX10_sayCells 32 = .ok (.bipush 25, 2) := by decide +kernel
theorem dX10_sayCells_34 : decode cX10_sayCells 34 = .ok (.iload_n 2, 1) := by decide +kernel
theorem dX10_sayCells_35 : decode cX10_sayCells 35 = .ok (.imul, 1) := by decide +kernel
theorem dX10_sayCells_36 : decode cX10_sayCells 36 = .ok (.iload_n 3, 1) := by decide +kernel
theorem dX10_sayCells_37 : decode cX10_sayCells 37 = .ok (.iadd, 1) := by decide +kernel
theorem dX10_sayCells_38 : decode cX10_sayCells 38 = .ok (.iaload, 1) := by decide +kernel
theorem dX10_sayCells_39 : decode cX10_sayCells 39 = .ok (.iload_n 3, 1) := by decide +kernel
theorem dX10_sayCells_40 : decode cX10_sayCells 40 = .ok (.iload_n 2, 1) := by decide +kernel
theorem dX10_sayCells_41 : decode cX10_sayCells 41 = .ok (.invokevirtual 579, 3) := by decide +kernel
theorem dX10_sayCells_44 : decode cX10_sayCells 44 = .ok (.iinc 3 (-1), 3) := by decide +kernel
theorem dX10_sayCells_47 : decode cX10_sayCells 47 = .ok (.goto (-32), 3) := by decide +kernel
theorem dX10_sayCells_50 : decode cX10_sayCells 50 = .ok (.iinc 2 (-1), 3) := by decide +kernel
theorem dX10_sayCells_53 : decode cX10_sayCells 53 = .ok (.goto (-45), 3) := by decide +kernel
theorem dX10_sayCells_56 : decode cX10_sayCells 56 = .ok (.aload_n 0, 1) := by decide +kernel
theorem dX10_sayCells_57 : decode cX10_sayCells 57 = .ok (.getfield 567, 3) := by decide +kernel
theorem dX10_sayCells_60 : decode cX10_sayCells 60 = .ok (.ifCond .eq 9, 3) := by decide +kernel
theorem dX10_sayCells_63 : decode cX10_sayCells 63 = .ok (.aload_n 0, 1) := by decide +kernel
theorem dX10_sayCells_64 : decode cX10_sayCells 64 = .ok (.bipush 48, 2) := by decide +kernel
theorem dX10_sayCells_66 : decode cX10_sayCells 66 = .ok (.invokevirtual 564, 3) := by decide +kernel
theorem dX10_sayCells_69 : decode cX10_sayCells 69 = .ok (.return_, 1) := by decide +kernel
theorem dX10_sayPart_0 : decode cX10_sayPart 0 = .ok (.iload_n 1, 1) := by decide +kernel
theorem dX10_sayPart_1 : decode cX10_sayPart 1 = .ok (.invokestatic 390, 3) := by decide +kernel
theorem dX10_sayPart_4 : decode cX10_sayPart 4 = .ok (.istore 4, 2) := by decide +kernel
theorem dX10_sayPart_6 : decode cX10_sayPart 6 = .ok (.iload 4, 2) := by decide +kernel
theorem dX10_sayPart_8 : decode cX10_sayPart 8 = .ok (.ifCond .ge 12, 3) := by decide +kernel
theorem dX10_sayPart_11 : decode cX10_sayPart 11 = .ok (.aload_n 0, 1) := by decide +kernel
theorem dX10_sayPart_12 : decode cX10_sayPart 12 = .ok (.bipush 45, 2) := by decide +kernel
theorem dX10_sayPart_14 : decode cX10_sayPart 14 = .ok (.invokevirtual 564, 3) := by decide +kernel
theorem dX10_sayPart_17 : decode cX10_sayPart 17 = .ok (.goto 16, 3) := by decide +kernel
theorem dX10_sayPart_20 : decode cX10_sayPart 20 = .ok (.aload_n 0, 1) := by decide +kernel
theorem dX10_sayPart_21 : decode cX10_sayPart 21 = .ok (.getfield 567, 3) := by decide +kernel
theorem dX10_sayPart_24 : decode cX10_sayPart 24 = .ok (.ifCond .ne 9, 3) := by decide +kernel
theorem dX10_sayPart_27 : decode cX10_sayPart 27 = .ok (.aload_n 0, 1) := by decide +kernel
theorem dX10_sayPart_28 : decode cX10_sayPart 28 = .ok (.bipush 43, 2) := by decide +kernel
theorem dX10_sayPart_30 : decode cX10_sayPart 30 = .ok (.invokevirtual 564, 3) := by decide +kernel
theorem dX10_sayPart_33 : decode cX10_sayPart 33 = .ok (.aload_n 0, 1) := by decide +kernel
theorem dX10_sayPart_34 : decode cX10_sayPart 34 = .ok (.iconst 0, 1) := by decide +kernel
theorem dX10_sayPart_35 : decode cX10_sayPart 35 = .ok (.putfield 567, 3) := by decide +kernel
theorem dX10_sayPart_38 : decode cX10_sayPart 38 = .ok (.iload 4, 2) := by decide +kernel
theorem dX10_sayPart_40 : decode cX10_sayPart 40 = .ok (.invokestatic 273, 3) := by decide +kernel
theorem dX10_sayPart_43 : decode cX10_sayPart 43 = .ok (.istore 5, 2) := by decide +kernel
theorem dX10_sayPart_45 : decode cX10_sayPart 45 = .ok (.iload 5, 2) := by decide +kernel
theorem dX10_sayPart_47 : decode cX10_sayPart 47 = .ok (.iconst 1, 1) := by decide +kernel
theorem dX10_sayPart_48 : decode cX10_sayPart 48 = .ok (.if_icmp .ne 11, 3) := by decide +kernel
theorem dX10_sayPart_51 : decode cX10_sayPart 51 = .ok (.iload_n 2, 1) := by decide +kernel
theorem dX10_sayPart_52 : decode cX10_sayPart 52 = .ok (.ifCond .ne 11, 3) := by decide +kernel
theorem dX10_sayPart_55 : decode cX10_sayPart 55 = .ok (.iload_n 3, 1) := by decide +kernel
theorem dX10_sayPart_56 : decode cX10_sayPart 56 = .ok (.ifCond .ne 7, 3) := by decide +kernel
theorem dX10_sayPart_59 : decode cX10_sayPart 59 = .ok (.iconst 1, 1) := by decide +kernel
theorem dX10_sayPart_60 : decode cX10_sayPart 60 = .ok (.goto 4, 3) := by decide +kernel
theorem dX10_sayPart_63 : decode cX10_sayPart 63 = .ok (.iconst 0, 1) := by decide +kernel
theorem dX10_sayPart_64 : decode cX10_sayPart 64 = .ok (.istore 6, 2) := by decide +kernel
theorem dX10_sayPart_66 : decode cX10_sayPart 66 = .ok (.iload 6, 2) := by decide +kernel
theorem dX10_sayPart_68 : decode cX10_sayPart 68 = .ok (.ifCond .eq 10, 3) := by decide +kernel
theorem dX10_sayPart_71 : decode cX10_sayPart 71 = .ok (.aload_n 0, 1) := by decide +kernel
theorem dX10_sayPart_72 : decode cX10_sayPart 72 = .ok (.iload 5, 2) := by decide +kernel
theorem dX10_sayPart_74 : decode cX10_sayPart 74 = .ok (.i2l, 1) := by decide +kernel
theorem dX10_sayPart_75 : decode cX10_sayPart 75 = .ok (.invokevirtual 571, 3) := by decide +kernel
theorem dX10_sayPart_78 : decode cX10_sayPart 78 = .ok (.aload_n 0, 1) := by decide +kernel
theorem dX10_sayPart_79 : decode cX10_sayPart 79 = .ok (.bipush 110, 2) := by decide +kernel
theorem dX10_sayPart_81 : decode cX10_sayPart 81 = .ok (.iload_n 2, 1) := by decide +kernel
theorem dX10_sayPart_82 : decode cX10_sayPart 82 = .ok (.iload 6, 2) := by decide +kernel
theorem dX10_sayPart_84 : decode cX10_sayPart 84 = .ok (.invokevirtual 575, 3) := by decide +kernel
theorem dX10_sayPart_87 : decode cX10_sayPart 87 = .ok (.aload_n 0, 1) := by decide +kernel
theorem dX10_sayPart_88 : decode cX10_sayPart 88 = .ok (.bipush 107, 2) := by decide +kernel
theorem dX10_sayPart_90 : decode cX10_sayPart 90 = .ok (.iload_n 3, 1) := by decide +kernel
theorem dX10_sayPart_91 : decode cX10_sayPart 91 = .ok (.iload 6, 2) := by decide +kernel
theorem dX10_sayPart_93 : decode cX10_sayPart 93 = .ok (.ifCond .ne 7, 3) := by decide +kernel
theorem dX10_sayPart_96 : decode cX10_sayPart 96 = .ok (.iload_n 2, 1) := by decide +kernel
theorem dX10_sayPart_97 : decode cX10_sayPart 97 = .ok (.ifCond .le 7, 3) := by decide +kernel
theorem dX10_sayPart_100 : decode cX10_sayPart 100 = .ok (.iconst 1, 1) := by decide +kernel
theorem dX10_sayPart_101 : decode cX10_sayPart 101 = .ok (.goto 4, 3) := by decide +kernel
theorem dX10_sayPart_104 : decode cX10_sayPart 104 = .ok (.iconst 0, 1) := by decide +kernel
theorem dX10_sayPart_105 : decode cX10_sayPart 105 = .ok (.invokevirtual 575, 3) := by decide +kernel
theorem dX10_sayPart_108 : decode cX10_sayPart 108 = .ok (.return_, 1) := by decide +kernel
theorem dX10_sayNumber_0 : decode cX10_sayNumber 0 = .ok (.lconst 1, 1) := by decide +kernel
theorem dX10_sayNumber_1 : decode cX10_sayNumber 1 = .ok (.lstore_n 3, 1) := by decide +kernel
theorem dX10_sayNumber_2 : decode cX10_sayNumber 2 = .ok (.lload_n 1, 1) := by decide +kernel
theorem dX10_sayNumber_3 : decode cX10_sayNumber 3 = .ok (.lload_n 3, 1) := by decide +kernel
theorem dX10_sayNumber_4 : decode cX10_sayNumber 4 = .ok (.ldiv, 1) := by decide +kernel
theorem dX10_sayNumber_5 : decode cX10_sayNumber 5 = .ok (.ldc2_w 432, 3) := by decide +kernel
theorem dX10_sayNumber_8 : decode cX10_sayNumber 8 = .ok (.lcmp, 1) := by decide +kernel
theorem dX10_sayNumber_9 : decode cX10_sayNumber 9 = .ok (.ifCond .lt 12, 3) := by decide +kernel
theorem dX10_sayNumber_12 : decode cX10_sayNumber 12 = .ok (.lload_n 3, 1) := by decide +kernel
theorem dX10_sayNumber_13 : decode cX10_sayNumber 13 = .ok (.ldc2_w 432, 3) := by decide +kernel
theorem dX10_sayNumber_16 : decode cX10_sayNumber 16 = .ok (.lmul, 1) := by decide +kernel
theorem dX10_sayNumber_17 : decode cX10_sayNumber 17 = .ok (.lstore_n 3, 1) := by decide +kernel
theorem dX10_sayNumber_18 : decode cX10_sayNumber 18 = .ok (.goto (-16), 3) := by decide +kernel
theorem dX10_sayNumber_21 : decode cX10_sayNumber 21 = .ok (.lload_n 3, 1) := by decide +kernel
theorem dX10_sayNumber_22 : decode cX10_sayNumber 22 = .ok (.lconst 0, 1) := by decide +kernel
theorem dX10_sayNumber_23 : decode cX10_sayNumber 23 = .ok (.lcmp, 1) := by decide +kernel
theorem dX10_sayNumber_24 : decode cX10_sayNumber 24 = .ok (.ifCond .le 28, 3) := by decide +kernel
theorem dX10_sayNumber_27 : decode cX10_sayNumber 27 = .ok (.aload_n 0, 1) := by decide +kernel
theorem dX10_sayNumber_28 : decode cX10_sayNumber 28 = .ok (.ldc2_w 434, 3) := by decide +kernel
theorem dX10_sayNumber_31 : decode cX10_sayNumber 31 = .ok (.lload_n 1, 1) := by decide +kernel
theorem dX10_sayNumber_32 : decode cX10_sayNumber 32 = .ok (.lload_n 3, 1) := by decide +kernel
theorem dX10_sayNumber_33 : decode cX10_sayNumber 33 = .ok (.ldiv, 1) := by decide +kernel
theorem dX10_sayNumber_34 : decode cX10_sayNumber 34 = .ok (.ldc2_w 432, 3) := by decide +kernel
theorem dX10_sayNumber_37 : decode cX10_sayNumber 37 = .ok (.lrem, 1) := by decide +kernel
theorem dX10_sayNumber_38 : decode cX10_sayNumber 38 = .ok (.ladd, 1) := by decide +kernel
theorem dX10_sayNumber_39 : decode cX10_sayNumber 39 = .ok (.l2i, 1) := by decide +kernel
theorem dX10_sayNumber_40 : decode cX10_sayNumber 40 = .ok (.invokevirtual 564, 3) := by decide +kernel
theorem dX10_sayNumber_43 : decode cX10_sayNumber 43 = .ok (.lload_n 3, 1) := by decide +kernel
theorem dX10_sayNumber_44 : decode cX10_sayNumber 44 = .ok (.ldc2_w 432, 3) := by decide +kernel
theorem dX10_sayNumber_47 : decode cX10_sayNumber 47 = .ok (.ldiv, 1) := by decide +kernel
theorem dX10_sayNumber_48 : decode cX10_sayNumber 48 = .ok (.lstore_n 3, 1) := by decide +kernel
theorem dX10_sayNumber_49 : decode cX10_sayNumber 49 = .ok (.goto (-28), 3) := by decide +kernel
theorem dX10_sayNumber_52 : decode cX10_sayNumber 52 = .ok (.return_, 1) := by decide +kernel
theorem dX10_sayLetter_0 : decode cX10_sayLetter 0 = .ok (.iload_n 2, 1) := by decide +kernel
theorem dX10_sayLetter_1 : decode cX10_sayLetter 1 = .ok (.ifCond .ne 4, 3) := by decide +kernel
theorem dX10_sayLetter_4 : decode cX10_sayLetter 4 = .ok (.return_, 1) := by decide +kernel
theorem dX10_sayLetter_5 : decode cX10_sayLetter 5 = .ok (.iload_n 3, 1) := by decide +kernel
theorem dX10_sayLetter_6 : decode cX10_sayLetter 6 = .ok (.ifCond .eq 9, 3) := by decide +kernel
theorem dX10_sayLetter_9 : decode cX10_sayLetter 9 = .ok (.aload_n 0, 1) := by decide +kernel
theorem dX10_sayLetter_10 : decode cX10_sayLetter 10 = .ok (.bipush 42, 2) := by decide +kernel
theorem dX10_sayLetter_12 : decode cX10_sayLetter 12 = .ok (.invokevirtual 564, 3) := by decide +kernel
theorem dX10_sayLetter_15 : decode cX10_sayLetter 15 = .ok (.aload_n 0, 1) := by decide +kernel
theorem dX10_sayLetter_16 : decode cX10_sayLetter 16 = .ok (.iload_n 1, 1) := by decide +kernel
theorem dX10_sayLetter_17 : decode cX10_sayLetter 17 = .ok (.invokevirtual 564, 3) := by decide +kernel
theorem dX10_sayLetter_20 : decode cX10_sayLetter 20 = .ok (.iload_n 2, 1) := by decide +kernel
theorem dX10_sayLetter_21 : decode cX10_sayLetter 21 = .ok (.iconst 1, 1) := by decide +kernel
theorem dX10_sayLetter_22 : decode cX10_sayLetter 22 = .ok (.if_icmp .le 15, 3) := by decide +kernel
theorem dX10_sayLetter_25 : decode cX10_sayLetter 25 = .ok (.aload_n 0, 1) := by decide +kernel
theorem dX10_sayLetter_26 : decode cX10_sayLetter 26 = .ok (.bipush 94, 2) := by decide +kernel
theorem dX10_sayLetter_28 : decode cX10_sayLetter 28 = .ok (.invokevirtual 564, 3) := by decide +kernel
theorem dX10_sayLetter_31 : decode cX10_sayLetter 31 = .ok (.aload_n 0, 1) := by decide +kernel
theorem dX10_sayLetter_32 : decode cX10_sayLetter 32 = .ok (.iload_n 2, 1) := by decide +kernel
theorem dX10_sayLetter_33 : decode cX10_sayLetter 33 = .ok (.i2l, 1) := by decide +kernel
theorem dX10_sayLetter_34 : decode cX10_sayLetter 34 = .ok (.invokevirtual 571, 3) := by decide +kernel
theorem dX10_sayLetter_37 : decode cX10_sayLetter 37 = .ok (.return_, 1) := by decide +kernel
theorem dX10_sayBase_0 : decode cX10_sayBase 0 = .ok (.iload_n 1, 1) := by decide +kernel
theorem dX10_sayBase_1 : decode cX10_sayBase 1 = .ok (.iconst 1, 1) := by decide +kernel
theorem dX10_sayBase_2 : decode cX10_sayBase 2 = .ok (.if_icmp .eq 26, 3) := by decide +kernel
theorem dX10_sayBase_5 : decode cX10_sayBase 5 = .ok (.aload_n 0, 1) := by decide +kernel
theorem dX10_sayBase_6 : decode cX10_sayBase 6 = .ok (.bipush 42, 2) := by decide +kernel
theorem dX10_sayBase_8 : decode cX10_sayBase 8 = .ok (.invokevirtual 564, 3) := by decide +kernel
theorem dX10_sayBase_11 : decode cX10_sayBase 11 = .ok (.aload_n 0, 1) := by decide +kernel
theorem dX10_sayBase_12 : decode cX10_sayBase 12 = .ok (.iload_n 1, 1) := by decide +kernel
theorem dX10_sayBase_13 : decode cX10_sayBase 13 = .ok (.i2l, 1) := by decide +kernel
theorem dX10_sayBase_14 : decode cX10_sayBase 14 = .ok (.invokevirtual 571, 3) := by decide +kernel
theorem dX10_sayBase_17 : decode cX10_sayBase 17 = .ok (.aload_n 0, 1) := by decide +kernel
theorem dX10_sayBase_18 : decode cX10_sayBase 18 = .ok (.bipush 94, 2) := by decide +kernel
theorem dX10_sayBase_20 : decode cX10_sayBase 20 = .ok (.invokevirtual 564, 3) := by decide +kernel
theorem dX10_sayBase_23 : decode cX10_sayBase 23 = .ok (.aload_n 0, 1) := by decide +kernel
theorem dX10_sayBase_24 : decode cX10_sayBase 24 = .ok (.iload_n 2, 1) := by decide +kernel
theorem dX10_sayBase_25 : decode cX10_sayBase 25 = .ok (.invokevirtual 564, 3) := by decide +kernel
theorem dX10_sayBase_28 : decode cX10_sayBase 28 = .ok (.return_, 1) := by decide +kernel
theorem dX10_sayLine_0 : decode cX10_sayLine 0 = .ok (.iload_n 1, 1) := by decide +kernel
theorem dX10_sayLine_1 : decode cX10_sayLine 1 = .ok (.ifCond .eq 13, 3) := by decide +kernel
theorem dX10_sayLine_4 : decode cX10_sayLine 4 = .ok (.aload_n 0, 1) := by decide +kernel
theorem dX10_sayLine_5 : decode cX10_sayLine 5 = .ok (.iload_n 1, 1) := by decide +kernel
theorem dX10_sayLine_6 : decode cX10_sayLine 6 = .ok (.invokestatic 600, 3) := by decide +kernel
theorem dX10_sayLine_9 : decode cX10_sayLine 9 = .ok (.iload_n 2, 1) := by decide +kernel
theorem dX10_sayLine_10 : decode cX10_sayLine 10 = .ok (.iload_n 3, 1) := by decide +kernel
theorem dX10_sayLine_11 : decode cX10_sayLine 11 = .ok (.invokevirtual 579, 3) := by decide +kernel
theorem dX10_sayLine_14 : decode cX10_sayLine 14 = .ok (.return_, 1) := by decide +kernel
theorem dX10_rest_0 : decode cX10_rest 0 = .ok (.iload_n 0, 1) := by decide +kernel
theorem dX10_rest_1 : decode cX10_rest 1 = .ok (.ldc 5, 2) := by decide +kernel
theorem dX10_rest_3 : decode cX10_rest 3 = .ok (.irem, 1) := by decide +kernel
theorem dX10_rest_4 : decode cX10_rest 4 = .ok (.istore_n 1, 1) := by decide +kernel
theorem dX10_rest_5 : decode cX10_rest 5 = .ok (.iload_n 1, 1) := by decide +kernel
theorem dX10_rest_6 : decode cX10_rest 6 = .ok (.ifCond .ge 10, 3) := by decide +kernel
theorem dX10_rest_9 : decode cX10_rest 9 = .ok (.iload_n 1, 1) := by decide +kernel
theorem dX10_rest_10 : decode cX10_rest 10 = .ok (.ldc 5, 2) := by decide +kernel
theorem dX10_rest_12 : decode cX10_rest 12 = .ok (.iadd, 1) := by decide +kernel
theorem dX10_rest_13 : decode cX10_rest 13 = .ok (.goto 4, 3) := by decide +kernel
theorem dX10_rest_16 : decode cX10_rest 16 = .ok (.iload_n 1, 1) := by decide +kernel
theorem dX10_rest_17 : decode cX10_rest 17 = .ok (.ireturn, 1) := by decide +kernel
theorem dX10_written_0 : decode cX10_written 0 = .ok (.iload_n 1, 1) := by decide +kernel
theorem dX10_written_1 : decode cX10_written 1 = .ok (.ifCond .lt 24, 3) := by decide +kernel
theorem dX10_written_4 : decode cX10_written 4 = .ok (.iload_n 1, 1) := by decide +kernel
theorem dX10_written_5 : decode cX10_written 5 = .ok (.aload_n 0, 1) := by decide +kernel
theorem dX10_written_6 : decode cX10_written 6 = .ok (.getfield 597, 3) := by decide +kernel
theorem dX10_written_9 : decode cX10_written 9 = .ok (.if_icmp .ge 16, 3) := by decide +kernel
theorem dX10_written_12 : decode cX10_written 12 = .ok (.aload_n 0, 1) := by decide +kernel
theorem dX10_written_13 : decode cX10_written 13 = .ok (.getfield 459, 3) := by decide +kernel
theorem dX10_written_16 : decode cX10_written 16 = .ok (.iload_n 1, 1) := by decide +kernel
theorem dX10_written_17 : decode cX10_written 17 = .ok (.baload, 1) := by decide +kernel
theorem dX10_written_18 : decode cX10_written 18 = .ok (.sipush 255, 3) := by decide +kernel
theorem dX10_written_21 : decode cX10_written 21 = .ok (.iand, 1) := by decide +kernel
theorem dX10_written_22 : decode cX10_written 22 = .ok (.goto 4, 3) := by decide +kernel
theorem dX10_written_25 : decode cX10_written 25 = .ok (.iconst (-1), 1) := by decide +kernel
theorem dX10_written_26 : decode cX10_written 26 = .ok (.ireturn, 1) := by decide +kernel
theorem dX10_again_0 : decode cX10_again 0 = .ok (.aload_n 0, 1) := by decide +kernel
theorem dX10_again_1 : decode cX10_again 1 = .ok (.getfield 597, 3) := by decide +kernel
theorem dX10_again_4 : decode cX10_again 4 = .ok (.sipush 400, 3) := by decide +kernel
theorem dX10_again_7 : decode cX10_again 7 = .ok (.if_icmp .le 6, 3) := by decide +kernel
theorem dX10_again_10 : decode cX10_again 10 = .ok (.bipush (-2), 2) := by decide +kernel
theorem dX10_again_12 : decode cX10_again 12 = .ok (.ireturn, 1) := by decide +kernel
theorem dX10_again_13 : decode cX10_again 13 = .ok (.aload_n 0, 1) := by decide +kernel
theorem dX10_again_14 : decode cX10_again 14 = .ok (.getfield 459, 3) := by decide +kernel
theorem dX10_again_17 : decode cX10_again 17 = .ok (.iconst 0, 1) := by decide +kernel
theorem dX10_again_18 : decode cX10_again 18 = .ok (.aload_n 0, 1) := by decide +kernel
theorem dX10_again_19 : decode cX10_again 19 = .ok (.getfield 339, 3) := by decide +kernel
theorem dX10_again_22 : decode cX10_again 22 = .ok (.iconst 0, 1) := by decide +kernel
theorem dX10_again_23 : decode cX10_again 23 = .ok (.aload_n 0, 1) := by decide +kernel
theorem dX10_again_24 : decode cX10_again 24 = .ok (.getfield 597, 3) := by decide +kernel
theorem dX10_again_27 : decode cX10_again 27 = .ok (.invokestatic 34, 3) := by decide +kernel
theorem dX10_again_30 : decode cX10_again 30 = .ok (.aload_n 0, 1) := by decide +kernel
theorem dX10_again_31 : decode cX10_again 31 = .ok (.aload_n 0, 1) := by decide +kernel
theorem dX10_again_32 : decode cX10_again 32 = .ok (.getfield 597, 3) := by decide +kernel
theorem dX10_again_35 : decode cX10_again 35 = .ok (.putfield 336, 3) := by decide +kernel
theorem dX10_again_38 : decode cX10_again 38 = .ok (.aload_n 0, 1) := by decide +kernel
theorem dX10_again_39 : decode cX10_again 39 = .ok (.getfield 336, 3) := by decide +kernel
theorem dX10_again_42 : decode cX10_again 42 = .ok (.ireturn, 1) := by decide +kernel
theorem dX10_kind_0 : decode cX10_kind 0 = .ok (.iload_n 1, 1) := by decide +kernel
theorem dX10_kind_1 : decode cX10_kind 1 = .ok (.invokestatic 551, 3) := by decide +kernel
theorem dX10_kind_4 : decode cX10_kind 4 = .ok (.ifCond .eq 15, 3) := by decide +kernel
theorem dX10_kind_7 : decode cX10_kind 7 = .ok (.aload_n 0, 1) := by decide +kernel
theorem dX10_kind_8 : decode cX10_kind 8 = .ok (.getfield 450, 3) := by decide +kernel
theorem dX10_kind_11 : decode cX10_kind 11 = .ok (.iload_n 1, 1) := by decide +kernel
theorem dX10_kind_12 : decode cX10_kind 12 = .ok (.aaload, 1) := by decide +kernel
theorem dX10_kind_13 : decode cX10_kind 13 = .ok (.getfield 202, 3) := by decide +kernel
theorem dX10_kind_16 : decode cX10_kind 16 = .ok (.goto 4, 3) := by decide +kernel
theorem dX10_kind_19 : decode cX10_kind 19 = .ok (.iconst (-1), 1) := by decide +kernel
theorem dX10_kind_20 : decode cX10_kind 20 = .ok (.ireturn, 1) := by decide +kernel
theorem dX10_drop_0 : decode cX10_drop 0 = .ok (.iload_n 1, 1) := by decide +kernel
theorem dX10_drop_1 : decode cX10_drop 1 = .ok (.invokestatic 551, 3) := by decide +kernel
theorem dX10_drop_4 : decode cX10_drop 4 = .ok (.ifCond .ne 5, 3) := by decide +kernel
theorem dX10_drop_7 : decode cX10_drop 7 = .ok (.iconst (-1), 1) := by decide +kernel
theorem dX10_drop_8 : decode cX10_drop 8 = .ok (.ireturn, 1) := by decide +kernel
theorem dX10_drop_9 : decode cX10_drop 9 = .ok (.aload_n 0, 1) := by decide +kernel
theorem dX10_drop_10 : decode cX10_drop 10 = .ok (.getfield 450, 3) := by decide +kernel
theorem dX10_drop_13 : decode cX10_drop 13 = .ok (.iload_n 1, 1) := by decide +kernel
theorem dX10_drop_14 : decode cX10_drop 14 = .ok (.aaload, 1) := by decide +kernel
theorem dX10_drop_15 : decode cX10_drop 15 = .ok (.getfield 202, 3) := by decide +kernel
theorem dX10_drop_18 : decode cX10_drop 18 = .ok (.istore_n 2, 1) := by decide +kernel
theorem dX10_drop_19 : decode cX10_drop 19 = .ok (.aload_n 0, 1) := by decide +kernel
theorem dX10_drop_20 : decode cX10_drop 20 = .ok (.getfield 450, 3) := by decide +kernel
theorem dX10_drop_23 : decode cX10_drop 23 = .ok (.iload_n 1, 1) := by decide +kernel
theorem dX10_drop_24 : decode cX10_drop 24 = .ok (.aaload, 1) := by decide +kernel
theorem dX10_drop_25 : decode cX10_drop 25 = .ok (.iconst 0, 1) := by decide +kernel
theorem dX10_drop_26 : decode cX10_drop 26 = .ok (.putfield 202, 3) := by decide +kernel
theorem dX10_drop_29 : decode cX10_drop 29 = .ok (.iload_n 2, 1) := by decide +kernel
theorem dX10_drop_30 : decode cX10_drop 30 = .ok (.ireturn, 1) := by decide +kernel
theorem dX10_degree_0 : decode cX10_degree 0 = .ok (.iload_n 1, 1) := by decide +kernel
theorem dX10_degree_1 : decode cX10_degree 1 = .ok (.invokestatic 551, 3) := by decide +kernel
theorem dX10_degree_4 : decode cX10_degree 4 = .ok (.ifCond .ne 5, 3) := by decide +kernel
theorem dX10_degree_7 : decode cX10_degree 7 = .ok (.iconst (-1), 1) := by decide +kernel
theorem dX10_degree_8 : decode cX10_degree 8 = .ok (.ireturn, 1) := by decide +kernel
theorem dX10_degree_9 : decode cX10_degree 9 = .ok (.aload_n 0, 1) := by decide +kernel
theorem dX10_degree_10 : decode cX10_degree 10 = .ok (.getfield 450, 3) := by decide +kernel
theorem dX10_degree_13 : decode cX10_degree 13 = .ok (.iload_n 1, 1) := by decide +kernel
theorem dX10_degree_14 : decode cX10_degree 14 = .ok (.aaload, 1) := by decide +kernel
theorem dX10_degree_15 : decode cX10_degree 15 = .ok (.astore 4, 2) := by decide +kernel
theorem dX10_degree_17 : decode cX10_degree 17 = .ok (.aload 4, 2) := by decide +kernel
theorem dX10_degree_19 : decode cX10_degree 19 = .ok (.getfield 202, 3) := by decide +kernel
theorem dX10_degree_22 : decode cX10_degree 22 = .ok (.iconst 1, 1) := by decide +kernel
theorem dX10_degree_23 : decode cX10_degree 23 = .ok (.if_icmp .lt 12, 3) := by decide +kernel
theorem dX10_degree_26 : decode cX10_degree 26 = .ok (.aload 4, 2) := by decide +kernel
theorem dX10_degree_28 : decode cX10_degree 28 = .ok (.getfield 202, 3) := by decide +kernel
theorem dX10_degree_31 : decode cX10_degree 31 = .ok (.iconst 3, 1) := by decide +kernel
theorem dX10_degree_32 : decode cX10_degree 32 = .ok (.if_icmp .le 6, 3) := by decide +kernel
theorem dX10_degree_35 : decode cX10_degree 35 = .ok (.bipush (-3), 2) := by decide +kernel
theorem dX10_degree_37 : decode cX10_degree 37 = .ok (.ireturn, 1) := by decide +kernel
theorem dX10_degree_38 : decode cX10_degree 38 = .ok (.iload_n 2, 1) := by decide +kernel
theorem dX10_degree_39 : decode cX10_degree 39 = .ok (.ifCond .lt 17, 3) := by decide +kernel
theorem dX10_degree_42 : decode cX10_degree 42 = .ok (.iload_n 2, 1) := by decide +kernel
theorem dX10_degree_43 : decode cX10_degree 43 = .ok (.iconst 1, 1) := by decide +kernel
theorem dX10_degree_44 : decode cX10_degree 44 = .ok (.if_icmp .gt 12, 3) := by decide +kernel
theorem dX10_degree_47 : decode cX10_degree 47 = .ok (.iload_n 3, 1) := by decide +kernel
theorem dX10_degree_48 : decode cX10_degree 48 = .ok (.ifCond .lt 8, 3) := by decide +kernel
theorem dX10_degree_51 : decode cX10_degree 51 = .ok (.iload_n 3, 1) := by decide +kernel
theorem dX10_degree_52 : decode cX10_degree 52 = .ok (.iconst 1, 1) := by decide +kernel
theorem dX10_degree_53 : decode cX10_degree 53 = .ok (.if_icmp .le 5, 3) := by decide +kernel
theorem dX10_degree_56 : decode cX10_degree 56 = .ok (.iconst (-1), 1) := by decide +kernel
theorem dX10_degree_57 : decode cX10_degree 57 = .ok (.ireturn, 1) := by decide +kernel
theorem dX10_degree_58 : decode cX10_degree 58 = .ok (.iload_n 2, 1) := by decide +kernel
theorem dX10_degree_59 : decode cX10_degree 59 = .ok (.ifCond .ne 11, 3) := by decide +kernel
theorem dX10_degree_62 : decode cX10_degree 62 = .ok (.aload 4, 2) := by decide +kernel
theorem dX10_degree_64 : decode cX10_degree 64 = .ok (.getfield 207, 3) := by decide +kernel
theorem dX10_degree_67 : decode cX10_degree 67 = .ok (.goto 8, 3) := by decide +kernel
theorem dX10_degree_70 : decode cX10_degree 70 = .ok (.aload 4, 2) := by decide +kernel
theorem dX10_degree_72 : decode cX10_degree 72 = .ok (.getfield 210, 3) := by decide +kernel
theorem dX10_degree_75 : decode cX10_degree 75 = .ok (.iload_n 3, 1) := by decide +kernel
theorem dX10_degree_76 : decode cX10_degree 76 = .ok (.invokestatic 603, 3) := by decide +kernel
theorem dX10_degree_79 : decode cX10_degree 79 = .ok (.ireturn, 1) := by decide +kernel
theorem dX10_degree_2_0 : decode cX10_degree_2 0 = .ok (.iconst 0, 1) := by decide +kernel
theorem dX10_degree_2_1 : decode cX10_degree_2 1 = .ok (.istore_n 2, 1) := by decide +kernel
theorem dX10_degree_2_2 : decode cX10_degree_2 2 = .ok (.iconst 0, 1) := by decide +kernel
theorem dX10_degree_2_3 : decode cX10_degree_2 3 = .ok (.istore_n 3, 1) := by decide +kernel
theorem dX10_degree_2_4 : decode cX10_degree_2 4 = .ok (.iload_n 3, 1) := by decide +kernel
theorem dX10_degree_2_5 : decode cX10_degree_2 5 = .ok (.sipush 325, 3) := by decide +kernel
theorem dX10_degree_2_8 : decode cX10_degree_2 8 = .ok (.if_icmp .ge 39, 3) := by decide +kernel
theorem dX10_degree_2_11 : decode cX10_degree_2 11 = .ok (.aload_n 0, 1) := by decide +kernel
theorem dX10_degree_2_12 : decode cX10_degree_2 12 = .ok (.iload_n 3, 1) := by decide +kernel
theorem dX10_degree_2_13 : decode cX10_degree_2 13 = .ok (.iaload, 1) := by decide +kernel
theorem dX10_degree_2_14 : decode cX10_degree_2 14 = .ok (.ifCond .eq 25, 3) := by decide +kernel
theorem dX10_degree_2_17 : decode cX10_degree_2 17 = .ok (.iload_n 2, 1) := by decide +kernel
theorem dX10_degree_2_18 : decode cX10_degree_2 18 = .ok (.iload_n 1, 1) := by decide +kernel
theorem dX10_degree_2_19 : decode cX10_degree_2 19 = .ok (.ifCond .ne 10, 3) := by decide +kernel
theorem dX10_degree_2_22 : decode cX10_degree_2 22 = .ok (.iload_n 3, 1) := by decide +kernel
theorem dX10_degree_2_23 : decode cX10_degree_2 23 = .ok (.bipush 25, 2) := by decide +kernel
theorem dX10_degree_2_25 : decode cX10_degree_2 25 = .ok (.irem, 1) := by decide +kernel
theorem dX10_degree_2_26 : decode cX10_degree_2 26 = .ok (.goto 7, 3) := by decide +kernel
theorem dX10_degree_2_29 : decode cX10_degree_2 29 = .ok (.iload_n 3, 1) := by decide +kernel
theorem dX10_degree_2_30 : decode cX10_degree_2 30 = .ok (.bipush 25, 2) := by decide +kernel
theorem dX10_degree_2_32 : decode cX10_degree_2 32 = .ok (.idiv, 1) := by decide +kernel
theorem dX10_degree_2_33 : decode cX10_degree_2 33 = .ok (.invokestatic 40, 3) := by decide +kernel
theorem dX10_degree_2_36 : decode cX10_degree_2 36 = .ok (.goto 4, 3) := by decide +kernel
theorem dX10_degree_2_39 : decode cX10_degree_2 39 = .ok (.iload_n 2, 1) := by decide +kernel
theorem dX10_degree_2_40 : decode cX10_degree_2 40 = .ok (.istore_n 2, 1) := by decide +kernel
theorem dX10_degree_2_41 : decode cX10_degree_2 41 = .ok (.iinc 3 1, 3) := by decide +kernel
theorem dX10_degree_2_44 : decode cX10_degree_2 44 = .ok (.goto (-40), 3) := by decide +kernel
theorem dX10_degree_2_47 : decode cX10_degree_2 47 = .ok (.iload_n 2, 1) := by decide +kernel
theorem dX10_degree_2_48 : decode cX10_degree_2 48 = .ok (.ireturn, 1) := by decide +kernel
theorem dX10_number_2_0 : decode cX10_number_2 0 = .ok (.iload_n 1, 1) := by decide +kernel
theorem dX10_number_2_1 : decode cX10_number_2 1 = .ok (.invokestatic 551, 3) := by decide +kernel
theorem dX10_number_2_4 : decode cX10_number_2 4 = .ok (.ifCond .ne 5, 3) := by decide +kernel
theorem dX10_number_2_7 : decode cX10_number_2 7 = .ok (.iconst (-1), 1) := by decide +kernel
theorem dX10_number_2_8 : decode cX10_number_2 8 = .ok (.ireturn, 1) := by decide +kernel
theorem dX10_number_2_9 : decode cX10_number_2 9 = .ok (.aload_n 0, 1) := by decide +kernel
theorem dX10_number_2_10 : decode cX10_number_2 10 = .ok (.getfield 450, 3) := by decide +kernel
theorem dX10_number_2_13 : decode cX10_number_2 13 = .ok (.iload_n 1, 1) := by decide +kernel
theorem dX10_number_2_14 : decode cX10_number_2 14 = .ok (.aaload, 1) := by decide +kernel
theorem dX10_number_2_15 : decode cX10_number_2 15 = .ok (.astore 5, 2) := by decide +kernel
theorem dX10_number_2_17 : decode cX10_number_2 17 = .ok (.aload 5, 2) := by decide +kernel
theorem dX10_number_2_19 : decode cX10_number_2 19 = .ok (.getfield 202, 3) := by decide +kernel
theorem dX10_number_2_22 : decode cX10_number_2 22 = .ok (.iconst 3, 1) := by decide +kernel
theorem dX10_number_2_23 : decode cX10_number_2 23 = .ok (.if_icmp .eq 12, 3) := by decide +kernel
theorem dX10_number_2_26 : decode cX10_number_2 26 = .ok (.aload 5, 2) := by decide +kernel
theorem dX10_number_2_28 : decode cX10_number_2 28 = .ok (.getfield 202, 3) := by decide +kernel
theorem dX10_number_2_31 : decode cX10_number_2 31 = .ok (.iconst 4, 1) := by decide +kernel
theorem dX10_number_2_32 : decode cX10_number_2 32 = .ok (.if_icmp .ne 7, 3) := by decide +kernel
theorem dX10_number_2_35 : decode cX10_number_2 35 = .ok (.iconst 1, 1) := by decide +kernel
theorem dX10_number_2_36 : decode cX10_number_2 36 = .ok (.goto 4, 3) := by decide +kernel
theorem dX10_number_2_39 : decode cX10_number_2 39 = .ok (.iconst 0, 1) := by decide +kernel
theorem dX10_number_2_40 : decode cX10_number_2 40 = .ok (.istore 6, 2) := by decide +kernel
theorem dX10_number_2_42 : decode cX10_number_2 42 = .ok (.aload 5, 2) := by decide +kernel
theorem dX10_number_2_44 : decode cX10_number_2 44 = .ok (.getfield 202, 3) := by decide +kernel
theorem dX10_number_2_47 : decode cX10_number_2 47 = .ok (.ifCond .eq 31, 3) := by decide +kernel
theorem dX10_number_2_50 : decode cX10_number_2 50 = .ok (.aload 5, 2) := by decide +kernel
theorem dX10_number_2_52 : decode cX10_number_2 52 = .ok (.getfield 202, 3) := by decide +kernel
theorem dX10_number_2_55 : decode cX10_number_2 55 = .ok (.iconst 4, 1) := by decide +kernel
theorem dX10_number_2_56 : decode cX10_number_2 56 = .ok (.if_icmp .ne 12, 3) := by decide +kernel
theorem dX10_number_2_59 : decode cX10_number_2 59 = .ok (.iload_n 2, 1) := by decide +kernel
theorem dX10_number_2_60 : decode cX10_number_2 60 = .ok (.ifCond .eq 18, 3) := by decide +kernel
theorem dX10_number_2_63 : decode cX10_number_2 63 = .ok (.iload_n 2, 1) := by decide +kernel
theorem dX10_number_2_64 : decode cX10_number_2 64 = .ok (.iconst 1, 1) := by decide +kernel
theorem dX10_number_2_65 : decode cX10_number_2 65 = .ok (.if_icmp .eq 13, 3) := by decide +kernel
theorem dX10_number_2_68 : decode cX10_number_2 68 = .ok (.iload 6, 2) := by decide +kernel
theorem dX10_number_2_70 : decode cX10_number_2 70 = .ok (.ifCond .ne 11, 3) := by decide +kernel
theorem dX10_number_2_73 : decode cX10_number_2 73 = .ok (.iload_n 2, 1) := by decide +kernel
theorem dX10_number_2_74 : decode cX10_number_2 74 = .ok (.iconst 1, 1) := by decide +kernel
theorem dX10_number_2_75 : decode cX10_number_2 75 = .ok (.if_icmp .le 6, 3) := by decide +kernel
theorem dX10_number_2_78 : decode cX10_number_2 78 = .ok (.bipush (-3), 2) := by decide +kernel
theorem dX10_number_2_80 : decode cX10_number_2 80 = .ok (.ireturn, 1) := by decide +kernel
theorem dX10_number_2_81 : decode cX10_number_2 81 = .ok (.iload_n 2, 1) := by decide +kernel
theorem dX10_number_2_82 : decode cX10_number_2 82 = .ok (.ifCond .lt 19, 3) := by decide +kernel
theorem dX10_number_2_85 : decode cX10_number_2 85 = .ok (.iload_n 2, 1) := by decide +kernel
theorem dX10_number_2_86 : decode cX10_number_2 86 = .ok (.iconst 1, 1) := by decide +kernel
theorem dX10_number_2_87 : decode cX10_number_2 87 = .ok (.if_icmp .le 16, 3) := by decide +kernel
theorem dX10_number_2_90 : decode cX10_number_2 90 = .ok (.iload_n 2, 1) := by decide +kernel
theorem dX10_number_2_91 : decode cX10_number_2 91 = .ok (.iconst 2, 1) := by decide +kernel
theorem dX10_number_2_92 : decode cX10_number_2 92 = .ok (.isub, 1) := by decide +kernel
theorem dX10_number_2_93 : decode cX10_number_2 93 = .ok (.aload 5, 2) := by decide +kernel
theorem dX10_number_2_95 : decode cX10_number_2 95 = .ok (.getfield 234, 3) := by decide +kernel
theorem dX10_number_2_98 : decode cX10_number_2 98 = .ok (.if_icmp .le 5, 3) := by decide +kernel
theorem dX10_number_2_101 : decode cX10_number_2 101 = .ok (.iconst (-1), 1) := by decide +kernel
theorem dX10_number_2_102 : decode cX10_number_2 102 = .ok (.ireturn, 1) := by decide +kernel
theorem dX10_number_2_103 : decode cX10_number_2 103 = .ok (.iload_n 2, 1) := by decide +kernel
theorem dX10_number_2_104 : decode cX10_number_2 104 = .ok (.iconst 1, 1) := by decide +kernel
theorem dX10_number_2_105 : decode cX10_number_2 105 = .ok (.if_icmp .le 37, 3) := by decide +kernel
theorem dX10_number_2_108 : decode cX10_number_2 108 = .ok (.iload 4, 2) := by decide +kernel
theorem dX10_number_2_110 : decode cX10_number_2 110 = .ok (.ifCond .ne 30, 3) := by decide +kernel
theorem dX10_number_2_113 : decode cX10_number_2 113 = .ok (.iload_n 3, 1) := by decide +kernel
theorem dX10_number_2_114 : decode cX10_number_2 114 = .ok (.ifCond .lt 26, 3) := by decide +kernel
theorem dX10_number_2_117 : decode cX10_number_2 117 = .ok (.iload_n 3, 1) := by decide +kernel
theorem dX10_number_2_118 : decode cX10_number_2 118 = .ok (.bipush 24, 2) := by decide +kernel
theorem dX10_number_2_120 : decode cX10_number_2 120 = .ok (.if_icmp .gt 20, 3) := by decide +kernel
theorem dX10_number_2_123 : decode cX10_number_2 123 = .ok (.aload 5, 2) := by decide +kernel
theorem dX10_number_2_125 : decode cX10_number_2 125 = .ok (.getfield 237, 3) := by decide +kernel
theorem dX10_number_2_128 : decode cX10_number_2 128 = .ok (.bipush 25, 2) := by decide +kernel
theorem dX10_number_2_130 : decode cX10_number_2 130 = .ok (.iload_n 2, 1) := by decide +kernel
theorem dX10_number_2_131 : decode cX10_number_2 131 = .ok (.iconst 2, 1) := by decide +kernel
theorem dX10_number_2_132 : decode cX10_number_2 132 = .ok (.isub, 1) := by decide +kernel
theorem dX10_number_2_133 : decode cX10_number_2 133 = .ok (.imul, 1) := by decide +kernel
theorem dX10_number_2_134 : decode cX10_number_2 134 = .ok (.iload_n 3, 1) := by decide +kernel
theorem dX10_number_2_135 : decode cX10_number_2 135 = .ok (.iadd, 1) := by decide +kernel
theorem dX10_number_2_136 : decode cX10_number_2 136 = .ok (.iaload, 1) := by decide +kernel
theorem dX10_number_2_137 : decode cX10_number_2 137 = .ok (.goto 4, 3) := by decide +kernel
theorem dX10_number_2_140 : decode cX10_number_2 140 = .ok (.iconst 0, 1) := by decide +kernel
theorem dX10_number_2_141 : decode cX10_number_2 141 = .ok (.ireturn, 1) := by decide +kernel
theorem dX10_number_2_142 : decode cX10_number_2 142 = .ok (.iload_n 3, 1) := by decide +kernel
theorem dX10_number_2_143 : decode cX10_number_2 143 = .ok (.ifCond .lt 21, 3) := by decide +kernel
theorem dX10_number_2_146 : decode cX10_number_2 146 = .ok (.iload_n 3, 1) := by decide +kernel
theorem dX10_number_2_147 : decode cX10_number_2 147 = .ok (.bipush 24, 2) := by decide +kernel
theorem dX10_number_2_149 : decode cX10_number_2 149 = .ok (.if_icmp .gt 15, 3) := by decide +kernel
theorem dX10_number_2_152 : decode cX10_number_2 152 = .ok (.iload 4, 2) := by decide +kernel
theorem dX10_number_2_154 : decode cX10_number_2 154 = .ok (.ifCond .lt 10, 3) := by decide +kernel
theorem dX10_number_2_157 : decode cX10_number_2 157 = .ok (.iload 4, 2) := by decide +kernel
theorem dX10_number_2_159 : decode cX10_number_2 159 = .ok (.bipush 12, 2) := by decide +kernel
theorem dX10_number_2_161 : decode cX10_number_2 161 = .ok (.if_icmp .le 7, 3) := by decide +kernel
theorem dX10_number_2_164 : decode cX10_number_2 164 = .ok (.iconst 0, 1) := by decide +kernel
theorem dX10_number_2_165 : decode cX10_number_2 165 = .ok (.goto 28, 3) := by decide +kernel
theorem dX10_number_2_168 : decode cX10_number_2 168 = .ok (.iload_n 2, 1) := by decide +kernel
theorem dX10_number_2_169 : decode cX10_number_2 169 = .ok (.ifCond .ne 11, 3) := by decide +kernel
theorem dX10_number_2_172 : decode cX10_number_2 172 = .ok (.aload 5, 2) := by decide +kernel
theorem dX10_number_2_174 : decode cX10_number_2 174 = .ok (.getfield 207, 3) := by decide +kernel
theorem dX10_number_2_177 : decode cX10_number_2 177 = .ok (.goto 8, 3) := by decide +kernel
theorem dX10_number_2_180 : decode cX10_number_2 180 = .ok (.aload 5, 2) := by decide +kernel
theorem dX10_number_2_182 : decode cX10_number_2 182 = .ok (.getfield 210, 3) := by decide +kernel
theorem dX10_number_2_185 : decode cX10_number_2 185 = .ok (.bipush 25, 2) := by decide +kernel
theorem dX10_number_2_187 : decode cX10_number_2 187 = .ok (.iload 4, 2) := by decide +kernel
theorem dX10_number_2_189 : decode cX10_number_2 189 = .ok (.imul, 1) := by decide +kernel
theorem dX10_number_2_190 : decode cX10_number_2 190 = .ok (.iload_n 3, 1) := by decide +kernel
theorem dX10_number_2_191 : decode cX10_number_2 191 = .ok (.iadd, 1) := by decide +kernel
theorem dX10_number_2_192 : decode cX10_number_2 192 = .ok (.iaload, 1) := by decide +kernel
theorem dX10_number_2_193 : decode cX10_number_2 193 = .ok (.ireturn, 1) := by decide +kernel
theorem dX10_told_0 : decode cX10_told 0 = .ok (.iload_n 1, 1) := by decide +kernel
theorem dX10_told_1 : decode cX10_told 1 = .ok (.invokestatic 551, 3) := by decide +kernel
theorem dX10_told_4 : decode cX10_told 4 = .ok (.ifCond .ne 5, 3) := by decide +kernel
theorem dX10_told_7 : decode cX10_told 7 = .ok (.iconst (-1), 1) := by decide +kernel
theorem dX10_told_8 : decode cX10_told 8 = .ok (.ireturn, 1) := by decide +kernel
theorem dX10_told_9 : decode cX10_told 9 = .ok (.aload_n 0, 1) := by decide +kernel
theorem dX10_told_10 : decode cX10_told 10 = .ok (.getfield 450, 3) := by decide +kernel
theorem dX10_told_13 : decode cX10_told 13 = .ok (.iload_n 1, 1) := by decide +kernel
theorem dX10_told_14 : decode cX10_told 14 = .ok (.aaload, 1) := by decide +kernel
theorem dX10_told_15 : decode cX10_told 15 = .ok (.astore_n 3, 1) := by decide +kernel
theorem dX10_told_16 : decode cX10_told 16 = .ok (.iload_n 2, 1) := by decide +kernel
theorem dX10_told_17 : decode cX10_told 17 = .ok (.iconst 2, 1) := by decide +kernel
theorem dX10_told_18 : decode cX10_told 18 = .ok (.if_icmp .gt 19, 3) := by decide +kernel
theorem dX10_told_21 : decode cX10_told 21 = .ok (.aload_n 3, 1) := by decide +kernel
theorem dX10_told_22 : decode cX10_told 22 = .ok (.getfield 202, 3) := by decide +kernel
theorem dX10_told_25 : decode cX10_told 25 = .ok (.iconst 2, 1) := by decide +kernel
theorem dX10_told_26 : decode cX10_told 26 = .ok (.if_icmp .ne 7, 3) := by decide +kernel
theorem dX10_told_29 : decode cX10_told 29 = .ok (.iconst 1, 1) := by decide +kernel
theorem dX10_told_30 : decode cX10_told 30 = .ok (.goto 49, 3) := by decide +kernel
theorem dX10_told_33 : decode cX10_told 33 = .ok (.iconst 0, 1) := by decide +kernel
theorem dX10_told_34 : decode cX10_told 34 = .ok (.goto 45, 3) := by decide +kernel
theorem dX10_told_37 : decode cX10_told 37 = .ok (.iload_n 2, 1) := by decide +kernel
theorem dX10_told_38 : decode cX10_told 38 = .ok (.iconst 3, 1) := by decide +kernel
theorem dX10_told_39 : decode cX10_told 39 = .ok (.if_icmp .ne 27, 3) := by decide +kernel
theorem dX10_told_42 : decode cX10_told 42 = .ok (.aload_n 3, 1) := by decide +kernel
theorem dX10_told_43 : decode cX10_told 43 = .ok (.getfield 202, 3) := by decide +kernel
theorem dX10_told_46 : decode cX10_told 46 = .ok (.iconst 3, 1) := by decide +kernel
theorem dX10_told_47 : decode cX10_told 47 = .ok (.if_icmp .eq 11, 3) := by decide +kernel
theorem dX10_told_50 : decode cX10_told 50 = .ok (.aload_n 3, 1) := by decide +kernel
theorem dX10_told_51 : decode cX10_told 51 = .ok (.getfield 202, 3) := by decide +kernel
theorem dX10_told_54 : decode cX10_told 54 = .ok (.iconst 4, 1) := by decide +kernel
theorem dX10_told_55 : decode cX10_told 55 = .ok (.if_icmp .ne 7, 3) := by decide +kernel
theorem dX10_told_58 : decode cX10_told 58 = .ok (.iconst 1, 1) := by decide +kernel
theorem dX10_told_59 : decode cX10_told 59 = .ok (.goto 20, 3) := by decide +kernel
theorem dX10_told_62 : decode cX10_told 62 = .ok (.iconst 0, 1) := by decide +kernel
theorem dX10_told_63 : decode cX10_told 63 = .ok (.goto 16, 3) := by decide +kernel
theorem dX10_told_66 : decode cX10_told 66 = .ok (.aload_n 3, 1) := by decide +kernel
theorem dX10_told_67 : decode cX10_told 67 = .ok (.getfield 202, 3) := by decide +kernel
theorem dX10_told_70 : decode cX10_told 70 = .ok (.iconst 4, 1) := by decide +kernel
theorem dX10_told_71 : decode cX10_told 71 = .ok (.if_icmp .ne 7, 3) := by decide +kernel
theorem dX10_told_74 : decode cX10_told 74 = .ok (.iconst 1, 1) := by decide +kernel
theorem dX10_told_75 : decode cX10_told 75 = .ok (.goto 4, 3) := by decide +kernel
theorem dX10_told_78 : decode cX10_told 78 = .ok (.iconst 0, 1) := by decide +kernel
theorem dX10_told_79 : decode cX10_told 79 = .ok (.istore 4, 2) := by decide +kernel
theorem dX10_told_81 : decode cX10_told 81 = .ok (.iload_n 2, 1) := by decide +kernel
theorem dX10_told_82 : decode cX10_told 82 = .ok (.ifCond .lt 8, 3) := by decide +kernel
theorem dX10_told_85 : decode cX10_told 85 = .ok (.iload_n 2, 1) := by decide +kernel
theorem dX10_told_86 : decode cX10_told 86 = .ok (.iconst 4, 1) := by decide +kernel
theorem dX10_told_87 : decode cX10_told 87 = .ok (.if_icmp .le 5, 3) := by decide +kernel
theorem dX10_told_90 : decode cX10_told 90 = .ok (.iconst (-1), 1) := by decide +kernel
theorem dX10_told_91 : decode cX10_told 91 = .ok (.ireturn, 1) := by decide +kernel
theorem dX10_told_92 : decode cX10_told 92 = .ok (.iload 4, 2) := by decide +kernel
theorem dX10_told_94 : decode cX10_told 94 = .ok (.ifCond .ne 6, 3) := by decide +kernel
theorem dX10_told_97 : decode cX10_told 97 = .ok (.bipush (-3), 2) := by decide +kernel
theorem dX10_told_99 : decode cX10_told 99 = .ok (.ireturn, 1) := by decide +kernel
theorem dX10_told_100 : decode cX10_told 100 = .ok (.iload_n 2, 1) := by decide +kernel
theorem dX10_told_101 : decode cX10_told 101 = .ok (.ifCond .ne 10, 3) := by decide +kernel
theorem dX10_told_104 : decode cX10_told 104 = .ok (.aload_n 3, 1) := by decide +kernel
theorem dX10_told_105 : decode cX10_told 105 = .ok (.getfield 213, 3) := by decide +kernel
theorem dX10_told_108 : decode cX10_told 108 = .ok (.goto 43, 3) := by decide +kernel
theorem dX10_told_111 : decode cX10_told 111 = .ok (.iload_n 2, 1) := by decide +kernel
theorem dX10_told_112 : decode cX10_told 112 = .ok (.iconst 1, 1) := by decide +kernel
theorem dX10_told_113 : decode cX10_told 113 = .ok (.if_icmp .ne 10, 3) := by decide +kernel
theorem dX10_told_116 : decode cX10_told 116 = .ok (.aload_n 3, 1) := by decide +kernel
theorem dX10_told_117 : decode cX10_told 117 = .ok (.getfield 216, 3) := by decide +kernel
theorem dX10_told_120 : decode cX10_told 120 = .ok (.goto 31, 3) := by decide +kernel
theorem dX10_told_123 : decode cX10_told 123 = .ok (.iload_n 2, 1) := by decide +kernel
theorem dX10_told_124 : decode cX10_told 124 = .ok (.iconst 2, 1) := by decide +kernel
theorem dX10_told_125 : decode cX10_told 125 = .ok (.if_icmp .ne 10, 3) := by decide +kernel
theorem dX10_told_128 : decode cX10_told 128 = .ok (.aload_n 3, 1) := by decide +kernel
theorem dX10_told_129 : decode cX10_told 129 = .ok (.getfield 219, 3) := by decide +kernel
theorem dX10_told_132 : decode cX10_told 132 = .ok (.goto 19, 3) := by decide +kernel
theorem dX10_told_135 : decode cX10_told 135 = .ok (.iload_n 2, 1) := by decide +kernel
theorem dX10_told_136 : decode cX10_told 136 = .ok (.iconst 3, 1) := by decide +kernel
theorem dX10_told_137 : decode cX10_told 137 = .ok (.if_icmp .ne 10, 3) := by decide +kernel
theorem dX10_told_140 : decode cX10_told 140 = .ok (.aload_n 3, 1) := by decide +kernel
theorem dX10_told_141 : decode cX10_told 141 = .ok (.getfield 234, 3) := by decide +kernel
theorem dX10_told_144 : decode cX10_told 144 = .ok (.goto 7, 3) := by decide +kernel
theorem dX10_told_147 : decode cX10_told 147 = .ok (.aload_n 3, 1) := by decide +kernel
theorem dX10_told_148 : decode cX10_told 148 = .ok (.getfield 240, 3) := by decide +kernel
theorem dX10_told_151 : decode cX10_told 151 = .ok (.ireturn, 1) := by decide +kernel
theorem dX10_factorial_2_0 : decode cX10_factorial_2 0 = .ok (.iload_n 1, 1) := by decide +kernel
theorem dX10_factorial_2_1 : decode cX10_factorial_2 1 = .ok (.invokestatic 551, 3) := by decide +kernel
theorem dX10_factorial_2_4 : decode cX10_factorial_2 4 = .ok (.ifCond .ne 5, 3) := by decide +kernel
theorem dX10_factorial_2_7 : decode cX10_factorial_2 7 = .ok (.iconst (-1), 1) := by decide +kernel
theorem dX10_factorial_2_8 : decode cX10_factorial_2 8 = .ok (.ireturn, 1) := by decide +kernel
theorem dX10_factorial_2_9 : decode cX10_factorial_2 9 = .ok (.aload_n 0, 1) := by decide +kernel
theorem dX10_factorial_2_10 : decode cX10_factorial_2 10 = .ok (.getfield 450, 3) := by decide +kernel
theorem dX10_factorial_2_13 : decode cX10_factorial_2 13 = .ok (.iload_n 1, 1) := by decide +kernel
theorem dX10_factorial_2_14 : decode cX10_factorial_2 14 = .ok (.aaload, 1) := by decide +kernel
theorem dX10_factorial_2_15 : decode cX10_factorial_2 15 = .ok (.astore 4, 2) := by decide +kernel
theorem dX10_factorial_2_17 : decode cX10_factorial_2 17 = .ok (.aload 4, 2) := by decide +kernel
theorem dX10_factorial_2_19 : decode cX10_factorial_2 19 = .ok (.getfield 202, 3) := by decide +kernel
theorem dX10_factorial_2_22 : decode cX10_factorial_2 22 = .ok (.iconst 2, 1) := by decide +kernel
theorem dX10_factorial_2_23 : decode cX10_factorial_2 23 = .ok (.if_icmp .ne 25, 3) := by decide +kernel
theorem dX10_factorial_2_26 : decode cX10_factorial_2 26 = .ok (.iload_n 2, 1) := by decide +kernel
theorem dX10_factorial_2_27 : decode cX10_factorial_2 27 = .ok (.ifCond .lt 21, 3) := by decide +kernel
theorem dX10_factorial_2_30 : decode cX10_factorial_2 30 = .ok (.iload_n 2, 1) := by decide +kernel
theorem dX10_factorial_2_31 : decode cX10_factorial_2 31 = .ok (.aload 4, 2) := by decide +kernel
theorem dX10_factorial_2_33 : decode cX10_factorial_2 33 = .ok (.getfield 219, 3) := by decide +kernel
theorem dX10_factorial_2_36 : decode cX10_factorial_2 36 = .ok (.if_icmp .ge 12, 3) := by decide +kernel
theorem dX10_factorial_2_39 : decode cX10_factorial_2 39 = .ok (.iload_n 3, 1) := by decide +kernel
theorem dX10_factorial_2_40 : decode cX10_factorial_2 40 = .ok (.ifCond .lt 8, 3) := by decide +kernel
theorem dX10_factorial_2_43 : decode cX10_factorial_2 43 = .ok (.iload_n 3, 1) := by decide +kernel
theorem dX10_factorial_2_44 : decode cX10_factorial_2 44 = .ok (.iconst 3, 1) := by decide +kernel
theorem dX10_factorial_2_45 : decode cX10_factorial_2 45 = .ok (.if_icmp .le 5, 3) := by decide +kernel
theorem dX10_factorial_2_48 : decode cX10_factorial_2 48 = .ok (.iconst 0, 1) := by decide +kernel
theorem dX10_factorial_2_49 : decode cX10_factorial_2 49 = .ok (.ireturn, 1) := by decide +kernel
theorem dX10_factorial_2_50 : decode cX10_factorial_2 50 = .ok (.iload_n 3, 1) := by decide +kernel
theorem dX10_factorial_2_51 : decode cX10_factorial_2 51 = .ok (.ifCond .ne 13, 3) := by decide +kernel
theorem dX10_factorial_2_54 : decode cX10_factorial_2 54 = .ok (.aload 4, 2) := by decide +kernel
theorem dX10_factorial_2_56 : decode cX10_factorial_2 56 = .ok (.getfield 222, 3) := by decide +kernel
theorem dX10_factorial_2_59 : decode cX10_factorial_2 59 = .ok (.iload_n 2, 1) := by decide +kernel
theorem dX10_factorial_2_60 : decode cX10_factorial_2 60 = .ok (.iaload, 1) := by decide +kernel
theorem dX10_factorial_2_61 : decode cX10_factorial_2 61 = .ok (.goto 40, 3) := by decide +kernel
theorem dX10_factorial_2_64 : decode cX10_factorial_2 64 = .ok (.iload_n 3, 1) := by decide +kernel
theorem dX10_factorial_2_65 : decode cX10_factorial_2 65 = .ok (.iconst 1, 1) := by decide +kernel
theorem dX10_factorial_2_66 : decode cX10_factorial_2 66 = .ok (.if_icmp .ne 13, 3) := by decide +kernel
theorem dX10_factorial_2_69 : decode cX10_factorial_2 69 = .ok (.aload 4, 2) := by decide +kernel
theorem dX10_factorial_2_71 : decode cX10_factorial_2 71 = .ok (.getfield 225, 3) := by decide +kernel
theorem dX10_factorial_2_74 : decode cX10_factorial_2 74 = .ok (.iload_n 2, 1) := by decide +kernel
theorem dX10_factorial_2_75 : decode cX10_factorial_2 75 = .ok (.iaload, 1) := by decide +kernel
theorem dX10_factorial_2_76 : decode cX10_factorial_2 76 = .ok (.goto 25, 3) := by decide +kernel
theorem dX10_factorial_2_79 : decode cX10_factorial_2 79 = .ok (.iload_n 3, 1) := by decide +kernel
theorem dX10_factorial_2_80 : decode cX10_factorial_2 80 = .ok (.iconst 2, 1) := by decide +kernel
theorem dX10_factorial_2_81 : decode cX10_factorial_2 81 = .ok (.if_icmp .ne 13, 3) := by decide +kernel
theorem dX10_factorial_2_84 : decode cX10_factorial_2 84 = .ok (.aload 4, 2) := by decide +kernel
theorem dX10_factorial_2_86 : decode cX10_factorial_2 86 = .ok (.getfield 228, 3) := by decide +kernel
theorem dX10_factorial_2_89 : decode cX10_factorial_2 89 = .ok (.iload_n 2, 1) := by decide +kernel
theorem dX10_factorial_2_90 : decode cX10_factorial_2 90 = .ok (.iaload, 1) := by decide +kernel
theorem dX10_factorial_2_91 : decode cX10_factorial_2 91 = .ok (.goto 10, 3) := by decide +kernel
theorem dX10_factorial_2_94 : decode cX10_factorial_2 94 = .ok (.aload 4, 2) := by decide +kernel
theorem dX10_factorial_2_96 : decode cX10_factorial_2 96 = .ok (.getfield 231, 3) := by decide +kernel
theorem dX10_factorial_2_99 : decode cX10_factorial_2 99 = .ok (.iload_n 2, 1) := by decide +kernel
theorem dX10_factorial_2_100 : decode cX10_factorial_2 100 = .ok (.iaload, 1) := by decide +kernel
theorem dX10_factorial_2_101 : decode cX10_factorial_2 101 = .ok (.ireturn, 1) := by decide +kernel
theorem dX10_count_0 : decode cX10_count 0 = .ok (.iconst 0, 1) := by decide +kernel
theorem dX10_count_1 : decode cX10_count 1 = .ok (.istore_n 2, 1) := by decide +kernel
theorem dX10_count_2 : decode cX10_count 2 = .ok (.iconst 0, 1) := by decide +kernel
theorem dX10_count_3 : decode cX10_count 3 = .ok (.istore_n 3, 1) := by decide +kernel
theorem dX10_count_4 : decode cX10_count 4 = .ok (.iconst 0, 1) := by decide +kernel
theorem dX10_count_5 : decode cX10_count 5 = .ok (.istore 4, 2) := by decide +kernel
theorem dX10_count_7 : decode cX10_count 7 = .ok (.iload 4, 2) := by decide +kernel
theorem dX10_count_9 : decode cX10_count 9 = .ok (.bipush 12, 2) := by decide +kernel
theorem dX10_count_11 : decode cX10_count 11 = .ok (.if_icmp .ge 52, 3) := by decide +kernel
theorem dX10_count_14 : decode cX10_count 14 = .ok (.iload_n 2, 1) := by decide +kernel
theorem dX10_count_15 : decode cX10_count 15 = .ok (.aload_n 0, 1) := by decide +kernel
theorem dX10_count_16 : decode cX10_count 16 = .ok (.getfield 450, 3) := by decide +kernel
theorem dX10_count_19 : decode cX10_count 19 = .ok (.iload 4, 2) := by decide +kernel
theorem dX10_count_21 : decode cX10_count 21 = .ok (.aaload, 1) := by decide +kernel
theorem dX10_count_22 : decode cX10_count 22 = .ok (.getfield 202, 3) := by decide +kernel
theorem dX10_count_25 : decode cX10_count 25 = .ok (.ifCond .eq 7, 3) := by decide +kernel
theorem dX10_count_28 : decode cX10_count 28 = .ok (.iconst 1, 1) := by decide +kernel
theorem dX10_count_29 : decode cX10_count 29 = .ok (.goto 4, 3) := by decide +kernel
theorem dX10_count_32 : decode cX10_count 32 = .ok (.iconst 0, 1) := by decide +kernel
theorem dX10_count_33 : decode cX10_count 33 = .ok (.iadd, 1) := by decide +kernel
theorem dX10_count_34 : decode cX10_count 34 = .ok (.istore_n 2, 1) := by decide +kernel
theorem dX10_count_35 : decode cX10_count 35 = .ok (.iload_n 3, 1) := by decide +kernel
theorem dX10_count_36 : decode cX10_count 36 = .ok (.aload_n 0, 1) := by decide +kernel
theorem dX10_count_37 : decode cX10_count 37 = .ok (.getfield 450, 3) := by decide +kernel
theorem dX10_count_40 : decode cX10_count 40 = .ok (.iload 4, 2) := by decide +kernel
theorem dX10_count_42 : decode cX10_count 42 = .ok (.aaload, 1) := by decide +kernel
theorem dX10_count_43 : decode cX10_count 43 = .ok (.getfield 202, 3) := by decide +kernel
theorem dX10_count_46 : decode cX10_count 46 = .ok (.iconst 3, 1) := by decide +kernel
theorem dX10_count_47 : decode cX10_count 47 = .ok (.if_icmp .ne 7, 3) := by decide +kernel
theorem dX10_count_50 : decode cX10_count 50 = .ok (.iconst 1, 1) := by decide +kernel
theorem dX10_count_51 : decode cX10_count 51 = .ok (.goto 4, 3) := by decide +kernel
theorem dX10_count_54 : decode cX10_count 54 = .ok (.iconst 0, 1) := by decide +kernel
theorem dX10_count_55 : decode cX10_count 55 = .ok (.iadd, 1) := by decide +kernel
theorem dX10_count_56 : decode cX10_count 56 = .ok (.istore_n 3, 1) := by decide +kernel
theorem dX10_count_57 : decode cX10_count 57 = .ok (.iinc 4 1, 3) := by decide +kernel
theorem dX10_count_60 : decode cX10_count 60 = .ok (.goto (-53), 3) := by decide +kernel
theorem dX10_count_63 : decode cX10_count 63 = .ok (.iload_n 1, 1) := by decide +kernel
theorem dX10_count_64 : decode cX10_count 64 = .ok (.tableswitch 64 0 5 #[40, 45, 50, 55, 60, 62], 40) := by decide +kernel
theorem dX10_count_104 : decode cX10_count 104 = .ok (.aload_n 0, 1) := by decide +kernel
theorem dX10_count_105 : decode cX10_count 105 = .ok (.getfield 336, 3) := by decide +kernel
theorem dX10_count_108 : decode cX10_count 108 = .ok (.ireturn, 1) := by decide +kernel
theorem dX10_count_109 : decode cX10_count 109 = .ok (.aload_n 0, 1) := by decide +kernel
theorem dX10_count_110 : decode cX10_count 110 = .ok (.getfield 597, 3) := by decide +kernel
theorem dX10_count_113 : decode cX10_count 113 = .ok (.ireturn, 1) := by decide +kernel
theorem dX10_count_114 : decode cX10_count 114 = .ok (.aload_n 0, 1) := by decide +kernel
theorem dX10_count_115 : decode cX10_count 115 = .ok (.getfield 607, 3) := by decide +kernel
theorem dX10_count_118 : decode cX10_count 118 = .ok (.ireturn, 1) := by decide +kernel
theorem dX10_count_119 : decode cX10_count 119 = .ok (.aload_n 0, 1) := by decide +kernel
theorem dX10_count_120 : decode cX10_count 120 = .ok (.getfield 610, 3) := by decide +kernel
theorem dX10_count_123 : decode cX10_count 123 = .ok (.ireturn, 1) := by decide +kernel
theorem dX10_count_124 : decode cX10_count 124 = .ok (.iload_n 2, 1) := by decide +kernel
theorem dX10_count_125 : decode cX10_count 125 = .ok (.ireturn, 1) := by decide +kernel
theorem dX10_count_126 : decode cX10_count 126 = .ok (.iload_n 3, 1) := by decide +kernel
theorem dX10_count_127 : decode cX10_count 127 = .ok (.ireturn, 1) := by decide +kernel
theorem dX10_count_128 : decode cX10_count 128 = .ok (.iconst (-1), 1) := by decide +kernel
theorem dX10_count_129 : decode cX10_count 129 = .ok (.ireturn, 1) := by decide +kernel
theorem dX10_quotient_0 : decode cX10_quotient 0 = .ok (.iload_n 1, 1) := by decide +kernel
theorem dX10_quotient_1 : decode cX10_quotient 1 = .ok (.invokestatic 551, 3) := by decide +kernel
theorem dX10_quotient_4 : decode cX10_quotient 4 = .ok (.ifCond .eq 10, 3) := by decide +kernel
theorem dX10_quotient_7 : decode cX10_quotient 7 = .ok (.iload_n 3, 1) := by decide +kernel
theorem dX10_quotient_8 : decode cX10_quotient 8 = .ok (.invokestatic 551, 3) := by decide +kernel
theorem dX10_quotient_11 : decode cX10_quotient 11 = .ok (.ifCond .ne 5, 3) := by decide +kernel
theorem dX10_quotient_14 : decode cX10_quotient 14 = .ok (.iconst (-1), 1) := by decide +kernel
theorem dX10_quotient_15 : decode cX10_quotient 15 = .ok (.ireturn, 1) := by decide +kernel
theorem dX10_quotient_16 : decode cX10_quotient 16 = .ok (.aload_n 0, 1) := by decide +kernel
theorem dX10_quotient_17 : decode cX10_quotient 17 = .ok (.getfield 450, 3) := by decide +kernel
theorem dX10_quotient_20 : decode cX10_quotient 20 = .ok (.iload_n 1, 1) := by decide +kernel
theorem dX10_quotient_21 : decode cX10_quotient 21 = .ok (.aaload, 1) := by decide +kernel
theorem dX10_quotient_22 : decode cX10_quotient 22 = .ok (.astore 4, 2) := by decide +kernel
theorem dX10_quotient_24 : decode cX10_quotient 24 = .ok (.aload 4, 2) := by decide +kernel
theorem dX10_quotient_26 : decode cX10_quotient 26 = .ok (.getfield 202, 3) := by decide +kernel
theorem dX10_quotient_29 : decode cX10_quotient 29 = .ok (.iconst 1, 1) := by decide +kernel
theorem dX10_quotient_30 : decode cX10_quotient 30 = .ok (.if_icmp .eq 15, 3) := by decide +kernel
theorem dX10_quotient_33 : decode cX10_quotient 33 = .ok (.aload 4, 2) := by decide +kernel
theorem dX10_quotient_35 : decode cX10_quotient 35 = .ok (.getfield 202, 3) := by decide +kernel
theorem dX10_quotient_38 : decode cX10_quotient 38 = .ok (.iconst 2, 1) := by decide +kernel
theorem dX10_quotient_39 : decode cX10_quotient 39 = .ok (.if_icmp .eq 6, 3) := by decide +kernel
theorem dX10_quotient_42 : decode cX10_quotient 42 = .ok (.bipush (-3), 2) := by decide +kernel
theorem dX10_quotient_44 : decode cX10_quotient 44 = .ok (.ireturn, 1) := by decide +kernel
theorem dX10_quotient_45 : decode cX10_quotient 45 = .ok (.iload_n 2, 1) := by decide +kernel
theorem dX10_quotient_46 : decode cX10_quotient 46 = .ok (.ifCond .lt 16, 3) := by decide +kernel
theorem dX10_quotient_49 : decode cX10_quotient 49 = .ok (.iload_n 2, 1) := by decide +kernel
theorem dX10_quotient_50 : decode cX10_quotient 50 = .ok (.iconst 1, 1) := by decide +kernel
theorem dX10_quotient_51 : decode cX10_quotient 51 = .ok (.if_icmp .gt 11, 3) := by decide +kernel
theorem dX10_quotient_54 : decode cX10_quotient 54 = .ok (.aload 4, 2) := by decide +kernel
theorem dX10_quotient_56 : decode cX10_quotient 56 = .ok (.invokestatic 288, 3) := by decide +kernel
theorem dX10_quotient_59 : decode cX10_quotient 59 = .ok (.ifCond .eq 5, 3) := by decide +kernel
theorem dX10_quotient_62 : decode cX10_quotient 62 = .ok (.iconst (-1), 1) := by decide +kernel
theorem dX10_quotient_63 : decode cX10_quotient 63 = .ok (.ireturn, 1) := by decide +kernel
theorem dX10_quotient_64 : decode cX10_quotient 64 = .ok (.aload_n 0, 1) := by decide +kernel
theorem dX10_quotient_65 : decode cX10_quotient 65 = .ok (.invokevirtual 555, 3) := by decide +kernel
theorem dX10_quotient_68 : decode cX10_quotient 68 = .ok (.aload_n 0, 1) := by decide +kernel
theorem dX10_quotient_69 : decode cX10_quotient 69 = .ok (.invokevirtual 140, 3) := by decide +kernel
theorem dX10_quotient_72 : decode cX10_quotient 72 = .ok (.astore 5, 2) := by decide +kernel
theorem dX10_quotient_74 : decode cX10_quotient 74 = .ok (.aload_n 0, 1) := by decide +kernel
theorem dX10_quotient_75 : decode cX10_quotient 75 = .ok (.invokevirtual 140, 3) := by decide +kernel
theorem dX10_quotient_78 : decode cX10_quotient 78 = .ok (.astore 6, 2) := by decide +kernel
theorem dX10_quotient_80 : decode cX10_quotient 80 = .ok (.aload_n 0, 1) := by decide +kernel
theorem dX10_quotient_81 : decode cX10_quotient 81 = .ok (.aload 5, 2) := by decide +kernel
theorem dX10_quotient_83 : decode cX10_quotient 83 = .ok (.aload 6, 2) := by decide +kernel
theorem dX10_quotient_85 : decode cX10_quotient 85 = .ok (.aload 4, 2) := by decide +kernel
theorem dX10_quotient_87 : decode cX10_quotient 87 = .ok (.iload_n 2, 1) := by decide +kernel
theorem dX10_quotient_88 : decode cX10_quotient 88 = .ok (.ifCond .ne 7, 3) := by decide +kernel
theorem dX10_quotient_91 : decode cX10_quotient 91 = .ok (.iconst 1, 1) := by decide +kernel
theorem dX10_quotient_92 : decode cX10_quotient 92 = .ok (.goto 4, 3) := by decide +kernel
theorem dX10_quotient_95 : decode cX10_quotient 95 = .ok (.iconst 0, 1) := by decide +kernel
theorem dX10_quotient_96 : decode cX10_quotient 96 = .ok (.iload_n 2, 1) := by decide +kernel
theorem dX10_quotient_97 : decode cX10_quotient 97 = .ok (.invokevirtual 633, 3) := by decide +kernel
theorem dX10_quotient_100 : decode cX10_quotient 100 = .ok (.ifCond .ne 6, 3) := by decide +kernel
theorem dX10_quotient_103 : decode cX10_quotient 103 = .ok (.bipush (-2), 2) := by decide +kernel
theorem dX10_quotient_105 : decode cX10_quotient 105 = .ok (.ireturn, 1) := by decide +kernel
theorem dX10_quotient_106 : decode cX10_quotient 106 = .ok (.aload_n 0, 1) := by decide +kernel
theorem dX10_quotient_107 : decode cX10_quotient 107 = .ok (.getfield 453, 3) := by decide +kernel
theorem dX10_quotient_110 : decode cX10_quotient 110 = .ok (.invokestatic 257, 3) := by decide +kernel
theorem dX10_quotient_113 : decode cX10_quotient 113 = .ok (.aload_n 0, 1) := by decide +kernel
theorem dX10_quotient_114 : decode cX10_quotient 114 = .ok (.getfield 453, 3) := by decide +kernel
theorem dX10_quotient_117 : decode cX10_quotient 117 = .ok (.aload 5, 2) := by decide +kernel
theorem dX10_quotient_119 : decode cX10_quotient 119 = .ok (.aload 6, 2) := by decide +kernel
theorem dX10_quotient_121 : decode cX10_quotient 121 = .ok (.invokestatic 261, 3) := by decide +kernel
theorem dX10_quotient_124 : decode cX10_quotient 124 = .ok (.istore 7, 2) := by decide +kernel
theorem dX10_quotient_126 : decode cX10_quotient 126 = .ok (.aload_n 0, 1) := by decide +kernel
theorem dX10_quotient_127 : decode cX10_quotient 127 = .ok (.iload_n 3, 1) := by decide +kernel
theorem dX10_quotient_128 : decode cX10_quotient 128 = .ok (.invokevirtual 558, 3) := by decide +kernel
theorem dX10_quotient_131 : decode cX10_quotient 131 = .ok (.ireturn, 1) := by decide +kernel
theorem dX10_quotient_2_0 : decode cX10_quotient_2 0 = .ok (.aload_n 0, 1) := by decide +kernel
theorem dX10_quotient_2_1 : decode cX10_quotient_2 1 = .ok (.getfield 90, 3) := by decide +kernel
theorem dX10_quotient_2_4 : decode cX10_quotient_2 4 = .ok (.istore 6, 2) := by decide +kernel
theorem dX10_quotient_2_6 : decode cX10_quotient_2 6 = .ok (.aload_n 0, 1) := by decide +kernel
theorem dX10_quotient_2_7 : decode cX10_quotient_2 7 = .ok (.iconst 0, 1) := by decide +kernel
theorem dX10_quotient_2_8 : decode cX10_quotient_2 8 = .ok (.putfield 616, 3) := by decide +kernel
theorem dX10_quotient_2_11 : decode cX10_quotient_2 11 = .ok (.aload_n 0, 1) := by decide +kernel
theorem dX10_quotient_2_12 : decode cX10_quotient_2 12 = .ok (.aload_n 3, 1) := by decide +kernel
theorem dX10_quotient_2_13 : decode cX10_quotient_2 13 = .ok (.getfield 213, 3) := by decide +kernel
theorem dX10_quotient_2_16 : decode cX10_quotient_2 16 = .ok (.iload 4, 2) := by decide +kernel
theorem dX10_quotient_2_18 : decode cX10_quotient_2 18 = .ok (.i2l, 1) := by decide +kernel
theorem dX10_quotient_2_19 : decode cX10_quotient_2 19 = .ok (.invokestatic 8, 3) := by decide +kernel
theorem dX10_quotient_2_22 : decode cX10_quotient_2 22 = .ok (.aload_n 3, 1) := by decide +kernel
theorem dX10_quotient_2_23 : decode cX10_quotient_2 23 = .ok (.getfield 216, 3) := by decide +kernel
theorem dX10_quotient_2_26 : decode cX10_quotient_2 26 = .ok (.iload 5, 2) := by decide +kernel
theorem dX10_quotient_2_28 : decode cX10_quotient_2 28 = .ok (.i2l, 1) := by decide +kernel
theorem dX10_quotient_2_29 : decode cX10_quotient_2 29 = .ok (.invokestatic 8, 3) := by decide +kernel
theorem dX10_quotient_2_32 : decode cX10_quotient_2 32 = .ok (.invokestatic 56, 3) := by decide +kernel
theorem dX10_quotient_2_35 : decode cX10_quotient_2 35 = .ok (.putfield 613, 3) := by decide +kernel
theorem dX10_quotient_2_38 : decode cX10_quotient_2 38 = .ok (.iconst 0, 1) := by decide +kernel
theorem dX10_quotient_2_39 : decode cX10_quotient_2 39 = .ok (.istore 7, 2) := by decide +kernel
theorem dX10_quotient_2_41 : decode cX10_quotient_2 41 = .ok (.iload 7, 2) := by decide +kernel
theorem dX10_quotient_2_43 : decode cX10_quotient_2 43 = .ok (.aload_n 3, 1) := by decide +kernel
theorem dX10_quotient_2_44 : decode cX10_quotient_2 44 = .ok (.getfield 219, 3) := by decide +kernel
theorem dX10_quotient_2_47 : decode cX10_quotient_2 47 = .ok (.if_icmp .ge 153, 3) := by decide +kernel
theorem dX10_quotient_2_50 : decode cX10_quotient_2 50 = .ok (.aload_n 3, 1) := by decide +kernel
theorem dX10_quotient_2_51 : decode cX10_quotient_2 51 = .ok (.getfield 222, 3) := by decide +kernel
theorem dX10_quotient_2_54 : decode cX10_quotient_2 54 = .ok (.iload 7, 2) := by decide +kernel
theorem dX10_quotient_2_56 : decode cX10_quotient_2 56 = .ok (.iaload, 1) := by decide +kernel
theorem dX10_quotient_2_57 : decode cX10_quotient_2 57 = .ok (.iload 4, 2) := by decide +kernel
theorem dX10_quotient_2_59 : decode cX10_quotient_2 59 = .ok (.imul, 1) := by decide +kernel
theorem dX10_quotient_2_60 : decode cX10_quotient_2 60 = .ok (.aload_n 3, 1) := by decide +kernel
theorem dX10_quotient_2_61 : decode cX10_quotient_2 61 = .ok (.getfield 225, 3) := by decide +kernel
theorem dX10_quotient_2_64 : decode cX10_quotient_2 64 = .ok (.iload 7, 2) := by decide +kernel
theorem dX10_quotient_2_66 : decode cX10_quotient_2 66 = .ok (.iaload, 1) := by decide +kernel
theorem dX10_quotient_2_67 : decode cX10_quotient_2 67 = .ok (.iload 5, 2) := by decide +kernel
theorem dX10_quotient_2_69 : decode cX10_quotient_2 69 = .ok (.imul, 1) := by decide +kernel
theorem dX10_quotient_2_70 : decode cX10_quotient_2 70 = .ok (.iadd, 1) := by decide +kernel
theorem dX10_quotient_2_71 : decode cX10_quotient_2 71 = .ok (.istore 8, 2) := by decide +kernel
theorem dX10_quotient_2_73 : decode cX10_quotient_2 73 = .ok (.iconst 1, 1) := by decide +kernel
theorem dX10_quotient_2_74 : decode cX10_quotient_2 74 = .ok (.istore 9, 2) := by decide +kernel
theorem dX10_quotient_2_76 : decode cX10_quotient_2 76 = .ok (.iload 9, 2) := by decide +kernel
theorem dX10_quotient_2_78 : decode cX10_quotient_2 78 = .ok (.iload 8, 2) := by decide +kernel
theorem dX10_quotient_2_80 : decode cX10_quotient_2 80 = .ok (.if_icmp .gt 53, 3) := by decide +kernel
theorem dX10_quotient_2_83 : decode cX10_quotient_2 83 = .ok (.aload_n 0, 1) := by decide +kernel
theorem dX10_quotient_2_84 : decode cX10_quotient_2 84 = .ok (.aload_n 3, 1) := by decide +kernel
theorem dX10_quotient_2_85 : decode cX10_quotient_2 85 = .ok (.getfield 222, 3) := by decide +kernel
theorem dX10_quotient_2_88 : decode cX10_quotient_2 88 = .ok (.iload 7, 2) := by decide +kernel
theorem dX10_quotient_2_90 : decode cX10_quotient_2 90 = .ok (.iaload, 1) := by decide +kernel
theorem dX10_quotient_2_91 : decode cX10_quotient_2 91 = .ok (.invokestatic 600, 3) := by decide +kernel
theorem dX10_quotient_2_94 : decode cX10_quotient_2 94 = .ok (.aload_n 3, 1) := by decide +kernel
theorem dX10_quotient_2_95 : decode cX10_quotient_2 95 = .ok (.getfield 225, 3) := by decide +kernel
theorem dX10_quotient_2_98 : decode cX10_quotient_2 98 = .ok (.iload 7, 2) := by decide +kernel
theorem dX10_quotient_2_100 : decode cX10_quotient_2 100 = .ok (.iaload, 1) := by decide +kernel
theorem dX10_quotient_2_101 : decode cX10_quotient_2 101 = .ok (.invokestatic 600, 3) := by decide +kernel
theorem dX10_quotient_2_104 : decode cX10_quotient_2 104 = .ok (.aload_n 3, 1) := by decide +kernel
theorem dX10_quotient_2_105 : decode cX10_quotient_2 105 = .ok (.getfield 228, 3) := by decide +kernel
theorem dX10_quotient_2_108 : decode cX10_quotient_2 108 = .ok (.iload 7, 2) := by decide +kernel
theorem dX10_quotient_2_110 : decode cX10_quotient_2 110 = .ok (.iaload, 1) := by decide +kernel
theorem dX10_quotient_2_111 : decode cX10_quotient_2 111 = .ok (.iload 9, 2) := by decide +kernel
theorem dX10_quotient_2_113 : decode cX10_quotient_2 113 = .ok (.iadd, 1) := by decide +kernel
theorem dX10_quotient_2_114 : decode cX10_quotient_2 114 = .ok (.invokestatic 600, 3) := by decide +kernel
theorem dX10_quotient_2_117 : decode cX10_quotient_2 117 = .ok (.aload_n 3, 1) := by decide +kernel
theorem dX10_quotient_2_118 : decode cX10_quotient_2 118 = .ok (.getfield 231, 3) := by decide +kernel
theorem dX10_quotient_2_121 : decode cX10_quotient_2 121 = .ok (.iload 7, 2) := by decide +kernel
theorem dX10_quotient_2_123 : decode cX10_quotient_2 123 = .ok (.iaload, 1) := by decide +kernel
theorem dX10_quotient_2_124 : decode cX10_quotient_2 124 = .ok (.invokevirtual 619, 3) := by decide +kernel
theorem dX10_quotient_2_127 : decode cX10_quotient_2 127 = .ok (.iinc 9 1, 3) := by decide +kernel
theorem dX10_quotient_2_130 : decode cX10_quotient_2 130 = .ok (.goto (-54), 3) := by decide +kernel
theorem dX10_quotient_2_133 : decode cX10_quotient_2 133 = .ok (.iconst 0, 1) := by decide +kernel
theorem dX10_quotient_2_134 : decode cX10_quotient_2 134 = .ok (.istore 9, 2) := by decide +kernel
theorem dX10_quotient_2_136 : decode cX10_quotient_2 136 = .ok (.iload 9, 2) := by decide +kernel
theorem dX10_quotient_2_138 : decode cX10_quotient_2 138 = .ok (.iload 8, 2) := by decide +kernel
theorem dX10_quotient_2_140 : decode cX10_quotient_2 140 = .ok (.if_icmp .le 54, 3) := by decide +kernel
theorem dX10_quotient_2_143 : decode cX10_quotient_2 143 = .ok (.aload_n 0, 1) := by decide +kernel
theorem dX10_quotient_2_144 : decode cX10_quotient_2 144 = .ok (.aload_n 3, 1) := by decide +kernel
theorem dX10_quotient_2_145 : decode cX10_quotient_2 145 = .ok (.getfield 222, 3) := by decide +kernel
theorem dX10_quotient_2_148 : decode cX10_quotient_2 148 = .ok (.iload 7, 2) := by decide +kernel
theorem dX10_quotient_2_150 : decode cX10_quotient_2 150 = .ok (.iaload, 1) := by decide +kernel
theorem dX10_quotient_2_151 : decode cX10_quotient_2 151 = .ok (.invokestatic 600, 3) := by decide +kernel
theorem dX10_quotient_2_154 : decode cX10_quotient_2 154 = .ok (.aload_n 3, 1) := by decide +kernel
theorem dX10_quotient_2_155 : decode cX10_quotient_2 155 = .ok (.getfield 225, 3) := by decide +kernel
theorem dX10_quotient_2_158 : decode cX10_quotient_2 158 = .ok (.iload 7, 2) := by decide +kernel
theorem dX10_quotient_2_160 : decode cX10_quotient_2 160 = .ok (.iaload, 1) := by decide +kernel
theorem dX10_quotient_2_161 : decode cX10_quotient_2 161 = .ok (.invokestatic 600, 3) := by decide +kernel
theorem dX10_quotient_2_164 : decode cX10_quotient_2 164 = .ok (.aload_n 3, 1) := by decide +kernel
theorem dX10_quotient_2_165 : decode cX10_quotient_2 165 = .ok (.getfield 228, 3) := by decide +kernel
theorem dX10_quotient_2_168 : decode cX10_quotient_2 168 = .ok (.iload 7, 2) := by decide +kernel
theorem dX10_quotient_2_170 : decode cX10_quotient_2 170 = .ok (.iaload, 1) := by decide +kernel
theorem dX10_quotient_2_171 : decode cX10_quotient_2 171 = .ok (.iload 9, 2) := by decide +kernel
theorem dX10_quotient_2_173 : decode cX10_quotient_2 173 = .ok (.iadd, 1) := by decide +kernel
theorem dX10_quotient_2_174 : decode cX10_quotient_2 174 = .ok (.invokestatic 600, 3) := by decide +kernel
theorem dX10_quotient_2_177 : decode cX10_quotient_2 177 = .ok (.aload_n 3, 1) := by decide +kernel
theorem dX10_quotient_2_178 : decode cX10_quotient_2 178 = .ok (.getfield 231, 3) := by decide +kernel
theorem dX10_quotient_2_181 : decode cX10_quotient_2 181 = .ok (.iload 7, 2) := by decide +kernel
theorem dX10_quotient_2_183 : decode cX10_quotient_2 183 = .ok (.iaload, 1) := by decide +kernel
theorem dX10_quotient_2_184 : decode cX10_quotient_2 184 = .ok (.ineg, 1) := by decide +kernel
theorem dX10_quotient_2_185 : decode cX10_quotient_2 185 = .ok (.invokevirtual 619, 3) := by decide +kernel
theorem dX10_quotient_2_188 : decode cX10_quotient_2 188 = .ok (.iinc 9 (-1), 3) := by decide +kernel
theorem dX10_quotient_2_191 : decode cX10_quotient_2 191 = .ok (.goto (-55), 3) := by decide +kernel
theorem dX10_quotient_2_194 : decode cX10_quotient_2 194 = .ok (.iinc 7 1, 3) := by decide +kernel
theorem dX10_quotient_2_197 : decode cX10_quotient_2 197 = .ok (.goto (-156), 3) := by decide +kernel
theorem dX10_quotient_2_200 : decode cX10_quotient_2 200 = .ok (.aload_n 0, 1) := by decide +kernel
theorem dX10_quotient_2_201 : decode cX10_quotient_2 201 = .ok (.invokevirtual 140, 3) := by decide +kernel
theorem dX10_quotient_2_204 : decode cX10_quotient_2 204 = .ok (.astore 7, 2) := by decide +kernel
theorem dX10_quotient_2_206 : decode cX10_quotient_2 206 = .ok (.aload_n 0, 1) := by decide +kernel
theorem dX10_quotient_2_207 : decode cX10_quotient_2 207 = .ok (.invokevirtual 140, 3) := by decide +kernel
theorem dX10_quotient_2_210 : decode cX10_quotient_2 210 = .ok (.astore 8, 2) := by decide +kernel
theorem dX10_quotient_2_212 : decode cX10_quotient_2 212 = .ok (.aload_n 0, 1) := by decide +kernel
theorem dX10_quotient_2_213 : decode cX10_quotient_2 213 = .ok (.invokevirtual 140, 3) := by decide +kernel
theorem dX10_quotient_2_216 : decode cX10_quotient_2 216 = .ok (.astore 9, 2) := by decide +kernel
theorem dX10_quotient_2_218 : decode cX10_quotient_2 218 = .ok (.aload_n 0, 1) := by decide +kernel
theorem dX10_quotient_2_219 : decode cX10_quotient_2 219 = .ok (.invokevirtual 140, 3) := by decide +kernel
theorem dX10_quotient_2_222 : decode cX10_quotient_2 222 = .ok (.astore 10, 2) := by decide +kernel
theorem dX10_quotient_2_224 : decode cX10_quotient_2 224 = .ok (.aload 7, 2) := by decide +kernel
theorem dX10_quotient_2_226 : decode cX10_quotient_2 226 = .ok (.aload_n 3, 1) := by decide +kernel
theorem dX10_quotient_2_227 : decode cX10_quotient_2 227 = .ok (.getfield 207, 3) := by decide +kernel
theorem dX10_quotient_2_230 : decode cX10_quotient_2 230 = .ok (.invokestatic 295, 3) := by decide +kernel
theorem dX10_quotient_2_233 : decode cX10_quotient_2 233 = .ok (.aload 8, 2) := by decide +kernel
theorem dX10_quotient_2_235 : decode cX10_quotient_2 235 = .ok (.aload_n 3, 1) := by decide +kernel
theorem dX10_quotient_2_236 : decode cX10_quotient_2 236 = .ok (.getfield 210, 3) := by decide +kernel
theorem dX10_quotient_2_239 : decode cX10_quotient_2 239 = .ok (.invokestatic 295, 3) := by decide +kernel
theorem dX10_quotient_2_242 : decode cX10_quotient_2 242 = .ok (.aload 9, 2) := by decide +kernel
theorem dX10_quotient_2_244 : decode cX10_quotient_2 244 = .ok (.aload 7, 2) := by decide +kernel
theorem dX10_quotient_2_246 : decode cX10_quotient_2 246 = .ok (.iload 4, 2) := by decide +kernel
theorem dX10_quotient_2_248 : decode cX10_quotient_2 248 = .ok (.invokestatic 623, 3) := by decide +kernel
theorem dX10_quotient_2_251 : decode cX10_quotient_2 251 = .ok (.aload 9, 2) := by decide +kernel
theorem dX10_quotient_2_253 : decode cX10_quotient_2 253 = .ok (.aload 9, 2) := by decide +kernel
theorem dX10_quotient_2_255 : decode cX10_quotient_2 255 = .ok (.iload 5, 2) := by decide +kernel
theorem dX10_quotient_2_257 : decode cX10_quotient_2 257 = .ok (.invokestatic 626, 3) := by decide +kernel
theorem dX10_quotient_2_260 : decode cX10_quotient_2 260 = .ok (.aload 10, 2) := by decide +kernel
theorem dX10_quotient_2_262 : decode cX10_quotient_2 262 = .ok (.aload 8, 2) := by decide +kernel
theorem dX10_quotient_2_264 : decode cX10_quotient_2 264 = .ok (.iload 4, 2) := by decide +kernel
theorem dX10_quotient_2_266 : decode cX10_quotient_2 266 = .ok (.invokestatic 623, 3) := by decide +kernel
theorem dX10_quotient_2_269 : decode cX10_quotient_2 269 = .ok (.aload 10, 2) := by decide +kernel
theorem dX10_quotient_2_271 : decode cX10_quotient_2 271 = .ok (.aload 10, 2) := by decide +kernel
theorem dX10_quotient_2_273 : decode cX10_quotient_2 273 = .ok (.iload 5, 2) := by decide +kernel
theorem dX10_quotient_2_275 : decode cX10_quotient_2 275 = .ok (.invokestatic 626, 3) := by decide +kernel
theorem dX10_quotient_2_278 : decode cX10_quotient_2 278 = .ok (.aload_n 0, 1) := by decide +kernel
theorem dX10_quotient_2_279 : decode cX10_quotient_2 279 = .ok (.aload_n 1, 1) := by decide +kernel
theorem dX10_quotient_2_280 : decode cX10_quotient_2 280 = .ok (.aload_n 2, 1) := by decide +kernel
theorem dX10_quotient_2_281 : decode cX10_quotient_2 281 = .ok (.aload 9, 2) := by decide +kernel
theorem dX10_quotient_2_283 : decode cX10_quotient_2 283 = .ok (.aload 10, 2) := by decide +kernel
theorem dX10_quotient_2_285 : decode cX10_quotient_2 285 = .ok (.aload 8, 2) := by decide +kernel
theorem dX10_quotient_2_287 : decode cX10_quotient_2 287 = .ok (.aload 7, 2) := by decide +kernel
theorem dX10_quotient_2_289 : decode cX10_quotient_2 289 = .ok (.invokevirtual 299, 3) := by decide +kernel
theorem dX10_quotient_2_292 : decode cX10_quotient_2 292 = .ok (.iconst 1, 1) := by decide +kernel
theorem dX10_quotient_2_293 : decode cX10_quotient_2 293 = .ok (.istore 11, 2) := by decide +kernel
theorem dX10_quotient_2_295 : decode cX10_quotient_2 295 = .ok (.iconst 0, 1) := by decide +kernel
theorem dX10_quotient_2_296 : decode cX10_quotient_2 296 = .ok (.istore 12, 2) := by decide +kernel
theorem dX10_quotient_2_298 : decode cX10_quotient_2 298 = .ok (.iload 12, 2) := by decide +kernel
theorem dX10_quotient_2_300 : decode cX10_quotient_2 300 = .ok (.aload_n 0, 1) := by decide +kernel
theorem dX10_quotient_2_301 : decode cX10_quotient_2 301 = .ok (.getfield 616, 3) := by decide +kernel
theorem dX10_quotient_2_304 : decode cX10_quotient_2 304 = .ok (.if_icmp .ge 24, 3) := by decide +kernel
theorem dX10_quotient_2_307 : decode cX10_quotient_2 307 = .ok (.iload 11, 2) := by decide +kernel
theorem dX10_quotient_2_309 : decode cX10_quotient_2 309 = .ok (.ifCond .eq 19, 3) := by decide +kernel
theorem dX10_quotient_2_312 : decode cX10_quotient_2 312 = .ok (.aload_n 0, 1) := by decide +kernel
theorem dX10_quotient_2_313 : decode cX10_quotient_2 313 = .ok (.aload_n 1, 1) := by decide +kernel
theorem dX10_quotient_2_314 : decode cX10_quotient_2 314 = .ok (.aload_n 2, 1) := by decide +kernel
theorem dX10_quotient_2_315 : decode cX10_quotient_2 315 = .ok (.iload 12, 2) := by decide +kernel
theorem dX10_quotient_2_317 : decode cX10_quotient_2 317 = .ok (.invokevirtual 629, 3) := by decide +kernel
theorem dX10_quotient_2_320 : decode cX10_quotient_2 320 = .ok (.istore 11, 2) := by decide +kernel
theorem dX10_quotient_2_322 : decode cX10_quotient_2 322 = .ok (.iinc 12 1, 3) := by decide +kernel
theorem dX10_quotient_2_325 : decode cX10_quotient_2 325 = .ok (.goto (-27), 3) := by decide +kernel
theorem dX10_quotient_2_328 : decode cX10_quotient_2 328 = .ok (.iload 11, 2) := by decide +kernel
theorem dX10_quotient_2_330 : decode cX10_quotient_2 330 = .ok (.ifCond .eq 38, 3) := by decide +kernel
theorem dX10_quotient_2_333 : decode cX10_quotient_2 333 = .ok (.aload_n 1, 1) := by decide +kernel
theorem dX10_quotient_2_334 : decode cX10_quotient_2 334 = .ok (.aload_n 1, 1) := by decide +kernel
theorem dX10_quotient_2_335 : decode cX10_quotient_2 335 = .ok (.aload_n 0, 1) := by decide +kernel
theorem dX10_quotient_2_336 : decode cX10_quotient_2 336 = .ok (.getfield 613, 3) := by decide +kernel
theorem dX10_quotient_2_339 : decode cX10_quotient_2 339 = .ok (.invokestatic 182, 3) := by decide +kernel
theorem dX10_quotient_2_342 : decode cX10_quotient_2 342 = .ok (.aload_n 1, 1) := by decide +kernel
theorem dX10_quotient_2_343 : decode cX10_quotient_2 343 = .ok (.aload_n 2, 1) := by decide +kernel
theorem dX10_quotient_2_344 : decode cX10_quotient_2 344 = .ok (.invokestatic 191, 3) := by decide +kernel
theorem dX10_quotient_2_347 : decode cX10_quotient_2 347 = .ok (.aload_n 1, 1) := by decide +kernel
theorem dX10_quotient_2_348 : decode cX10_quotient_2 348 = .ok (.invokestatic 249, 3) := by decide +kernel
theorem dX10_quotient_2_351 : decode cX10_quotient_2 351 = .ok (.ifCond .eq 14, 3) := by decide +kernel
theorem dX10_quotient_2_354 : decode cX10_quotient_2 354 = .ok (.aload_n 2, 1) := by decide +kernel
theorem dX10_quotient_2_355 : decode cX10_quotient_2 355 = .ok (.invokestatic 249, 3) := by decide +kernel
theorem dX10_quotient_2_358 : decode cX10_quotient_2 358 = .ok (.ifCond .eq 7, 3) := by decide +kernel
theorem dX10_quotient_2_361 : decode cX10_quotient_2 361 = .ok (.iconst 1, 1) := by decide +kernel
theorem dX10_quotient_2_362 : decode cX10_quotient_2 362 = .ok (.goto 4, 3) := by decide +kernel
theorem dX10_quotient_2_365 : decode cX10_quotient_2 365 = .ok (.iconst 0, 1) := by decide +kernel
theorem dX10_quotient_2_366 : decode cX10_quotient_2 366 = .ok (.istore 11, 2) := by decide +kernel
theorem dX10_quotient_2_368 : decode cX10_quotient_2 368 = .ok (.aload_n 0, 1) := by decide +kernel
theorem dX10_quotient_2_369 : decode cX10_quotient_2 369 = .ok (.iload 6, 2) := by decide +kernel
theorem dX10_quotient_2_371 : decode cX10_quotient_2 371 = .ok (.putfield 90, 3) := by decide +kernel
theorem dX10_quotient_2_374 : decode cX10_quotient_2 374 = .ok (.iload 11, 2) := by decide +kernel
theorem dX10_quotient_2_376 : decode cX10_quotient_2 376 = .ok (.ireturn, 1) := by decide +kernel
theorem dX10_lineFactor_0 : decode cX10_lineFactor 0 = .ok (.iload_n 2, 1) := by decide +kernel
theorem dX10_lineFactor_1 : decode cX10_lineFactor 1 = .ok (.ifCond .eq 7, 3) := by decide +kernel
theorem dX10_lineFactor_4 : decode cX10_lineFactor 4 = .ok (.iload_n 2, 1) := by decide +kernel
theorem dX10_lineFactor_5 : decode cX10_lineFactor 5 = .ok (.goto 4, 3) := by decide +kernel
theorem dX10_lineFactor_8 : decode cX10_lineFactor 8 = .ok (.iload_n 1, 1) := by decide +kernel
theorem dX10_lineFactor_9 : decode cX10_lineFactor 9 = .ok (.istore 5, 2) := by decide +kernel
theorem dX10_lineFactor_11 : decode cX10_lineFactor 11 = .ok (.iload 5, 2) := by decide +kernel
theorem dX10_lineFactor_13 : decode cX10_lineFactor 13 = .ok (.ifCond .ne 21, 3) := by decide +kernel
theorem dX10_lineFactor_16 : decode cX10_lineFactor 16 = .ok (.aload_n 0, 1) := by decide +kernel
theorem dX10_lineFactor_17 : decode cX10_lineFactor 17 = .ok (.aload_n 0, 1) := by decide +kernel
theorem dX10_lineFactor_18 : decode cX10_lineFactor 18 = .ok (.getfield 613, 3) := by decide +kernel
theorem dX10_lineFactor_21 : decode cX10_lineFactor 21 = .ok (.iload_n 3, 1) := by decide +kernel
theorem dX10_lineFactor_22 : decode cX10_lineFactor 22 = .ok (.iload 4, 2) := by decide +kernel
theorem dX10_lineFactor_24 : decode cX10_lineFactor 24 = .ok (.invokestatic 317, 3) := by decide +kernel
theorem dX10_lineFactor_27 : decode cX10_lineFactor 27 = .ok (.invokestatic 56, 3) := by decide +kernel
theorem dX10_lineFactor_30 : decode cX10_lineFactor 30 = .ok (.putfield 613, 3) := by decide +kernel
theorem dX10_lineFactor_33 : decode cX10_lineFactor 33 = .ok (.return_, 1) := by decide +kernel
theorem dX10_lineFactor_34 : decode cX10_lineFactor 34 = .ok (.iload 5, 2) := by decide +kernel
theorem dX10_lineFactor_36 : decode cX10_lineFactor 36 = .ok (.invokestatic 13, 3) := by decide +kernel
theorem dX10_lineFactor_39 : decode cX10_lineFactor 39 = .ok (.istore 6, 2) := by decide +kernel
theorem dX10_lineFactor_41 : decode cX10_lineFactor 41 = .ok (.aload_n 0, 1) := by decide +kernel
theorem dX10_lineFactor_42 : decode cX10_lineFactor 42 = .ok (.aload_n 0, 1) := by decide +kernel
theorem dX10_lineFactor_43 : decode cX10_lineFactor 43 = .ok (.getfield 613, 3) := by decide +kernel
theorem dX10_lineFactor_46 : decode cX10_lineFactor 46 = .ok (.iload 5, 2) := by decide +kernel
theorem dX10_lineFactor_48 : decode cX10_lineFactor 48 = .ok (.iload 4, 2) := by decide +kernel
theorem dX10_lineFactor_50 : decode cX10_lineFactor 50 = .ok (.invokestatic 317, 3) := by decide +kernel
theorem dX10_lineFactor_53 : decode cX10_lineFactor 53 = .ok (.invokestatic 56, 3) := by decide +kernel
theorem dX10_lineFactor_56 : decode cX10_lineFactor 56 = .ok (.putfield 613, 3) := by decide +kernel
theorem dX10_lineFactor_59 : decode cX10_lineFactor 59 = .ok (.iload_n 1, 1) := by decide +kernel
theorem dX10_lineFactor_60 : decode cX10_lineFactor 60 = .ok (.iload 6, 2) := by decide +kernel
theorem dX10_lineFactor_62 : decode cX10_lineFactor 62 = .ok (.invokestatic 56, 3) := by decide +kernel
theorem dX10_lineFactor_65 : decode cX10_lineFactor 65 = .ok (.istore 7, 2) := by decide +kernel
theorem dX10_lineFactor_67 : decode cX10_lineFactor 67 = .ok (.iload_n 2, 1) := by decide +kernel
theorem dX10_lineFactor_68 : decode cX10_lineFactor 68 = .ok (.iload 6, 2) := by decide +kernel
theorem dX10_lineFactor_70 : decode cX10_lineFactor 70 = .ok (.invokestatic 56, 3) := by decide +kernel
theorem dX10_lineFactor_73 : decode cX10_lineFactor 73 = .ok (.istore 8, 2) := by decide +kernel
theorem dX10_lineFactor_75 : decode cX10_lineFactor 75 = .ok (.iload_n 3, 1) := by decide +kernel
theorem dX10_lineFactor_76 : decode cX10_lineFactor 76 = .ok (.iload 6, 2) := by decide +kernel
theorem dX10_lineFactor_78 : decode cX10_lineFactor 78 = .ok (.invokestatic 56, 3) := by decide +kernel
theorem dX10_lineFactor_81 : decode cX10_lineFactor 81 = .ok (.istore 9, 2) := by decide +kernel
theorem dX10_lineFactor_83 : decode cX10_lineFactor 83 = .ok (.iconst 0, 1) := by decide +kernel
theorem dX10_lineFactor_84 : decode cX10_lineFactor 84 = .ok (.istore 10, 2) := by decide +kernel
theorem dX10_lineFactor_86 : decode cX10_lineFactor 86 = .ok (.iload 10, 2) := by decide +kernel
theorem dX10_lineFactor_88 : decode cX10_lineFactor 88 = .ok (.aload_n 0, 1) := by decide +kernel
theorem dX10_lineFactor_89 : decode cX10_lineFactor 89 = .ok (.getfield 616, 3) := by decide +kernel
theorem dX10_lineFactor_92 : decode cX10_lineFactor 92 = .ok (.if_icmp .ge 45, 3) := by decide +kernel
theorem dX10_lineFactor_95 : decode cX10_lineFactor 95 = .ok (.aload_n 0, 1) := by decide +kernel
theorem dX10_lineFactor_96 : decode cX10_lineFactor 96 = .ok (.getfield 471, 3) := by decide +kernel
theorem dX10_lineFactor_99 : decode cX10_lineFactor 99 = .ok (.iload 10, 2) := by decide +kernel
theorem dX10_lineFactor_101 : decode cX10_lineFactor 101 = .ok (.iaload, 1) := by decide +kernel
theorem dX10_lineFactor_102 : decode cX10_lineFactor 102 = .ok (.iload 7, 2) := by decide +kernel
theorem dX10_lineFactor_104 : decode cX10_lineFactor 104 = .ok (.if_icmp .ne 27, 3) := by decide +kernel
theorem dX10_lineFactor_107 : decode cX10_lineFactor 107 = .ok (.aload_n 0, 1) := by decide +kernel
theorem dX10_lineFactor_108 : decode cX10_lineFactor 108 = .ok (.getfield 474, 3) := by decide +kernel
theorem dX10_lineFactor_111 : decode cX10_lineFactor 111 = .ok (.iload 10, 2) := by decide +kernel
theorem dX10_lineFactor_113 : decode cX10_lineFactor 113 = .ok (.iaload, 1) := by decide +kernel
theorem dX10_lineFactor_114 : decode cX10_lineFactor 114 = .ok (.iload 8, 2) := by decide +kernel
theorem dX10_lineFactor_116 : decode cX10_lineFactor 116 = .ok (.if_icmp .ne 15, 3) := by decide +kernel
theorem dX10_lineFactor_119 : decode cX10_lineFactor 119 = .ok (.aload_n 0, 1) := by decide +kernel
theorem dX10_lineFactor_120 : decode cX10_lineFactor 120 = .ok (.getfield 477, 3) := by decide +kernel
theorem dX10_lineFactor_123 : decode cX10_lineFactor 123 = .ok (.iload 10, 2) := by decide +kernel
theorem dX10_lineFactor_125 : decode cX10_lineFactor 125 = .ok (.iaload, 1) := by decide +kernel
theorem dX10_lineFactor_126 : decode cX10_lineFactor 126 = .ok (.iload 9, 2) := by decide +kernel
theorem dX10_lineFactor_128 : decode cX10_lineFactor 128 = .ok (.if_icmp .eq 9, 3) := by decide +kernel
theorem dX10_lineFactor_131 : decode cX10_lineFactor 131 = .ok (.iinc 10 1, 3) := by decide +kernel
theorem dX10_lineFactor_134 : decode cX10_lineFactor 134 = .ok (.goto (-48), 3) := by decide +kernel
theorem dX10_lineFactor_137 : decode cX10_lineFactor 137 = .ok (.iload 10, 2) := by decide +kernel
theorem dX10_lineFactor_139 : decode cX10_lineFactor 139 = .ok (.aload_n 0, 1) := by decide +kernel
theorem dX10_lineFactor_140 : decode cX10_lineFactor 140 = .ok (.getfield 616, 3) := by decide +kernel
theorem dX10_lineFactor_143 : decode cX10_lineFactor 143 = .ok (.if_icmp .ne 48, 3) := by decide +kernel
theorem dX10_lineFactor_146 : decode cX10_lineFactor 146 = .ok (.aload_n 0, 1) := by decide +kernel
theorem dX10_lineFactor_147 : decode cX10_lineFactor 147 = .ok (.getfield 471, 3) := by decide +kernel
theorem dX10_lineFactor_150 : decode cX10_lineFactor 150 = .ok (.iload 10, 2) := by decide +kernel
theorem dX10_lineFactor_152 : decode cX10_lineFactor 152 = .ok (.iload 7, 2) := by decide +kernel
theorem dX10_lineFactor_154 : decode cX10_lineFactor 154 = .ok (.iastore, 1) := by decide +kernel
theorem dX10_lineFactor_155 : decode cX10_lineFactor 155 = .ok (.aload_n 0, 1) := by decide +kernel
theorem dX10_lineFactor_156 : decode cX10_lineFactor 156 = .ok (.getfield 474, 3) := by decide +kernel
theorem dX10_lineFactor_159 : decode cX10_lineFactor 159 = .ok (.iload 10, 2) := by decide +kernel
theorem dX10_lineFactor_161 : decode cX10_lineFactor 161 = .ok (.iload 8, 2) := by decide +kernel
theorem dX10_lineFactor_163 : decode cX10_lineFactor 163 = .ok (.iastore, 1) := by decide +kernel
theorem dX10_lineFactor_164 : decode cX10_lineFactor 164 = .ok (.aload_n 0, 1) := by decide +kernel
theorem dX10_lineFactor_165 : decode cX10_lineFactor 165 = .ok (.getfield 477, 3) := by decide +kernel
theorem dX10_lineFactor_168 : decode cX10_lineFactor 168 = .ok (.iload 10, 2) := by decide +kernel
theorem dX10_lineFactor_170 : decode cX10_lineFactor 170 = .ok (.iload 9, 2) := by decide +kernel
theorem dX10_lineFactor_172 : decode cX10_lineFactor 172 = .ok (.iastore, 1) := by decide +kernel
theorem dX10_lineFactor_173 : decode cX10_lineFactor 173 = .ok (.aload_n 0, 1) := by decide +kernel
theorem dX10_lineFactor_174 : decode cX10_lineFactor 174 = .ok (.getfield 480, 3) := by decide +kernel
theorem dX10_lineFactor_177 : decode cX10_lineFactor 177 = .ok (.iload 10, 2) := by decide +kernel
theorem dX10_lineFactor_179 : decode cX10_lineFactor 179 = .ok (.iconst 0, 1) := by decide +kernel
theorem dX10_lineFactor_180 : decode cX10_lineFactor 180 = .ok (.iastore, 1) := by decide +kernel
theorem dX10_lineFactor_181 : decode cX10_lineFactor 181 = .ok (.aload_n 0, 1) := by decide +kernel
theorem dX10_lineFactor_182 : decode cX10_lineFactor 182 = .ok (.dup, 1) := by decide +kernel
theorem dX10_lineFactor_183 : decode cX10_lineFactor 183 = .ok (.getfield 616, 3) := by decide +kernel
theorem dX10_lineFactor_186 : decode cX10_lineFactor 186 = .ok (.iconst 1, 1) := by decide +kernel
theorem dX10_lineFactor_187 : decode cX10_lineFactor 187 = .ok (.iadd, 1) := by decide +kernel
theorem dX10_lineFactor_188 : decode cX10_lineFactor 188 = .ok (.putfield 616, 3) := by decide +kernel
theorem dX10_lineFactor_191 : decode cX10_lineFactor 191 = .ok (.aload_n 0, 1) := by decide +kernel
theorem dX10_lineFactor_192 : decode cX10_lineFactor 192 = .ok (.getfield 480, 3) := by decide +kernel
theorem dX10_lineFactor_195 : decode cX10_lineFactor 195 = .ok (.iload 10, 2) := by decide +kernel
theorem dX10_lineFactor_197 : decode cX10_lineFactor 197 = .ok (.dup2, 1) := by decide +kernel
theorem dX10_lineFactor_198 : decode cX10_lineFactor 198 = .ok (.iaload, 1) := by decide +kernel
theorem dX10_lineFactor_199 : decode cX10_lineFactor 199 = .ok (.iload 4, 2) := by decide +kernel
theorem dX10_lineFactor_201 : decode cX10_lineFactor 201 = .ok (.iadd, 1) := by decide +kernel
theorem dX10_lineFactor_202 : decode cX10_lineFactor 202 = .ok (.iastore, 1) := by decide +kernel
theorem dX10_lineFactor_203 : decode cX10_lineFactor 203 = .ok (.return_, 1) := by decide +kernel
theorem dX10_shiftN_0 : decode cX10_shiftN 0 = .ok (.iconst 0, 1) := by decide +kernel
theorem dX10_shiftN_1 : decode cX10_shiftN 1 = .ok (.istore_n 3, 1) := by decide +kernel
theorem dX10_shiftN_2 : decode cX10_shiftN 2 = .ok (.iload_n 3, 1) := by decide +kernel
theorem dX10_shiftN_3 : decode cX10_shiftN 3 = .ok (.aload_n 1, 1) := by decide +kernel
theorem dX10_shiftN_4 : decode cX10_shiftN 4 = .ok (.getfield 93, 3) := by decide +kernel
theorem dX10_shiftN_7 : decode cX10_shiftN 7 = .ok (.if_icmp .ge 25, 3) := by decide +kernel
theorem dX10_shiftN_10 : decode cX10_shiftN 10 = .ok (.aload_n 0, 1) := by decide +kernel
theorem dX10_shiftN_11 : decode cX10_shiftN 11 = .ok (.getfield 98, 3) := by decide +kernel
theorem dX10_shiftN_14 : decode cX10_shiftN 14 = .ok (.iload_n 3, 1) := by decide +kernel
theorem dX10_shiftN_15 : decode cX10_shiftN 15 = .ok (.aaload, 1) := by decide +kernel
theorem dX10_shiftN_16 : decode cX10_shiftN 16 = .ok (.aload_n 1, 1) := by decide +kernel
theorem dX10_shiftN_17 : decode cX10_shiftN 17 = .ok (.getfield 98, 3) := by decide +kernel
theorem dX10_shiftN_20 : decode cX10_shiftN 20 = .ok (.iload_n 3, 1) := by decide +kernel
theorem dX10_shiftN_21 : decode cX10_shiftN 21 = .ok (.aaload, 1) := by decide +kernel
theorem dX10_shiftN_22 : decode cX10_shiftN 22 = .ok (.iload_n 2, 1) := by decide +kernel
theorem dX10_shiftN_23 : decode cX10_shiftN 23 = .ok (.invokestatic 116, 3) := by decide +kernel
theorem dX10_shiftN_26 : decode cX10_shiftN 26 = .ok (.iinc 3 1, 3) := by decide +kernel
theorem dX10_shiftN_29 : decode cX10_shiftN 29 = .ok (.goto (-27), 3) := by decide +kernel
theorem dX10_shiftN_32 : decode cX10_shiftN 32 = .ok (.aload_n 0, 1) := by decide +kernel
theorem dX10_shiftN_33 : decode cX10_shiftN 33 = .ok (.aload_n 1, 1) := by decide +kernel
theorem dX10_shiftN_34 : decode cX10_shiftN 34 = .ok (.getfield 93, 3) := by decide +kernel
theorem dX10_shiftN_37 : decode cX10_shiftN 37 = .ok (.putfield 93, 3) := by decide +kernel
theorem dX10_shiftN_40 : decode cX10_shiftN 40 = .ok (.return_, 1) := by decide +kernel
theorem dX10_shift_0 : decode cX10_shift 0 = .ok (.aload_n 1, 1) := by decide +kernel
theorem dX10_shift_1 : decode cX10_shift 1 = .ok (.getfield 25, 3) := by decide +kernel
theorem dX10_shift_4 : decode cX10_shift 4 = .ok (.istore_n 3, 1) := by decide +kernel
theorem dX10_shift_5 : decode cX10_shift 5 = .ok (.aload_n 0, 1) := by decide +kernel
theorem dX10_shift_6 : decode cX10_shift 6 = .ok (.aload_n 1, 1) := by decide +kernel
theorem dX10_shift_7 : decode cX10_shift 7 = .ok (.if_acmp .eq 8, 3) := by decide +kernel
theorem dX10_shift_10 : decode cX10_shift 10 = .ok (.aload_n 0, 1) := by decide +kernel
theorem dX10_shift_11 : decode cX10_shift 11 = .ok (.aload_n 1, 1) := by decide +kernel
theorem dX10_shift_12 : decode cX10_shift 12 = .ok (.invokestatic 62, 3) := by decide +kernel
theorem dX10_shift_15 : decode cX10_shift 15 = .ok (.iconst 0, 1) := by decide +kernel
theorem dX10_shift_16 : decode cX10_shift 16 = .ok (.istore 4, 2) := by decide +kernel
theorem dX10_shift_18 : decode cX10_shift 18 = .ok (.iload 4, 2) := by decide +kernel
theorem dX10_shift_20 : decode cX10_shift 20 = .ok (.iload_n 3, 1) := by decide +kernel
theorem dX10_shift_21 : decode cX10_shift 21 = .ok (.iconst 1, 1) := by decide +kernel
theorem dX10_shift_22 : decode cX10_shift 22 = .ok (.isub, 1) := by decide +kernel
theorem dX10_shift_23 : decode cX10_shift 23 = .ok (.if_icmp .ge 57, 3) := by decide +kernel
theorem dX10_shift_26 : decode cX10_shift 26 = .ok (.iload_n 3, 1) := by decide +kernel
theorem dX10_shift_27 : decode cX10_shift 27 = .ok (.iconst 2, 1) := by decide +kernel
theorem dX10_shift_28 : decode cX10_shift 28 = .ok (.isub, 1) := by decide +kernel
theorem dX10_shift_29 : decode cX10_shift 29 = .ok (.istore 5, 2) := by decide +kernel
theorem dX10_shift_31 : decode cX10_shift 31 = .ok (.iload 5, 2) := by decide +kernel
theorem dX10_shift_33 : decode cX10_shift 33 = .ok (.iload 4, 2) := by decide +kernel
theorem dX10_shift_35 : decode cX10_shift 35 = .ok (.if_icmp .lt 39, 3) := by decide +kernel
theorem dX10_shift_38 : decode cX10_shift 38 = .ok (.aload_n 0, 1) := by decide +kernel
theorem dX10_shift_39 : decode cX10_shift 39 = .ok (.getfield 30, 3) := by decide +kernel
theorem dX10_shift_42 : decode cX10_shift 42 = .ok (.iload 5, 2) := by decide +kernel
theorem dX10_shift_44 : decode cX10_shift 44 = .ok (.aload_n 0, 1) := by decide +kernel
theorem dX10_shift_45 : decode cX10_shift 45 = .ok (.getfield 30, 3) := by decide +kernel
theorem dX10_shift_48 : decode cX10_shift 48 = .ok (.iload 5, 2) := by decide +kernel
theorem dX10_shift_50 : decode cX10_shift 50 = .ok (.iaload, 1) := by decide +kernel
theorem dX10_shift_51 : decode cX10_shift 51 = .ok (.iload_n 2, 1) := by decide +kernel
theorem dX10_shift_52 : decode cX10_shift 52 = .ok (.aload_n 0, 1) := by decide +kernel
theorem dX10_shift_53 : decode cX10_shift 53 = .ok (.getfield 30, 3) := by decide +kernel
theorem dX10_shift_56 : decode cX10_shift 56 = .ok (.iload 5, 2) := by decide +kernel
theorem dX10_shift_58 : decode cX10_shift 58 = .ok (.iconst 1, 1) := by decide +kernel
theorem dX10_shift_59 : decode cX10_shift 59 = .ok (.iadd, 1) := by decide +kernel
theorem dX10_shift_60 : decode cX10_shift 60 = .ok (.iaload, 1) := by decide +kernel
theorem dX10_shift_61 : decode cX10_shift 61 = .ok (.invokestatic 56, 3) := by decide +kernel
theorem dX10_shift_64 : decode cX10_shift 64 = .ok (.invokestatic 49, 3) := by decide +kernel
theorem dX10_shift_67 : decode cX10_shift 67 = .ok (.iastore, 1) := by decide +kernel
theorem dX10_shift_68 : decode cX10_shift 68 = .ok (.iinc 5 (-1), 3) := by decide +kernel
theorem dX10_shift_71 : decode cX10_shift 71 = .ok (.goto (-40), 3) := by decide +kernel
theorem dX10_shift_74 : decode cX10_shift 74 = .ok (.iinc 4 1, 3) := by decide +kernel
theorem dX10_shift_77 : decode cX10_shift 77 = .ok (.goto (-59), 3) := by decide +kernel
theorem dX10_shift_80 : decode cX10_shift 80 = .ok (.return_, 1) := by decide +kernel
theorem dX10_shiftK_0 : decode cX10_shiftK 0 = .ok (.aload_n 0, 1) := by decide +kernel
theorem dX10_shiftK_1 : decode cX10_shiftK 1 = .ok (.aload_n 1, 1) := by decide +kernel
theorem dX10_shiftK_2 : decode cX10_shiftK 2 = .ok (.if_acmp .eq 8, 3) := by decide +kernel
theorem dX10_shiftK_5 : decode cX10_shiftK 5 = .ok (.aload_n 0, 1) := by decide +kernel
theorem dX10_shiftK_6 : decode cX10_shiftK 6 = .ok (.aload_n 1, 1) := by decide +kernel
theorem dX10_shiftK_7 : decode cX10_shiftK 7 = .ok (.invokestatic 113, 3) := by decide +kernel
theorem dX10_shiftK_10 : decode cX10_shiftK 10 = .ok (.aload_n 0, 1) := by decide +kernel
theorem dX10_shiftK_11 : decode cX10_shiftK 11 = .ok (.getfield 93, 3) := by decide +kernel
theorem dX10_shiftK_14 : decode cX10_shiftK 14 = .ok (.istore_n 3, 1) := by decide +kernel
theorem dX10_shiftK_15 : decode cX10_shiftK 15 = .ok (.iconst 0, 1) := by decide +kernel
theorem dX10_shiftK_16 : decode cX10_shiftK 16 = .ok (.istore 4, 2) := by decide +kernel
theorem dX10_shiftK_18 : decode cX10_shiftK 18 = .ok (.iload 4, 2) := by decide +kernel
theorem dX10_shiftK_20 : decode cX10_shiftK 20 = .ok (.iload_n 3, 1) := by decide +kernel
theorem dX10_shiftK_21 : decode cX10_shiftK 21 = .ok (.iconst 1, 1) := by decide +kernel
theorem dX10_shiftK_22 : decode cX10_shiftK 22 = .ok (.isub, 1) := by decide +kernel
theorem dX10_shiftK_23 : decode cX10_shiftK 23 = .ok (.if_icmp .ge 152, 3) := by decide +kernel
theorem dX10_shiftK_26 : decode cX10_shiftK 26 = .ok (.iload_n 3, 1) := by decide +kernel
theorem dX10_shiftK_27 : decode cX10_shiftK 27 = .ok (.iconst 2, 1) := by decide +kernel
theorem dX10_shiftK_28 : decode cX10_shiftK 28 = .ok (.isub, 1) := by decide +kernel
theorem dX10_shiftK_29 : decode cX10_shiftK 29 = .ok (.istore 5, 2) := by decide +kernel
theorem dX10_shiftK_31 : decode cX10_shiftK 31 = .ok (.iload 5, 2) := by decide +kernel
theorem dX10_shiftK_33 : decode cX10_shiftK 33 = .ok (.iload 4, 2) := by decide +kernel
theorem dX10_shiftK_35 : decode cX10_shiftK 35 = .ok (.if_icmp .lt 134, 3) := by decide +kernel
theorem dX10_shiftK_38 : decode cX10_shiftK 38 = .ok (.aload_n 0, 1) := by decide +kernel
theorem dX10_shiftK_39 : decode cX10_shiftK 39 = .ok (.getfield 98, 3) := by decide +kernel
theorem dX10_shiftK_42 : decode cX10_shiftK 42 = .ok (.iload 5, 2) := by decide +kernel
theorem dX10_shiftK_44 : decode cX10_shiftK 44 = .ok (.aaload, 1) := by decide +kernel
theorem dX10_shiftK_45 : decode cX10_shiftK 45 = .ok (.astore 6, 2) := by decide +kernel
theorem dX10_shiftK_47 : decode cX10_shiftK 47 = .ok (.aload_n 0, 1) := by decide +kernel
theorem dX10_shiftK_48 : decode cX10_shiftK 48 = .ok (.getfield 98, 3) := by decide +kernel
theorem dX10_shiftK_51 : decode cX10_shiftK 51 = .ok (.iload 5, 2) := by decide +kernel
theorem dX10_shiftK_53 : decode cX10_shiftK 53 = .ok (.iconst 1, 1) := by decide +kernel
theorem dX10_shiftK_54 : decode cX10_shiftK 54 = .ok (.iadd, 1) := by decide +kernel
theorem dX10_shiftK_55 : decode cX10_shiftK 55 = .ok (.aaload, 1) := by decide +kernel
theorem dX10_shiftK_56 : decode cX10_shiftK 56 = .ok (.astore 7, 2) := by decide +kernel
theorem dX10_shiftK_58 : decode cX10_shiftK 58 = .ok (.aload 6, 2) := by decide +kernel
theorem dX10_shiftK_60 : decode cX10_shiftK 60 = .ok (.getfield 25, 3) := by decide +kernel
theorem dX10_shiftK_63 : decode cX10_shiftK 63 = .ok (.istore 8, 2) := by decide +kernel
theorem dX10_shiftK_65 : decode cX10_shiftK 65 = .ok (.iload 8, 2) := by decide +kernel
theorem dX10_shiftK_67 : decode cX10_shiftK 67 = .ok (.aload 7, 2) := by decide +kernel
theorem dX10_shiftK_69 : decode cX10_shiftK 69 = .ok (.getfield 25, 3) := by decide +kernel
theorem dX10_shiftK_72 : decode cX10_shiftK 72 = .ok (.if_icmp .ge 18, 3) := by decide +kernel
theorem dX10_shiftK_75 : decode cX10_shiftK 75 = .ok (.aload 6, 2) := by decide +kernel
theorem dX10_shiftK_77 : decode cX10_shiftK 77 = .ok (.getfield 30, 3) := by decide +kernel
theorem dX10_shiftK_80 : decode cX10_shiftK 80 = .ok (.iload 8, 2) := by decide +kernel
theorem dX10_shiftK_82 : decode cX10_shiftK 82 = .ok (.iconst 0, 1) := by decide +kernel
theorem dX10_shiftK_83 : decode cX10_shiftK 83 = .ok (.iastore, 1) := by decide +kernel
theorem dX10_shiftK_84 : decode cX10_shiftK 84 = .ok (.iinc 8 1, 3) := by decide +kernel
theorem dX10_shiftK_87 : decode cX10_shiftK 87 = .ok (.goto (-22), 3) := by decide +kernel
theorem dX10_shiftK_90 : decode cX10_shiftK 90 = .ok (.aload 6, 2) := by decide +kernel
theorem dX10_shiftK_92 : decode cX10_shiftK 92 = .ok (.aload 6, 2) := by decide +kernel
theorem dX10_shiftK_94 : decode cX10_shiftK 94 = .ok (.getfield 25, 3) := by decide +kernel
theorem dX10_shiftK_97 : decode cX10_shiftK 97 = .ok (.aload 7, 2) := by decide +kernel
theorem dX10_shiftK_99 : decode cX10_shiftK 99 = .ok (.getfield 25, 3) := by decide +kernel
theorem dX10_shiftK_102 : decode cX10_shiftK 102 = .ok (.invokestatic 40, 3) := by decide +kernel
theorem dX10_shiftK_105 : decode cX10_shiftK 105 = .ok (.putfield 25, 3) := by decide +kernel
theorem dX10_shiftK_108 : decode cX10_shiftK 108 = .ok (.iconst 0, 1) := by decide +kernel
theorem dX10_shiftK_109 : decode cX10_shiftK 109 = .ok (.istore 8, 2) := by decide +kernel
theorem dX10_shiftK_111 : decode cX10_shiftK 111 = .ok (.iload 8, 2) := by decide +kernel
theorem dX10_shiftK_113 : decode cX10_shiftK 113 = .ok (.aload 7, 2) := by decide +kernel
theorem dX10_shiftK_115 : decode cX10_shiftK 115 = .ok (.getfield 25, 3) := by decide +kernel
theorem dX10_shiftK_118 : decode cX10_shiftK 118 = .ok (.if_icmp .ge 40, 3) := by decide +kernel
theorem dX10_shiftK_121 : decode cX10_shiftK 121 = .ok (.aload 6, 2) := by decide +kernel
theorem dX10_shiftK_123 : decode cX10_shiftK 123 = .ok (.getfield 30, 3) := by decide +kernel
theorem dX10_shiftK_126 : decode cX10_shiftK 126 = .ok (.iload 8, 2) := by decide +kernel
theorem dX10_shiftK_128 : decode cX10_shiftK 128 = .ok (.aload 6, 2) := by decide +kernel
theorem dX10_shiftK_130 : decode cX10_shiftK 130 = .ok (.getfield 30, 3) := by decide +kernel
theorem dX10_shiftK_133 : decode cX10_shiftK 133 = .ok (.iload 8, 2) := by decide +kernel
theorem dX10_shiftK_135 : decode cX10_shiftK 135 = .ok (.iaload, 1) := by decide +kernel
theorem dX10_shiftK_136 : decode cX10_shiftK 136 = .ok (.iload_n 2, 1) := by decide +kernel
theorem dX10_shiftK_137 : decode cX10_shiftK 137 = .ok (.aload 7, 2) := by decide +kernel
theorem dX10_shiftK_139 : decode cX10_shiftK 139 = .ok (.getfield 30, 3) := by decide +kernel
theorem dX10_shiftK_142 : decode cX10_shiftK 142 = .ok (.iload 8, 2) := by decide +kernel
theorem dX10_shiftK_144 : decode cX10_shiftK 144 = .ok (.iaload, 1) := by decide +kernel
theorem dX10_shiftK_145 : decode cX10_shiftK 145 = .ok (.invokestatic 56, 3) := by decide +kernel
theorem dX10_shiftK_148 : decode cX10_shiftK 148 = .ok (.invokestatic 49, 3) := by decide +kernel
theorem dX10_shiftK_151 : decode cX10_shiftK 151 = .ok (.iastore, 1) := by decide +kernel
theorem dX10_shiftK_152 : decode cX10_shiftK 152 = .ok (.iinc 8 1, 3) := by decide +kernel
theorem dX10_shiftK_155 : decode cX10_shiftK 155 = .ok (.goto (-44), 3) := by decide +kernel
theorem dX10_shiftK_158 : decode cX10_shiftK 158 = .ok (.aload 6, 2) := by decide +kernel
theorem dX10_shiftK_160 : decode cX10_shiftK 160 = .ok (.invokevirtual 52, 3) := by decide +kernel
theorem dX10_shiftK_163 : decode cX10_shiftK 163 = .ok (.iinc 5 (-1), 3) := by decide +kernel
theorem dX10_shiftK_166 : decode cX10_shiftK 166 = .ok (.goto (-135), 3) := by decide +kernel
theorem dX10_shiftK_169 : decode cX10_shiftK 169 = .ok (.iinc 4 1, 3) := by decide +kernel
theorem dX10_shiftK_172 : decode cX10_shiftK 172 = .ok (.goto (-154), 3) := by decide +kernel
theorem dX10_shiftK_175 : decode cX10_shiftK 175 = .ok (.return_, 1) := by decide +kernel
abbrev W_X10_atN (g : GX) (d : Nat) (av : List Value) (Q : QT) (n : Nat) (pc : Nat) (ls : LV) (stk : List Value) (h : Hp) : Prop := RJ g m_X10_atN (d + 1) 0 0 av Q pc ls stk n h 0 0
theorem s_X10_atN_0 {g : GX} {d : Nat} {av : List Value} {Q : QT} {n : Nat} {h : Hp} {a0 : Nat} {a1 : Nat} {x2 : Int32} (hp : g.2.2.2.2 = true) (t0 : lay a0 = (0, 13, 2)) (t1 : lay a1 = (0, 14, 2)) (H : W_X10_atN g d av Q n 2 [some (.ref a0), some (.ref a1), some (.int x2), some (.int (0 : Int32))] [] h) : W_X10_atN g d av Q n 0 [some (.ref a0), some (.ref a1), some (.int x2), none] [] h := by
  refine r_iconst (v := (0 : Int32)) dX10_atN_0 rfl ?_
  refine r_istore_n (ls2 := [some (.ref a0), some (.ref a1), some (.int x2), some (.int (0 : Int32))]) dX10_atN_1 rfl (by decide) rfl ?_
  exact H
theorem s_X10_atN_2 {g : GX} {d : Nat} {av : List Value} {Q : QT} {n : Nat} {h : Hp} {a0 : Nat} {a1 : Nat} {x2 : Int32} {x3 : Int32} (hp : g.2.2.2.2 = true) (t0 : lay a0 = (0, 13, 2)) (t1 : lay a1 = (0, 14, 2)) (H : (((ri h a1 1) ≤ x3) → (∀ h1, h1 = wi h a0 1 (ri h a1 1) → (CallV g m_X13_trim d [.ref a0] n h1 (fun h2 => (Q none n h2))))) ∧ ((¬ (ri h a1 1) ≤ x3) → (vp_in x3 64 ∧ ∀ r3, r3 = (a1 + 2) + 2 * (x3).toNatClampNeg → (CallI g m_X10_eval d [.ref r3, .int x2] n h (fun v4 h4 => (vp_in x3 (rm (a0 + 1)) ∧ ∀ h5, h5 = wi h4 (a0 + 1) (x3).toNatClampNeg v4 → (W_X10_atN g d av Q n 2 [some (.ref a0), some (.ref a1), some (.int x2), some (.int (x3 + (1 : Int32)))] [] h5))))))) : W_X10_atN g d av Q n 2 [some (.ref a0), some (.ref a1), some (.int x2), some (.int x3)] [] h := by
  refine r_iload_n dX10_atN_2 rfl rfl ?_
  refine r_aload_n dX10_atN_3 rfl rfl ?_
  refine m_getI hp fw_X10_93 dX10_atN_4 rfl t1 ?_
  refine r_icmp_ge (tgt := 32) dX10_atN_7 rfl (fun cH => ?_) (fun cH => ?_)
  · replace H := H.1 cH
    refine r_aload_n dX10_atN_32 rfl rfl ?_
    refine r_aload_n dX10_atN_33 rfl rfl ?_
    refine m_getI hp fw_X10_93 dX10_atN_34 rfl t1 ?_
    refine m_putI hp fw_X10_25 dX10_atN_37 rfl rfl t0 (fun h1 eh1 => ?_)
    replace H := H h1 eh1
    refine r_aload_n dX10_atN_40 rfl rfl ?_
    refine k_VV (As := []) (stk := []) hp cv_X10_52 dX10_atN_41 rfl (Nat.le_of_ble_eq_true rfl) t0 (H.mono (fun h2 H => ?_)) ⟨Nat.le_refl _, Nat.le_refl _⟩
    exact r_vret dX10_atN_44 rfl (Nat.le_refl _) (Nat.le_refl _) H
  · replace H := H.2 cH
    refine r_aload_n dX10_atN_10 rfl rfl ?_
    refine m_getF (x := (a0 + 1)) hp fw_X10_30 dX10_atN_11 rfl t0 (ff_13_0 t0) ?_
    refine r_iload_n dX10_atN_14 rfl rfl ?_
    refine r_aload_n dX10_atN_15 rfl rfl ?_
    refine m_getF (x := (a1 + 1)) hp fw_X10_98 dX10_atN_16 rfl t1 (ff_14_0 t1) ?_
    refine r_iload_n dX10_atN_19 rfl rfl ?_
    obtain ⟨r3, er3⟩ : ∃ y, y = (a1 + 2) + 2 * (x3).toNatClampNeg := ⟨_, rfl⟩
    have hir3 := H.1
    replace H := H.2 r3 er3
    have tLr3 := le_14 t1 hir3 er3
    refine m_aalF (x := r3) hp dX10_atN_20 (lf_14_0 t1) rfl rfl (lu_14_0 t1) hir3 (fe_14 t1 hir3 er3) ?_
    refine r_iload_n dX10_atN_21 rfl rfl ?_
    refine k_SI (As := [.ref r3, .int x2]) (stk := [.int x3, .ref (a0 + 1)]) cs_X10_136 dX10_atN_22 rfl (Nat.le_of_ble_eq_true rfl) (H.mono (fun v4 h4 H => ?_)) ⟨Nat.le_refl _, Nat.le_refl _⟩
    refine m_iast hp dX10_atN_25 (lf_13_0 t0) H.1 (fun h5 eh5 => ?_)
    replace H := H.2 h5 eh5
    refine r_iinc (v := (x3 + (1 : Int32))) (ls2 := [some (.ref a0), some (.ref a1), some (.int x2), some (.int (x3 + (1 : Int32)))]) dX10_atN_26 rfl rfl (by decide) rfl ?_
    refine r_goto (tgt := 2) dX10_atN_29 rfl ?_
    exact H
abbrev W_X10_through (g : GX) (d : Nat) (av : List Value) (Q : QT) (n : Nat) (pc : Nat) (ls : LV) (stk : List Value) (h : Hp) : Prop := RJ g m_X10_through (d + 1) 0 0 av Q pc ls stk n h 0 0
theorem s_X10_through_0 {g : GX} {d : Nat} {av : List Value} {Q : QT} {n : Nat} {h : Hp} {a1 : Nat} {a2 : Nat} {L2 : Nat} {x3 : Int32} (hp : g.2.2.2.2 = true) (t1 : lay a1 = (0, 13, 2)) (t2 : lay a2 = (1, L2, 0)) (H : CallR g m_X10_newU d [.ref 2759] n h (fun v1 h1 => (lay v1 = (0, 13, 2) ∧ (CallR g m_X10_newU d [.ref 2759] n h1 (fun v2 h2 => (lay v2 = (0, 13, 2) ∧ (CallR g m_X10_newU d [.ref 2759] n h2 (fun v3 h3 => (lay v3 = (0, 13, 2) ∧ (CallV g m_X13_number d [.ref v1, .int (1 : Int32)] n h3 (fun h4 => (∀ h5, h5 = wi h4 a1 1 (0 : Int32) → (W_X10_through g d av Q n 38 [some (.ref 2759), some (.ref a1), some (.ref a2), some (.int x3), some (.int (ri h 2759 1)), some (.ref v1), some (.ref v2), some (.ref v3), some (.int (0 : Int32)), none] [] h5))))))))))))) : W_X10_through g d av Q n 0 [some (.ref 2759), some (.ref a1), some (.ref a2), some (.int x3), none, none, none, none, none, none] [] h := by
  refine r_aload_n dX10_through_0 rfl rfl ?_
  refine m_getI hp fw_X10_21 dX10_through_1 rfl ly_10 ?_
  refine r_istore (ls2 := [some (.ref 2759), some (.ref a1), some (.ref a2), some (.int x3), some (.int (ri h 2759 1)), none, none, none, none, none]) dX10_through_4 (by decide) rfl ?_
  refine r_aload_n dX10_through_6 rfl rfl ?_
  refine k_VR (As := []) (stk := []) hp cv_X10_74 dX10_through_7 rfl (Nat.le_of_ble_eq_true rfl) ly_10 (H.mono (fun v1 h1 H => ?_)) ⟨Nat.le_refl _, Nat.le_refl _⟩
  obtain ⟨tv1, H⟩ := H
  refine r_astore (ls2 := [some (.ref 2759), some (.ref a1), some (.ref a2), some (.int x3), some (.int (ri h 2759 1)), some (.ref v1), none, none, none, none]) dX10_through_10 (by decide) rfl ?_
  refine r_aload_n dX10_through_12 rfl rfl ?_
  refine k_VR (As := []) (stk := []) hp cv_X10_74 dX10_through_13 rfl (Nat.le_of_ble_eq_true rfl) ly_10 (H.mono (fun v2 h2 H => ?_)) ⟨Nat.le_refl _, Nat.le_refl _⟩
  obtain ⟨tv2, H⟩ := H
  refine r_astore (ls2 := [some (.ref 2759), some (.ref a1), some (.ref a2), some (.int x3), some (.int (ri h 2759 1)), some (.ref v1), some (.ref v2), none, none, none]) dX10_through_16 (by decide) rfl ?_
  refine r_aload_n dX10_through_18 rfl rfl ?_
  refine k_VR (As := []) (stk := []) hp cv_X10_74 dX10_through_19 rfl (Nat.le_of_ble_eq_true rfl) ly_10 (H.mono (fun v3 h3 H => ?_)) ⟨Nat.le_refl _, Nat.le_refl _⟩
  obtain ⟨tv3, H⟩ := H
  refine r_astore (ls2 := [some (.ref 2759), some (.ref a1), some (.ref a2), some (.int x3), some (.int (ri h 2759 1)), some (.ref v1), some (.ref v2), some (.ref v3), none, none]) dX10_through_22 (by decide) rfl ?_
  refine r_aload dX10_through_24 rfl ?_
  refine r_iconst (v := (1 : Int32)) dX10_through_26 rfl ?_
  refine k_VV (As := [.int (1 : Int32)]) (stk := []) hp cv_X10_147 dX10_through_27 rfl (Nat.le_of_ble_eq_true rfl) tv1 (H.mono (fun h4 H => ?_)) ⟨Nat.le_refl _, Nat.le_refl _⟩
  refine r_aload_n dX10_through_30 rfl rfl ?_
  refine r_iconst (v := (0 : Int32)) dX10_through_31 rfl ?_
  refine m_putI hp fw_X10_25 dX10_through_32 rfl rfl t1 (fun h5 eh5 => ?_)
  replace H := H h5 eh5
  refine r_iconst (v := (0 : Int32)) dX10_through_35 rfl ?_
  refine r_istore (ls2 := [some (.ref 2759), some (.ref a1), some (.ref a2), some (.int x3), some (.int (ri h 2759 1)), some (.ref v1), some (.ref v2), some (.ref v3), some (.int (0 : Int32)), none]) dX10_through_36 (by decide) rfl ?_
  exact H
theorem s_X10_through_38 {g : GX} {d : Nat} {av : List Value} {Q : QT} {n : Nat} {h : Hp} {a1 : Nat} {a2 : Nat} {L2 : Nat} {x3 : Int32} {x4 : Int32} {a5 : Nat} {a6 : Nat} {a7 : Nat} {x8 : Int32} (hp : g.2.2.2.2 = true) (t1 : lay a1 = (0, 13, 2)) (t2 : lay a2 = (1, L2, 0)) (t5 : lay a5 = (0, 13, 2)) (t6 : lay a6 = (0, 13, 2)) (t7 : lay a7 = (0, 13, 2)) (H : ((x3 ≤ x8) → (∀ h1, h1 = wi h 2759 1 x4 → (Q none n h1))) ∧ ((¬ x3 ≤ x8) → (vp_in x8 L2 ∧ (vp_in x8 700 ∧ (CallI g m_X10_eval d [.ref a1, .int (ri h 2762 (x8).toNatClampNeg)] n h (fun v2 h2 => (CallI g m_X10_sub d [.int (ri h a2 (x8).toNatClampNeg), .int v2] n h2 (fun v3 h3 => (vp_in x8 700 ∧ (CallI g m_X10_eval d [.ref a5, .int (ri h3 2762 (x8).toNatClampNeg)] n h3 (fun v4 h4 => (CallI g m_X10_inv d [.int v4] n h4 (fun v5 h5 => (CallI g m_X10_mul d [.int v3, .int v5] n h5 (fun v6 h6 => (CallV g m_X10_scale_2 d [.ref a6, .ref a5, .int v6] n h6 (fun h7 => (CallV g m_X10_plus d [.ref a1, .ref a1, .ref a6, .int (0 : Int32)] n h7 (fun h8 => (vp_in x8 700 ∧ (CallI g m_X10_sub d [.int (0 : Int32), .int (ri h8 2762 (x8).toNatClampNeg)] n h8 (fun v9 h9 => (vp_in (0 : Int32) (rm (a7 + 1)) ∧ ∀ h10, h10 = wi h9 (a7 + 1) ((0 : Int32)).toNatClampNeg v9 → (vp_in (1 : Int32) (rm (a7 + 1)) ∧ ∀ h11, h11 = wi h10 (a7 + 1) ((1 : Int32)).toNatClampNeg (1 : Int32) → (∀ h12, h12 = wi h11 a7 1 (2 : Int32) → (CallV g m_X10_times_2 d [.ref a6, .ref a5, .ref a7] n h12 (fun h13 => (CallV g m_X10_set_2 d [.ref a5, .ref a6] n h13 (fun h14 => (W_X10_through g d av Q n 38 [some (.ref 2759), some (.ref a1), some (.ref a2), some (.int x3), some (.int x4), some (.ref a5), some (.ref a6), some (.ref a7), some (.int (x8 + (1 : Int32))), none] [] h14)))))))))))))))))))))))))))))) : W_X10_through g d av Q n 38 [some (.ref 2759), some (.ref a1), some (.ref a2), some (.int x3), some (.int x4), some (.ref a5), some (.ref a6), some (.ref a7), some (.int x8), none] [] h := by
  refine r_iload dX10_through_38 rfl ?_
  refine r_iload_n dX10_through_40 rfl rfl ?_
  refine r_icmp_ge (tgt := 153) dX10_through_41 rfl (fun cH => ?_) (fun cH => ?_)
  · replace H := H.1 cH
    refine r_aload_n dX10_through_153 rfl rfl ?_
    refine r_iload dX10_through_154 rfl ?_
    refine m_putI hp fw_X10_21 dX10_through_156 rfl rfl ly_10 (fun h1 eh1 => ?_)
    replace H := H h1 eh1
    exact r_vret dX10_through_159 rfl (Nat.le_refl _) (Nat.le_refl _) H
  · replace H := H.2 cH
    refine r_aload_n dX10_through_44 rfl rfl ?_
    refine r_iload dX10_through_45 rfl ?_
    refine m_iald hp dX10_through_47 t2 H.1 ?_
    replace H := H.2
    refine r_aload_n dX10_through_48 rfl rfl ?_
    refine r_aload_n dX10_through_49 rfl rfl ?_
    refine m_getF (x := 2762) hp fw_X10_151 dX10_through_50 rfl ly_10 (ff_10_4 ly_10) ?_
    refine r_iload dX10_through_53 rfl ?_
    refine m_iald hp dX10_through_55 (lf_10_4 ly_10) H.1 ?_
    replace H := H.2
    refine k_SI (As := [.ref a1, .int (ri h 2762 (x8).toNatClampNeg)]) (stk := [.int (ri h a2 (x8).toNatClampNeg)]) cs_X10_136 dX10_through_56 rfl (Nat.le_of_ble_eq_true rfl) (H.mono (fun v2 h2 H => ?_)) ⟨Nat.le_refl _, Nat.le_refl _⟩
    refine k_SI (As := [.int (ri h a2 (x8).toNatClampNeg), .int v2]) (stk := []) cs_X10_46 dX10_through_59 rfl (Nat.le_of_ble_eq_true rfl) (H.mono (fun v3 h3 H => ?_)) ⟨Nat.le_refl _, Nat.le_refl _⟩
    refine r_istore (ls2 := [some (.ref 2759), some (.ref a1), some (.ref a2), some (.int x3), some (.int x4), some (.ref a5), some (.ref a6), some (.ref a7), some (.int x8), some (.int v3)]) dX10_through_62 (by decide) rfl ?_
    refine r_aload dX10_through_64 rfl ?_
    refine r_aload dX10_through_66 rfl ?_
    refine r_iload dX10_through_68 rfl ?_
    refine r_aload dX10_through_70 rfl ?_
    refine r_aload_n dX10_through_72 rfl rfl ?_
    refine m_getF (x := 2762) hp fw_X10_151 dX10_through_73 rfl ly_10 (ff_10_4 ly_10) ?_
    refine r_iload dX10_through_76 rfl ?_
    refine m_iald hp dX10_through_78 (lf_10_4 ly_10) H.1 ?_
    replace H := H.2
    refine k_SI (As := [.ref a5, .int (ri h3 2762 (x8).toNatClampNeg)]) (stk := [.int v3, .ref a5, .ref a6]) cs_X10_136 dX10_through_79 rfl (Nat.le_of_ble_eq_true rfl) (H.mono (fun v4 h4 H => ?_)) ⟨Nat.le_refl _, Nat.le_refl _⟩
    refine k_SI (As := [.int v4]) (stk := [.int v3, .ref a5, .ref a6]) cs_X10_13 dX10_through_82 rfl (Nat.le_of_ble_eq_true rfl) (H.mono (fun v5 h5 H => ?_)) ⟨Nat.le_refl _, Nat.le_refl _⟩
    refine k_SI (As := [.int v3, .int v5]) (stk := [.ref a5, .ref a6]) cs_X10_56 dX10_through_85 rfl (Nat.le_of_ble_eq_true rfl) (H.mono (fun v6 h6 H => ?_)) ⟨Nat.le_refl _, Nat.le_refl _⟩
    refine k_SV (As := [.ref a6, .ref a5, .int v6]) (stk := []) cs_X10_70 dX10_through_88 rfl (Nat.le_of_ble_eq_true rfl) (H.mono (fun h7 H => ?_)) ⟨Nat.le_refl _, Nat.le_refl _⟩
    refine r_aload_n dX10_through_91 rfl rfl ?_
    refine r_aload_n dX10_through_92 rfl rfl ?_
    refine r_aload dX10_through_93 rfl ?_
    refine r_iconst (v := (0 : Int32)) dX10_through_95 rfl ?_
    refine k_SV (As := [.ref a1, .ref a1, .ref a6, .int (0 : Int32)]) (stk := []) cs_X10_101 dX10_through_96 rfl (Nat.le_of_ble_eq_true rfl) (H.mono (fun h8 H => ?_)) ⟨Nat.le_refl _, Nat.le_refl _⟩
    refine r_aload dX10_through_99 rfl ?_
    refine m_getF (x := (a7 + 1)) hp fw_X10_30 dX10_through_101 rfl t7 (ff_13_0 t7) ?_
    refine r_iconst (v := (0 : Int32)) dX10_through_104 rfl ?_
    refine r_iconst (v := (0 : Int32)) dX10_through_105 rfl ?_
    refine r_aload_n dX10_through_106 rfl rfl ?_
    refine m_getF (x := 2762) hp fw_X10_151 dX10_through_107 rfl ly_10 (ff_10_4 ly_10) ?_
    refine r_iload dX10_through_110 rfl ?_
    refine m_iald hp dX10_through_112 (lf_10_4 ly_10) H.1 ?_
    replace H := H.2
    refine k_SI (As := [.int (0 : Int32), .int (ri h8 2762 (x8).toNatClampNeg)]) (stk := [.int (0 : Int32), .ref (a7 + 1)]) cs_X10_46 dX10_through_113 rfl (Nat.le_of_ble_eq_true rfl) (H.mono (fun v9 h9 H => ?_)) ⟨Nat.le_refl _, Nat.le_refl _⟩
    refine m_iast hp dX10_through_116 (lf_13_0 t7) H.1 (fun h10 eh10 => ?_)
    replace H := H.2 h10 eh10
    refine r_aload dX10_through_117 rfl ?_
    refine m_getF (x := (a7 + 1)) hp fw_X10_30 dX10_through_119 rfl t7 (ff_13_0 t7) ?_
    refine r_iconst (v := (1 : Int32)) dX10_through_122 rfl ?_
    refine r_iconst (v := (1 : Int32)) dX10_through_123 rfl ?_
    refine m_iast hp dX10_through_124 (lf_13_0 t7) H.1 (fun h11 eh11 => ?_)
    replace H := H.2 h11 eh11
    refine r_aload dX10_through_125 rfl ?_
    refine r_iconst (v := (2 : Int32)) dX10_through_127 rfl ?_
    refine m_putI hp fw_X10_25 dX10_through_128 rfl rfl t7 (fun h12 eh12 => ?_)
    replace H := H h12 eh12
    refine r_aload dX10_through_131 rfl ?_
    refine r_aload dX10_through_133 rfl ?_
    refine r_aload dX10_through_135 rfl ?_
    refine k_SV (As := [.ref a6, .ref a5, .ref a7]) (stk := []) cs_X10_106 dX10_through_137 rfl (Nat.le_of_ble_eq_true rfl) (H.mono (fun h13 H => ?_)) ⟨Nat.le_refl _, Nat.le_refl _⟩
    refine r_aload dX10_through_140 rfl ?_
    refine r_aload dX10_through_142 rfl ?_
    refine k_SV (As := [.ref a5, .ref a6]) (stk := []) cs_X10_62 dX10_through_144 rfl (Nat.le_of_ble_eq_true rfl) (H.mono (fun h14 H => ?_)) ⟨Nat.le_refl _, Nat.le_refl _⟩
    refine r_iinc (v := (x8 + (1 : Int32))) (ls2 := [some (.ref 2759), some (.ref a1), some (.ref a2), some (.int x3), some (.int x4), some (.ref a5), some (.ref a6), some (.ref a7), some (.int (x8 + (1 : Int32))), some (.int v3)]) dX10_through_147 rfl rfl (by decide) rfl ?_
    refine r_goto (tgt := 38) dX10_through_150 rfl ?_
    refine r_prune [true, true, true, true, true, true, true, true, true, false] (ls2 := [some (.ref 2759), some (.ref a1), some (.ref a2), some (.int x3), some (.int x4), some (.ref a5), some (.ref a6), some (.ref a7), some (.int (x8 + (1 : Int32))), none]) rfl ?_
    exact H
abbrev W_X10_divides (g : GX) (d : Nat) (av : List Value) (Q : QT) (n : Nat) (pc : Nat) (ls : LV) (stk : List Value) (h : Hp) : Prop := RJ g m_X10_divides (d + 1) 0 0 av Q pc ls stk n h 0 0
theorem s_X10_divides_0 {g : GX} {d : Nat} {av : List Value} {Q : QT} {n : Nat} {h : Hp} {a1 : Nat} {a2 : Nat} {a3 : Nat} (hp : g.2.2.2.2 = true) (t1 : lay a1 = (0, 14, 2)) (t2 : lay a2 = (0, 14, 2)) (t3 : lay a3 = (0, 14, 2)) (H : CallR g m_X10_newB d [.ref 2759] n h (fun v1 h1 => (lay v1 = (0, 14, 2) ∧ (CallR g m_X10_newU d [.ref 2759] n h1 (fun v2 h2 => (lay v2 = (0, 13, 2) ∧ (CallR g m_X10_newU d [.ref 2759] n h2 (fun v3 h3 => (lay v3 = (0, 13, 2) ∧ (CallR g m_X10_newU d [.ref 2759] n h3 (fun v4 h4 => (lay v4 = (0, 13, 2) ∧ (CallV g m_X10_set d [.ref v1, .ref a2] n h4 (fun h5 => (CallI g m_J3_max d [.int (0 : Int32), .int (((ri h5 a2 1) - (ri h5 a3 1)) + (1 : Int32))] n h5 (fun v6 h6 => (∀ h7, h7 = wi h6 a1 1 v6 → (W_X10_divides g d av Q n 64 [some (.ref 2759), some (.ref a1), some (.ref a2), some (.ref a3), some (.int (ri h 2759 3)), some (.int (ri h 2759 1)), some (.ref v1), some (.ref v2), some (.ref v3), some (.ref v4), some (.int (0 : Int32)), none, none] [] h7)))))))))))))))))) : W_X10_divides g d av Q n 0 [some (.ref 2759), some (.ref a1), some (.ref a2), some (.ref a3), none, none, none, none, none, none, none, none, none] [] h := by
  refine r_aload_n dX10_divides_0 rfl rfl ?_
  refine m_getI hp fw_X10_90 dX10_divides_1 rfl ly_10 ?_
  refine r_istore (ls2 := [some (.ref 2759), some (.ref a1), some (.ref a2), some (.ref a3), some (.int (ri h 2759 3)), none, none, none, none, none, none, none, none]) dX10_divides_4 (by decide) rfl ?_
  refine r_aload_n dX10_divides_6 rfl rfl ?_
  refine m_getI hp fw_X10_21 dX10_divides_7 rfl ly_10 ?_
  refine r_istore (ls2 := [some (.ref 2759), some (.ref a1), some (.ref a2), some (.ref a3), some (.int (ri h 2759 3)), some (.int (ri h 2759 1)), none, none, none, none, none, none, none]) dX10_divides_10 (by decide) rfl ?_
  refine r_aload_n dX10_divides_12 rfl rfl ?_
  refine k_VR (As := []) (stk := []) hp cv_X10_140 dX10_divides_13 rfl (Nat.le_of_ble_eq_true rfl) ly_10 (H.mono (fun v1 h1 H => ?_)) ⟨Nat.le_refl _, Nat.le_refl _⟩
  obtain ⟨tv1, H⟩ := H
  refine r_astore (ls2 := [some (.ref 2759), some (.ref a1), some (.ref a2), some (.ref a3), some (.int (ri h 2759 3)), some (.int (ri h 2759 1)), some (.ref v1), none, none, none, none, none, none]) dX10_divides_16 (by decide) rfl ?_
  refine r_aload_n dX10_divides_18 rfl rfl ?_
  refine k_VR (As := []) (stk := []) hp cv_X10_74 dX10_divides_19 rfl (Nat.le_of_ble_eq_true rfl) ly_10 (H.mono (fun v2 h2 H => ?_)) ⟨Nat.le_refl _, Nat.le_refl _⟩
  obtain ⟨tv2, H⟩ := H
  refine r_astore (ls2 := [some (.ref 2759), some (.ref a1), some (.ref a2), some (.ref a3), some (.int (ri h 2759 3)), some (.int (ri h 2759 1)), some (.ref v1), some (.ref v2), none, none, none, none, none]) dX10_divides_22 (by decide) rfl ?_
  refine r_aload_n dX10_divides_24 rfl rfl ?_
  refine k_VR (As := []) (stk := []) hp cv_X10_74 dX10_divides_25 rfl (Nat.le_of_ble_eq_true rfl) ly_10 (H.mono (fun v3 h3 H => ?_)) ⟨Nat.le_refl _, Nat.le_refl _⟩
  obtain ⟨tv3, H⟩ := H
  refine r_astore (ls2 := [some (.ref 2759), some (.ref a1), some (.ref a2), some (.ref a3), some (.int (ri h 2759 3)), some (.int (ri h 2759 1)), some (.ref v1), some (.ref v2), some (.ref v3), none, none, none, none]) dX10_divides_28 (by decide) rfl ?_
  refine r_aload_n dX10_divides_30 rfl rfl ?_
  refine k_VR (As := []) (stk := []) hp cv_X10_74 dX10_divides_31 rfl (Nat.le_of_ble_eq_true rfl) ly_10 (H.mono (fun v4 h4 H => ?_)) ⟨Nat.le_refl _, Nat.le_refl _⟩
  obtain ⟨tv4, H⟩ := H
  refine r_astore (ls2 := [some (.ref 2759), some (.ref a1), some (.ref a2), some (.ref a3), some (.int (ri h 2759 3)), some (.int (ri h 2759 1)), some (.ref v1), some (.ref v2), some (.ref v3), some (.ref v4), none, none, none]) dX10_divides_34 (by decide) rfl ?_
  refine r_aload dX10_divides_36 rfl ?_
  refine r_aload_n dX10_divides_38 rfl rfl ?_
  refine k_SV (As := [.ref v1, .ref a2]) (stk := []) cs_X10_113 dX10_divides_39 rfl (Nat.le_of_ble_eq_true rfl) (H.mono (fun h5 H => ?_)) ⟨Nat.le_refl _, Nat.le_refl _⟩
  refine r_aload_n dX10_divides_42 rfl rfl ?_
  refine r_iconst (v := (0 : Int32)) dX10_divides_43 rfl ?_
  refine r_aload_n dX10_divides_44 rfl rfl ?_
  refine m_getI hp fw_X10_93 dX10_divides_45 rfl t2 ?_
  refine r_aload_n dX10_divides_48 rfl rfl ?_
  refine m_getI hp fw_X10_93 dX10_divides_49 rfl t3 ?_
  refine r_isub dX10_divides_52 ?_
  refine r_iconst (v := (1 : Int32)) dX10_divides_53 rfl ?_
  refine r_iadd dX10_divides_54 ?_
  refine k_SI (As := [.int (0 : Int32), .int (((ri h5 a2 1) - (ri h5 a3 1)) + (1 : Int32))]) (stk := [.ref a1]) cs_X10_40 dX10_divides_55 rfl (Nat.le_of_ble_eq_true rfl) (H.mono (fun v6 h6 H => ?_)) ⟨Nat.le_refl _, Nat.le_refl _⟩
  refine m_putI hp fw_X10_93 dX10_divides_58 rfl rfl t1 (fun h7 eh7 => ?_)
  replace H := H h7 eh7
  refine r_iconst (v := (0 : Int32)) dX10_divides_61 rfl ?_
  refine r_istore (ls2 := [some (.ref 2759), some (.ref a1), some (.ref a2), some (.ref a3), some (.int (ri h 2759 3)), some (.int (ri h 2759 1)), some (.ref v1), some (.ref v2), some (.ref v3), some (.ref v4), some (.int (0 : Int32)), none, none]) dX10_divides_62 (by decide) rfl ?_
  exact H
theorem s_X10_divides_64 {g : GX} {d : Nat} {av : List Value} {Q : QT} {n : Nat} {h : Hp} {a1 : Nat} {a2 : Nat} {a3 : Nat} {x4 : Int32} {x5 : Int32} {a6 : Nat} {a7 : Nat} {a8 : Nat} {a9 : Nat} {x10 : Int32} (hp : g.2.2.2.2 = true) (t1 : lay a1 = (0, 14, 2)) (t2 : lay a2 = (0, 14, 2)) (t3 : lay a3 = (0, 14, 2)) (t6 : lay a6 = (0, 14, 2)) (t7 : lay a7 = (0, 13, 2)) (t8 : lay a8 = (0, 13, 2)) (t9 : lay a9 = (0, 13, 2)) (H : (((ri h a1 1) ≤ x10) → ((((ri h a2 1) = (0 : Int32)) → (W_X10_divides g d av Q n 108 [some (.ref 2759), some (.ref a1), none, some (.ref a3), some (.int x4), some (.int x5), some (.ref a6), some (.ref a7), some (.ref a8), some (.ref a9), none, none, none] [] h)) ∧ ((¬ (ri h a2 1) = (0 : Int32)) → ((((ri h a2 1) < (ri h a3 1)) → (W_X10_divides g d av Q n 113 [some (.ref 2759), some (.ref a1), none, some (.ref a3), some (.int x4), some (.int x5), some (.ref a6), some (.ref a7), some (.ref a8), some (.ref a9), none, none, none] [.int (0 : Int32)] h)) ∧ ((¬ (ri h a2 1) < (ri h a3 1)) → (W_X10_divides g d av Q n 108 [some (.ref 2759), some (.ref a1), none, some (.ref a3), some (.int x4), some (.int x5), some (.ref a6), some (.ref a7), some (.ref a8), some (.ref a9), none, none, none] [] h)))))) ∧ ((¬ (ri h a1 1) ≤ x10) → (vp_in x10 64 ∧ ∀ r1, r1 = (a1 + 2) + 2 * (x10).toNatClampNeg → (∀ h2, h2 = wi h r1 1 (0 : Int32) → (W_X10_divides g d av Q n 64 [some (.ref 2759), some (.ref a1), some (.ref a2), some (.ref a3), some (.int x4), some (.int x5), some (.ref a6), some (.ref a7), some (.ref a8), some (.ref a9), some (.int (x10 + (1 : Int32))), none, none] [] h2))))) : W_X10_divides g d av Q n 64 [some (.ref 2759), some (.ref a1), some (.ref a2), some (.ref a3), some (.int x4), some (.int x5), some (.ref a6), some (.ref a7), some (.ref a8), some (.ref a9), some (.int x10), none, none] [] h := by
  refine r_iload dX10_divides_64 rfl ?_
  refine r_aload_n dX10_divides_66 rfl rfl ?_
  refine m_getI hp fw_X10_93 dX10_divides_67 rfl t1 ?_
  refine r_icmp_ge (tgt := 90) dX10_divides_70 rfl (fun cH => ?_) (fun cH => ?_)
  · replace H := H.1 cH
    refine r_aload_n dX10_divides_90 rfl rfl ?_
    refine m_getI hp fw_X10_93 dX10_divides_91 rfl t2 ?_
    refine r_if_eq (tgt := 108) dX10_divides_94 rfl (fun cH => ?_) (fun cH => ?_)
    · replace H := H.1 cH
      refine r_prune [true, true, false, true, true, true, true, true, true, true, false, false, false] (ls2 := [some (.ref 2759), some (.ref a1), none, some (.ref a3), some (.int x4), some (.int x5), some (.ref a6), some (.ref a7), some (.ref a8), some (.ref a9), none, none, none]) rfl ?_
      exact H
    · replace H := H.2 cH
      refine r_aload_n dX10_divides_97 rfl rfl ?_
      refine m_getI hp fw_X10_93 dX10_divides_98 rfl t2 ?_
      refine r_aload_n dX10_divides_101 rfl rfl ?_
      refine m_getI hp fw_X10_93 dX10_divides_102 rfl t3 ?_
      refine r_icmp_lt (tgt := 112) dX10_divides_105 rfl (fun cH => ?_) (fun cH => ?_)
      · replace H := H.1 cH
        refine r_iconst (v := (0 : Int32)) dX10_divides_112 rfl ?_
        refine r_prune [true, true, false, true, true, true, true, true, true, true, false, false, false] (ls2 := [some (.ref 2759), some (.ref a1), none, some (.ref a3), some (.int x4), some (.int x5), some (.ref a6), some (.ref a7), some (.ref a8), some (.ref a9), none, none, none]) rfl ?_
        exact H
      · replace H := H.2 cH
        refine r_prune [true, true, false, true, true, true, true, true, true, true, false, false, false] (ls2 := [some (.ref 2759), some (.ref a1), none, some (.ref a3), some (.int x4), some (.int x5), some (.ref a6), some (.ref a7), some (.ref a8), some (.ref a9), none, none, none]) rfl ?_
        exact H
  · replace H := H.2 cH
    refine r_aload_n dX10_divides_73 rfl rfl ?_
    refine m_getF (x := (a1 + 1)) hp fw_X10_98 dX10_divides_74 rfl t1 (ff_14_0 t1) ?_
    refine r_iload dX10_divides_77 rfl ?_
    obtain ⟨r1, er1⟩ : ∃ y, y = (a1 + 2) + 2 * (x10).toNatClampNeg := ⟨_, rfl⟩
    have hir1 := H.1
    replace H := H.2 r1 er1
    have tLr1 := le_14 t1 hir1 er1
    refine m_aalF (x := r1) hp dX10_divides_79 (lf_14_0 t1) rfl rfl (lu_14_0 t1) hir1 (fe_14 t1 hir1 er1) ?_
    refine r_iconst (v := (0 : Int32)) dX10_divides_80 rfl ?_
    refine m_putI hp fw_X10_25 dX10_divides_81 rfl rfl tLr1 (fun h2 eh2 => ?_)
    replace H := H h2 eh2
    refine r_iinc (v := (x10 + (1 : Int32))) (ls2 := [some (.ref 2759), some (.ref a1), some (.ref a2), some (.ref a3), some (.int x4), some (.int x5), some (.ref a6), some (.ref a7), some (.ref a8), some (.ref a9), some (.int (x10 + (1 : Int32))), none, none]) dX10_divides_84 rfl rfl (by decide) rfl ?_
    refine r_goto (tgt := 64) dX10_divides_87 rfl ?_
    exact H
theorem s_X10_divides_108 {g : GX} {d : Nat} {av : List Value} {Q : QT} {n : Nat} {h : Hp} {a1 : Nat} {a3 : Nat} {x4 : Int32} {x5 : Int32} {a6 : Nat} {a7 : Nat} {a8 : Nat} {a9 : Nat} (hp : g.2.2.2.2 = true) (t1 : lay a1 = (0, 14, 2)) (t3 : lay a3 = (0, 14, 2)) (t6 : lay a6 = (0, 14, 2)) (t7 : lay a7 = (0, 13, 2)) (t8 : lay a8 = (0, 13, 2)) (t9 : lay a9 = (0, 13, 2)) (H : W_X10_divides g d av Q n 113 [some (.ref 2759), some (.ref a1), none, some (.ref a3), some (.int x4), some (.int x5), some (.ref a6), some (.ref a7), some (.ref a8), some (.ref a9), none, none, none] [.int (1 : Int32)] h) : W_X10_divides g d av Q n 108 [some (.ref 2759), some (.ref a1), none, some (.ref a3), some (.int x4), some (.int x5), some (.ref a6), some (.ref a7), some (.ref a8), some (.ref a9), none, none, none] [] h := by
  refine r_iconst (v := (1 : Int32)) dX10_divides_108 rfl ?_
  refine r_goto (tgt := 113) dX10_divides_109 rfl ?_
  exact H
theorem s_X10_divides_113 {g : GX} {d : Nat} {av : List Value} {Q : QT} {n : Nat} {h : Hp} {a1 : Nat} {a3 : Nat} {x4 : Int32} {x5 : Int32} {a6 : Nat} {a7 : Nat} {a8 : Nat} {a9 : Nat} {xs0 : Int32} (hp : g.2.2.2.2 = true) (t1 : lay a1 = (0, 14, 2)) (t3 : lay a3 = (0, 14, 2)) (t6 : lay a6 = (0, 14, 2)) (t7 : lay a7 = (0, 13, 2)) (t8 : lay a8 = (0, 13, 2)) (t9 : lay a9 = (0, 13, 2)) (H : W_X10_divides g d av Q n 115 [some (.ref 2759), some (.ref a1), none, some (.ref a3), some (.int x4), some (.int x5), some (.ref a6), some (.ref a7), some (.ref a8), some (.ref a9), some (.int xs0), none, none] [] h) : W_X10_divides g d av Q n 113 [some (.ref 2759), some (.ref a1), none, some (.ref a3), some (.int x4), some (.int x5), some (.ref a6), some (.ref a7), some (.ref a8), some (.ref a9), none, none, none] [.int xs0] h := by
  refine r_istore (ls2 := [some (.ref 2759), some (.ref a1), none, some (.ref a3), some (.int x4), some (.int x5), some (.ref a6), some (.ref a7), some (.ref a8), some (.ref a9), some (.int xs0), none, none]) dX10_divides_113 (by decide) rfl ?_
  exact H
theorem s_X10_divides_115 {g : GX} {d : Nat} {av : List Value} {Q : QT} {n : Nat} {h : Hp} {a1 : Nat} {a3 : Nat} {x4 : Int32} {x5 : Int32} {a6 : Nat} {a7 : Nat} {a8 : Nat} {a9 : Nat} {x10 : Int32} (hp : g.2.2.2.2 = true) (t1 : lay a1 = (0, 14, 2)) (t3 : lay a3 = (0, 14, 2)) (t6 : lay a6 = (0, 14, 2)) (t7 : lay a7 = (0, 13, 2)) (t8 : lay a8 = (0, 13, 2)) (t9 : lay a9 = (0, 13, 2)) (H : ((x10 = (0 : Int32)) → (W_X10_divides g d av Q n 294 [some (.ref 2759), some (.ref a1), none, none, some (.int x4), some (.int x5), some (.ref a6), none, none, none, some (.int x10), none, none] [] h)) ∧ ((¬ x10 = (0 : Int32)) → ((((ri h a6 1) < (ri h a3 1)) → (W_X10_divides g d av Q n 294 [some (.ref 2759), some (.ref a1), none, none, some (.int x4), some (.int x5), some (.ref a6), none, none, none, some (.int x10), none, none] [] h)) ∧ ((¬ (ri h a6 1) < (ri h a3 1)) → (CallR g m_X14_lead d [.ref a6] n h (fun v1 h1 => (lay v1 = (0, 13, 2) ∧ (CallR g m_X14_lead d [.ref a3] n h1 (fun v2 h2 => (lay v2 = (0, 13, 2) ∧ (CallV g m_X10_divide d [.ref a7, .ref a8, .ref v1, .ref v2] n h2 (fun h3 => (((¬ (ri h3 a8 1) = (0 : Int32)) → (W_X10_divides g d av Q n 170 [some (.ref 2759), some (.ref a1), none, some (.ref a3), some (.int x4), some (.int x5), some (.ref a6), some (.ref a7), some (.ref a8), some (.ref a9), none, none, none] [] h3)) ∧ (((ri h3 a8 1) = (0 : Int32)) → ((((100 : Int32) < (ri h3 a7 1)) → (W_X10_divides g d av Q n 170 [some (.ref 2759), some (.ref a1), none, some (.ref a3), some (.int x4), some (.int x5), some (.ref a6), some (.ref a7), some (.ref a8), some (.ref a9), none, none, none] [] h3)) ∧ ((¬ (100 : Int32) < (ri h3 a7 1)) → (W_X10_divides g d av Q n 171 [some (.ref 2759), some (.ref a1), none, some (.ref a3), some (.int x4), some (.int x5), some (.ref a6), some (.ref a7), some (.ref a8), some (.ref a9), none, none, none] [.int (1 : Int32)] h3))))))))))))))))) : W_X10_divides g d av Q n 115 [some (.ref 2759), some (.ref a1), none, some (.ref a3), some (.int x4), some (.int x5), some (.ref a6), some (.ref a7), some (.ref a8), some (.ref a9), some (.int x10), none, none] [] h := by
  refine r_iload dX10_divides_115 rfl ?_
  refine r_if_eq (tgt := 294) dX10_divides_117 rfl (fun cH => ?_) (fun cH => ?_)
  · replace H := H.1 cH
    refine r_prune [true, true, false, false, true, true, true, false, false, false, true, false, false] (ls2 := [some (.ref 2759), some (.ref a1), none, none, some (.int x4), some (.int x5), some (.ref a6), none, none, none, some (.int x10), none, none]) rfl ?_
    exact H
  · replace H := H.2 cH
    refine r_aload dX10_divides_120 rfl ?_
    refine m_getI hp fw_X10_93 dX10_divides_122 rfl t6 ?_
    refine r_aload_n dX10_divides_125 rfl rfl ?_
    refine m_getI hp fw_X10_93 dX10_divides_126 rfl t3 ?_
    refine r_icmp_lt (tgt := 294) dX10_divides_129 rfl (fun cH => ?_) (fun cH => ?_)
    · replace H := H.1 cH
      refine r_prune [true, true, false, false, true, true, true, false, false, false, true, false, false] (ls2 := [some (.ref 2759), some (.ref a1), none, none, some (.int x4), some (.int x5), some (.ref a6), none, none, none, some (.int x10), none, none]) rfl ?_
      exact H
    · replace H := H.2 cH
      refine r_aload dX10_divides_132 rfl ?_
      refine r_aload dX10_divides_134 rfl ?_
      refine r_aload dX10_divides_136 rfl ?_
      refine k_VR (As := []) (stk := [.ref a8, .ref a7]) hp cv_X10_144 dX10_divides_138 rfl (Nat.le_of_ble_eq_true rfl) t6 (H.mono (fun v1 h1 H => ?_)) ⟨Nat.le_refl _, Nat.le_refl _⟩
      obtain ⟨tv1, H⟩ := H
      refine r_aload_n dX10_divides_141 rfl rfl ?_
      refine k_VR (As := []) (stk := [.ref v1, .ref a8, .ref a7]) hp cv_X10_144 dX10_divides_142 rfl (Nat.le_of_ble_eq_true rfl) t3 (H.mono (fun v2 h2 H => ?_)) ⟨Nat.le_refl _, Nat.le_refl _⟩
      obtain ⟨tv2, H⟩ := H
      refine k_SV (As := [.ref a7, .ref a8, .ref v1, .ref v2]) (stk := []) cs_X10_78 dX10_divides_145 rfl (Nat.le_of_ble_eq_true rfl) (H.mono (fun h3 H => ?_)) ⟨Nat.le_refl _, Nat.le_refl _⟩
      refine r_aload dX10_divides_148 rfl ?_
      refine m_getI hp fw_X10_25 dX10_divides_150 rfl t8 ?_
      refine r_if_ne (tgt := 170) dX10_divides_153 rfl (fun cH => ?_) (fun cH => ?_)
      · replace H := H.1 cH
        refine r_prune [true, true, false, true, true, true, true, true, true, true, false, false, false] (ls2 := [some (.ref 2759), some (.ref a1), none, some (.ref a3), some (.int x4), some (.int x5), some (.ref a6), some (.ref a7), some (.ref a8), some (.ref a9), none, none, none]) rfl ?_
        exact H
      · replace H := H.2 cH
        refine r_aload dX10_divides_156 rfl ?_
        refine m_getI hp fw_X10_25 dX10_divides_158 rfl t7 ?_
        refine r_bipush (v := (100 : Int32)) dX10_divides_161 rfl ?_
        refine r_icmp_gt (tgt := 170) dX10_divides_163 rfl (fun cH => ?_) (fun cH => ?_)
        · replace H := H.1 cH
          refine r_prune [true, true, false, true, true, true, true, true, true, true, false, false, false] (ls2 := [some (.ref 2759), some (.ref a1), none, some (.ref a3), some (.int x4), some (.int x5), some (.ref a6), some (.ref a7), some (.ref a8), some (.ref a9), none, none, none]) rfl ?_
          exact H
        · replace H := H.2 cH
          refine r_iconst (v := (1 : Int32)) dX10_divides_166 rfl ?_
          refine r_goto (tgt := 171) dX10_divides_167 rfl ?_
          refine r_prune [true, true, false, true, true, true, true, true, true, true, false, false, false] (ls2 := [some (.ref 2759), some (.ref a1), none, some (.ref a3), some (.int x4), some (.int x5), some (.ref a6), some (.ref a7), some (.ref a8), some (.ref a9), none, none, none]) rfl ?_
          exact H
theorem s_X10_divides_170 {g : GX} {d : Nat} {av : List Value} {Q : QT} {n : Nat} {h : Hp} {a1 : Nat} {a3 : Nat} {x4 : Int32} {x5 : Int32} {a6 : Nat} {a7 : Nat} {a8 : Nat} {a9 : Nat} (hp : g.2.2.2.2 = true) (t1 : lay a1 = (0, 14, 2)) (t3 : lay a3 = (0, 14, 2)) (t6 : lay a6 = (0, 14, 2)) (t7 : lay a7 = (0, 13, 2)) (t8 : lay a8 = (0, 13, 2)) (t9 : lay a9 = (0, 13, 2)) (H : W_X10_divides g d av Q n 171 [some (.ref 2759), some (.ref a1), none, some (.ref a3), some (.int x4), some (.int x5), some (.ref a6), some (.ref a7), some (.ref a8), some (.ref a9), none, none, none] [.int (0 : Int32)] h) : W_X10_divides g d av Q n 170 [some (.ref 2759), some (.ref a1), none, some (.ref a3), some (.int x4), some (.int x5), some (.ref a6), some (.ref a7), some (.ref a8), some (.ref a9), none, none, none] [] h := by
  refine r_iconst (v := (0 : Int32)) dX10_divides_170 rfl ?_
  exact H
theorem s_X10_divides_171 {g : GX} {d : Nat} {av : List Value} {Q : QT} {n : Nat} {h : Hp} {a1 : Nat} {a3 : Nat} {x4 : Int32} {x5 : Int32} {a6 : Nat} {a7 : Nat} {a8 : Nat} {a9 : Nat} {xs0 : Int32} (hp : g.2.2.2.2 = true) (t1 : lay a1 = (0, 14, 2)) (t3 : lay a3 = (0, 14, 2)) (t6 : lay a6 = (0, 14, 2)) (t7 : lay a7 = (0, 13, 2)) (t8 : lay a8 = (0, 13, 2)) (t9 : lay a9 = (0, 13, 2)) (H : ((xs0 = (0 : Int32)) → (W_X10_divides g d av Q n 291 [some (.ref 2759), some (.ref a1), none, some (.ref a3), some (.int x4), some (.int x5), some (.ref a6), some (.ref a7), some (.ref a8), some (.ref a9), some (.int xs0), none, none] [] h)) ∧ ((¬ xs0 = (0 : Int32)) → (vp_in ((ri h a6 1) - (ri h a3 1)) 64 ∧ ∀ r1, r1 = (a1 + 2) + 2 * (((ri h a6 1) - (ri h a3 1))).toNatClampNeg → (CallV g m_X10_set_2 d [.ref r1, .ref a7] n h (fun h2 => (W_X10_divides g d av Q n 205 [some (.ref 2759), some (.ref a1), none, some (.ref a3), some (.int x4), some (.int x5), some (.ref a6), some (.ref a7), some (.ref a8), some (.ref a9), none, some (.int ((ri h a6 1) - (ri h a3 1))), some (.int (0 : Int32))] [] h2)))))) : W_X10_divides g d av Q n 171 [some (.ref 2759), some (.ref a1), none, some (.ref a3), some (.int x4), some (.int x5), some (.ref a6), some (.ref a7), some (.ref a8), some (.ref a9), none, none, none] [.int xs0] h := by
  refine r_istore (ls2 := [some (.ref 2759), some (.ref a1), none, some (.ref a3), some (.int x4), some (.int x5), some (.ref a6), some (.ref a7), some (.ref a8), some (.ref a9), some (.int xs0), none, none]) dX10_divides_171 (by decide) rfl ?_
  refine r_aload dX10_divides_173 rfl ?_
  refine m_getI hp fw_X10_93 dX10_divides_175 rfl t6 ?_
  refine r_aload_n dX10_divides_178 rfl rfl ?_
  refine m_getI hp fw_X10_93 dX10_divides_179 rfl t3 ?_
  refine r_isub dX10_divides_182 ?_
  refine r_istore (ls2 := [some (.ref 2759), some (.ref a1), none, some (.ref a3), some (.int x4), some (.int x5), some (.ref a6), some (.ref a7), some (.ref a8), some (.ref a9), some (.int xs0), some (.int ((ri h a6 1) - (ri h a3 1))), none]) dX10_divides_183 (by decide) rfl ?_
  refine r_iload dX10_divides_185 rfl ?_
  refine r_if_eq (tgt := 291) dX10_divides_187 rfl (fun cH => ?_) (fun cH => ?_)
  · replace H := H.1 cH
    refine r_prune [true, true, false, true, true, true, true, true, true, true, true, false, false] (ls2 := [some (.ref 2759), some (.ref a1), none, some (.ref a3), some (.int x4), some (.int x5), some (.ref a6), some (.ref a7), some (.ref a8), some (.ref a9), some (.int xs0), none, none]) rfl ?_
    exact H
  · replace H := H.2 cH
    refine r_aload_n dX10_divides_190 rfl rfl ?_
    refine m_getF (x := (a1 + 1)) hp fw_X10_98 dX10_divides_191 rfl t1 (ff_14_0 t1) ?_
    refine r_iload dX10_divides_194 rfl ?_
    obtain ⟨r1, er1⟩ : ∃ y, y = (a1 + 2) + 2 * (((ri h a6 1) - (ri h a3 1))).toNatClampNeg := ⟨_, rfl⟩
    have hir1 := H.1
    replace H := H.2 r1 er1
    have tLr1 := le_14 t1 hir1 er1
    refine m_aalF (x := r1) hp dX10_divides_196 (lf_14_0 t1) rfl rfl (lu_14_0 t1) hir1 (fe_14 t1 hir1 er1) ?_
    refine r_aload dX10_divides_197 rfl ?_
    refine k_SV (As := [.ref r1, .ref a7]) (stk := []) cs_X10_62 dX10_divides_199 rfl (Nat.le_of_ble_eq_true rfl) (H.mono (fun h2 H => ?_)) ⟨Nat.le_refl _, Nat.le_refl _⟩
    refine r_iconst (v := (0 : Int32)) dX10_divides_202 rfl ?_
    refine r_istore (ls2 := [some (.ref 2759), some (.ref a1), none, some (.ref a3), some (.int x4), some (.int x5), some (.ref a6), some (.ref a7), some (.ref a8), some (.ref a9), some (.int xs0), some (.int ((ri h a6 1) - (ri h a3 1))), some (.int (0 : Int32))]) dX10_divides_203 (by decide) rfl ?_
    refine r_prune [true, true, false, true, true, true, true, true, true, true, false, true, true] (ls2 := [some (.ref 2759), some (.ref a1), none, some (.ref a3), some (.int x4), some (.int x5), some (.ref a6), some (.ref a7), some (.ref a8), some (.ref a9), none, some (.int ((ri h a6 1) - (ri h a3 1))), some (.int (0 : Int32))]) rfl ?_
    exact H
theorem s_X10_divides_205 {g : GX} {d : Nat} {av : List Value} {Q : QT} {n : Nat} {h : Hp} {a1 : Nat} {a3 : Nat} {x4 : Int32} {x5 : Int32} {a6 : Nat} {a7 : Nat} {a8 : Nat} {a9 : Nat} {x11 : Int32} {x12 : Int32} (hp : g.2.2.2.2 = true) (t1 : lay a1 = (0, 14, 2)) (t3 : lay a3 = (0, 14, 2)) (t6 : lay a6 = (0, 14, 2)) (t7 : lay a7 = (0, 13, 2)) (t8 : lay a8 = (0, 13, 2)) (t9 : lay a9 = (0, 13, 2)) (H : (((ri h a3 1) ≤ x12) → (CallV g m_X14_trim d [.ref a6] n h (fun h1 => ((((ri h a6 1) ≤ (ri h1 a6 1)) → (W_X10_divides g d av Q n 289 [some (.ref 2759), some (.ref a1), none, some (.ref a3), some (.int x4), some (.int x5), some (.ref a6), some (.ref a7), some (.ref a8), some (.ref a9), none, none, none] [.int (0 : Int32)] h1)) ∧ ((¬ (ri h a6 1) ≤ (ri h1 a6 1)) → (W_X10_divides g d av Q n 289 [some (.ref 2759), some (.ref a1), none, some (.ref a3), some (.int x4), some (.int x5), some (.ref a6), some (.ref a7), some (.ref a8), some (.ref a9), none, none, none] [.int (1 : Int32)] h1)))))) ∧ ((¬ (ri h a3 1) ≤ x12) → (vp_in x12 64 ∧ ∀ r2, r2 = (a3 + 2) + 2 * (x12).toNatClampNeg → (CallV g m_X10_times_2 d [.ref a9, .ref a7, .ref r2] n h (fun h3 => (vp_in (x11 + x12) 64 ∧ ∀ r4, r4 = (a6 + 2) + 2 * ((x11 + x12)).toNatClampNeg → (vp_in (x11 + x12) 64 ∧ ∀ r5, r5 = (a6 + 2) + 2 * ((x11 + x12)).toNatClampNeg → (CallV g m_X10_plus d [.ref r4, .ref r5, .ref a9, .int (1 : Int32)] n h3 (fun h6 => (W_X10_divides g d av Q n 205 [some (.ref 2759), some (.ref a1), none, some (.ref a3), some (.int x4), some (.int x5), some (.ref a6), some (.ref a7), some (.ref a8), some (.ref a9), none, some (.int x11), some (.int (x12 + (1 : Int32)))] [] h6)))))))))) : W_X10_divides g d av Q n 205 [some (.ref 2759), some (.ref a1), none, some (.ref a3), some (.int x4), some (.int x5), some (.ref a6), some (.ref a7), some (.ref a8), some (.ref a9), none, some (.int x11), some (.int x12)] [] h := by
  refine r_iload dX10_divides_205 rfl ?_
  refine r_aload_n dX10_divides_207 rfl rfl ?_
  refine m_getI hp fw_X10_93 dX10_divides_208 rfl t3 ?_
  refine r_icmp_ge (tgt := 262) dX10_divides_211 rfl (fun cH => ?_) (fun cH => ?_)
  · replace H := H.1 cH
    refine r_aload dX10_divides_262 rfl ?_
    refine m_getI hp fw_X10_93 dX10_divides_264 rfl t6 ?_
    refine r_istore (ls2 := [some (.ref 2759), some (.ref a1), none, some (.ref a3), some (.int x4), some (.int x5), some (.ref a6), some (.ref a7), some (.ref a8), some (.ref a9), none, some (.int x11), some (.int (ri h a6 1))]) dX10_divides_267 (by decide) rfl ?_
    refine r_aload dX10_divides_269 rfl ?_
    refine k_VV (As := []) (stk := []) hp cv_X10_105 dX10_divides_271 rfl (Nat.le_of_ble_eq_true rfl) t6 (H.mono (fun h1 H => ?_)) ⟨Nat.le_refl _, Nat.le_refl _⟩
    refine r_aload dX10_divides_274 rfl ?_
    refine m_getI hp fw_X10_93 dX10_divides_276 rfl t6 ?_
    refine r_iload dX10_divides_279 rfl ?_
    refine r_icmp_ge (tgt := 288) dX10_divides_281 rfl (fun cH => ?_) (fun cH => ?_)
    · replace H := H.1 cH
      refine r_iconst (v := (0 : Int32)) dX10_divides_288 rfl ?_
      refine r_prune [true, true, false, true, true, true, true, true, true, true, false, false, false] (ls2 := [some (.ref 2759), some (.ref a1), none, some (.ref a3), some (.int x4), some (.int x5), some (.ref a6), some (.ref a7), some (.ref a8), some (.ref a9), none, none, none]) rfl ?_
      exact H
    · replace H := H.2 cH
      refine r_iconst (v := (1 : Int32)) dX10_divides_284 rfl ?_
      refine r_goto (tgt := 289) dX10_divides_285 rfl ?_
      refine r_prune [true, true, false, true, true, true, true, true, true, true, false, false, false] (ls2 := [some (.ref 2759), some (.ref a1), none, some (.ref a3), some (.int x4), some (.int x5), some (.ref a6), some (.ref a7), some (.ref a8), some (.ref a9), none, none, none]) rfl ?_
      exact H
  · replace H := H.2 cH
    refine r_aload dX10_divides_214 rfl ?_
    refine r_aload dX10_divides_216 rfl ?_
    refine r_aload_n dX10_divides_218 rfl rfl ?_
    refine m_getF (x := (a3 + 1)) hp fw_X10_98 dX10_divides_219 rfl t3 (ff_14_0 t3) ?_
    refine r_iload dX10_divides_222 rfl ?_
    obtain ⟨r2, er2⟩ : ∃ y, y = (a3 + 2) + 2 * (x12).toNatClampNeg := ⟨_, rfl⟩
    have hir2 := H.1
    replace H := H.2 r2 er2
    have tLr2 := le_14 t3 hir2 er2
    refine m_aalF (x := r2) hp dX10_divides_224 (lf_14_0 t3) rfl rfl (lu_14_0 t3) hir2 (fe_14 t3 hir2 er2) ?_
    refine k_SV (As := [.ref a9, .ref a7, .ref r2]) (stk := []) cs_X10_106 dX10_divides_225 rfl (Nat.le_of_ble_eq_true rfl) (H.mono (fun h3 H => ?_)) ⟨Nat.le_refl _, Nat.le_refl _⟩
    refine r_aload dX10_divides_228 rfl ?_
    refine m_getF (x := (a6 + 1)) hp fw_X10_98 dX10_divides_230 rfl t6 (ff_14_0 t6) ?_
    refine r_iload dX10_divides_233 rfl ?_
    refine r_iload dX10_divides_235 rfl ?_
    refine r_iadd dX10_divides_237 ?_
    obtain ⟨r4, er4⟩ : ∃ y, y = (a6 + 2) + 2 * ((x11 + x12)).toNatClampNeg := ⟨_, rfl⟩
    have hir4 := H.1
    replace H := H.2 r4 er4
    have tLr4 := le_14 t6 hir4 er4
    refine m_aalF (x := r4) hp dX10_divides_238 (lf_14_0 t6) rfl rfl (lu_14_0 t6) hir4 (fe_14 t6 hir4 er4) ?_
    refine r_aload dX10_divides_239 rfl ?_
    refine m_getF (x := (a6 + 1)) hp fw_X10_98 dX10_divides_241 rfl t6 (ff_14_0 t6) ?_
    refine r_iload dX10_divides_244 rfl ?_
    refine r_iload dX10_divides_246 rfl ?_
    refine r_iadd dX10_divides_248 ?_
    obtain ⟨r5, er5⟩ : ∃ y, y = (a6 + 2) + 2 * ((x11 + x12)).toNatClampNeg := ⟨_, rfl⟩
    have hir5 := H.1
    replace H := H.2 r5 er5
    have tLr5 := le_14 t6 hir5 er5
    refine m_aalF (x := r5) hp dX10_divides_249 (lf_14_0 t6) rfl rfl (lu_14_0 t6) hir5 (fe_14 t6 hir5 er5) ?_
    refine r_aload dX10_divides_250 rfl ?_
    refine r_iconst (v := (1 : Int32)) dX10_divides_252 rfl ?_
    refine k_SV (As := [.ref r4, .ref r5, .ref a9, .int (1 : Int32)]) (stk := []) cs_X10_101 dX10_divides_253 rfl (Nat.le_of_ble_eq_true rfl) (H.mono (fun h6 H => ?_)) ⟨Nat.le_refl _, Nat.le_refl _⟩
    refine r_iinc (v := (x12 + (1 : Int32))) (ls2 := [some (.ref 2759), some (.ref a1), none, some (.ref a3), some (.int x4), some (.int x5), some (.ref a6), some (.ref a7), some (.ref a8), some (.ref a9), none, some (.int x11), some (.int (x12 + (1 : Int32)))]) dX10_divides_256 rfl rfl (by decide) rfl ?_
    refine r_goto (tgt := 205) dX10_divides_259 rfl ?_
    exact H
theorem s_X10_divides_289 {g : GX} {d : Nat} {av : List Value} {Q : QT} {n : Nat} {h : Hp} {a1 : Nat} {a3 : Nat} {x4 : Int32} {x5 : Int32} {a6 : Nat} {a7 : Nat} {a8 : Nat} {a9 : Nat} {xs0 : Int32} (hp : g.2.2.2.2 = true) (t1 : lay a1 = (0, 14, 2)) (t3 : lay a3 = (0, 14, 2)) (t6 : lay a6 = (0, 14, 2)) (t7 : lay a7 = (0, 13, 2)) (t8 : lay a8 = (0, 13, 2)) (t9 : lay a9 = (0, 13, 2)) (H : W_X10_divides g d av Q n 291 [some (.ref 2759), some (.ref a1), none, some (.ref a3), some (.int x4), some (.int x5), some (.ref a6), some (.ref a7), some (.ref a8), some (.ref a9), some (.int xs0), none, none] [] h) : W_X10_divides g d av Q n 289 [some (.ref 2759), some (.ref a1), none, some (.ref a3), some (.int x4), some (.int x5), some (.ref a6), some (.ref a7), some (.ref a8), some (.ref a9), none, none, none] [.int xs0] h := by
  refine r_istore (ls2 := [some (.ref 2759), some (.ref a1), none, some (.ref a3), some (.int x4), some (.int x5), some (.ref a6), some (.ref a7), some (.ref a8), some (.ref a9), some (.int xs0), none, none]) dX10_divides_289 (by decide) rfl ?_
  exact H
theorem s_X10_divides_291 {g : GX} {d : Nat} {av : List Value} {Q : QT} {n : Nat} {h : Hp} {a1 : Nat} {a3 : Nat} {x4 : Int32} {x5 : Int32} {a6 : Nat} {a7 : Nat} {a8 : Nat} {a9 : Nat} {x10 : Int32} (hp : g.2.2.2.2 = true) (t1 : lay a1 = (0, 14, 2)) (t3 : lay a3 = (0, 14, 2)) (t6 : lay a6 = (0, 14, 2)) (t7 : lay a7 = (0, 13, 2)) (t8 : lay a8 = (0, 13, 2)) (t9 : lay a9 = (0, 13, 2)) (H : W_X10_divides g d av Q n 115 [some (.ref 2759), some (.ref a1), none, some (.ref a3), some (.int x4), some (.int x5), some (.ref a6), some (.ref a7), some (.ref a8), some (.ref a9), some (.int x10), none, none] [] h) : W_X10_divides g d av Q n 291 [some (.ref 2759), some (.ref a1), none, some (.ref a3), some (.int x4), some (.int x5), some (.ref a6), some (.ref a7), some (.ref a8), some (.ref a9), some (.int x10), none, none] [] h := by
  refine r_goto (tgt := 115) dX10_divides_291 rfl ?_
  exact H
theorem s_X10_divides_294 {g : GX} {d : Nat} {av : List Value} {Q : QT} {n : Nat} {h : Hp} {a1 : Nat} {x4 : Int32} {x5 : Int32} {a6 : Nat} {x10 : Int32} (hp : g.2.2.2.2 = true) (t1 : lay a1 = (0, 14, 2)) (t6 : lay a6 = (0, 14, 2)) (H : ((x10 = (0 : Int32)) → (W_X10_divides g d av Q n 311 [some (.ref 2759), some (.ref a1), none, none, some (.int x4), some (.int x5), none, none, none, none, none, none, none] [] h)) ∧ ((¬ x10 = (0 : Int32)) → (((¬ (ri h a6 1) = (0 : Int32)) → (W_X10_divides g d av Q n 311 [some (.ref 2759), some (.ref a1), none, none, some (.int x4), some (.int x5), none, none, none, none, none, none, none] [] h)) ∧ (((ri h a6 1) = (0 : Int32)) → (W_X10_divides g d av Q n 312 [some (.ref 2759), some (.ref a1), none, none, some (.int x4), some (.int x5), none, none, none, none, none, none, none] [.int (1 : Int32)] h))))) : W_X10_divides g d av Q n 294 [some (.ref 2759), some (.ref a1), none, none, some (.int x4), some (.int x5), some (.ref a6), none, none, none, some (.int x10), none, none] [] h := by
  refine r_iload dX10_divides_294 rfl ?_
  refine r_if_eq (tgt := 311) dX10_divides_296 rfl (fun cH => ?_) (fun cH => ?_)
  · replace H := H.1 cH
    refine r_prune [true, true, false, false, true, true, false, false, false, false, false, false, false] (ls2 := [some (.ref 2759), some (.ref a1), none, none, some (.int x4), some (.int x5), none, none, none, none, none, none, none]) rfl ?_
    exact H
  · replace H := H.2 cH
    refine r_aload dX10_divides_299 rfl ?_
    refine m_getI hp fw_X10_93 dX10_divides_301 rfl t6 ?_
    refine r_if_ne (tgt := 311) dX10_divides_304 rfl (fun cH => ?_) (fun cH => ?_)
    · replace H := H.1 cH
      refine r_prune [true, true, false, false, true, true, false, false, false, false, false, false, false] (ls2 := [some (.ref 2759), some (.ref a1), none, none, some (.int x4), some (.int x5), none, none, none, none, none, none, none]) rfl ?_
      exact H
    · replace H := H.2 cH
      refine r_iconst (v := (1 : Int32)) dX10_divides_307 rfl ?_
      refine r_goto (tgt := 312) dX10_divides_308 rfl ?_
      refine r_prune [true, true, false, false, true, true, false, false, false, false, false, false, false] (ls2 := [some (.ref 2759), some (.ref a1), none, none, some (.int x4), some (.int x5), none, none, none, none, none, none, none]) rfl ?_
      exact H
theorem s_X10_divides_311 {g : GX} {d : Nat} {av : List Value} {Q : QT} {n : Nat} {h : Hp} {a1 : Nat} {x4 : Int32} {x5 : Int32} (hp : g.2.2.2.2 = true) (t1 : lay a1 = (0, 14, 2)) (H : W_X10_divides g d av Q n 312 [some (.ref 2759), some (.ref a1), none, none, some (.int x4), some (.int x5), none, none, none, none, none, none, none] [.int (0 : Int32)] h) : W_X10_divides g d av Q n 311 [some (.ref 2759), some (.ref a1), none, none, some (.int x4), some (.int x5), none, none, none, none, none, none, none] [] h := by
  refine r_iconst (v := (0 : Int32)) dX10_divides_311 rfl ?_
  exact H
theorem s_X10_divides_312 {g : GX} {d : Nat} {av : List Value} {Q : QT} {n : Nat} {h : Hp} {a1 : Nat} {x4 : Int32} {x5 : Int32} {xs0 : Int32} (hp : g.2.2.2.2 = true) (t1 : lay a1 = (0, 14, 2)) (H : CallV g m_X14_trim d [.ref a1] n h (fun h1 => (∀ h2, h2 = wi h1 2759 3 x4 → (∀ h3, h3 = wi h2 2759 1 x5 → ((xs0 = 0 ∨ xs0 = 1) ∧ Q (some (.int xs0)) n h3))))) : W_X10_divides g d av Q n 312 [some (.ref 2759), some (.ref a1), none, none, some (.int x4), some (.int x5), none, none, none, none, none, none, none] [.int xs0] h := by
  refine r_istore (ls2 := [some (.ref 2759), some (.ref a1), none, none, some (.int x4), some (.int x5), none, none, none, none, some (.int xs0), none, none]) dX10_divides_312 (by decide) rfl ?_
  refine r_aload_n dX10_divides_314 rfl rfl ?_
  refine k_VV (As := []) (stk := []) hp cv_X10_105 dX10_divides_315 rfl (Nat.le_of_ble_eq_true rfl) t1 (H.mono (fun h1 H => ?_)) ⟨Nat.le_refl _, Nat.le_refl _⟩
  refine r_aload_n dX10_divides_318 rfl rfl ?_
  refine r_iload dX10_divides_319 rfl ?_
  refine m_putI hp fw_X10_90 dX10_divides_321 rfl rfl ly_10 (fun h2 eh2 => ?_)
  replace H := H h2 eh2
  refine r_aload_n dX10_divides_324 rfl rfl ?_
  refine r_iload dX10_divides_325 rfl ?_
  refine m_putI hp fw_X10_21 dX10_divides_327 rfl rfl ly_10 (fun h3 eh3 => ?_)
  replace H := H h3 eh3
  refine r_iload dX10_divides_330 rfl ?_
  exact r_zret dX10_divides_332 rfl (nar01 H.1) (Nat.le_refl _) (Nat.le_refl _) H.2
abbrev W_X10_timesU (g : GX) (d : Nat) (av : List Value) (Q : QT) (n : Nat) (pc : Nat) (ls : LV) (stk : List Value) (h : Hp) : Prop := RJ g m_X10_timesU (d + 1) 0 0 av Q pc ls stk n h 0 0
theorem s_X10_timesU_0 {g : GX} {d : Nat} {av : List Value} {Q : QT} {n : Nat} {h : Hp} {a1 : Nat} {a2 : Nat} {a3 : Nat} (hp : g.2.2.2.2 = true) (t1 : lay a1 = (0, 14, 2)) (t2 : lay a2 = (0, 14, 2)) (t3 : lay a3 = (0, 13, 2)) (H : CallR g m_X10_newU d [.ref 2759] n h (fun v1 h1 => (lay v1 = (0, 13, 2) ∧ (W_X10_timesU g d av Q n 15 [some (.ref 2759), some (.ref a1), some (.ref a2), some (.ref a3), some (.int (ri h 2759 1)), some (.ref v1), some (.int (0 : Int32))] [] h1)))) : W_X10_timesU g d av Q n 0 [some (.ref 2759), some (.ref a1), some (.ref a2), some (.ref a3), none, none, none] [] h := by
  refine r_aload_n dX10_timesU_0 rfl rfl ?_
  refine m_getI hp fw_X10_21 dX10_timesU_1 rfl ly_10 ?_
  refine r_istore (ls2 := [some (.ref 2759), some (.ref a1), some (.ref a2), some (.ref a3), some (.int (ri h 2759 1)), none, none]) dX10_timesU_4 (by decide) rfl ?_
  refine r_aload_n dX10_timesU_6 rfl rfl ?_
  refine k_VR (As := []) (stk := []) hp cv_X10_74 dX10_timesU_7 rfl (Nat.le_of_ble_eq_true rfl) ly_10 (H.mono (fun v1 h1 H => ?_)) ⟨Nat.le_refl _, Nat.le_refl _⟩
  obtain ⟨tv1, H⟩ := H
  refine r_astore (ls2 := [some (.ref 2759), some (.ref a1), some (.ref a2), some (.ref a3), some (.int (ri h 2759 1)), some (.ref v1), none]) dX10_timesU_10 (by decide) rfl ?_
  refine r_iconst (v := (0 : Int32)) dX10_timesU_12 rfl ?_
  refine r_istore (ls2 := [some (.ref 2759), some (.ref a1), some (.ref a2), some (.ref a3), some (.int (ri h 2759 1)), some (.ref v1), some (.int (0 : Int32))]) dX10_timesU_13 (by decide) rfl ?_
  exact H
theorem s_X10_timesU_15 {g : GX} {d : Nat} {av : List Value} {Q : QT} {n : Nat} {h : Hp} {a1 : Nat} {a2 : Nat} {a3 : Nat} {x4 : Int32} {a5 : Nat} {x6 : Int32} (hp : g.2.2.2.2 = true) (t1 : lay a1 = (0, 14, 2)) (t2 : lay a2 = (0, 14, 2)) (t3 : lay a3 = (0, 13, 2)) (t5 : lay a5 = (0, 13, 2)) (H : (((ri h a2 1) ≤ x6) → (∀ h1, h1 = wi h a1 1 (ri h a2 1) → (CallV g m_X14_trim d [.ref a1] n h1 (fun h2 => (∀ h3, h3 = wi h2 2759 1 x4 → (Q none n h3)))))) ∧ ((¬ (ri h a2 1) ≤ x6) → (vp_in x6 64 ∧ ∀ r4, r4 = (a2 + 2) + 2 * (x6).toNatClampNeg → (CallV g m_X10_times_2 d [.ref a5, .ref r4, .ref a3] n h (fun h5 => (vp_in x6 64 ∧ ∀ r6, r6 = (a1 + 2) + 2 * (x6).toNatClampNeg → (CallV g m_X10_set_2 d [.ref r6, .ref a5] n h5 (fun h7 => (W_X10_timesU g d av Q n 15 [some (.ref 2759), some (.ref a1), some (.ref a2), some (.ref a3), some (.int x4), some (.ref a5), some (.int (x6 + (1 : Int32)))] [] h7))))))))) : W_X10_timesU g d av Q n 15 [some (.ref 2759), some (.ref a1), some (.ref a2), some (.ref a3), some (.int x4), some (.ref a5), some (.int x6)] [] h := by
  refine r_iload dX10_timesU_15 rfl ?_
  refine r_aload_n dX10_timesU_17 rfl rfl ?_
  refine m_getI hp fw_X10_93 dX10_timesU_18 rfl t2 ?_
  refine r_icmp_ge (tgt := 55) dX10_timesU_21 rfl (fun cH => ?_) (fun cH => ?_)
  · replace H := H.1 cH
    refine r_aload_n dX10_timesU_55 rfl rfl ?_
    refine r_aload_n dX10_timesU_56 rfl rfl ?_
    refine m_getI hp fw_X10_93 dX10_timesU_57 rfl t2 ?_
    refine m_putI hp fw_X10_93 dX10_timesU_60 rfl rfl t1 (fun h1 eh1 => ?_)
    replace H := H h1 eh1
    refine r_aload_n dX10_timesU_63 rfl rfl ?_
    refine k_VV (As := []) (stk := []) hp cv_X10_105 dX10_timesU_64 rfl (Nat.le_of_ble_eq_true rfl) t1 (H.mono (fun h2 H => ?_)) ⟨Nat.le_refl _, Nat.le_refl _⟩
    refine r_aload_n dX10_timesU_67 rfl rfl ?_
    refine r_iload dX10_timesU_68 rfl ?_
    refine m_putI hp fw_X10_21 dX10_timesU_70 rfl rfl ly_10 (fun h3 eh3 => ?_)
    replace H := H h3 eh3
    exact r_vret dX10_timesU_73 rfl (Nat.le_refl _) (Nat.le_refl _) H
  · replace H := H.2 cH
    refine r_aload dX10_timesU_24 rfl ?_
    refine r_aload_n dX10_timesU_26 rfl rfl ?_
    refine m_getF (x := (a2 + 1)) hp fw_X10_98 dX10_timesU_27 rfl t2 (ff_14_0 t2) ?_
    refine r_iload dX10_timesU_30 rfl ?_
    obtain ⟨r4, er4⟩ : ∃ y, y = (a2 + 2) + 2 * (x6).toNatClampNeg := ⟨_, rfl⟩
    have hir4 := H.1
    replace H := H.2 r4 er4
    have tLr4 := le_14 t2 hir4 er4
    refine m_aalF (x := r4) hp dX10_timesU_32 (lf_14_0 t2) rfl rfl (lu_14_0 t2) hir4 (fe_14 t2 hir4 er4) ?_
    refine r_aload_n dX10_timesU_33 rfl rfl ?_
    refine k_SV (As := [.ref a5, .ref r4, .ref a3]) (stk := []) cs_X10_106 dX10_timesU_34 rfl (Nat.le_of_ble_eq_true rfl) (H.mono (fun h5 H => ?_)) ⟨Nat.le_refl _, Nat.le_refl _⟩
    refine r_aload_n dX10_timesU_37 rfl rfl ?_
    refine m_getF (x := (a1 + 1)) hp fw_X10_98 dX10_timesU_38 rfl t1 (ff_14_0 t1) ?_
    refine r_iload dX10_timesU_41 rfl ?_
    obtain ⟨r6, er6⟩ : ∃ y, y = (a1 + 2) + 2 * (x6).toNatClampNeg := ⟨_, rfl⟩
    have hir6 := H.1
    replace H := H.2 r6 er6
    have tLr6 := le_14 t1 hir6 er6
    refine m_aalF (x := r6) hp dX10_timesU_43 (lf_14_0 t1) rfl rfl (lu_14_0 t1) hir6 (fe_14 t1 hir6 er6) ?_
    refine r_aload dX10_timesU_44 rfl ?_
    refine k_SV (As := [.ref r6, .ref a5]) (stk := []) cs_X10_62 dX10_timesU_46 rfl (Nat.le_of_ble_eq_true rfl) (H.mono (fun h7 H => ?_)) ⟨Nat.le_refl _, Nat.le_refl _⟩
    refine r_iinc (v := (x6 + (1 : Int32))) (ls2 := [some (.ref 2759), some (.ref a1), some (.ref a2), some (.ref a3), some (.int x4), some (.ref a5), some (.int (x6 + (1 : Int32)))]) dX10_timesU_49 rfl rfl (by decide) rfl ?_
    refine r_goto (tgt := 15) dX10_timesU_52 rfl ?_
    exact H
abbrev W_X10_joined (g : GX) (d : Nat) (av : List Value) (Q : QT) (n : Nat) (pc : Nat) (ls : LV) (stk : List Value) (h : Hp) : Prop := RJ g m_X10_joined (d + 1) 0 0 av Q pc ls stk n h 0 0
theorem s_X10_joined_0 {g : GX} {d : Nat} {av : List Value} {Q : QT} {n : Nat} {h : Hp} {a0 : Nat} {a1 : Nat} {x2 : Int32} (hp : g.2.2.2.2 = true) (t0 : lay a0 = (0, 11, 15)) (t1 : lay a1 = (0, 11, 15)) (H : W_X10_joined g d av Q n 5 [some (.ref a0), some (.ref a1), some (.int x2), some (.int (0 : Int32)), some (.int (0 : Int32)), none, none] [] h) : W_X10_joined g d av Q n 0 [some (.ref a0), some (.ref a1), some (.int x2), none, none, none, none] [] h := by
  refine r_iconst (v := (0 : Int32)) dX10_joined_0 rfl ?_
  refine r_istore_n (ls2 := [some (.ref a0), some (.ref a1), some (.int x2), some (.int (0 : Int32)), none, none, none]) dX10_joined_1 rfl (by decide) rfl ?_
  refine r_iconst (v := (0 : Int32)) dX10_joined_2 rfl ?_
  refine r_istore (ls2 := [some (.ref a0), some (.ref a1), some (.int x2), some (.int (0 : Int32)), some (.int (0 : Int32)), none, none]) dX10_joined_3 (by decide) rfl ?_
  exact H
theorem s_X10_joined_5 {g : GX} {d : Nat} {av : List Value} {Q : QT} {n : Nat} {h : Hp} {a0 : Nat} {a1 : Nat} {x2 : Int32} {x3 : Int32} {x4 : Int32} (hp : g.2.2.2.2 = true) (t0 : lay a0 = (0, 11, 15)) (t1 : lay a1 = (0, 11, 15)) (H : (((ri h a0 5) ≤ x4) → (W_X10_joined g d av Q n 127 [some (.ref a0), some (.ref a1), some (.int x2), some (.int x3), some (.int (0 : Int32)), none, none] [] h)) ∧ ((¬ (ri h a0 5) ≤ x4) → (vp_in x4 13 ∧ (W_X10_joined g d av Q n 26 [some (.ref a0), some (.ref a1), some (.int x2), some (.int x3), some (.int x4), some (.int (ri h (a0 + 6) (x4).toNatClampNeg)), some (.int (0 : Int32))] [] h)))) : W_X10_joined g d av Q n 5 [some (.ref a0), some (.ref a1), some (.int x2), some (.int x3), some (.int x4), none, none] [] h := by
  refine r_iload dX10_joined_5 rfl ?_
  refine r_aload_n dX10_joined_7 rfl rfl ?_
  refine m_getI hp fw_X10_219 dX10_joined_8 rfl t0 ?_
  refine r_icmp_ge (tgt := 124) dX10_joined_11 rfl (fun cH => ?_) (fun cH => ?_)
  · replace H := H.1 cH
    refine r_iconst (v := (0 : Int32)) dX10_joined_124 rfl ?_
    refine r_istore (ls2 := [some (.ref a0), some (.ref a1), some (.int x2), some (.int x3), some (.int (0 : Int32)), none, none]) dX10_joined_125 (by decide) rfl ?_
    exact H
  · replace H := H.2 cH
    refine r_aload_n dX10_joined_14 rfl rfl ?_
    refine m_getF (x := (a0 + 6)) hp fw_X10_231 dX10_joined_15 rfl t0 (ff_11_9 t0) ?_
    refine r_iload dX10_joined_18 rfl ?_
    refine m_iald hp dX10_joined_20 (lf_11_9 t0) H.1 ?_
    replace H := H.2
    refine r_istore (ls2 := [some (.ref a0), some (.ref a1), some (.int x2), some (.int x3), some (.int x4), some (.int (ri h (a0 + 6) (x4).toNatClampNeg)), none]) dX10_joined_21 (by decide) rfl ?_
    refine r_iconst (v := (0 : Int32)) dX10_joined_23 rfl ?_
    refine r_istore (ls2 := [some (.ref a0), some (.ref a1), some (.int x2), some (.int x3), some (.int x4), some (.int (ri h (a0 + 6) (x4).toNatClampNeg)), some (.int (0 : Int32))]) dX10_joined_24 (by decide) rfl ?_
    exact H
theorem s_X10_joined_26 {g : GX} {d : Nat} {av : List Value} {Q : QT} {n : Nat} {h : Hp} {a0 : Nat} {a1 : Nat} {x2 : Int32} {x3 : Int32} {x4 : Int32} {x5 : Int32} {x6 : Int32} (hp : g.2.2.2.2 = true) (t0 : lay a0 = (0, 11, 15)) (t1 : lay a1 = (0, 11, 15)) (H : (((ri h a1 5) ≤ x6) → (CallI g m_J3_abs d [.int x5] n h (fun v1 h1 => (W_X10_joined g d av Q n 5 [some (.ref a0), some (.ref a1), some (.int x2), some (.int (x3 + v1)), some (.int (x4 + (1 : Int32))), none, none] [] h1)))) ∧ ((¬ (ri h a1 5) ≤ x6) → (vp_in x4 13 ∧ (vp_in x6 13 ∧ (((¬ (ri h (a0 + 3) (x4).toNatClampNeg) = (ri h (a1 + 3) (x6).toNatClampNeg)) → (W_X10_joined g d av Q n 100 [some (.ref a0), some (.ref a1), some (.int x2), some (.int x3), some (.int x4), none, some (.int x6)] [.int x5] h)) ∧ (((ri h (a0 + 3) (x4).toNatClampNeg) = (ri h (a1 + 3) (x6).toNatClampNeg)) → (vp_in x4 13 ∧ (vp_in x6 13 ∧ (((¬ (ri h (a0 + 4) (x4).toNatClampNeg) = (ri h (a1 + 4) (x6).toNatClampNeg)) → (W_X10_joined g d av Q n 100 [some (.ref a0), some (.ref a1), some (.int x2), some (.int x3), some (.int x4), none, some (.int x6)] [.int x5] h)) ∧ (((ri h (a0 + 4) (x4).toNatClampNeg) = (ri h (a1 + 4) (x6).toNatClampNeg)) → (vp_in x4 13 ∧ (vp_in x6 13 ∧ (((¬ (ri h (a0 + 5) (x4).toNatClampNeg) = (ri h (a1 + 5) (x6).toNatClampNeg)) → (W_X10_joined g d av Q n 100 [some (.ref a0), some (.ref a1), some (.int x2), some (.int x3), some (.int x4), none, some (.int x6)] [.int x5] h)) ∧ (((ri h (a0 + 5) (x4).toNatClampNeg) = (ri h (a1 + 5) (x6).toNatClampNeg)) → (vp_in x6 13 ∧ (W_X10_joined g d av Q n 101 [some (.ref a0), some (.ref a1), some (.int x2), some (.int x3), some (.int x4), none, some (.int x6)] [.int (x2 * (ri h (a1 + 6) (x6).toNatClampNeg)), .int x5] h)))))))))))))))) : W_X10_joined g d av Q n 26 [some (.ref a0), some (.ref a1), some (.int x2), some (.int x3), some (.int x4), some (.int x5), some (.int x6)] [] h := by
  refine r_iload dX10_joined_26 rfl ?_
  refine r_aload_n dX10_joined_28 rfl rfl ?_
  refine m_getI hp fw_X10_219 dX10_joined_29 rfl t1 ?_
  refine r_icmp_ge (tgt := 110) dX10_joined_32 rfl (fun cH => ?_) (fun cH => ?_)
  · replace H := H.1 cH
    refine r_iload_n dX10_joined_110 rfl rfl ?_
    refine r_iload dX10_joined_111 rfl ?_
    refine k_SI (As := [.int x5]) (stk := [.int x3]) cs_X10_273 dX10_joined_113 rfl (Nat.le_of_ble_eq_true rfl) (H.mono (fun v1 h1 H => ?_)) ⟨Nat.le_refl _, Nat.le_refl _⟩
    refine r_iadd dX10_joined_116 ?_
    refine r_istore_n (ls2 := [some (.ref a0), some (.ref a1), some (.int x2), some (.int (x3 + v1)), some (.int x4), some (.int x5), some (.int x6)]) dX10_joined_117 rfl (by decide) rfl ?_
    refine r_iinc (v := (x4 + (1 : Int32))) (ls2 := [some (.ref a0), some (.ref a1), some (.int x2), some (.int (x3 + v1)), some (.int (x4 + (1 : Int32))), some (.int x5), some (.int x6)]) dX10_joined_118 rfl rfl (by decide) rfl ?_
    refine r_goto (tgt := 5) dX10_joined_121 rfl ?_
    refine r_prune [true, true, true, true, true, false, false] (ls2 := [some (.ref a0), some (.ref a1), some (.int x2), some (.int (x3 + v1)), some (.int (x4 + (1 : Int32))), none, none]) rfl ?_
    exact H
  · replace H := H.2 cH
    refine r_iload dX10_joined_35 rfl ?_
    refine r_aload_n dX10_joined_37 rfl rfl ?_
    refine m_getF (x := (a0 + 3)) hp fw_X10_222 dX10_joined_38 rfl t0 (ff_11_6 t0) ?_
    refine r_iload dX10_joined_41 rfl ?_
    refine m_iald hp dX10_joined_43 (lf_11_6 t0) H.1 ?_
    replace H := H.2
    refine r_aload_n dX10_joined_44 rfl rfl ?_
    refine m_getF (x := (a1 + 3)) hp fw_X10_222 dX10_joined_45 rfl t1 (ff_11_6 t1) ?_
    refine r_iload dX10_joined_48 rfl ?_
    refine m_iald hp dX10_joined_50 (lf_11_6 t1) H.1 ?_
    replace H := H.2
    refine r_icmp_ne (tgt := 100) dX10_joined_51 rfl (fun cH => ?_) (fun cH => ?_)
    · replace H := H.1 cH
      refine r_prune [true, true, true, true, true, false, true] (ls2 := [some (.ref a0), some (.ref a1), some (.int x2), some (.int x3), some (.int x4), none, some (.int x6)]) rfl ?_
      exact H
    · replace H := H.2 cH
      refine r_aload_n dX10_joined_54 rfl rfl ?_
      refine m_getF (x := (a0 + 4)) hp fw_X10_225 dX10_joined_55 rfl t0 (ff_11_7 t0) ?_
      refine r_iload dX10_joined_58 rfl ?_
      refine m_iald hp dX10_joined_60 (lf_11_7 t0) H.1 ?_
      replace H := H.2
      refine r_aload_n dX10_joined_61 rfl rfl ?_
      refine m_getF (x := (a1 + 4)) hp fw_X10_225 dX10_joined_62 rfl t1 (ff_11_7 t1) ?_
      refine r_iload dX10_joined_65 rfl ?_
      refine m_iald hp dX10_joined_67 (lf_11_7 t1) H.1 ?_
      replace H := H.2
      refine r_icmp_ne (tgt := 100) dX10_joined_68 rfl (fun cH => ?_) (fun cH => ?_)
      · replace H := H.1 cH
        refine r_prune [true, true, true, true, true, false, true] (ls2 := [some (.ref a0), some (.ref a1), some (.int x2), some (.int x3), some (.int x4), none, some (.int x6)]) rfl ?_
        exact H
      · replace H := H.2 cH
        refine r_aload_n dX10_joined_71 rfl rfl ?_
        refine m_getF (x := (a0 + 5)) hp fw_X10_228 dX10_joined_72 rfl t0 (ff_11_8 t0) ?_
        refine r_iload dX10_joined_75 rfl ?_
        refine m_iald hp dX10_joined_77 (lf_11_8 t0) H.1 ?_
        replace H := H.2
        refine r_aload_n dX10_joined_78 rfl rfl ?_
        refine m_getF (x := (a1 + 5)) hp fw_X10_228 dX10_joined_79 rfl t1 (ff_11_8 t1) ?_
        refine r_iload dX10_joined_82 rfl ?_
        refine m_iald hp dX10_joined_84 (lf_11_8 t1) H.1 ?_
        replace H := H.2
        refine r_icmp_ne (tgt := 100) dX10_joined_85 rfl (fun cH => ?_) (fun cH => ?_)
        · replace H := H.1 cH
          refine r_prune [true, true, true, true, true, false, true] (ls2 := [some (.ref a0), some (.ref a1), some (.int x2), some (.int x3), some (.int x4), none, some (.int x6)]) rfl ?_
          exact H
        · replace H := H.2 cH
          refine r_iload_n dX10_joined_88 rfl rfl ?_
          refine r_aload_n dX10_joined_89 rfl rfl ?_
          refine m_getF (x := (a1 + 6)) hp fw_X10_231 dX10_joined_90 rfl t1 (ff_11_9 t1) ?_
          refine r_iload dX10_joined_93 rfl ?_
          refine m_iald hp dX10_joined_95 (lf_11_9 t1) H.1 ?_
          replace H := H.2
          refine r_imul dX10_joined_96 ?_
          refine r_goto (tgt := 101) dX10_joined_97 rfl ?_
          refine r_prune [true, true, true, true, true, false, true] (ls2 := [some (.ref a0), some (.ref a1), some (.int x2), some (.int x3), some (.int x4), none, some (.int x6)]) rfl ?_
          exact H
theorem s_X10_joined_100 {g : GX} {d : Nat} {av : List Value} {Q : QT} {n : Nat} {h : Hp} {a0 : Nat} {a1 : Nat} {x2 : Int32} {x3 : Int32} {x4 : Int32} {x6 : Int32} {xs0 : Int32} (hp : g.2.2.2.2 = true) (t0 : lay a0 = (0, 11, 15)) (t1 : lay a1 = (0, 11, 15)) (H : W_X10_joined g d av Q n 101 [some (.ref a0), some (.ref a1), some (.int x2), some (.int x3), some (.int x4), none, some (.int x6)] [.int (0 : Int32), .int xs0] h) : W_X10_joined g d av Q n 100 [some (.ref a0), some (.ref a1), some (.int x2), some (.int x3), some (.int x4), none, some (.int x6)] [.int xs0] h := by
  refine r_iconst (v := (0 : Int32)) dX10_joined_100 rfl ?_
  exact H
theorem s_X10_joined_101 {g : GX} {d : Nat} {av : List Value} {Q : QT} {n : Nat} {h : Hp} {a0 : Nat} {a1 : Nat} {x2 : Int32} {x3 : Int32} {x4 : Int32} {x6 : Int32} {xs0 : Int32} {xs1 : Int32} (hp : g.2.2.2.2 = true) (t0 : lay a0 = (0, 11, 15)) (t1 : lay a1 = (0, 11, 15)) (H : W_X10_joined g d av Q n 26 [some (.ref a0), some (.ref a1), some (.int x2), some (.int x3), some (.int x4), some (.int (xs1 + xs0)), some (.int (x6 + (1 : Int32)))] [] h) : W_X10_joined g d av Q n 101 [some (.ref a0), some (.ref a1), some (.int x2), some (.int x3), some (.int x4), none, some (.int x6)] [.int xs0, .int xs1] h := by
  refine r_iadd dX10_joined_101 ?_
  refine r_istore (ls2 := [some (.ref a0), some (.ref a1), some (.int x2), some (.int x3), some (.int x4), some (.int (xs1 + xs0)), some (.int x6)]) dX10_joined_102 (by decide) rfl ?_
  refine r_iinc (v := (x6 + (1 : Int32))) (ls2 := [some (.ref a0), some (.ref a1), some (.int x2), some (.int x3), some (.int x4), some (.int (xs1 + xs0)), some (.int (x6 + (1 : Int32)))]) dX10_joined_104 rfl rfl (by decide) rfl ?_
  refine r_goto (tgt := 26) dX10_joined_107 rfl ?_
  exact H
theorem s_X10_joined_127 {g : GX} {d : Nat} {av : List Value} {Q : QT} {n : Nat} {h : Hp} {a0 : Nat} {a1 : Nat} {x2 : Int32} {x3 : Int32} {x4 : Int32} (hp : g.2.2.2.2 = true) (t0 : lay a0 = (0, 11, 15)) (t1 : lay a1 = (0, 11, 15)) (H : (((ri h a1 5) ≤ x4) → (Q (some (.int x3)) n h)) ∧ ((¬ (ri h a1 5) ≤ x4) → (W_X10_joined g d av Q n 142 [some (.ref a0), some (.ref a1), some (.int x2), some (.int x3), some (.int x4), some (.int (0 : Int32)), some (.int (0 : Int32))] [] h))) : W_X10_joined g d av Q n 127 [some (.ref a0), some (.ref a1), some (.int x2), some (.int x3), some (.int x4), none, none] [] h := by
  refine r_iload dX10_joined_127 rfl ?_
  refine r_aload_n dX10_joined_129 rfl rfl ?_
  refine m_getI hp fw_X10_219 dX10_joined_130 rfl t1 ?_
  refine r_icmp_ge (tgt := 248) dX10_joined_133 rfl (fun cH => ?_) (fun cH => ?_)
  · replace H := H.1 cH
    refine r_iload_n dX10_joined_248 rfl rfl ?_
    exact r_zret dX10_joined_249 rfl rfl (Nat.le_refl _) (Nat.le_refl _) H
  · replace H := H.2 cH
    refine r_iconst (v := (0 : Int32)) dX10_joined_136 rfl ?_
    refine r_istore (ls2 := [some (.ref a0), some (.ref a1), some (.int x2), some (.int x3), some (.int x4), some (.int (0 : Int32)), none]) dX10_joined_137 (by decide) rfl ?_
    refine r_iconst (v := (0 : Int32)) dX10_joined_139 rfl ?_
    refine r_istore (ls2 := [some (.ref a0), some (.ref a1), some (.int x2), some (.int x3), some (.int x4), some (.int (0 : Int32)), some (.int (0 : Int32))]) dX10_joined_140 (by decide) rfl ?_
    exact H
theorem s_X10_joined_142 {g : GX} {d : Nat} {av : List Value} {Q : QT} {n : Nat} {h : Hp} {a0 : Nat} {a1 : Nat} {x2 : Int32} {x3 : Int32} {x4 : Int32} {x5 : Int32} {x6 : Int32} (hp : g.2.2.2.2 = true) (t0 : lay a0 = (0, 11, 15)) (t1 : lay a1 = (0, 11, 15)) (H : (((ri h a0 5) ≤ x6) → (((x5 = (0 : Int32)) → (vp_in x4 13 ∧ (CallI g m_J3_abs d [.int (x2 * (ri h (a1 + 6) (x4).toNatClampNeg))] n h (fun v1 h1 => (W_X10_joined g d av Q n 240 [some (.ref a0), some (.ref a1), some (.int x2), none, some (.int x4), none, none] [.int v1, .int x3] h1))))) ∧ ((¬ x5 = (0 : Int32)) → (W_X10_joined g d av Q n 240 [some (.ref a0), some (.ref a1), some (.int x2), none, some (.int x4), none, none] [.int (0 : Int32), .int x3] h)))) ∧ ((¬ (ri h a0 5) ≤ x6) → (vp_in x6 13 ∧ (vp_in x4 13 ∧ (((¬ (ri h (a0 + 3) (x6).toNatClampNeg) = (ri h (a1 + 3) (x4).toNatClampNeg)) → (W_X10_joined g d av Q n 208 [some (.ref a0), some (.ref a1), some (.int x2), some (.int x3), some (.int x4), none, some (.int x6)] [.int x5] h)) ∧ (((ri h (a0 + 3) (x6).toNatClampNeg) = (ri h (a1 + 3) (x4).toNatClampNeg)) → (vp_in x6 13 ∧ (vp_in x4 13 ∧ (((¬ (ri h (a0 + 4) (x6).toNatClampNeg) = (ri h (a1 + 4) (x4).toNatClampNeg)) → (W_X10_joined g d av Q n 208 [some (.ref a0), some (.ref a1), some (.int x2), some (.int x3), some (.int x4), none, some (.int x6)] [.int x5] h)) ∧ (((ri h (a0 + 4) (x6).toNatClampNeg) = (ri h (a1 + 4) (x4).toNatClampNeg)) → (vp_in x6 13 ∧ (vp_in x4 13 ∧ (((¬ (ri h (a0 + 5) (x6).toNatClampNeg) = (ri h (a1 + 5) (x4).toNatClampNeg)) → (W_X10_joined g d av Q n 208 [some (.ref a0), some (.ref a1), some (.int x2), some (.int x3), some (.int x4), none, some (.int x6)] [.int x5] h)) ∧ (((ri h (a0 + 5) (x6).toNatClampNeg) = (ri h (a1 + 5) (x4).toNatClampNeg)) → (W_X10_joined g d av Q n 209 [some (.ref a0), some (.ref a1), some (.int x2), some (.int x3), some (.int x4), none, some (.int x6)] [.int (1 : Int32), .int x5] h))))))))))))))) : W_X10_joined g d av Q n 142 [some (.ref a0), some (.ref a1), some (.int x2), some (.int x3), some (.int x4), some (.int x5), some (.int x6)] [] h := by
  refine r_iload dX10_joined_142 rfl ?_
  refine r_aload_n dX10_joined_144 rfl rfl ?_
  refine m_getI hp fw_X10_219 dX10_joined_145 rfl t0 ?_
  refine r_icmp_ge (tgt := 218) dX10_joined_148 rfl (fun cH => ?_) (fun cH => ?_)
  · replace H := H.1 cH
    refine r_iload_n dX10_joined_218 rfl rfl ?_
    refine r_iload dX10_joined_219 rfl ?_
    refine r_if_eq (tgt := 228) dX10_joined_221 rfl (fun cH => ?_) (fun cH => ?_)
    · replace H := H.1 cH
      refine r_iload_n dX10_joined_228 rfl rfl ?_
      refine r_aload_n dX10_joined_229 rfl rfl ?_
      refine m_getF (x := (a1 + 6)) hp fw_X10_231 dX10_joined_230 rfl t1 (ff_11_9 t1) ?_
      refine r_iload dX10_joined_233 rfl ?_
      refine m_iald hp dX10_joined_235 (lf_11_9 t1) H.1 ?_
      replace H := H.2
      refine r_imul dX10_joined_236 ?_
      refine k_SI (As := [.int (x2 * (ri h (a1 + 6) (x4).toNatClampNeg))]) (stk := [.int x3]) cs_X10_273 dX10_joined_237 rfl (Nat.le_of_ble_eq_true rfl) (H.mono (fun v1 h1 H => ?_)) ⟨Nat.le_refl _, Nat.le_refl _⟩
      refine r_prune [true, true, true, false, true, false, false] (ls2 := [some (.ref a0), some (.ref a1), some (.int x2), none, some (.int x4), none, none]) rfl ?_
      exact H
    · replace H := H.2 cH
      refine r_iconst (v := (0 : Int32)) dX10_joined_224 rfl ?_
      refine r_goto (tgt := 240) dX10_joined_225 rfl ?_
      refine r_prune [true, true, true, false, true, false, false] (ls2 := [some (.ref a0), some (.ref a1), some (.int x2), none, some (.int x4), none, none]) rfl ?_
      exact H
  · replace H := H.2 cH
    refine r_iload dX10_joined_151 rfl ?_
    refine r_aload_n dX10_joined_153 rfl rfl ?_
    refine m_getF (x := (a0 + 3)) hp fw_X10_222 dX10_joined_154 rfl t0 (ff_11_6 t0) ?_
    refine r_iload dX10_joined_157 rfl ?_
    refine m_iald hp dX10_joined_159 (lf_11_6 t0) H.1 ?_
    replace H := H.2
    refine r_aload_n dX10_joined_160 rfl rfl ?_
    refine m_getF (x := (a1 + 3)) hp fw_X10_222 dX10_joined_161 rfl t1 (ff_11_6 t1) ?_
    refine r_iload dX10_joined_164 rfl ?_
    refine m_iald hp dX10_joined_166 (lf_11_6 t1) H.1 ?_
    replace H := H.2
    refine r_icmp_ne (tgt := 208) dX10_joined_167 rfl (fun cH => ?_) (fun cH => ?_)
    · replace H := H.1 cH
      refine r_prune [true, true, true, true, true, false, true] (ls2 := [some (.ref a0), some (.ref a1), some (.int x2), some (.int x3), some (.int x4), none, some (.int x6)]) rfl ?_
      exact H
    · replace H := H.2 cH
      refine r_aload_n dX10_joined_170 rfl rfl ?_
      refine m_getF (x := (a0 + 4)) hp fw_X10_225 dX10_joined_171 rfl t0 (ff_11_7 t0) ?_
      refine r_iload dX10_joined_174 rfl ?_
      refine m_iald hp dX10_joined_176 (lf_11_7 t0) H.1 ?_
      replace H := H.2
      refine r_aload_n dX10_joined_177 rfl rfl ?_
      refine m_getF (x := (a1 + 4)) hp fw_X10_225 dX10_joined_178 rfl t1 (ff_11_7 t1) ?_
      refine r_iload dX10_joined_181 rfl ?_
      refine m_iald hp dX10_joined_183 (lf_11_7 t1) H.1 ?_
      replace H := H.2
      refine r_icmp_ne (tgt := 208) dX10_joined_184 rfl (fun cH => ?_) (fun cH => ?_)
      · replace H := H.1 cH
        refine r_prune [true, true, true, true, true, false, true] (ls2 := [some (.ref a0), some (.ref a1), some (.int x2), some (.int x3), some (.int x4), none, some (.int x6)]) rfl ?_
        exact H
      · replace H := H.2 cH
        refine r_aload_n dX10_joined_187 rfl rfl ?_
        refine m_getF (x := (a0 + 5)) hp fw_X10_228 dX10_joined_188 rfl t0 (ff_11_8 t0) ?_
        refine r_iload dX10_joined_191 rfl ?_
        refine m_iald hp dX10_joined_193 (lf_11_8 t0) H.1 ?_
        replace H := H.2
        refine r_aload_n dX10_joined_194 rfl rfl ?_
        refine m_getF (x := (a1 + 5)) hp fw_X10_228 dX10_joined_195 rfl t1 (ff_11_8 t1) ?_
        refine r_iload dX10_joined_198 rfl ?_
        refine m_iald hp dX10_joined_200 (lf_11_8 t1) H.1 ?_
        replace H := H.2
        refine r_icmp_ne (tgt := 208) dX10_joined_201 rfl (fun cH => ?_) (fun cH => ?_)
        · replace H := H.1 cH
          refine r_prune [true, true, true, true, true, false, true] (ls2 := [some (.ref a0), some (.ref a1), some (.int x2), some (.int x3), some (.int x4), none, some (.int x6)]) rfl ?_
          exact H
        · replace H := H.2 cH
          refine r_iconst (v := (1 : Int32)) dX10_joined_204 rfl ?_
          refine r_goto (tgt := 209) dX10_joined_205 rfl ?_
          refine r_prune [true, true, true, true, true, false, true] (ls2 := [some (.ref a0), some (.ref a1), some (.int x2), some (.int x3), some (.int x4), none, some (.int x6)]) rfl ?_
          exact H
theorem s_X10_joined_208 {g : GX} {d : Nat} {av : List Value} {Q : QT} {n : Nat} {h : Hp} {a0 : Nat} {a1 : Nat} {x2 : Int32} {x3 : Int32} {x4 : Int32} {x6 : Int32} {xs0 : Int32} (hp : g.2.2.2.2 = true) (t0 : lay a0 = (0, 11, 15)) (t1 : lay a1 = (0, 11, 15)) (H : W_X10_joined g d av Q n 209 [some (.ref a0), some (.ref a1), some (.int x2), some (.int x3), some (.int x4), none, some (.int x6)] [.int (0 : Int32), .int xs0] h) : W_X10_joined g d av Q n 208 [some (.ref a0), some (.ref a1), some (.int x2), some (.int x3), some (.int x4), none, some (.int x6)] [.int xs0] h := by
  refine r_iconst (v := (0 : Int32)) dX10_joined_208 rfl ?_
  exact H
theorem s_X10_joined_209 {g : GX} {d : Nat} {av : List Value} {Q : QT} {n : Nat} {h : Hp} {a0 : Nat} {a1 : Nat} {x2 : Int32} {x3 : Int32} {x4 : Int32} {x6 : Int32} {xs0 : Int32} {xs1 : Int32} (hp : g.2.2.2.2 = true) (t0 : lay a0 = (0, 11, 15)) (t1 : lay a1 = (0, 11, 15)) (H : W_X10_joined g d av Q n 142 [some (.ref a0), some (.ref a1), some (.int x2), some (.int x3), some (.int x4), some (.int (xs1 ||| xs0)), some (.int (x6 + (1 : Int32)))] [] h) : W_X10_joined g d av Q n 209 [some (.ref a0), some (.ref a1), some (.int x2), some (.int x3), some (.int x4), none, some (.int x6)] [.int xs0, .int xs1] h := by
  refine r_ior dX10_joined_209 ?_
  refine r_istore (ls2 := [some (.ref a0), some (.ref a1), some (.int x2), some (.int x3), some (.int x4), some (.int (xs1 ||| xs0)), some (.int x6)]) dX10_joined_210 (by decide) rfl ?_
  refine r_iinc (v := (x6 + (1 : Int32))) (ls2 := [some (.ref a0), some (.ref a1), some (.int x2), some (.int x3), some (.int x4), some (.int (xs1 ||| xs0)), some (.int (x6 + (1 : Int32)))]) dX10_joined_212 rfl rfl (by decide) rfl ?_
  refine r_goto (tgt := 142) dX10_joined_215 rfl ?_
  exact H
theorem s_X10_joined_240 {g : GX} {d : Nat} {av : List Value} {Q : QT} {n : Nat} {h : Hp} {a0 : Nat} {a1 : Nat} {x2 : Int32} {x4 : Int32} {xs0 : Int32} {xs1 : Int32} (hp : g.2.2.2.2 = true) (t0 : lay a0 = (0, 11, 15)) (t1 : lay a1 = (0, 11, 15)) (H : W_X10_joined g d av Q n 127 [some (.ref a0), some (.ref a1), some (.int x2), some (.int (xs1 + xs0)), some (.int (x4 + (1 : Int32))), none, none] [] h) : W_X10_joined g d av Q n 240 [some (.ref a0), some (.ref a1), some (.int x2), none, some (.int x4), none, none] [.int xs0, .int xs1] h := by
  refine r_iadd dX10_joined_240 ?_
  refine r_istore_n (ls2 := [some (.ref a0), some (.ref a1), some (.int x2), some (.int (xs1 + xs0)), some (.int x4), none, none]) dX10_joined_241 rfl (by decide) rfl ?_
  refine r_iinc (v := (x4 + (1 : Int32))) (ls2 := [some (.ref a0), some (.ref a1), some (.int x2), some (.int (xs1 + xs0)), some (.int (x4 + (1 : Int32))), none, none]) dX10_joined_242 rfl rfl (by decide) rfl ?_
  refine r_goto (tgt := 127) dX10_joined_245 rfl ?_
  exact H
abbrev W_X10_mergeAll (g : GX) (d : Nat) (av : List Value) (Q : QT) (n : Nat) (pc : Nat) (ls : LV) (stk : List Value) (h : Hp) : Prop := RJ g m_X10_mergeAll (d + 1) 0 0 av Q pc ls stk n h 0 0
theorem s_X10_mergeAll_0 {g : GX} {d : Nat} {av : List Value} {Q : QT} {n : Nat} {h : Hp} {a1 : Nat} {a2 : Nat} {x3 : Int32} (hp : g.2.2.2.2 = true) (t1 : lay a1 = (0, 11, 15)) (t2 : lay a2 = (0, 11, 15)) (H : W_X10_mergeAll g d av Q n 3 [some (.ref 2759), some (.ref a1), some (.ref a2), some (.int x3), some (.int (0 : Int32)), none, none, none] [] h) : W_X10_mergeAll g d av Q n 0 [some (.ref 2759), some (.ref a1), some (.ref a2), some (.int x3), none, none, none, none] [] h := by
  refine r_iconst (v := (0 : Int32)) dX10_mergeAll_0 rfl ?_
  refine r_istore (ls2 := [some (.ref 2759), some (.ref a1), some (.ref a2), some (.int x3), some (.int (0 : Int32)), none, none, none]) dX10_mergeAll_1 (by decide) rfl ?_
  exact H
theorem s_X10_mergeAll_3 {g : GX} {d : Nat} {av : List Value} {Q : QT} {n : Nat} {h : Hp} {a1 : Nat} {a2 : Nat} {x3 : Int32} {x4 : Int32} (hp : g.2.2.2.2 = true) (t1 : lay a1 = (0, 11, 15)) (t2 : lay a2 = (0, 11, 15)) (H : (((2 : Int32) ≤ x4) → (Q none n h)) ∧ ((¬ (2 : Int32) ≤ x4) → (W_X10_mergeAll g d av Q n 12 [some (.ref 2759), some (.ref a1), some (.ref a2), some (.int x3), some (.int x4), some (.int (0 : Int32)), none, none] [] h))) : W_X10_mergeAll g d av Q n 3 [some (.ref 2759), some (.ref a1), some (.ref a2), some (.int x3), some (.int x4), none, none, none] [] h := by
  refine r_iload dX10_mergeAll_3 rfl ?_
  refine r_iconst (v := (2 : Int32)) dX10_mergeAll_5 rfl ?_
  refine r_icmp_ge (tgt := 196) dX10_mergeAll_6 rfl (fun cH => ?_) (fun cH => ?_)
  · replace H := H.1 cH
    exact r_vret dX10_mergeAll_196 rfl (Nat.le_refl _) (Nat.le_refl _) H
  · replace H := H.2 cH
    refine r_iconst (v := (0 : Int32)) dX10_mergeAll_9 rfl ?_
    refine r_istore (ls2 := [some (.ref 2759), some (.ref a1), some (.ref a2), some (.int x3), some (.int x4), some (.int (0 : Int32)), none, none]) dX10_mergeAll_10 (by decide) rfl ?_
    exact H
theorem s_X10_mergeAll_12 {g : GX} {d : Nat} {av : List Value} {Q : QT} {n : Nat} {h : Hp} {a1 : Nat} {a2 : Nat} {x3 : Int32} {x4 : Int32} {x5 : Int32} (hp : g.2.2.2.2 = true) (t1 : lay a1 = (0, 11, 15)) (t2 : lay a2 = (0, 11, 15)) (H : (((ri h a2 5) ≤ x5) → (W_X10_mergeAll g d av Q n 3 [some (.ref 2759), some (.ref a1), some (.ref a2), some (.int x3), some (.int (x4 + (1 : Int32))), none, none, none] [] h)) ∧ ((¬ (ri h a2 5) ≤ x5) → (W_X10_mergeAll g d av Q n 27 [some (.ref 2759), some (.ref a1), some (.ref a2), some (.int x3), some (.int x4), some (.int x5), some (.int (0 : Int32)), some (.int (0 : Int32))] [] h))) : W_X10_mergeAll g d av Q n 12 [some (.ref 2759), some (.ref a1), some (.ref a2), some (.int x3), some (.int x4), some (.int x5), none, none] [] h := by
  refine r_iload dX10_mergeAll_12 rfl ?_
  refine r_aload_n dX10_mergeAll_14 rfl rfl ?_
  refine m_getI hp fw_X10_219 dX10_mergeAll_15 rfl t2 ?_
  refine r_icmp_ge (tgt := 190) dX10_mergeAll_18 rfl (fun cH => ?_) (fun cH => ?_)
  · replace H := H.1 cH
    refine r_iinc (v := (x4 + (1 : Int32))) (ls2 := [some (.ref 2759), some (.ref a1), some (.ref a2), some (.int x3), some (.int (x4 + (1 : Int32))), some (.int x5), none, none]) dX10_mergeAll_190 rfl rfl (by decide) rfl ?_
    refine r_goto (tgt := 3) dX10_mergeAll_193 rfl ?_
    refine r_prune [true, true, true, true, true, false, false, false] (ls2 := [some (.ref 2759), some (.ref a1), some (.ref a2), some (.int x3), some (.int (x4 + (1 : Int32))), none, none, none]) rfl ?_
    exact H
  · replace H := H.2 cH
    refine r_iconst (v := (0 : Int32)) dX10_mergeAll_21 rfl ?_
    refine r_istore (ls2 := [some (.ref 2759), some (.ref a1), some (.ref a2), some (.int x3), some (.int x4), some (.int x5), some (.int (0 : Int32)), none]) dX10_mergeAll_22 (by decide) rfl ?_
    refine r_iconst (v := (0 : Int32)) dX10_mergeAll_24 rfl ?_
    refine r_istore (ls2 := [some (.ref 2759), some (.ref a1), some (.ref a2), some (.int x3), some (.int x4), some (.int x5), some (.int (0 : Int32)), some (.int (0 : Int32))]) dX10_mergeAll_25 (by decide) rfl ?_
    exact H
theorem s_X10_mergeAll_27 {g : GX} {d : Nat} {av : List Value} {Q : QT} {n : Nat} {h : Hp} {a1 : Nat} {a2 : Nat} {x3 : Int32} {x4 : Int32} {x5 : Int32} {x6 : Int32} {x7 : Int32} (hp : g.2.2.2.2 = true) (t1 : lay a1 = (0, 11, 15)) (t2 : lay a2 = (0, 11, 15)) (H : (((ri h a1 5) ≤ x7) → (((¬ x4 = (0 : Int32)) → (vp_in x5 13 ∧ (W_X10_mergeAll g d av Q n 126 [some (.ref 2759), some (.ref a1), some (.ref a2), some (.int x3), some (.int x4), some (.int x5), some (.int x6), none] [.int (ri h 2837 (x5).toNatClampNeg), .int x5, .ref 2837] h))) ∧ ((x4 = (0 : Int32)) → (W_X10_mergeAll g d av Q n 126 [some (.ref 2759), some (.ref a1), some (.ref a2), some (.int x3), some (.int x4), some (.int x5), some (.int x6), none] [.int x6, .int x5, .ref 2837] h)))) ∧ ((¬ (ri h a1 5) ≤ x7) → (vp_in x7 13 ∧ (vp_in x5 13 ∧ (((¬ (ri h (a1 + 3) (x7).toNatClampNeg) = (ri h (a2 + 3) (x5).toNatClampNeg)) → (W_X10_mergeAll g d av Q n 93 [some (.ref 2759), some (.ref a1), some (.ref a2), some (.int x3), some (.int x4), some (.int x5), none, some (.int x7)] [.int x6] h)) ∧ (((ri h (a1 + 3) (x7).toNatClampNeg) = (ri h (a2 + 3) (x5).toNatClampNeg)) → (vp_in x7 13 ∧ (vp_in x5 13 ∧ (((¬ (ri h (a1 + 4) (x7).toNatClampNeg) = (ri h (a2 + 4) (x5).toNatClampNeg)) → (W_X10_mergeAll g d av Q n 93 [some (.ref 2759), some (.ref a1), some (.ref a2), some (.int x3), some (.int x4), some (.int x5), none, some (.int x7)] [.int x6] h)) ∧ (((ri h (a1 + 4) (x7).toNatClampNeg) = (ri h (a2 + 4) (x5).toNatClampNeg)) → (vp_in x7 13 ∧ (vp_in x5 13 ∧ (((¬ (ri h (a1 + 5) (x7).toNatClampNeg) = (ri h (a2 + 5) (x5).toNatClampNeg)) → (W_X10_mergeAll g d av Q n 93 [some (.ref 2759), some (.ref a1), some (.ref a2), some (.int x3), some (.int x4), some (.int x5), none, some (.int x7)] [.int x6] h)) ∧ (((ri h (a1 + 5) (x7).toNatClampNeg) = (ri h (a2 + 5) (x5).toNatClampNeg)) → (W_X10_mergeAll g d av Q n 94 [some (.ref 2759), some (.ref a1), some (.ref a2), some (.int x3), some (.int x4), some (.int x5), none, some (.int x7)] [.int (1 : Int32), .int x6] h))))))))))))))) : W_X10_mergeAll g d av Q n 27 [some (.ref 2759), some (.ref a1), some (.ref a2), some (.int x3), some (.int x4), some (.int x5), some (.int x6), some (.int x7)] [] h := by
  refine r_iload dX10_mergeAll_27 rfl ?_
  refine r_aload_n dX10_mergeAll_29 rfl rfl ?_
  refine m_getI hp fw_X10_219 dX10_mergeAll_30 rfl t1 ?_
  refine r_icmp_ge (tgt := 103) dX10_mergeAll_33 rfl (fun cH => ?_) (fun cH => ?_)
  · replace H := H.1 cH
    refine r_aload_n dX10_mergeAll_103 rfl rfl ?_
    refine m_getF (x := 2837) hp fw_X10_310 dX10_mergeAll_104 rfl ly_10 (ff_10_7 ly_10) ?_
    refine r_iload dX10_mergeAll_107 rfl ?_
    refine r_iload dX10_mergeAll_109 rfl ?_
    refine r_if_ne (tgt := 119) dX10_mergeAll_111 rfl (fun cH => ?_) (fun cH => ?_)
    · replace H := H.1 cH
      refine r_aload_n dX10_mergeAll_119 rfl rfl ?_
      refine m_getF (x := 2837) hp fw_X10_310 dX10_mergeAll_120 rfl ly_10 (ff_10_7 ly_10) ?_
      refine r_iload dX10_mergeAll_123 rfl ?_
      refine m_zald hp dX10_mergeAll_125 (lf_10_7 ly_10) H.1 ?_
      replace H := H.2
      refine r_prune [true, true, true, true, true, true, true, false] (ls2 := [some (.ref 2759), some (.ref a1), some (.ref a2), some (.int x3), some (.int x4), some (.int x5), some (.int x6), none]) rfl ?_
      exact H
    · replace H := H.2 cH
      refine r_iload dX10_mergeAll_114 rfl ?_
      refine r_goto (tgt := 126) dX10_mergeAll_116 rfl ?_
      refine r_prune [true, true, true, true, true, true, true, false] (ls2 := [some (.ref 2759), some (.ref a1), some (.ref a2), some (.int x3), some (.int x4), some (.int x5), some (.int x6), none]) rfl ?_
      exact H
  · replace H := H.2 cH
    refine r_iload dX10_mergeAll_36 rfl ?_
    refine r_aload_n dX10_mergeAll_38 rfl rfl ?_
    refine m_getF (x := (a1 + 3)) hp fw_X10_222 dX10_mergeAll_39 rfl t1 (ff_11_6 t1) ?_
    refine r_iload dX10_mergeAll_42 rfl ?_
    refine m_iald hp dX10_mergeAll_44 (lf_11_6 t1) H.1 ?_
    replace H := H.2
    refine r_aload_n dX10_mergeAll_45 rfl rfl ?_
    refine m_getF (x := (a2 + 3)) hp fw_X10_222 dX10_mergeAll_46 rfl t2 (ff_11_6 t2) ?_
    refine r_iload dX10_mergeAll_49 rfl ?_
    refine m_iald hp dX10_mergeAll_51 (lf_11_6 t2) H.1 ?_
    replace H := H.2
    refine r_icmp_ne (tgt := 93) dX10_mergeAll_52 rfl (fun cH => ?_) (fun cH => ?_)
    · replace H := H.1 cH
      refine r_prune [true, true, true, true, true, true, false, true] (ls2 := [some (.ref 2759), some (.ref a1), some (.ref a2), some (.int x3), some (.int x4), some (.int x5), none, some (.int x7)]) rfl ?_
      exact H
    · replace H := H.2 cH
      refine r_aload_n dX10_mergeAll_55 rfl rfl ?_
      refine m_getF (x := (a1 + 4)) hp fw_X10_225 dX10_mergeAll_56 rfl t1 (ff_11_7 t1) ?_
      refine r_iload dX10_mergeAll_59 rfl ?_
      refine m_iald hp dX10_mergeAll_61 (lf_11_7 t1) H.1 ?_
      replace H := H.2
      refine r_aload_n dX10_mergeAll_62 rfl rfl ?_
      refine m_getF (x := (a2 + 4)) hp fw_X10_225 dX10_mergeAll_63 rfl t2 (ff_11_7 t2) ?_
      refine r_iload dX10_mergeAll_66 rfl ?_
      refine m_iald hp dX10_mergeAll_68 (lf_11_7 t2) H.1 ?_
      replace H := H.2
      refine r_icmp_ne (tgt := 93) dX10_mergeAll_69 rfl (fun cH => ?_) (fun cH => ?_)
      · replace H := H.1 cH
        refine r_prune [true, true, true, true, true, true, false, true] (ls2 := [some (.ref 2759), some (.ref a1), some (.ref a2), some (.int x3), some (.int x4), some (.int x5), none, some (.int x7)]) rfl ?_
        exact H
      · replace H := H.2 cH
        refine r_aload_n dX10_mergeAll_72 rfl rfl ?_
        refine m_getF (x := (a1 + 5)) hp fw_X10_228 dX10_mergeAll_73 rfl t1 (ff_11_8 t1) ?_
        refine r_iload dX10_mergeAll_76 rfl ?_
        refine m_iald hp dX10_mergeAll_78 (lf_11_8 t1) H.1 ?_
        replace H := H.2
        refine r_aload_n dX10_mergeAll_79 rfl rfl ?_
        refine m_getF (x := (a2 + 5)) hp fw_X10_228 dX10_mergeAll_80 rfl t2 (ff_11_8 t2) ?_
        refine r_iload dX10_mergeAll_83 rfl ?_
        refine m_iald hp dX10_mergeAll_85 (lf_11_8 t2) H.1 ?_
        replace H := H.2
        refine r_icmp_ne (tgt := 93) dX10_mergeAll_86 rfl (fun cH => ?_) (fun cH => ?_)
        · replace H := H.1 cH
          refine r_prune [true, true, true, true, true, true, false, true] (ls2 := [some (.ref 2759), some (.ref a1), some (.ref a2), some (.int x3), some (.int x4), some (.int x5), none, some (.int x7)]) rfl ?_
          exact H
        · replace H := H.2 cH
          refine r_iconst (v := (1 : Int32)) dX10_mergeAll_89 rfl ?_
          refine r_goto (tgt := 94) dX10_mergeAll_90 rfl ?_
          refine r_prune [true, true, true, true, true, true, false, true] (ls2 := [some (.ref 2759), some (.ref a1), some (.ref a2), some (.int x3), some (.int x4), some (.int x5), none, some (.int x7)]) rfl ?_
          exact H
theorem s_X10_mergeAll_93 {g : GX} {d : Nat} {av : List Value} {Q : QT} {n : Nat} {h : Hp} {a1 : Nat} {a2 : Nat} {x3 : Int32} {x4 : Int32} {x5 : Int32} {x7 : Int32} {xs0 : Int32} (hp : g.2.2.2.2 = true) (t1 : lay a1 = (0, 11, 15)) (t2 : lay a2 = (0, 11, 15)) (H : W_X10_mergeAll g d av Q n 94 [some (.ref 2759), some (.ref a1), some (.ref a2), some (.int x3), some (.int x4), some (.int x5), none, some (.int x7)] [.int (0 : Int32), .int xs0] h) : W_X10_mergeAll g d av Q n 93 [some (.ref 2759), some (.ref a1), some (.ref a2), some (.int x3), some (.int x4), some (.int x5), none, some (.int x7)] [.int xs0] h := by
  refine r_iconst (v := (0 : Int32)) dX10_mergeAll_93 rfl ?_
  exact H
theorem s_X10_mergeAll_94 {g : GX} {d : Nat} {av : List Value} {Q : QT} {n : Nat} {h : Hp} {a1 : Nat} {a2 : Nat} {x3 : Int32} {x4 : Int32} {x5 : Int32} {x7 : Int32} {xs0 : Int32} {xs1 : Int32} (hp : g.2.2.2.2 = true) (t1 : lay a1 = (0, 11, 15)) (t2 : lay a2 = (0, 11, 15)) (H : W_X10_mergeAll g d av Q n 27 [some (.ref 2759), some (.ref a1), some (.ref a2), some (.int x3), some (.int x4), some (.int x5), some (.int (xs1 ||| xs0)), some (.int (x7 + (1 : Int32)))] [] h) : W_X10_mergeAll g d av Q n 94 [some (.ref 2759), some (.ref a1), some (.ref a2), some (.int x3), some (.int x4), some (.int x5), none, some (.int x7)] [.int xs0, .int xs1] h := by
  refine r_ior dX10_mergeAll_94 ?_
  refine r_istore (ls2 := [some (.ref 2759), some (.ref a1), some (.ref a2), some (.int x3), some (.int x4), some (.int x5), some (.int (xs1 ||| xs0)), some (.int x7)]) dX10_mergeAll_95 (by decide) rfl ?_
  refine r_iinc (v := (x7 + (1 : Int32))) (ls2 := [some (.ref 2759), some (.ref a1), some (.ref a2), some (.int x3), some (.int x4), some (.int x5), some (.int (xs1 ||| xs0)), some (.int (x7 + (1 : Int32)))]) dX10_mergeAll_97 rfl rfl (by decide) rfl ?_
  refine r_goto (tgt := 27) dX10_mergeAll_100 rfl ?_
  exact H
theorem s_X10_mergeAll_126 {g : GX} {d : Nat} {av : List Value} {Q : QT} {n : Nat} {h : Hp} {a1 : Nat} {a2 : Nat} {x3 : Int32} {x4 : Int32} {x5 : Int32} {x6 : Int32} {xs0 : Int32} {xs1 : Int32} {as2 : Nat} {Ls2 : Nat} (hp : g.2.2.2.2 = true) (t1 : lay a1 = (0, 11, 15)) (t2 : lay a2 = (0, 11, 15)) (ts2 : lay as2 = (1, Ls2, 2)) (H : vp_in xs1 Ls2 ∧ (narrow .boolean (.int xs0) = .int xs0) ∧ ∀ h1, h1 = wi h as2 (xs1).toNatClampNeg xs0 → (((¬ x4 = (0 : Int32)) → (vp_in x5 13 ∧ (((¬ (ri h1 2837 (x5).toNatClampNeg) = (0 : Int32)) → (W_X10_mergeAll g d av Q n 184 [some (.ref 2759), some (.ref a1), some (.ref a2), some (.int x3), some (.int x4), some (.int x5), none, none] [] h1)) ∧ (((ri h1 2837 (x5).toNatClampNeg) = (0 : Int32)) → (W_X10_mergeAll g d av Q n 150 [some (.ref 2759), some (.ref a1), some (.ref a2), some (.int x3), some (.int x4), some (.int x5), none, none] [] h1))))) ∧ ((x4 = (0 : Int32)) → (((x6 = (0 : Int32)) → (W_X10_mergeAll g d av Q n 184 [some (.ref 2759), some (.ref a1), some (.ref a2), some (.int x3), some (.int x4), some (.int x5), none, none] [] h1)) ∧ ((¬ x6 = (0 : Int32)) → (W_X10_mergeAll g d av Q n 150 [some (.ref 2759), some (.ref a1), some (.ref a2), some (.int x3), some (.int x4), some (.int x5), none, none] [] h1)))))) : W_X10_mergeAll g d av Q n 126 [some (.ref 2759), some (.ref a1), some (.ref a2), some (.int x3), some (.int x4), some (.int x5), some (.int x6), none] [.int xs0, .int xs1, .ref as2] h := by
  refine m_zast hp dX10_mergeAll_126 ts2 H.1 H.2.1 (fun h1 eh1 => ?_)
  replace H := H.2.2 h1 eh1
  refine r_iload dX10_mergeAll_127 rfl ?_
  refine r_if_ne (tgt := 140) dX10_mergeAll_129 rfl (fun cH => ?_) (fun cH => ?_)
  · replace H := H.1 cH
    refine r_aload_n dX10_mergeAll_140 rfl rfl ?_
    refine m_getF (x := 2837) hp fw_X10_310 dX10_mergeAll_141 rfl ly_10 (ff_10_7 ly_10) ?_
    refine r_iload dX10_mergeAll_144 rfl ?_
    refine m_zald hp dX10_mergeAll_146 (lf_10_7 ly_10) H.1 ?_
    replace H := H.2
    refine r_if_ne (tgt := 184) dX10_mergeAll_147 rfl (fun cH => ?_) (fun cH => ?_)
    · replace H := H.1 cH
      refine r_prune [true, true, true, true, true, true, false, false] (ls2 := [some (.ref 2759), some (.ref a1), some (.ref a2), some (.int x3), some (.int x4), some (.int x5), none, none]) rfl ?_
      exact H
    · replace H := H.2 cH
      refine r_prune [true, true, true, true, true, true, false, false] (ls2 := [some (.ref 2759), some (.ref a1), some (.ref a2), some (.int x3), some (.int x4), some (.int x5), none, none]) rfl ?_
      exact H
  · replace H := H.2 cH
    refine r_iload dX10_mergeAll_132 rfl ?_
    refine r_if_eq (tgt := 184) dX10_mergeAll_134 rfl (fun cH => ?_) (fun cH => ?_)
    · replace H := H.1 cH
      refine r_prune [true, true, true, true, true, true, false, false] (ls2 := [some (.ref 2759), some (.ref a1), some (.ref a2), some (.int x3), some (.int x4), some (.int x5), none, none]) rfl ?_
      exact H
    · replace H := H.2 cH
      refine r_goto (tgt := 150) dX10_mergeAll_137 rfl ?_
      refine r_prune [true, true, true, true, true, true, false, false] (ls2 := [some (.ref 2759), some (.ref a1), some (.ref a2), some (.int x3), some (.int x4), some (.int x5), none, none]) rfl ?_
      exact H
theorem s_X10_mergeAll_150 {g : GX} {d : Nat} {av : List Value} {Q : QT} {n : Nat} {h : Hp} {a1 : Nat} {a2 : Nat} {x3 : Int32} {x4 : Int32} {x5 : Int32} (hp : g.2.2.2.2 = true) (t1 : lay a1 = (0, 11, 15)) (t2 : lay a2 = (0, 11, 15)) (H : vp_in x5 13 ∧ (vp_in x5 13 ∧ (vp_in x5 13 ∧ (vp_in x5 13 ∧ (CallV g m_X10_factor d [.ref a1, .int (ri h (a2 + 3) (x5).toNatClampNeg), .int (ri h (a2 + 4) (x5).toNatClampNeg), .int (ri h (a2 + 5) (x5).toNatClampNeg), .int (x3 * (ri h (a2 + 6) (x5).toNatClampNeg))] n h (fun h1 => (W_X10_mergeAll g d av Q n 184 [some (.ref 2759), some (.ref a1), some (.ref a2), some (.int x3), some (.int x4), some (.int x5), none, none] [] h1))))))) : W_X10_mergeAll g d av Q n 150 [some (.ref 2759), some (.ref a1), some (.ref a2), some (.int x3), some (.int x4), some (.int x5), none, none] [] h := by
  refine r_aload_n dX10_mergeAll_150 rfl rfl ?_
  refine r_aload_n dX10_mergeAll_151 rfl rfl ?_
  refine m_getF (x := (a2 + 3)) hp fw_X10_222 dX10_mergeAll_152 rfl t2 (ff_11_6 t2) ?_
  refine r_iload dX10_mergeAll_155 rfl ?_
  refine m_iald hp dX10_mergeAll_157 (lf_11_6 t2) H.1 ?_
  replace H := H.2
  refine r_aload_n dX10_mergeAll_158 rfl rfl ?_
  refine m_getF (x := (a2 + 4)) hp fw_X10_225 dX10_mergeAll_159 rfl t2 (ff_11_7 t2) ?_
  refine r_iload dX10_mergeAll_162 rfl ?_
  refine m_iald hp dX10_mergeAll_164 (lf_11_7 t2) H.1 ?_
  replace H := H.2
  refine r_aload_n dX10_mergeAll_165 rfl rfl ?_
  refine m_getF (x := (a2 + 5)) hp fw_X10_228 dX10_mergeAll_166 rfl t2 (ff_11_8 t2) ?_
  refine r_iload dX10_mergeAll_169 rfl ?_
  refine m_iald hp dX10_mergeAll_171 (lf_11_8 t2) H.1 ?_
  replace H := H.2
  refine r_iload_n dX10_mergeAll_172 rfl rfl ?_
  refine r_aload_n dX10_mergeAll_173 rfl rfl ?_
  refine m_getF (x := (a2 + 6)) hp fw_X10_231 dX10_mergeAll_174 rfl t2 (ff_11_9 t2) ?_
  refine r_iload dX10_mergeAll_177 rfl ?_
  refine m_iald hp dX10_mergeAll_179 (lf_11_9 t2) H.1 ?_
  replace H := H.2
  refine r_imul dX10_mergeAll_180 ?_
  refine k_SV (As := [.ref a1, .int (ri h (a2 + 3) (x5).toNatClampNeg), .int (ri h (a2 + 4) (x5).toNatClampNeg), .int (ri h (a2 + 5) (x5).toNatClampNeg), .int (x3 * (ri h (a2 + 6) (x5).toNatClampNeg))]) (stk := []) cs_X10_284 dX10_mergeAll_181 rfl (Nat.le_of_ble_eq_true rfl) (H.mono (fun h1 H => ?_)) ⟨Nat.le_refl _, Nat.le_refl _⟩
  exact H
theorem s_X10_mergeAll_184 {g : GX} {d : Nat} {av : List Value} {Q : QT} {n : Nat} {h : Hp} {a1 : Nat} {a2 : Nat} {x3 : Int32} {x4 : Int32} {x5 : Int32} (hp : g.2.2.2.2 = true) (t1 : lay a1 = (0, 11, 15)) (t2 : lay a2 = (0, 11, 15)) (H : W_X10_mergeAll g d av Q n 12 [some (.ref 2759), some (.ref a1), some (.ref a2), some (.int x3), some (.int x4), some (.int (x5 + (1 : Int32))), none, none] [] h) : W_X10_mergeAll g d av Q n 184 [some (.ref 2759), some (.ref a1), some (.ref a2), some (.int x3), some (.int x4), some (.int x5), none, none] [] h := by
  refine r_iinc (v := (x5 + (1 : Int32))) (ls2 := [some (.ref 2759), some (.ref a1), some (.ref a2), some (.int x3), some (.int x4), some (.int (x5 + (1 : Int32))), none, none]) dX10_mergeAll_184 rfl rfl (by decide) rfl ?_
  refine r_goto (tgt := 12) dX10_mergeAll_187 rfl ?_
  exact H
abbrev W_X10_add_2 (g : GX) (d : Nat) (av : List Value) (Q : QT) (n : Nat) (pc : Nat) (ls : LV) (stk : List Value) (h : Hp) : Prop := RJ g m_X10_add_2 (d + 1) 0 0 av Q pc ls stk n h 0 0
theorem s_X10_add_2_0 {g : GX} {d : Nat} {av : List Value} {Q : QT} {n : Nat} {h : Hp} {a1 : Nat} {a2 : Nat} {x3 : Int32} (hp : g.2.2.2.2 = true) (t1 : lay a1 = (0, 11, 15)) (t2 : lay a2 = (0, 11, 15)) (H : CallR g m_X10_newB d [.ref 2759] n h (fun v1 h1 => (lay v1 = (0, 14, 2) ∧ (CallR g m_X10_newB d [.ref 2759] n h1 (fun v2 h2 => (lay v2 = (0, 14, 2) ∧ (CallR g m_X10_newB d [.ref 2759] n h2 (fun v3 h3 => (lay v3 = (0, 14, 2) ∧ (CallR g m_X10_newB d [.ref 2759] n h3 (fun v4 h4 => (lay v4 = (0, 14, 2) ∧ (CallR g m_X10_newB d [.ref 2759] n h4 (fun v5 h5 => (lay v5 = (0, 14, 2) ∧ (CallR g m_X10_newB d [.ref 2759] n h5 (fun v6 h6 => (lay v6 = (0, 14, 2) ∧ (CallV g m_X10_load d [.ref v1, .ref (a1 + 1)] n h6 (fun h7 => (CallV g m_X10_load d [.ref v2, .ref (a1 + 2)] n h7 (fun h8 => (CallV g m_X10_load d [.ref v3, .ref (a2 + 1)] n h8 (fun h9 => (CallV g m_X10_load d [.ref v4, .ref (a2 + 2)] n h9 (fun h10 => (CallV g m_X10_sum d [.ref 2759, .ref v5, .ref v6, .ref v1, .ref v2, .ref v3, .ref v4, .int x3] n h10 (fun h11 => (CallI g m_X10_put d [.ref a1, .ref v5, .ref v6] n h11 (fun v12 h12 => (∀ h13, h13 = wi h12 2759 3 (ri h 2759 3) → ((v12 = 0 ∨ v12 = 1) ∧ Q (some (.int v12)) n h13)))))))))))))))))))))))))))))))) : W_X10_add_2 g d av Q n 0 [some (.ref 2759), some (.ref a1), some (.ref a2), some (.int x3), none, none, none, none, none, none, none, none] [] h := by
  refine r_aload_n dX10_add_2_0 rfl rfl ?_
  refine m_getI hp fw_X10_90 dX10_add_2_1 rfl ly_10 ?_
  refine r_istore (ls2 := [some (.ref 2759), some (.ref a1), some (.ref a2), some (.int x3), some (.int (ri h 2759 3)), none, none, none, none, none, none, none]) dX10_add_2_4 (by decide) rfl ?_
  refine r_aload_n dX10_add_2_6 rfl rfl ?_
  refine k_VR (As := []) (stk := []) hp cv_X10_140 dX10_add_2_7 rfl (Nat.le_of_ble_eq_true rfl) ly_10 (H.mono (fun v1 h1 H => ?_)) ⟨Nat.le_refl _, Nat.le_refl _⟩
  obtain ⟨tv1, H⟩ := H
  refine r_astore (ls2 := [some (.ref 2759), some (.ref a1), some (.ref a2), some (.int x3), some (.int (ri h 2759 3)), some (.ref v1), none, none, none, none, none, none]) dX10_add_2_10 (by decide) rfl ?_
  refine r_aload_n dX10_add_2_12 rfl rfl ?_
  refine k_VR (As := []) (stk := []) hp cv_X10_140 dX10_add_2_13 rfl (Nat.le_of_ble_eq_true rfl) ly_10 (H.mono (fun v2 h2 H => ?_)) ⟨Nat.le_refl _, Nat.le_refl _⟩
  obtain ⟨tv2, H⟩ := H
  refine r_astore (ls2 := [some (.ref 2759), some (.ref a1), some (.ref a2), some (.int x3), some (.int (ri h 2759 3)), some (.ref v1), some (.ref v2), none, none, none, none, none]) dX10_add_2_16 (by decide) rfl ?_
  refine r_aload_n dX10_add_2_18 rfl rfl ?_
  refine k_VR (As := []) (stk := []) hp cv_X10_140 dX10_add_2_19 rfl (Nat.le_of_ble_eq_true rfl) ly_10 (H.mono (fun v3 h3 H => ?_)) ⟨Nat.le_refl _, Nat.le_refl _⟩
  obtain ⟨tv3, H⟩ := H
  refine r_astore (ls2 := [some (.ref 2759), some (.ref a1), some (.ref a2), some (.int x3), some (.int (ri h 2759 3)), some (.ref v1), some (.ref v2), some (.ref v3), none, none, none, none]) dX10_add_2_22 (by decide) rfl ?_
  refine r_aload_n dX10_add_2_24 rfl rfl ?_
  refine k_VR (As := []) (stk := []) hp cv_X10_140 dX10_add_2_25 rfl (Nat.le_of_ble_eq_true rfl) ly_10 (H.mono (fun v4 h4 H => ?_)) ⟨Nat.le_refl _, Nat.le_refl _⟩
  obtain ⟨tv4, H⟩ := H
  refine r_astore (ls2 := [some (.ref 2759), some (.ref a1), some (.ref a2), some (.int x3), some (.int (ri h 2759 3)), some (.ref v1), some (.ref v2), some (.ref v3), some (.ref v4), none, none, none]) dX10_add_2_28 (by decide) rfl ?_
  refine r_aload_n dX10_add_2_30 rfl rfl ?_
  refine k_VR (As := []) (stk := []) hp cv_X10_140 dX10_add_2_31 rfl (Nat.le_of_ble_eq_true rfl) ly_10 (H.mono (fun v5 h5 H => ?_)) ⟨Nat.le_refl _, Nat.le_refl _⟩
  obtain ⟨tv5, H⟩ := H
  refine r_astore (ls2 := [some (.ref 2759), some (.ref a1), some (.ref a2), some (.int x3), some (.int (ri h 2759 3)), some (.ref v1), some (.ref v2), some (.ref v3), some (.ref v4), some (.ref v5), none, none]) dX10_add_2_34 (by decide) rfl ?_
  refine r_aload_n dX10_add_2_36 rfl rfl ?_
  refine k_VR (As := []) (stk := []) hp cv_X10_140 dX10_add_2_37 rfl (Nat.le_of_ble_eq_true rfl) ly_10 (H.mono (fun v6 h6 H => ?_)) ⟨Nat.le_refl _, Nat.le_refl _⟩
  obtain ⟨tv6, H⟩ := H
  refine r_astore (ls2 := [some (.ref 2759), some (.ref a1), some (.ref a2), some (.int x3), some (.int (ri h 2759 3)), some (.ref v1), some (.ref v2), some (.ref v3), some (.ref v4), some (.ref v5), some (.ref v6), none]) dX10_add_2_40 (by decide) rfl ?_
  refine r_aload dX10_add_2_42 rfl ?_
  refine r_aload_n dX10_add_2_44 rfl rfl ?_
  refine m_getF (x := (a1 + 1)) hp fw_X10_207 dX10_add_2_45 rfl t1 (ff_11_1 t1) ?_
  refine k_SV (As := [.ref v1, .ref (a1 + 1)]) (stk := []) cs_X10_295 dX10_add_2_48 rfl (Nat.le_of_ble_eq_true rfl) (H.mono (fun h7 H => ?_)) ⟨Nat.le_refl _, Nat.le_refl _⟩
  refine r_aload dX10_add_2_51 rfl ?_
  refine r_aload_n dX10_add_2_53 rfl rfl ?_
  refine m_getF (x := (a1 + 2)) hp fw_X10_210 dX10_add_2_54 rfl t1 (ff_11_2 t1) ?_
  refine k_SV (As := [.ref v2, .ref (a1 + 2)]) (stk := []) cs_X10_295 dX10_add_2_57 rfl (Nat.le_of_ble_eq_true rfl) (H.mono (fun h8 H => ?_)) ⟨Nat.le_refl _, Nat.le_refl _⟩
  refine r_aload dX10_add_2_60 rfl ?_
  refine r_aload_n dX10_add_2_62 rfl rfl ?_
  refine m_getF (x := (a2 + 1)) hp fw_X10_207 dX10_add_2_63 rfl t2 (ff_11_1 t2) ?_
  refine k_SV (As := [.ref v3, .ref (a2 + 1)]) (stk := []) cs_X10_295 dX10_add_2_66 rfl (Nat.le_of_ble_eq_true rfl) (H.mono (fun h9 H => ?_)) ⟨Nat.le_refl _, Nat.le_refl _⟩
  refine r_aload dX10_add_2_69 rfl ?_
  refine r_aload_n dX10_add_2_71 rfl rfl ?_
  refine m_getF (x := (a2 + 2)) hp fw_X10_210 dX10_add_2_72 rfl t2 (ff_11_2 t2) ?_
  refine k_SV (As := [.ref v4, .ref (a2 + 2)]) (stk := []) cs_X10_295 dX10_add_2_75 rfl (Nat.le_of_ble_eq_true rfl) (H.mono (fun h10 H => ?_)) ⟨Nat.le_refl _, Nat.le_refl _⟩
  refine r_aload_n dX10_add_2_78 rfl rfl ?_
  refine r_aload dX10_add_2_79 rfl ?_
  refine r_aload dX10_add_2_81 rfl ?_
  refine r_aload dX10_add_2_83 rfl ?_
  refine r_aload dX10_add_2_85 rfl ?_
  refine r_aload dX10_add_2_87 rfl ?_
  refine r_aload dX10_add_2_89 rfl ?_
  refine r_iload_n dX10_add_2_91 rfl rfl ?_
  refine k_VV (As := [.ref v5, .ref v6, .ref v1, .ref v2, .ref v3, .ref v4, .int x3]) (stk := []) hp cv_X10_320 dX10_add_2_92 rfl (Nat.le_of_ble_eq_true rfl) ly_10 (H.mono (fun h11 H => ?_)) ⟨Nat.le_refl _, Nat.le_refl _⟩
  refine r_aload_n dX10_add_2_95 rfl rfl ?_
  refine r_aload dX10_add_2_96 rfl ?_
  refine r_aload dX10_add_2_98 rfl ?_
  refine k_SI (As := [.ref a1, .ref v5, .ref v6]) (stk := []) cs_X10_261 dX10_add_2_100 rfl (Nat.le_of_ble_eq_true rfl) (H.mono (fun v12 h12 H => ?_)) ⟨Nat.le_refl _, Nat.le_refl _⟩
  refine r_istore (ls2 := [some (.ref 2759), some (.ref a1), some (.ref a2), some (.int x3), some (.int (ri h 2759 3)), some (.ref v1), some (.ref v2), some (.ref v3), some (.ref v4), some (.ref v5), some (.ref v6), some (.int v12)]) dX10_add_2_103 (by decide) rfl ?_
  refine r_aload_n dX10_add_2_105 rfl rfl ?_
  refine r_iload dX10_add_2_106 rfl ?_
  refine m_putI hp fw_X10_90 dX10_add_2_108 rfl rfl ly_10 (fun h13 eh13 => ?_)
  replace H := H h13 eh13
  refine r_iload dX10_add_2_111 rfl ?_
  exact r_zret dX10_add_2_113 rfl (nar01 H.1) (Nat.le_refl _) (Nat.le_refl _) H.2
abbrev W_X10_sum (g : GX) (d : Nat) (av : List Value) (Q : QT) (n : Nat) (pc : Nat) (ls : LV) (stk : List Value) (h : Hp) : Prop := RJ g m_X10_sum (d + 1) 0 0 av Q pc ls stk n h 0 0
theorem s_X10_sum_0 {g : GX} {d : Nat} {av : List Value} {Q : QT} {n : Nat} {h : Hp} {a1 : Nat} {a2 : Nat} {a3 : Nat} {a4 : Nat} {a5 : Nat} {a6 : Nat} {x7 : Int32} (hp : g.2.2.2.2 = true) (t1 : lay a1 = (0, 14, 2)) (t2 : lay a2 = (0, 14, 2)) (t3 : lay a3 = (0, 14, 2)) (t4 : lay a4 = (0, 14, 2)) (t5 : lay a5 = (0, 14, 2)) (t6 : lay a6 = (0, 14, 2)) (H : CallR g m_X10_newB d [.ref 2759] n h (fun v1 h1 => (lay v1 = (0, 14, 2) ∧ (CallR g m_X10_newB d [.ref 2759] n h1 (fun v2 h2 => (lay v2 = (0, 14, 2) ∧ (CallR g m_X10_newB d [.ref 2759] n h2 (fun v3 h3 => (lay v3 = (0, 14, 2) ∧ (CallR g m_X10_newB d [.ref 2759] n h3 (fun v4 h4 => (lay v4 = (0, 14, 2) ∧ (CallV g m_X10_gcd d [.ref 2759, .ref v1, .ref a4, .ref a6] n h4 (fun h5 => (CallI g m_X10_divides d [.ref 2759, .ref v2, .ref a4, .ref v1] n h5 (fun v6 h6 => (CallI g m_X10_divides d [.ref 2759, .ref v3, .ref a6, .ref v1] n h6 (fun v7 h7 => (CallV g m_X10_times d [.ref 2759, .ref v4, .ref a3, .ref v3] n h7 (fun h8 => (CallV g m_X10_times d [.ref 2759, .ref a1, .ref a5, .ref v2] n h8 (fun h9 => (CallV g m_X10_plus_2 d [.ref a1, .ref v4, .ref a1, .int x7] n h9 (fun h10 => (CallV g m_X10_times d [.ref 2759, .ref v4, .ref v2, .ref v3] n h10 (fun h11 => (CallV g m_X10_set d [.ref a2, .ref v4] n h11 (fun h12 => (CallV g m_X10_cancel d [.ref 2759, .ref a1, .ref v1] n h12 (fun h13 => (CallV g m_X10_times d [.ref 2759, .ref v4, .ref a2, .ref v1] n h13 (fun h14 => (CallV g m_X10_set d [.ref a2, .ref v4] n h14 (fun h15 => (CallV g m_X10_settle d [.ref a1, .ref a2] n h15 (fun h16 => (∀ h17, h17 = wi h16 2759 3 (ri h 2759 3) → (Q none n h17)))))))))))))))))))))))))))))))))))))) : W_X10_sum g d av Q n 0 [some (.ref 2759), some (.ref a1), some (.ref a2), some (.ref a3), some (.ref a4), some (.ref a5), some (.ref a6), some (.int x7), none, none, none, none, none, none] [] h := by
  refine r_aload_n dX10_sum_0 rfl rfl ?_
  refine m_getI hp fw_X10_90 dX10_sum_1 rfl ly_10 ?_
  refine r_istore (ls2 := [some (.ref 2759), some (.ref a1), some (.ref a2), some (.ref a3), some (.ref a4), some (.ref a5), some (.ref a6), some (.int x7), some (.int (ri h 2759 3)), none, none, none, none, none]) dX10_sum_4 (by decide) rfl ?_
  refine r_aload_n dX10_sum_6 rfl rfl ?_
  refine k_VR (As := []) (stk := []) hp cv_X10_140 dX10_sum_7 rfl (Nat.le_of_ble_eq_true rfl) ly_10 (H.mono (fun v1 h1 H => ?_)) ⟨Nat.le_refl _, Nat.le_refl _⟩
  obtain ⟨tv1, H⟩ := H
  refine r_astore (ls2 := [some (.ref 2759), some (.ref a1), some (.ref a2), some (.ref a3), some (.ref a4), some (.ref a5), some (.ref a6), some (.int x7), some (.int (ri h 2759 3)), some (.ref v1), none, none, none, none]) dX10_sum_10 (by decide) rfl ?_
  refine r_aload_n dX10_sum_12 rfl rfl ?_
  refine k_VR (As := []) (stk := []) hp cv_X10_140 dX10_sum_13 rfl (Nat.le_of_ble_eq_true rfl) ly_10 (H.mono (fun v2 h2 H => ?_)) ⟨Nat.le_refl _, Nat.le_refl _⟩
  obtain ⟨tv2, H⟩ := H
  refine r_astore (ls2 := [some (.ref 2759), some (.ref a1), some (.ref a2), some (.ref a3), some (.ref a4), some (.ref a5), some (.ref a6), some (.int x7), some (.int (ri h 2759 3)), some (.ref v1), some (.ref v2), none, none, none]) dX10_sum_16 (by decide) rfl ?_
  refine r_aload_n dX10_sum_18 rfl rfl ?_
  refine k_VR (As := []) (stk := []) hp cv_X10_140 dX10_sum_19 rfl (Nat.le_of_ble_eq_true rfl) ly_10 (H.mono (fun v3 h3 H => ?_)) ⟨Nat.le_refl _, Nat.le_refl _⟩
  obtain ⟨tv3, H⟩ := H
  refine r_astore (ls2 := [some (.ref 2759), some (.ref a1), some (.ref a2), some (.ref a3), some (.ref a4), some (.ref a5), some (.ref a6), some (.int x7), some (.int (ri h 2759 3)), some (.ref v1), some (.ref v2), some (.ref v3), none, none]) dX10_sum_22 (by decide) rfl ?_
  refine r_aload_n dX10_sum_24 rfl rfl ?_
  refine k_VR (As := []) (stk := []) hp cv_X10_140 dX10_sum_25 rfl (Nat.le_of_ble_eq_true rfl) ly_10 (H.mono (fun v4 h4 H => ?_)) ⟨Nat.le_refl _, Nat.le_refl _⟩
  obtain ⟨tv4, H⟩ := H
  refine r_astore (ls2 := [some (.ref 2759), some (.ref a1), some (.ref a2), some (.ref a3), some (.ref a4), some (.ref a5), some (.ref a6), some (.int x7), some (.int (ri h 2759 3)), some (.ref v1), some (.ref v2), some (.ref v3), some (.ref v4), none]) dX10_sum_28 (by decide) rfl ?_
  refine r_aload_n dX10_sum_30 rfl rfl ?_
  refine r_aload dX10_sum_31 rfl ?_
  refine r_aload dX10_sum_33 rfl ?_
  refine r_aload dX10_sum_35 rfl ?_
  refine k_VV (As := [.ref v1, .ref a4, .ref a6]) (stk := []) hp cv_X10_185 dX10_sum_37 rfl (Nat.le_of_ble_eq_true rfl) ly_10 (H.mono (fun h5 H => ?_)) ⟨Nat.le_refl _, Nat.le_refl _⟩
  refine r_aload_n dX10_sum_40 rfl rfl ?_
  refine r_aload dX10_sum_41 rfl ?_
  refine r_aload dX10_sum_43 rfl ?_
  refine r_aload dX10_sum_45 rfl ?_
  refine k_VI (As := [.ref v2, .ref a4, .ref v1]) (stk := []) hp cv_X10_170 dX10_sum_47 rfl (Nat.le_of_ble_eq_true rfl) ly_10 (H.mono (fun v6 h6 H => ?_)) ⟨Nat.le_refl _, Nat.le_refl _⟩
  refine r_istore (ls2 := [some (.ref 2759), some (.ref a1), some (.ref a2), some (.ref a3), some (.ref a4), some (.ref a5), some (.ref a6), some (.int x7), some (.int (ri h 2759 3)), some (.ref v1), some (.ref v2), some (.ref v3), some (.ref v4), some (.int v6)]) dX10_sum_50 (by decide) rfl ?_
  refine r_aload_n dX10_sum_52 rfl rfl ?_
  refine r_aload dX10_sum_53 rfl ?_
  refine r_aload dX10_sum_55 rfl ?_
  refine r_aload dX10_sum_57 rfl ?_
  refine k_VI (As := [.ref v3, .ref a6, .ref v1]) (stk := []) hp cv_X10_170 dX10_sum_59 rfl (Nat.le_of_ble_eq_true rfl) ly_10 (H.mono (fun v7 h7 H => ?_)) ⟨Nat.le_refl _, Nat.le_refl _⟩
  refine r_istore (ls2 := [some (.ref 2759), some (.ref a1), some (.ref a2), some (.ref a3), some (.ref a4), some (.ref a5), some (.ref a6), some (.int x7), some (.int (ri h 2759 3)), some (.ref v1), some (.ref v2), some (.ref v3), some (.ref v4), some (.int v7)]) dX10_sum_62 (by decide) rfl ?_
  refine r_aload_n dX10_sum_64 rfl rfl ?_
  refine r_aload dX10_sum_65 rfl ?_
  refine r_aload_n dX10_sum_67 rfl rfl ?_
  refine r_aload dX10_sum_68 rfl ?_
  refine k_VV (As := [.ref v4, .ref a3, .ref v3]) (stk := []) hp cv_X10_197 dX10_sum_70 rfl (Nat.le_of_ble_eq_true rfl) ly_10 (H.mono (fun h8 H => ?_)) ⟨Nat.le_refl _, Nat.le_refl _⟩
  refine r_aload_n dX10_sum_73 rfl rfl ?_
  refine r_aload_n dX10_sum_74 rfl rfl ?_
  refine r_aload dX10_sum_75 rfl ?_
  refine r_aload dX10_sum_77 rfl ?_
  refine k_VV (As := [.ref a1, .ref a5, .ref v2]) (stk := []) hp cv_X10_197 dX10_sum_79 rfl (Nat.le_of_ble_eq_true rfl) ly_10 (H.mono (fun h9 H => ?_)) ⟨Nat.le_refl _, Nat.le_refl _⟩
  refine r_aload_n dX10_sum_82 rfl rfl ?_
  refine r_aload dX10_sum_83 rfl ?_
  refine r_aload_n dX10_sum_85 rfl rfl ?_
  refine r_iload dX10_sum_86 rfl ?_
  refine k_SV (As := [.ref a1, .ref v4, .ref a1, .int x7]) (stk := []) cs_X10_199 dX10_sum_88 rfl (Nat.le_of_ble_eq_true rfl) (H.mono (fun h10 H => ?_)) ⟨Nat.le_refl _, Nat.le_refl _⟩
  refine r_aload_n dX10_sum_91 rfl rfl ?_
  refine r_aload dX10_sum_92 rfl ?_
  refine r_aload dX10_sum_94 rfl ?_
  refine r_aload dX10_sum_96 rfl ?_
  refine k_VV (As := [.ref v4, .ref v2, .ref v3]) (stk := []) hp cv_X10_197 dX10_sum_98 rfl (Nat.le_of_ble_eq_true rfl) ly_10 (H.mono (fun h11 H => ?_)) ⟨Nat.le_refl _, Nat.le_refl _⟩
  refine r_aload_n dX10_sum_101 rfl rfl ?_
  refine r_aload dX10_sum_102 rfl ?_
  refine k_SV (As := [.ref a2, .ref v4]) (stk := []) cs_X10_113 dX10_sum_104 rfl (Nat.le_of_ble_eq_true rfl) (H.mono (fun h12 H => ?_)) ⟨Nat.le_refl _, Nat.le_refl _⟩
  refine r_aload_n dX10_sum_107 rfl rfl ?_
  refine r_aload_n dX10_sum_108 rfl rfl ?_
  refine r_aload dX10_sum_109 rfl ?_
  refine k_VV (As := [.ref a1, .ref v1]) (stk := []) hp cv_X10_194 dX10_sum_111 rfl (Nat.le_of_ble_eq_true rfl) ly_10 (H.mono (fun h13 H => ?_)) ⟨Nat.le_refl _, Nat.le_refl _⟩
  refine r_aload_n dX10_sum_114 rfl rfl ?_
  refine r_aload dX10_sum_115 rfl ?_
  refine r_aload_n dX10_sum_117 rfl rfl ?_
  refine r_aload dX10_sum_118 rfl ?_
  refine k_VV (As := [.ref v4, .ref a2, .ref v1]) (stk := []) hp cv_X10_197 dX10_sum_120 rfl (Nat.le_of_ble_eq_true rfl) ly_10 (H.mono (fun h14 H => ?_)) ⟨Nat.le_refl _, Nat.le_refl _⟩
  refine r_aload_n dX10_sum_123 rfl rfl ?_
  refine r_aload dX10_sum_124 rfl ?_
  refine k_SV (As := [.ref a2, .ref v4]) (stk := []) cs_X10_113 dX10_sum_126 rfl (Nat.le_of_ble_eq_true rfl) (H.mono (fun h15 H => ?_)) ⟨Nat.le_refl _, Nat.le_refl _⟩
  refine r_aload_n dX10_sum_129 rfl rfl ?_
  refine r_aload_n dX10_sum_130 rfl rfl ?_
  refine k_SV (As := [.ref a1, .ref a2]) (stk := []) cs_X10_191 dX10_sum_131 rfl (Nat.le_of_ble_eq_true rfl) (H.mono (fun h16 H => ?_)) ⟨Nat.le_refl _, Nat.le_refl _⟩
  refine r_aload_n dX10_sum_134 rfl rfl ?_
  refine r_iload dX10_sum_135 rfl ?_
  refine m_putI hp fw_X10_90 dX10_sum_137 rfl rfl ly_10 (fun h17 eh17 => ?_)
  replace H := H h17 eh17
  exact r_vret dX10_sum_140 rfl (Nat.le_refl _) (Nat.le_refl _) H
abbrev W_X10_plus_2 (g : GX) (d : Nat) (av : List Value) (Q : QT) (n : Nat) (pc : Nat) (ls : LV) (stk : List Value) (h : Hp) : Prop := RJ g m_X10_plus_2 (d + 1) 0 0 av Q pc ls stk n h 0 0
theorem s_X10_plus_2_0 {g : GX} {d : Nat} {av : List Value} {Q : QT} {n : Nat} {h : Hp} {a0 : Nat} {a1 : Nat} {a2 : Nat} {x3 : Int32} (hp : g.2.2.2.2 = true) (t0 : lay a0 = (0, 14, 2)) (t1 : lay a1 = (0, 14, 2)) (t2 : lay a2 = (0, 14, 2)) (H : CallI g m_J3_max d [.int (ri h a1 1), .int (ri h a2 1)] n h (fun v1 h1 => (W_X10_plus_2 g d av Q n 19 [some (.ref a0), some (.ref a1), some (.ref a2), some (.int x3), some (.int v1), some (.int (ri h1 a1 1))] [] h1))) : W_X10_plus_2 g d av Q n 0 [some (.ref a0), some (.ref a1), some (.ref a2), some (.int x3), none, none] [] h := by
  refine r_aload_n dX10_plus_2_0 rfl rfl ?_
  refine m_getI hp fw_X10_93 dX10_plus_2_1 rfl t1 ?_
  refine r_aload_n dX10_plus_2_4 rfl rfl ?_
  refine m_getI hp fw_X10_93 dX10_plus_2_5 rfl t2 ?_
  refine k_SI (As := [.int (ri h a1 1), .int (ri h a2 1)]) (stk := []) cs_X10_40 dX10_plus_2_8 rfl (Nat.le_of_ble_eq_true rfl) (H.mono (fun v1 h1 H => ?_)) ⟨Nat.le_refl _, Nat.le_refl _⟩
  refine r_istore (ls2 := [some (.ref a0), some (.ref a1), some (.ref a2), some (.int x3), some (.int v1), none]) dX10_plus_2_11 (by decide) rfl ?_
  refine r_aload_n dX10_plus_2_13 rfl rfl ?_
  refine m_getI hp fw_X10_93 dX10_plus_2_14 rfl t1 ?_
  refine r_istore (ls2 := [some (.ref a0), some (.ref a1), some (.ref a2), some (.int x3), some (.int v1), some (.int (ri h1 a1 1))]) dX10_plus_2_17 (by decide) rfl ?_
  exact H
theorem s_X10_plus_2_19 {g : GX} {d : Nat} {av : List Value} {Q : QT} {n : Nat} {h : Hp} {a0 : Nat} {a1 : Nat} {a2 : Nat} {x3 : Int32} {x4 : Int32} {x5 : Int32} (hp : g.2.2.2.2 = true) (t0 : lay a0 = (0, 14, 2)) (t1 : lay a1 = (0, 14, 2)) (t2 : lay a2 = (0, 14, 2)) (H : ((x4 ≤ x5) → (W_X10_plus_2 g d av Q n 49 [some (.ref a0), some (.ref a1), some (.ref a2), some (.int x3), some (.int x4), some (.int (ri h a2 1))] [] h)) ∧ ((¬ x4 ≤ x5) → (vp_in x5 64 ∧ ∀ r1, r1 = (a1 + 2) + 2 * (x5).toNatClampNeg → (∀ h2, h2 = wi h r1 1 (0 : Int32) → (W_X10_plus_2 g d av Q n 19 [some (.ref a0), some (.ref a1), some (.ref a2), some (.int x3), some (.int x4), some (.int (x5 + (1 : Int32)))] [] h2))))) : W_X10_plus_2 g d av Q n 19 [some (.ref a0), some (.ref a1), some (.ref a2), some (.int x3), some (.int x4), some (.int x5)] [] h := by
  refine r_iload dX10_plus_2_19 rfl ?_
  refine r_iload dX10_plus_2_21 rfl ?_
  refine r_icmp_ge (tgt := 43) dX10_plus_2_23 rfl (fun cH => ?_) (fun cH => ?_)
  · replace H := H.1 cH
    refine r_aload_n dX10_plus_2_43 rfl rfl ?_
    refine m_getI hp fw_X10_93 dX10_plus_2_44 rfl t2 ?_
    refine r_istore (ls2 := [some (.ref a0), some (.ref a1), some (.ref a2), some (.int x3), some (.int x4), some (.int (ri h a2 1))]) dX10_plus_2_47 (by decide) rfl ?_
    exact H
  · replace H := H.2 cH
    refine r_aload_n dX10_plus_2_26 rfl rfl ?_
    refine m_getF (x := (a1 + 1)) hp fw_X10_98 dX10_plus_2_27 rfl t1 (ff_14_0 t1) ?_
    refine r_iload dX10_plus_2_30 rfl ?_
    obtain ⟨r1, er1⟩ : ∃ y, y = (a1 + 2) + 2 * (x5).toNatClampNeg := ⟨_, rfl⟩
    have hir1 := H.1
    replace H := H.2 r1 er1
    have tLr1 := le_14 t1 hir1 er1
    refine m_aalF (x := r1) hp dX10_plus_2_32 (lf_14_0 t1) rfl rfl (lu_14_0 t1) hir1 (fe_14 t1 hir1 er1) ?_
    refine r_iconst (v := (0 : Int32)) dX10_plus_2_33 rfl ?_
    refine m_putI hp fw_X10_25 dX10_plus_2_34 rfl rfl tLr1 (fun h2 eh2 => ?_)
    replace H := H h2 eh2
    refine r_iinc (v := (x5 + (1 : Int32))) (ls2 := [some (.ref a0), some (.ref a1), some (.ref a2), some (.int x3), some (.int x4), some (.int (x5 + (1 : Int32)))]) dX10_plus_2_37 rfl rfl (by decide) rfl ?_
    refine r_goto (tgt := 19) dX10_plus_2_40 rfl ?_
    exact H
theorem s_X10_plus_2_49 {g : GX} {d : Nat} {av : List Value} {Q : QT} {n : Nat} {h : Hp} {a0 : Nat} {a1 : Nat} {a2 : Nat} {x3 : Int32} {x4 : Int32} {x5 : Int32} (hp : g.2.2.2.2 = true) (t0 : lay a0 = (0, 14, 2)) (t1 : lay a1 = (0, 14, 2)) (t2 : lay a2 = (0, 14, 2)) (H : ((x4 ≤ x5) → (W_X10_plus_2 g d av Q n 76 [some (.ref a0), some (.ref a1), some (.ref a2), some (.int x3), some (.int x4), some (.int (0 : Int32))] [] h)) ∧ ((¬ x4 ≤ x5) → (vp_in x5 64 ∧ ∀ r1, r1 = (a2 + 2) + 2 * (x5).toNatClampNeg → (∀ h2, h2 = wi h r1 1 (0 : Int32) → (W_X10_plus_2 g d av Q n 49 [some (.ref a0), some (.ref a1), some (.ref a2), some (.int x3), some (.int x4), some (.int (x5 + (1 : Int32)))] [] h2))))) : W_X10_plus_2 g d av Q n 49 [some (.ref a0), some (.ref a1), some (.ref a2), some (.int x3), some (.int x4), some (.int x5)] [] h := by
  refine r_iload dX10_plus_2_49 rfl ?_
  refine r_iload dX10_plus_2_51 rfl ?_
  refine r_icmp_ge (tgt := 73) dX10_plus_2_53 rfl (fun cH => ?_) (fun cH => ?_)
  · replace H := H.1 cH
    refine r_iconst (v := (0 : Int32)) dX10_plus_2_73 rfl ?_
    refine r_istore (ls2 := [some (.ref a0), some (.ref a1), some (.ref a2), some (.int x3), some (.int x4), some (.int (0 : Int32))]) dX10_plus_2_74 (by decide) rfl ?_
    exact H
  · replace H := H.2 cH
    refine r_aload_n dX10_plus_2_56 rfl rfl ?_
    refine m_getF (x := (a2 + 1)) hp fw_X10_98 dX10_plus_2_57 rfl t2 (ff_14_0 t2) ?_
    refine r_iload dX10_plus_2_60 rfl ?_
    obtain ⟨r1, er1⟩ : ∃ y, y = (a2 + 2) + 2 * (x5).toNatClampNeg := ⟨_, rfl⟩
    have hir1 := H.1
    replace H := H.2 r1 er1
    have tLr1 := le_14 t2 hir1 er1
    refine m_aalF (x := r1) hp dX10_plus_2_62 (lf_14_0 t2) rfl rfl (lu_14_0 t2) hir1 (fe_14 t2 hir1 er1) ?_
    refine r_iconst (v := (0 : Int32)) dX10_plus_2_63 rfl ?_
    refine m_putI hp fw_X10_25 dX10_plus_2_64 rfl rfl tLr1 (fun h2 eh2 => ?_)
    replace H := H h2 eh2
    refine r_iinc (v := (x5 + (1 : Int32))) (ls2 := [some (.ref a0), some (.ref a1), some (.ref a2), some (.int x3), some (.int x4), some (.int (x5 + (1 : Int32)))]) dX10_plus_2_67 rfl rfl (by decide) rfl ?_
    refine r_goto (tgt := 49) dX10_plus_2_70 rfl ?_
    exact H
theorem s_X10_plus_2_76 {g : GX} {d : Nat} {av : List Value} {Q : QT} {n : Nat} {h : Hp} {a0 : Nat} {a1 : Nat} {a2 : Nat} {x3 : Int32} {x4 : Int32} {x5 : Int32} (hp : g.2.2.2.2 = true) (t0 : lay a0 = (0, 14, 2)) (t1 : lay a1 = (0, 14, 2)) (t2 : lay a2 = (0, 14, 2)) (H : ((x4 ≤ x5) → (∀ h1, h1 = wi h a0 1 x4 → (CallV g m_X14_trim d [.ref a0] n h1 (fun h2 => (Q none n h2))))) ∧ ((¬ x4 ≤ x5) → (vp_in x5 64 ∧ ∀ r3, r3 = (a0 + 2) + 2 * (x5).toNatClampNeg → (vp_in x5 64 ∧ ∀ r4, r4 = (a1 + 2) + 2 * (x5).toNatClampNeg → (vp_in x5 64 ∧ ∀ r5, r5 = (a2 + 2) + 2 * (x5).toNatClampNeg → (CallV g m_X10_plus d [.ref r3, .ref r4, .ref r5, .int x3] n h (fun h6 => (W_X10_plus_2 g d av Q n 76 [some (.ref a0), some (.ref a1), some (.ref a2), some (.int x3), some (.int x4), some (.int (x5 + (1 : Int32)))] [] h6)))))))) : W_X10_plus_2 g d av Q n 76 [some (.ref a0), some (.ref a1), some (.ref a2), some (.int x3), some (.int x4), some (.int x5)] [] h := by
  refine r_iload dX10_plus_2_76 rfl ?_
  refine r_iload dX10_plus_2_78 rfl ?_
  refine r_icmp_ge (tgt := 114) dX10_plus_2_80 rfl (fun cH => ?_) (fun cH => ?_)
  · replace H := H.1 cH
    refine r_aload_n dX10_plus_2_114 rfl rfl ?_
    refine r_iload dX10_plus_2_115 rfl ?_
    refine m_putI hp fw_X10_93 dX10_plus_2_117 rfl rfl t0 (fun h1 eh1 => ?_)
    replace H := H h1 eh1
    refine r_aload_n dX10_plus_2_120 rfl rfl ?_
    refine k_VV (As := []) (stk := []) hp cv_X10_105 dX10_plus_2_121 rfl (Nat.le_of_ble_eq_true rfl) t0 (H.mono (fun h2 H => ?_)) ⟨Nat.le_refl _, Nat.le_refl _⟩
    exact r_vret dX10_plus_2_124 rfl (Nat.le_refl _) (Nat.le_refl _) H
  · replace H := H.2 cH
    refine r_aload_n dX10_plus_2_83 rfl rfl ?_
    refine m_getF (x := (a0 + 1)) hp fw_X10_98 dX10_plus_2_84 rfl t0 (ff_14_0 t0) ?_
    refine r_iload dX10_plus_2_87 rfl ?_
    obtain ⟨r3, er3⟩ : ∃ y, y = (a0 + 2) + 2 * (x5).toNatClampNeg := ⟨_, rfl⟩
    have hir3 := H.1
    replace H := H.2 r3 er3
    have tLr3 := le_14 t0 hir3 er3
    refine m_aalF (x := r3) hp dX10_plus_2_89 (lf_14_0 t0) rfl rfl (lu_14_0 t0) hir3 (fe_14 t0 hir3 er3) ?_
    refine r_aload_n dX10_plus_2_90 rfl rfl ?_
    refine m_getF (x := (a1 + 1)) hp fw_X10_98 dX10_plus_2_91 rfl t1 (ff_14_0 t1) ?_
    refine r_iload dX10_plus_2_94 rfl ?_
    obtain ⟨r4, er4⟩ : ∃ y, y = (a1 + 2) + 2 * (x5).toNatClampNeg := ⟨_, rfl⟩
    have hir4 := H.1
    replace H := H.2 r4 er4
    have tLr4 := le_14 t1 hir4 er4
    refine m_aalF (x := r4) hp dX10_plus_2_96 (lf_14_0 t1) rfl rfl (lu_14_0 t1) hir4 (fe_14 t1 hir4 er4) ?_
    refine r_aload_n dX10_plus_2_97 rfl rfl ?_
    refine m_getF (x := (a2 + 1)) hp fw_X10_98 dX10_plus_2_98 rfl t2 (ff_14_0 t2) ?_
    refine r_iload dX10_plus_2_101 rfl ?_
    obtain ⟨r5, er5⟩ : ∃ y, y = (a2 + 2) + 2 * (x5).toNatClampNeg := ⟨_, rfl⟩
    have hir5 := H.1
    replace H := H.2 r5 er5
    have tLr5 := le_14 t2 hir5 er5
    refine m_aalF (x := r5) hp dX10_plus_2_103 (lf_14_0 t2) rfl rfl (lu_14_0 t2) hir5 (fe_14 t2 hir5 er5) ?_
    refine r_iload_n dX10_plus_2_104 rfl rfl ?_
    refine k_SV (As := [.ref r3, .ref r4, .ref r5, .int x3]) (stk := []) cs_X10_101 dX10_plus_2_105 rfl (Nat.le_of_ble_eq_true rfl) (H.mono (fun h6 H => ?_)) ⟨Nat.le_refl _, Nat.le_refl _⟩
    refine r_iinc (v := (x5 + (1 : Int32))) (ls2 := [some (.ref a0), some (.ref a1), some (.ref a2), some (.int x3), some (.int x4), some (.int (x5 + (1 : Int32)))]) dX10_plus_2_108 rfl rfl (by decide) rfl ?_
    refine r_goto (tgt := 76) dX10_plus_2_111 rfl ?_
    exact H
abbrev W_X10_copy (g : GX) (d : Nat) (av : List Value) (Q : QT) (n : Nat) (pc : Nat) (ls : LV) (stk : List Value) (h : Hp) : Prop := RJ g m_X10_copy (d + 1) 0 0 av Q pc ls stk n h 0 0
theorem s_X10_copy_0 {g : GX} {d : Nat} {av : List Value} {Q : QT} {n : Nat} {h : Hp} {a0 : Nat} {a1 : Nat} (hp : g.2.2.2.2 = true) (t0 : lay a0 = (0, 11, 15)) (t1 : lay a1 = (0, 11, 15)) (H : ∀ h1, h1 = wi h a0 0 (ri h a1 0) → (¬ (0 : Int32) < 0 ∧ ¬ (0 : Int32) < 0 ∧ ¬ (325 : Int32) < 0 ∧ ((0 : Int32)).toNatClampNeg + ((325 : Int32)).toNatClampNeg ≤ 325 ∧ ((0 : Int32)).toNatClampNeg + ((325 : Int32)).toNatClampNeg ≤ 325 ∧ ∀ h2, h2 = cpy h1 (a1 + 1) ((0 : Int32)).toNatClampNeg (a0 + 1) ((0 : Int32)).toNatClampNeg ((325 : Int32)).toNatClampNeg → (¬ (0 : Int32) < 0 ∧ ¬ (0 : Int32) < 0 ∧ ¬ (325 : Int32) < 0 ∧ ((0 : Int32)).toNatClampNeg + ((325 : Int32)).toNatClampNeg ≤ 325 ∧ ((0 : Int32)).toNatClampNeg + ((325 : Int32)).toNatClampNeg ≤ 325 ∧ ∀ h3, h3 = cpy h2 (a1 + 2) ((0 : Int32)).toNatClampNeg (a0 + 2) ((0 : Int32)).toNatClampNeg ((325 : Int32)).toNatClampNeg → (∀ h4, h4 = wi h3 a0 3 (ri h3 a1 3) → (∀ h5, h5 = wi h4 a0 4 (ri h4 a1 4) → (∀ h6, h6 = wi h5 a0 5 (ri h5 a1 5) → (W_X10_copy g d av Q n 66 [some (.ref a0), some (.ref a1), some (.int (0 : Int32))] [] h6))))))) : W_X10_copy g d av Q n 0 [some (.ref a0), some (.ref a1), none] [] h := by
  refine r_aload_n dX10_copy_0 rfl rfl ?_
  refine r_aload_n dX10_copy_1 rfl rfl ?_
  refine m_getI hp fw_X10_202 dX10_copy_2 rfl t1 ?_
  refine m_putI hp fw_X10_202 dX10_copy_5 rfl rfl t0 (fun h1 eh1 => ?_)
  replace H := H h1 eh1
  refine r_aload_n dX10_copy_8 rfl rfl ?_
  refine m_getF (x := (a1 + 1)) hp fw_X10_207 dX10_copy_9 rfl t1 (ff_11_1 t1) ?_
  refine r_iconst (v := (0 : Int32)) dX10_copy_12 rfl ?_
  refine r_aload_n dX10_copy_13 rfl rfl ?_
  refine m_getF (x := (a0 + 1)) hp fw_X10_207 dX10_copy_14 rfl t0 (ff_11_1 t0) ?_
  refine r_iconst (v := (0 : Int32)) dX10_copy_17 rfl ?_
  refine r_sipush (v := (325 : Int32)) dX10_copy_18 rfl ?_
  obtain ⟨c1, c2, c3, c4, c5, H⟩ := H
  refine m_copy hp ar_X10_34 dX10_copy_21 rfl rfl (lf_11_1 t1) (lf_11_1 t0) c1 c2 c3 c4 c5 (fun _ _ => rfl) (Nat.le_of_ble_eq_true rfl) (Nat.le_add_left 1 d) (fun h2 eh2 => ?_)
  replace H := H h2 eh2
  refine r_aload_n dX10_copy_24 rfl rfl ?_
  refine m_getF (x := (a1 + 2)) hp fw_X10_210 dX10_copy_25 rfl t1 (ff_11_2 t1) ?_
  refine r_iconst (v := (0 : Int32)) dX10_copy_28 rfl ?_
  refine r_aload_n dX10_copy_29 rfl rfl ?_
  refine m_getF (x := (a0 + 2)) hp fw_X10_210 dX10_copy_30 rfl t0 (ff_11_2 t0) ?_
  refine r_iconst (v := (0 : Int32)) dX10_copy_33 rfl ?_
  refine r_sipush (v := (325 : Int32)) dX10_copy_34 rfl ?_
  obtain ⟨c1, c2, c3, c4, c5, H⟩ := H
  refine m_copy hp ar_X10_34 dX10_copy_37 rfl rfl (lf_11_2 t1) (lf_11_2 t0) c1 c2 c3 c4 c5 (fun _ _ => rfl) (Nat.le_of_ble_eq_true rfl) (Nat.le_add_left 1 d) (fun h3 eh3 => ?_)
  replace H := H h3 eh3
  refine r_aload_n dX10_copy_40 rfl rfl ?_
  refine r_aload_n dX10_copy_41 rfl rfl ?_
  refine m_getI hp fw_X10_213 dX10_copy_42 rfl t1 ?_
  refine m_putI hp fw_X10_213 dX10_copy_45 rfl rfl t0 (fun h4 eh4 => ?_)
  replace H := H h4 eh4
  refine r_aload_n dX10_copy_48 rfl rfl ?_
  refine r_aload_n dX10_copy_49 rfl rfl ?_
  refine m_getI hp fw_X10_216 dX10_copy_50 rfl t1 ?_
  refine m_putI hp fw_X10_216 dX10_copy_53 rfl rfl t0 (fun h5 eh5 => ?_)
  replace H := H h5 eh5
  refine r_aload_n dX10_copy_56 rfl rfl ?_
  refine r_aload_n dX10_copy_57 rfl rfl ?_
  refine m_getI hp fw_X10_219 dX10_copy_58 rfl t1 ?_
  refine m_putI hp fw_X10_219 dX10_copy_61 rfl rfl t0 (fun h6 eh6 => ?_)
  replace H := H h6 eh6
  refine r_iconst (v := (0 : Int32)) dX10_copy_64 rfl ?_
  refine r_istore_n (ls2 := [some (.ref a0), some (.ref a1), some (.int (0 : Int32))]) dX10_copy_65 rfl (by decide) rfl ?_
  exact H
theorem s_X10_copy_66 {g : GX} {d : Nat} {av : List Value} {Q : QT} {n : Nat} {h : Hp} {a0 : Nat} {a1 : Nat} {x2 : Int32} (hp : g.2.2.2.2 = true) (t0 : lay a0 = (0, 11, 15)) (t1 : lay a1 = (0, 11, 15)) (H : (((ri h a1 5) ≤ x2) → (∀ h1, h1 = wi h a0 10 (ri h a1 10) → (¬ (0 : Int32) < 0 ∧ ¬ (0 : Int32) < 0 ∧ ¬ (175 : Int32) < 0 ∧ ((0 : Int32)).toNatClampNeg + ((175 : Int32)).toNatClampNeg ≤ 175 ∧ ((0 : Int32)).toNatClampNeg + ((175 : Int32)).toNatClampNeg ≤ 175 ∧ ∀ h2, h2 = cpy h1 (a1 + 7) ((0 : Int32)).toNatClampNeg (a0 + 7) ((0 : Int32)).toNatClampNeg ((175 : Int32)).toNatClampNeg → (∀ h3, h3 = wi h2 a0 12 (ri h2 a1 12) → (∀ h4, h4 = wi h3 a0 13 (ri h3 a1 13) → (¬ (0 : Int32) < 0 ∧ ¬ (0 : Int32) < 0 ∧ ¬ (361 : Int32) < 0 ∧ ((0 : Int32)).toNatClampNeg + ((361 : Int32)).toNatClampNeg ≤ 361 ∧ ((0 : Int32)).toNatClampNeg + ((361 : Int32)).toNatClampNeg ≤ 361 ∧ ∀ h5, h5 = cpy h4 (a1 + 8) ((0 : Int32)).toNatClampNeg (a0 + 8) ((0 : Int32)).toNatClampNeg ((361 : Int32)).toNatClampNeg → (Q none n h5))))))) ∧ ((¬ (ri h a1 5) ≤ x2) → (vp_in x2 13 ∧ (vp_in x2 13 ∧ ∀ h6, h6 = wi h (a0 + 3) (x2).toNatClampNeg (ri h (a1 + 3) (x2).toNatClampNeg) → (vp_in x2 13 ∧ (vp_in x2 13 ∧ ∀ h7, h7 = wi h6 (a0 + 4) (x2).toNatClampNeg (ri h6 (a1 + 4) (x2).toNatClampNeg) → (vp_in x2 13 ∧ (vp_in x2 13 ∧ ∀ h8, h8 = wi h7 (a0 + 5) (x2).toNatClampNeg (ri h7 (a1 + 5) (x2).toNatClampNeg) → (vp_in x2 13 ∧ (vp_in x2 13 ∧ ∀ h9, h9 = wi h8 (a0 + 6) (x2).toNatClampNeg (ri h8 (a1 + 6) (x2).toNatClampNeg) → (W_X10_copy g d av Q n 66 [some (.ref a0), some (.ref a1), some (.int (x2 + (1 : Int32)))] [] h9))))))))))) : W_X10_copy g d av Q n 66 [some (.ref a0), some (.ref a1), some (.int x2)] [] h := by
  refine r_iload_n dX10_copy_66 rfl rfl ?_
  refine r_aload_n dX10_copy_67 rfl rfl ?_
  refine m_getI hp fw_X10_219 dX10_copy_68 rfl t1 ?_
  refine r_icmp_ge (tgt := 128) dX10_copy_71 rfl (fun cH => ?_) (fun cH => ?_)
  · replace H := H.1 cH
    refine r_aload_n dX10_copy_128 rfl rfl ?_
    refine r_aload_n dX10_copy_129 rfl rfl ?_
    refine m_getI hp fw_X10_234 dX10_copy_130 rfl t1 ?_
    refine m_putI hp fw_X10_234 dX10_copy_133 rfl rfl t0 (fun h1 eh1 => ?_)
    replace H := H h1 eh1
    refine r_aload_n dX10_copy_136 rfl rfl ?_
    refine m_getF (x := (a1 + 7)) hp fw_X10_237 dX10_copy_137 rfl t1 (ff_11_11 t1) ?_
    refine r_iconst (v := (0 : Int32)) dX10_copy_140 rfl ?_
    refine r_aload_n dX10_copy_141 rfl rfl ?_
    refine m_getF (x := (a0 + 7)) hp fw_X10_237 dX10_copy_142 rfl t0 (ff_11_11 t0) ?_
    refine r_iconst (v := (0 : Int32)) dX10_copy_145 rfl ?_
    refine r_sipush (v := (175 : Int32)) dX10_copy_146 rfl ?_
    obtain ⟨c1, c2, c3, c4, c5, H⟩ := H
    refine m_copy hp ar_X10_34 dX10_copy_149 rfl rfl (lf_11_11 t1) (lf_11_11 t0) c1 c2 c3 c4 c5 (fun _ _ => rfl) (Nat.le_of_ble_eq_true rfl) (Nat.le_add_left 1 d) (fun h2 eh2 => ?_)
    replace H := H h2 eh2
    refine r_aload_n dX10_copy_152 rfl rfl ?_
    refine r_aload_n dX10_copy_153 rfl rfl ?_
    refine m_getI hp fw_X10_240 dX10_copy_154 rfl t1 ?_
    refine m_putI hp fw_X10_240 dX10_copy_157 rfl rfl t0 (fun h3 eh3 => ?_)
    replace H := H h3 eh3
    refine r_aload_n dX10_copy_160 rfl rfl ?_
    refine r_aload_n dX10_copy_161 rfl rfl ?_
    refine m_getI hp fw_X10_243 dX10_copy_162 rfl t1 ?_
    refine m_putI hp fw_X10_243 dX10_copy_165 rfl rfl t0 (fun h4 eh4 => ?_)
    replace H := H h4 eh4
    refine r_aload_n dX10_copy_168 rfl rfl ?_
    refine m_getF (x := (a1 + 8)) hp fw_X10_246 dX10_copy_169 rfl t1 (ff_11_14 t1) ?_
    refine r_iconst (v := (0 : Int32)) dX10_copy_172 rfl ?_
    refine r_aload_n dX10_copy_173 rfl rfl ?_
    refine m_getF (x := (a0 + 8)) hp fw_X10_246 dX10_copy_174 rfl t0 (ff_11_14 t0) ?_
    refine r_iconst (v := (0 : Int32)) dX10_copy_177 rfl ?_
    refine r_sipush (v := (361 : Int32)) dX10_copy_178 rfl ?_
    obtain ⟨c1, c2, c3, c4, c5, H⟩ := H
    refine m_copy hp ar_X10_34 dX10_copy_181 rfl rfl (lf_11_14 t1) (lf_11_14 t0) c1 c2 c3 c4 c5 (fun _ _ => rfl) (Nat.le_of_ble_eq_true rfl) (Nat.le_add_left 1 d) (fun h5 eh5 => ?_)
    replace H := H h5 eh5
    exact r_vret dX10_copy_184 rfl (Nat.le_refl _) (Nat.le_refl _) H
  · replace H := H.2 cH
    refine r_aload_n dX10_copy_74 rfl rfl ?_
    refine m_getF (x := (a0 + 3)) hp fw_X10_222 dX10_copy_75 rfl t0 (ff_11_6 t0) ?_
    refine r_iload_n dX10_copy_78 rfl rfl ?_
    refine r_aload_n dX10_copy_79 rfl rfl ?_
    refine m_getF (x := (a1 + 3)) hp fw_X10_222 dX10_copy_80 rfl t1 (ff_11_6 t1) ?_
    refine r_iload_n dX10_copy_83 rfl rfl ?_
    refine m_iald hp dX10_copy_84 (lf_11_6 t1) H.1 ?_
    replace H := H.2
    refine m_iast hp dX10_copy_85 (lf_11_6 t0) H.1 (fun h6 eh6 => ?_)
    replace H := H.2 h6 eh6
    refine r_aload_n dX10_copy_86 rfl rfl ?_
    refine m_getF (x := (a0 + 4)) hp fw_X10_225 dX10_copy_87 rfl t0 (ff_11_7 t0) ?_
    refine r_iload_n dX10_copy_90 rfl rfl ?_
    refine r_aload_n dX10_copy_91 rfl rfl ?_
    refine m_getF (x := (a1 + 4)) hp fw_X10_225 dX10_copy_92 rfl t1 (ff_11_7 t1) ?_
    refine r_iload_n dX10_copy_95 rfl rfl ?_
    refine m_iald hp dX10_copy_96 (lf_11_7 t1) H.1 ?_
    replace H := H.2
    refine m_iast hp dX10_copy_97 (lf_11_7 t0) H.1 (fun h7 eh7 => ?_)
    replace H := H.2 h7 eh7
    refine r_aload_n dX10_copy_98 rfl rfl ?_
    refine m_getF (x := (a0 + 5)) hp fw_X10_228 dX10_copy_99 rfl t0 (ff_11_8 t0) ?_
    refine r_iload_n dX10_copy_102 rfl rfl ?_
    refine r_aload_n dX10_copy_103 rfl rfl ?_
    refine m_getF (x := (a1 + 5)) hp fw_X10_228 dX10_copy_104 rfl t1 (ff_11_8 t1) ?_
    refine r_iload_n dX10_copy_107 rfl rfl ?_
    refine m_iald hp dX10_copy_108 (lf_11_8 t1) H.1 ?_
    replace H := H.2
    refine m_iast hp dX10_copy_109 (lf_11_8 t0) H.1 (fun h8 eh8 => ?_)
    replace H := H.2 h8 eh8
    refine r_aload_n dX10_copy_110 rfl rfl ?_
    refine m_getF (x := (a0 + 6)) hp fw_X10_231 dX10_copy_111 rfl t0 (ff_11_9 t0) ?_
    refine r_iload_n dX10_copy_114 rfl rfl ?_
    refine r_aload_n dX10_copy_115 rfl rfl ?_
    refine m_getF (x := (a1 + 6)) hp fw_X10_231 dX10_copy_116 rfl t1 (ff_11_9 t1) ?_
    refine r_iload_n dX10_copy_119 rfl rfl ?_
    refine m_iald hp dX10_copy_120 (lf_11_9 t1) H.1 ?_
    replace H := H.2
    refine m_iast hp dX10_copy_121 (lf_11_9 t0) H.1 (fun h9 eh9 => ?_)
    replace H := H.2 h9 eh9
    refine r_iinc (v := (x2 + (1 : Int32))) (ls2 := [some (.ref a0), some (.ref a1), some (.int (x2 + (1 : Int32)))]) dX10_copy_122 rfl rfl (by decide) rfl ?_
    refine r_goto (tgt := 66) dX10_copy_125 rfl ?_
    exact H
abbrev W_X10_keep (g : GX) (d : Nat) (av : List Value) (Q : QT) (n : Nat) (pc : Nat) (ls : LV) (stk : List Value) (h : Hp) : Prop := RJ g m_X10_keep (d + 1) 0 0 av Q pc ls stk n h 0 0
theorem s_X10_keep_0 {g : GX} {d : Nat} {av : List Value} {Q : QT} {n : Nat} {h : Hp} {x1 : Int32} (hp : g.2.2.2.2 = true)  (H : vp_in x1 12 ∧ ∀ r1, r1 = 10245 + 9 * (x1).toNatClampNeg → (CallV g m_X10_copy d [.ref r1, .ref 2842] n h (fun h2 => (Q (some (.int (ri h2 2842 0))) n h2)))) : W_X10_keep g d av Q n 0 [some (.ref 2759), some (.int x1)] [] h := by
  refine r_aload_n dX10_keep_0 rfl rfl ?_
  refine m_getF (x := 2841) hp fw_X10_450 dX10_keep_1 rfl ly_10 (ff_10_20 ly_10) ?_
  refine r_iload_n dX10_keep_4 rfl rfl ?_
  obtain ⟨r1, er1⟩ : ∃ y, y = 10245 + 9 * (x1).toNatClampNeg := ⟨_, rfl⟩
  have hir1 := H.1
  replace H := H.2 r1 er1
  have tLr1 := la_2841 hir1 er1
  refine m_aalF (x := r1) hp dX10_keep_5 (lf_10_20 ly_10) rfl rfl (lu_10_20 ly_10) hir1 (fa_2841 hir1 er1) ?_
  refine r_aload_n dX10_keep_6 rfl rfl ?_
  refine m_getF (x := 2842) hp fw_X10_453 dX10_keep_7 rfl ly_10 (ff_10_21 ly_10) ?_
  refine k_SV (As := [.ref r1, .ref 2842]) (stk := []) cs_X10_547 dX10_keep_10 rfl (Nat.le_of_ble_eq_true rfl) (H.mono (fun h2 H => ?_)) ⟨Nat.le_refl _, Nat.le_refl _⟩
  refine r_aload_n dX10_keep_13 rfl rfl ?_
  refine m_getF (x := 2842) hp fw_X10_453 dX10_keep_14 rfl ly_10 (ff_10_21 ly_10) ?_
  refine m_getI hp fw_X10_202 dX10_keep_17 rfl (lf_10_21 ly_10) ?_
  exact r_zret dX10_keep_20 rfl rfl (Nat.le_refl _) (Nat.le_refl _) H
abbrev W_X10_place (g : GX) (d : Nat) (av : List Value) (Q : QT) (n : Nat) (pc : Nat) (ls : LV) (stk : List Value) (h : Hp) : Prop := RJ g m_X10_place d 0 0 av Q pc ls stk n h 0 0
theorem s_X10_place_0 {g : GX} {d : Nat} {av : List Value} {Q : QT} {n : Nat} {h : Hp}  (hp : g.2.2.2.2 = true)  (H : Q (some (.int (ri h 2759 22))) n h) : W_X10_place g d av Q n 0 [some (.ref 2759)] [] h := by
  refine r_aload_n dX10_place_0 rfl rfl ?_
  refine m_getI hp fw_X10_456 dX10_place_1 rfl ly_10 ?_
  exact r_zret dX10_place_4 rfl rfl (Nat.le_refl _) (Nat.le_refl _) H
abbrev W_X10_write (g : GX) (d : Nat) (av : List Value) (Q : QT) (n : Nat) (pc : Nat) (ls : LV) (stk : List Value) (h : Hp) : Prop := RJ g m_X10_write (d + 1) 0 0 av Q pc ls stk n h 0 0
theorem s_X10_write_0 {g : GX} {d : Nat} {av : List Value} {Q : QT} {n : Nat} {h : Hp} {x1 : Int32} (hp : g.2.2.2.2 = true)  (H : CallI g m_X10_isSlot d [.int x1] n h (fun v1 h1 => (((¬ v1 = (0 : Int32)) → (vp_in x1 12 ∧ ∀ r2, r2 = 10245 + 9 * (x1).toNatClampNeg → ((((ri h1 r2 0) = (1 : Int32)) → (W_X10_write g d av Q n 35 [some (.ref 2759), none, some (.ref r2), none] [] h1)) ∧ ((¬ (ri h1 r2 0) = (1 : Int32)) → ((((ri h1 r2 0) = (2 : Int32)) → (W_X10_write g d av Q n 35 [some (.ref 2759), none, some (.ref r2), none] [] h1)) ∧ ((¬ (ri h1 r2 0) = (2 : Int32)) → (Q (some (.int (-3 : Int32))) n h1))))))) ∧ ((v1 = (0 : Int32)) → (Q (some (.int (-1 : Int32))) n h1))))) : W_X10_write g d av Q n 0 [some (.ref 2759), some (.int x1), none, none] [] h := by
  refine r_iload_n dX10_write_0 rfl rfl ?_
  refine k_SI (As := [.int x1]) (stk := []) cs_X10_551 dX10_write_1 rfl (Nat.le_of_ble_eq_true rfl) (H.mono (fun v1 h1 H => ?_)) ⟨Nat.le_refl _, Nat.le_refl _⟩
  refine r_if_ne (tgt := 9) dX10_write_4 rfl (fun cH => ?_) (fun cH => ?_)
  · replace H := H.1 cH
    refine r_aload_n dX10_write_9 rfl rfl ?_
    refine m_getF (x := 2841) hp fw_X10_450 dX10_write_10 rfl ly_10 (ff_10_20 ly_10) ?_
    refine r_iload_n dX10_write_13 rfl rfl ?_
    obtain ⟨r2, er2⟩ : ∃ y, y = 10245 + 9 * (x1).toNatClampNeg := ⟨_, rfl⟩
    have hir2 := H.1
    replace H := H.2 r2 er2
    have tLr2 := la_2841 hir2 er2
    refine m_aalF (x := r2) hp dX10_write_14 (lf_10_20 ly_10) rfl rfl (lu_10_20 ly_10) hir2 (fa_2841 hir2 er2) ?_
    refine r_astore_n (ls2 := [some (.ref 2759), some (.int x1), some (.ref r2), none]) dX10_write_15 rfl (by decide) rfl ?_
    refine r_aload_n dX10_write_16 rfl rfl ?_
    refine m_getI hp fw_X10_202 dX10_write_17 rfl tLr2 ?_
    refine r_iconst (v := (1 : Int32)) dX10_write_20 rfl ?_
    refine r_icmp_eq (tgt := 35) dX10_write_21 rfl (fun cH => ?_) (fun cH => ?_)
    · replace H := H.1 cH
      refine r_prune [true, false, true, false] (ls2 := [some (.ref 2759), none, some (.ref r2), none]) rfl ?_
      exact H
    · replace H := H.2 cH
      refine r_aload_n dX10_write_24 rfl rfl ?_
      refine m_getI hp fw_X10_202 dX10_write_25 rfl tLr2 ?_
      refine r_iconst (v := (2 : Int32)) dX10_write_28 rfl ?_
      refine r_icmp_eq (tgt := 35) dX10_write_29 rfl (fun cH => ?_) (fun cH => ?_)
      · replace H := H.1 cH
        refine r_prune [true, false, true, false] (ls2 := [some (.ref 2759), none, some (.ref r2), none]) rfl ?_
        exact H
      · replace H := H.2 cH
        refine r_bipush (v := (-3 : Int32)) dX10_write_32 rfl ?_
        exact r_zret dX10_write_34 rfl rfl (Nat.le_refl _) (Nat.le_refl _) H
  · replace H := H.2 cH
    refine r_iconst (v := (-1 : Int32)) dX10_write_7 rfl ?_
    exact r_zret dX10_write_8 rfl rfl (Nat.le_refl _) (Nat.le_refl _) H
theorem s_X10_write_35 {g : GX} {d : Nat} {av : List Value} {Q : QT} {n : Nat} {h : Hp} {a2 : Nat} (hp : g.2.2.2.2 = true) (t2 : lay a2 = (0, 11, 15)) (H : ∀ h1, h1 = wi h 2759 25 (0 : Int32) → (((¬ (ri h1 a2 0) = (1 : Int32)) → (CallV g m_X10_say d [.ref 2759, .int (40 : Int32)] n h1 (fun h2 => (CallV g m_X10_sayRatio d [.ref 2759, .ref a2] n h2 (fun h3 => (CallV g m_X10_say d [.ref 2759, .int (41 : Int32)] n h3 (fun h4 => (CallV g m_X10_sayBase d [.ref 2759, .int (ri h4 a2 3), .int (110 : Int32)] n h4 (fun h5 => (CallV g m_X10_sayBase d [.ref 2759, .int (ri h5 a2 4), .int (107 : Int32)] n h5 (fun h6 => (W_X10_write g d av Q n 95 [some (.ref 2759), none, some (.ref a2), some (.int (0 : Int32))] [] h6)))))))))))) ∧ (((ri h1 a2 0) = (1 : Int32)) → (CallV g m_X10_sayRatio d [.ref 2759, .ref a2] n h1 (fun h7 => (W_X10_write g d av Q n 221 [some (.ref 2759), none, none, none] [] h7)))))) : W_X10_write g d av Q n 35 [some (.ref 2759), none, some (.ref a2), none] [] h := by
  refine r_aload_n dX10_write_35 rfl rfl ?_
  refine r_iconst (v := (0 : Int32)) dX10_write_36 rfl ?_
  refine m_putI hp fw_X10_561 dX10_write_37 rfl rfl ly_10 (fun h1 eh1 => ?_)
  replace H := H h1 eh1
  refine r_aload_n dX10_write_40 rfl rfl ?_
  refine m_getI hp fw_X10_202 dX10_write_41 rfl t2 ?_
  refine r_iconst (v := (1 : Int32)) dX10_write_44 rfl ?_
  refine r_icmp_ne (tgt := 56) dX10_write_45 rfl (fun cH => ?_) (fun cH => ?_)
  · replace H := H.1 cH
    refine r_aload_n dX10_write_56 rfl rfl ?_
    refine r_bipush (v := (40 : Int32)) dX10_write_57 rfl ?_
    refine k_VV (As := [.int (40 : Int32)]) (stk := []) hp cv_X10_564 dX10_write_59 rfl (Nat.le_of_ble_eq_true rfl) ly_10 (H.mono (fun h2 H => ?_)) ⟨Nat.le_refl _, Nat.le_refl _⟩
    refine r_aload_n dX10_write_62 rfl rfl ?_
    refine r_aload_n dX10_write_63 rfl rfl ?_
    refine k_VV (As := [.ref a2]) (stk := []) hp cv_X10_587 dX10_write_64 rfl (Nat.le_of_ble_eq_true rfl) ly_10 (H.mono (fun h3 H => ?_)) ⟨Nat.le_refl _, Nat.le_refl _⟩
    refine r_aload_n dX10_write_67 rfl rfl ?_
    refine r_bipush (v := (41 : Int32)) dX10_write_68 rfl ?_
    refine k_VV (As := [.int (41 : Int32)]) (stk := []) hp cv_X10_564 dX10_write_70 rfl (Nat.le_of_ble_eq_true rfl) ly_10 (H.mono (fun h4 H => ?_)) ⟨Nat.le_refl _, Nat.le_refl _⟩
    refine r_aload_n dX10_write_73 rfl rfl ?_
    refine r_aload_n dX10_write_74 rfl rfl ?_
    refine m_getI hp fw_X10_213 dX10_write_75 rfl t2 ?_
    refine r_bipush (v := (110 : Int32)) dX10_write_78 rfl ?_
    refine k_VV (As := [.int (ri h4 a2 3), .int (110 : Int32)]) (stk := []) hp cv_X10_590 dX10_write_80 rfl (Nat.le_of_ble_eq_true rfl) ly_10 (H.mono (fun h5 H => ?_)) ⟨Nat.le_refl _, Nat.le_refl _⟩
    refine r_aload_n dX10_write_83 rfl rfl ?_
    refine r_aload_n dX10_write_84 rfl rfl ?_
    refine m_getI hp fw_X10_216 dX10_write_85 rfl t2 ?_
    refine r_bipush (v := (107 : Int32)) dX10_write_88 rfl ?_
    refine k_VV (As := [.int (ri h5 a2 4), .int (107 : Int32)]) (stk := []) hp cv_X10_590 dX10_write_90 rfl (Nat.le_of_ble_eq_true rfl) ly_10 (H.mono (fun h6 H => ?_)) ⟨Nat.le_refl _, Nat.le_refl _⟩
    refine r_iconst (v := (0 : Int32)) dX10_write_93 rfl ?_
    refine r_istore_n (ls2 := [some (.ref 2759), none, some (.ref a2), some (.int (0 : Int32))]) dX10_write_94 rfl (by decide) rfl ?_
    exact H
  · replace H := H.2 cH
    refine r_aload_n dX10_write_48 rfl rfl ?_
    refine r_aload_n dX10_write_49 rfl rfl ?_
    refine k_VV (As := [.ref a2]) (stk := []) hp cv_X10_587 dX10_write_50 rfl (Nat.le_of_ble_eq_true rfl) ly_10 (H.mono (fun h7 H => ?_)) ⟨Nat.le_refl _, Nat.le_refl _⟩
    refine r_goto (tgt := 221) dX10_write_53 rfl ?_
    refine r_prune [true, false, false, false] (ls2 := [some (.ref 2759), none, none, none]) rfl ?_
    exact H
theorem s_X10_write_95 {g : GX} {d : Nat} {av : List Value} {Q : QT} {n : Nat} {h : Hp} {a2 : Nat} {x3 : Int32} (hp : g.2.2.2.2 = true) (t2 : lay a2 = (0, 11, 15)) (H : (((ri h a2 5) ≤ x3) → (W_X10_write g d av Q n 221 [some (.ref 2759), none, none, none] [] h)) ∧ ((¬ (ri h a2 5) ≤ x3) → (vp_in x3 13 ∧ ((((ri h (a2 + 6) (x3).toNatClampNeg) ≤ (0 : Int32)) → (W_X10_write g d av Q n 120 [some (.ref 2759), none, some (.ref a2), some (.int x3)] [.int (47 : Int32), .ref 2759] h)) ∧ ((¬ (ri h (a2 + 6) (x3).toNatClampNeg) ≤ (0 : Int32)) → (W_X10_write g d av Q n 120 [some (.ref 2759), none, some (.ref a2), some (.int x3)] [.int (42 : Int32), .ref 2759] h)))))) : W_X10_write g d av Q n 95 [some (.ref 2759), none, some (.ref a2), some (.int x3)] [] h := by
  refine r_iload_n dX10_write_95 rfl rfl ?_
  refine r_aload_n dX10_write_96 rfl rfl ?_
  refine m_getI hp fw_X10_219 dX10_write_97 rfl t2 ?_
  refine r_icmp_ge (tgt := 221) dX10_write_100 rfl (fun cH => ?_) (fun cH => ?_)
  · replace H := H.1 cH
    refine r_prune [true, false, false, false] (ls2 := [some (.ref 2759), none, none, none]) rfl ?_
    exact H
  · replace H := H.2 cH
    refine r_aload_n dX10_write_103 rfl rfl ?_
    refine r_aload_n dX10_write_104 rfl rfl ?_
    refine m_getF (x := (a2 + 6)) hp fw_X10_231 dX10_write_105 rfl t2 (ff_11_9 t2) ?_
    refine r_iload_n dX10_write_108 rfl rfl ?_
    refine m_iald hp dX10_write_109 (lf_11_9 t2) H.1 ?_
    replace H := H.2
    refine r_if_le (tgt := 118) dX10_write_110 rfl (fun cH => ?_) (fun cH => ?_)
    · replace H := H.1 cH
      refine r_bipush (v := (47 : Int32)) dX10_write_118 rfl ?_
      exact H
    · replace H := H.2 cH
      refine r_bipush (v := (42 : Int32)) dX10_write_113 rfl ?_
      refine r_goto (tgt := 120) dX10_write_115 rfl ?_
      exact H
theorem s_X10_write_120 {g : GX} {d : Nat} {av : List Value} {Q : QT} {n : Nat} {h : Hp} {a2 : Nat} {x3 : Int32} {xs0 : Int32} {as1 : Nat} (hp : g.2.2.2.2 = true) (t2 : lay a2 = (0, 11, 15)) (ts1 : lay as1 = (0, 10, 65)) (H : CallV g m_X10_say d [.ref as1, .int xs0] n h (fun h1 => (CallV g m_X10_say d [.ref 2759, .int (40 : Int32)] n h1 (fun h2 => (((1 : Int32) = 0 ∨ (1 : Int32) = 1) ∧ ∀ h3, h3 = wi h2 2759 27 (1 : Int32) → (vp_in x3 13 ∧ (CallV g m_X10_sayLine d [.ref 2759, .int (ri h3 (a2 + 4) (x3).toNatClampNeg), .int (0 : Int32), .int (1 : Int32)] n h3 (fun h4 => (vp_in x3 13 ∧ (CallV g m_X10_sayLine d [.ref 2759, .int (ri h4 (a2 + 3) (x3).toNatClampNeg), .int (1 : Int32), .int (0 : Int32)] n h4 (fun h5 => (vp_in x3 13 ∧ (CallV g m_X10_sayLine d [.ref 2759, .int (ri h5 (a2 + 5) (x3).toNatClampNeg), .int (0 : Int32), .int (0 : Int32)] n h5 (fun h6 => (CallV g m_X10_say d [.ref 2759, .int (41 : Int32)] n h6 (fun h7 => (CallV g m_X10_say d [.ref 2759, .int (33 : Int32)] n h7 (fun h8 => (vp_in x3 13 ∧ (CallI g m_J3_abs d [.int (ri h8 (a2 + 6) (x3).toNatClampNeg)] n h8 (fun v9 h9 => (((v9 ≤ (1 : Int32)) → (W_X10_write g d av Q n 215 [some (.ref 2759), none, some (.ref a2), some (.int x3)] [] h9)) ∧ ((¬ v9 ≤ (1 : Int32)) → (CallV g m_X10_say d [.ref 2759, .int (94 : Int32)] n h9 (fun h10 => (vp_in x3 13 ∧ (CallI g m_J3_abs d [.int (ri h10 (a2 + 6) (x3).toNatClampNeg)] n h10 (fun v11 h11 => (CallV g m_X10_sayNumber d [.ref 2759, .long (v11).toInt64] n h11 (fun h12 => (W_X10_write g d av Q n 215 [some (.ref 2759), none, some (.ref a2), some (.int x3)] [] h12))))))))))))))))))))))))))))))) : W_X10_write g d av Q n 120 [some (.ref 2759), none, some (.ref a2), some (.int x3)] [.int xs0, .ref as1] h := by
  refine k_VV (As := [.int xs0]) (stk := []) hp cv_X10_564 dX10_write_120 rfl (Nat.le_of_ble_eq_true rfl) ts1 (H.mono (fun h1 H => ?_)) ⟨Nat.le_refl _, Nat.le_refl _⟩
  refine r_aload_n dX10_write_123 rfl rfl ?_
  refine r_bipush (v := (40 : Int32)) dX10_write_124 rfl ?_
  refine k_VV (As := [.int (40 : Int32)]) (stk := []) hp cv_X10_564 dX10_write_126 rfl (Nat.le_of_ble_eq_true rfl) ly_10 (H.mono (fun h2 H => ?_)) ⟨Nat.le_refl _, Nat.le_refl _⟩
  refine r_aload_n dX10_write_129 rfl rfl ?_
  refine r_iconst (v := (1 : Int32)) dX10_write_130 rfl ?_
  refine m_putZ hp fw_X10_567 dX10_write_131 rfl rfl ly_10 H.1 (fun h3 eh3 => ?_)
  replace H := H.2 h3 eh3
  refine r_aload_n dX10_write_134 rfl rfl ?_
  refine r_aload_n dX10_write_135 rfl rfl ?_
  refine m_getF (x := (a2 + 4)) hp fw_X10_225 dX10_write_136 rfl t2 (ff_11_7 t2) ?_
  refine r_iload_n dX10_write_139 rfl rfl ?_
  refine m_iald hp dX10_write_140 (lf_11_7 t2) H.1 ?_
  replace H := H.2
  refine r_iconst (v := (0 : Int32)) dX10_write_141 rfl ?_
  refine r_iconst (v := (1 : Int32)) dX10_write_142 rfl ?_
  refine k_VV (As := [.int (ri h3 (a2 + 4) (x3).toNatClampNeg), .int (0 : Int32), .int (1 : Int32)]) (stk := []) hp cv_X10_594 dX10_write_143 rfl (Nat.le_of_ble_eq_true rfl) ly_10 (H.mono (fun h4 H => ?_)) ⟨Nat.le_refl _, Nat.le_refl _⟩
  refine r_aload_n dX10_write_146 rfl rfl ?_
  refine r_aload_n dX10_write_147 rfl rfl ?_
  refine m_getF (x := (a2 + 3)) hp fw_X10_222 dX10_write_148 rfl t2 (ff_11_6 t2) ?_
  refine r_iload_n dX10_write_151 rfl rfl ?_
  refine m_iald hp dX10_write_152 (lf_11_6 t2) H.1 ?_
  replace H := H.2
  refine r_iconst (v := (1 : Int32)) dX10_write_153 rfl ?_
  refine r_iconst (v := (0 : Int32)) dX10_write_154 rfl ?_
  refine k_VV (As := [.int (ri h4 (a2 + 3) (x3).toNatClampNeg), .int (1 : Int32), .int (0 : Int32)]) (stk := []) hp cv_X10_594 dX10_write_155 rfl (Nat.le_of_ble_eq_true rfl) ly_10 (H.mono (fun h5 H => ?_)) ⟨Nat.le_refl _, Nat.le_refl _⟩
  refine r_aload_n dX10_write_158 rfl rfl ?_
  refine r_aload_n dX10_write_159 rfl rfl ?_
  refine m_getF (x := (a2 + 5)) hp fw_X10_228 dX10_write_160 rfl t2 (ff_11_8 t2) ?_
  refine r_iload_n dX10_write_163 rfl rfl ?_
  refine m_iald hp dX10_write_164 (lf_11_8 t2) H.1 ?_
  replace H := H.2
  refine r_iconst (v := (0 : Int32)) dX10_write_165 rfl ?_
  refine r_iconst (v := (0 : Int32)) dX10_write_166 rfl ?_
  refine k_VV (As := [.int (ri h5 (a2 + 5) (x3).toNatClampNeg), .int (0 : Int32), .int (0 : Int32)]) (stk := []) hp cv_X10_594 dX10_write_167 rfl (Nat.le_of_ble_eq_true rfl) ly_10 (H.mono (fun h6 H => ?_)) ⟨Nat.le_refl _, Nat.le_refl _⟩
  refine r_aload_n dX10_write_170 rfl rfl ?_
  refine r_bipush (v := (41 : Int32)) dX10_write_171 rfl ?_
  refine k_VV (As := [.int (41 : Int32)]) (stk := []) hp cv_X10_564 dX10_write_173 rfl (Nat.le_of_ble_eq_true rfl) ly_10 (H.mono (fun h7 H => ?_)) ⟨Nat.le_refl _, Nat.le_refl _⟩
  refine r_aload_n dX10_write_176 rfl rfl ?_
  refine r_bipush (v := (33 : Int32)) dX10_write_177 rfl ?_
  refine k_VV (As := [.int (33 : Int32)]) (stk := []) hp cv_X10_564 dX10_write_179 rfl (Nat.le_of_ble_eq_true rfl) ly_10 (H.mono (fun h8 H => ?_)) ⟨Nat.le_refl _, Nat.le_refl _⟩
  refine r_aload_n dX10_write_182 rfl rfl ?_
  refine m_getF (x := (a2 + 6)) hp fw_X10_231 dX10_write_183 rfl t2 (ff_11_9 t2) ?_
  refine r_iload_n dX10_write_186 rfl rfl ?_
  refine m_iald hp dX10_write_187 (lf_11_9 t2) H.1 ?_
  replace H := H.2
  refine k_SI (As := [.int (ri h8 (a2 + 6) (x3).toNatClampNeg)]) (stk := []) cs_X10_273 dX10_write_188 rfl (Nat.le_of_ble_eq_true rfl) (H.mono (fun v9 h9 H => ?_)) ⟨Nat.le_refl _, Nat.le_refl _⟩
  refine r_iconst (v := (1 : Int32)) dX10_write_191 rfl ?_
  refine r_icmp_le (tgt := 215) dX10_write_192 rfl (fun cH => ?_) (fun cH => ?_)
  · replace H := H.1 cH
    exact H
  · replace H := H.2 cH
    refine r_aload_n dX10_write_195 rfl rfl ?_
    refine r_bipush (v := (94 : Int32)) dX10_write_196 rfl ?_
    refine k_VV (As := [.int (94 : Int32)]) (stk := []) hp cv_X10_564 dX10_write_198 rfl (Nat.le_of_ble_eq_true rfl) ly_10 (H.mono (fun h10 H => ?_)) ⟨Nat.le_refl _, Nat.le_refl _⟩
    refine r_aload_n dX10_write_201 rfl rfl ?_
    refine r_aload_n dX10_write_202 rfl rfl ?_
    refine m_getF (x := (a2 + 6)) hp fw_X10_231 dX10_write_203 rfl t2 (ff_11_9 t2) ?_
    refine r_iload_n dX10_write_206 rfl rfl ?_
    refine m_iald hp dX10_write_207 (lf_11_9 t2) H.1 ?_
    replace H := H.2
    refine k_SI (As := [.int (ri h10 (a2 + 6) (x3).toNatClampNeg)]) (stk := [.ref 2759]) cs_X10_273 dX10_write_208 rfl (Nat.le_of_ble_eq_true rfl) (H.mono (fun v11 h11 H => ?_)) ⟨Nat.le_refl _, Nat.le_refl _⟩
    refine r_i2l dX10_write_211 ?_
    refine k_VV (As := [.long (v11).toInt64]) (stk := []) hp cv_X10_571 dX10_write_212 rfl (Nat.le_of_ble_eq_true rfl) ly_10 (H.mono (fun h12 H => ?_)) ⟨Nat.le_refl _, Nat.le_refl _⟩
    exact H
theorem s_X10_write_215 {g : GX} {d : Nat} {av : List Value} {Q : QT} {n : Nat} {h : Hp} {a2 : Nat} {x3 : Int32} (hp : g.2.2.2.2 = true) (t2 : lay a2 = (0, 11, 15)) (H : W_X10_write g d av Q n 95 [some (.ref 2759), none, some (.ref a2), some (.int (x3 + (1 : Int32)))] [] h) : W_X10_write g d av Q n 215 [some (.ref 2759), none, some (.ref a2), some (.int x3)] [] h := by
  refine r_iinc (v := (x3 + (1 : Int32))) (ls2 := [some (.ref 2759), none, some (.ref a2), some (.int (x3 + (1 : Int32)))]) dX10_write_215 rfl rfl (by decide) rfl ?_
  refine r_goto (tgt := 95) dX10_write_218 rfl ?_
  exact H
theorem s_X10_write_221 {g : GX} {d : Nat} {av : List Value} {Q : QT} {n : Nat} {h : Hp}  (hp : g.2.2.2.2 = true)  (H : (((ri h 2759 25) ≤ (4000 : Int32)) → (¬ (0 : Int32) < 0 ∧ ¬ (0 : Int32) < 0 ∧ ¬ (ri h 2759 25) < 0 ∧ ((0 : Int32)).toNatClampNeg + ((ri h 2759 25)).toNatClampNeg ≤ 4000 ∧ ((0 : Int32)).toNatClampNeg + ((ri h 2759 25)).toNatClampNeg ≤ 4000 ∧ (∀ i, i < ((ri h 2759 25)).toNatClampNeg → fits .byte (.int (ri h 2852 (((0 : Int32)).toNatClampNeg + i))) = true) ∧ ∀ h1, h1 = cpy h 2852 ((0 : Int32)).toNatClampNeg 2851 ((0 : Int32)).toNatClampNeg ((ri h 2759 25)).toNatClampNeg → (∀ h2, h2 = wi h1 2759 24 (ri h1 2759 25) → (Q (some (.int (ri h2 2759 24))) n h2)))) ∧ ((¬ (ri h 2759 25) ≤ (4000 : Int32)) → (Q (some (.int (-2 : Int32))) n h))) : W_X10_write g d av Q n 221 [some (.ref 2759), none, none, none] [] h := by
  refine r_aload_n dX10_write_221 rfl rfl ?_
  refine m_getI hp fw_X10_561 dX10_write_222 rfl ly_10 ?_
  refine r_sipush (v := (4000 : Int32)) dX10_write_225 rfl ?_
  refine r_icmp_le (tgt := 234) dX10_write_228 rfl (fun cH => ?_) (fun cH => ?_)
  · replace H := H.1 cH
    refine r_aload_n dX10_write_234 rfl rfl ?_
    refine m_getF (x := 2852) hp fw_X10_462 dX10_write_235 rfl ly_10 (ff_10_26 ly_10) ?_
    refine r_iconst (v := (0 : Int32)) dX10_write_238 rfl ?_
    refine r_aload_n dX10_write_239 rfl rfl ?_
    refine m_getF (x := 2851) hp fw_X10_459 dX10_write_240 rfl ly_10 (ff_10_23 ly_10) ?_
    refine r_iconst (v := (0 : Int32)) dX10_write_243 rfl ?_
    refine r_aload_n dX10_write_244 rfl rfl ?_
    refine m_getI hp fw_X10_561 dX10_write_245 rfl ly_10 ?_
    obtain ⟨c1, c2, c3, c4, c5, hF, H⟩ := H
    refine m_copy hp ar_X10_34 dX10_write_248 rfl rfl (lf_10_26 ly_10) (lf_10_23 ly_10) c1 c2 c3 c4 c5 hF (Nat.le_of_ble_eq_true rfl) (Nat.le_add_left 1 d) (fun h1 eh1 => ?_)
    replace H := H h1 eh1
    refine r_aload_n dX10_write_251 rfl rfl ?_
    refine r_aload_n dX10_write_252 rfl rfl ?_
    refine m_getI hp fw_X10_561 dX10_write_253 rfl ly_10 ?_
    refine m_putI hp fw_X10_597 dX10_write_256 rfl rfl ly_10 (fun h2 eh2 => ?_)
    replace H := H h2 eh2
    refine r_aload_n dX10_write_259 rfl rfl ?_
    refine m_getI hp fw_X10_597 dX10_write_260 rfl ly_10 ?_
    exact r_zret dX10_write_263 rfl rfl (Nat.le_refl _) (Nat.le_refl _) H
  · replace H := H.2 cH
    refine r_bipush (v := (-2 : Int32)) dX10_write_231 rfl ?_
    exact r_zret dX10_write_233 rfl rfl (Nat.le_refl _) (Nat.le_refl _) H
abbrev W_X10_sayRatio (g : GX) (d : Nat) (av : List Value) (Q : QT) (n : Nat) (pc : Nat) (ls : LV) (stk : List Value) (h : Hp) : Prop := RJ g m_X10_sayRatio (d + 1) 0 0 av Q pc ls stk n h 0 0
theorem s_X10_sayRatio_0 {g : GX} {d : Nat} {av : List Value} {Q : QT} {n : Nat} {h : Hp} {a1 : Nat} (hp : g.2.2.2.2 = true) (t1 : lay a1 = (0, 11, 15)) (H : CallI g m_X10_isOne d [.ref (a1 + 2)] n h (fun v1 h1 => (((¬ v1 = (0 : Int32)) → (W_X10_sayRatio g d av Q n 18 [some (.ref 2759), some (.ref a1), some (.int v1)] [] h1)) ∧ ((v1 = (0 : Int32)) → (CallV g m_X10_say d [.ref 2759, .int (40 : Int32)] n h1 (fun h2 => (W_X10_sayRatio g d av Q n 18 [some (.ref 2759), some (.ref a1), some (.int v1)] [] h2))))))) : W_X10_sayRatio g d av Q n 0 [some (.ref 2759), some (.ref a1), none] [] h := by
  refine r_aload_n dX10_sayRatio_0 rfl rfl ?_
  refine m_getF (x := (a1 + 2)) hp fw_X10_210 dX10_sayRatio_1 rfl t1 (ff_11_2 t1) ?_
  refine k_SI (As := [.ref (a1 + 2)]) (stk := []) cs_X10_265 dX10_sayRatio_4 rfl (Nat.le_of_ble_eq_true rfl) (H.mono (fun v1 h1 H => ?_)) ⟨Nat.le_refl _, Nat.le_refl _⟩
  refine r_istore_n (ls2 := [some (.ref 2759), some (.ref a1), some (.int v1)]) dX10_sayRatio_7 rfl (by decide) rfl ?_
  refine r_iload_n dX10_sayRatio_8 rfl rfl ?_
  refine r_if_ne (tgt := 18) dX10_sayRatio_9 rfl (fun cH => ?_) (fun cH => ?_)
  · replace H := H.1 cH
    exact H
  · replace H := H.2 cH
    refine r_aload_n dX10_sayRatio_12 rfl rfl ?_
    refine r_bipush (v := (40 : Int32)) dX10_sayRatio_13 rfl ?_
    refine k_VV (As := [.int (40 : Int32)]) (stk := []) hp cv_X10_564 dX10_sayRatio_15 rfl (Nat.le_of_ble_eq_true rfl) ly_10 (H.mono (fun h2 H => ?_)) ⟨Nat.le_refl _, Nat.le_refl _⟩
    exact H
theorem s_X10_sayRatio_18 {g : GX} {d : Nat} {av : List Value} {Q : QT} {n : Nat} {h : Hp} {a1 : Nat} {x2 : Int32} (hp : g.2.2.2.2 = true) (t1 : lay a1 = (0, 11, 15)) (H : CallV g m_X10_sayCells d [.ref 2759, .ref (a1 + 1)] n h (fun h1 => (((¬ x2 = (0 : Int32)) → (Q none n h1)) ∧ ((x2 = (0 : Int32)) → (CallV g m_X10_say d [.ref 2759, .int (41 : Int32)] n h1 (fun h2 => (CallV g m_X10_say d [.ref 2759, .int (47 : Int32)] n h2 (fun h3 => (CallV g m_X10_say d [.ref 2759, .int (40 : Int32)] n h3 (fun h4 => (CallV g m_X10_sayCells d [.ref 2759, .ref (a1 + 2)] n h4 (fun h5 => (CallV g m_X10_say d [.ref 2759, .int (41 : Int32)] n h5 (fun h6 => (Q none n h6))))))))))))))) : W_X10_sayRatio g d av Q n 18 [some (.ref 2759), some (.ref a1), some (.int x2)] [] h := by
  refine r_aload_n dX10_sayRatio_18 rfl rfl ?_
  refine r_aload_n dX10_sayRatio_19 rfl rfl ?_
  refine m_getF (x := (a1 + 1)) hp fw_X10_207 dX10_sayRatio_20 rfl t1 (ff_11_1 t1) ?_
  refine k_VV (As := [.ref (a1 + 1)]) (stk := []) hp cv_X10_583 dX10_sayRatio_23 rfl (Nat.le_of_ble_eq_true rfl) ly_10 (H.mono (fun h1 H => ?_)) ⟨Nat.le_refl _, Nat.le_refl _⟩
  refine r_iload_n dX10_sayRatio_26 rfl rfl ?_
  refine r_if_ne (tgt := 62) dX10_sayRatio_27 rfl (fun cH => ?_) (fun cH => ?_)
  · replace H := H.1 cH
    exact r_vret dX10_sayRatio_62 rfl (Nat.le_refl _) (Nat.le_refl _) H
  · replace H := H.2 cH
    refine r_aload_n dX10_sayRatio_30 rfl rfl ?_
    refine r_bipush (v := (41 : Int32)) dX10_sayRatio_31 rfl ?_
    refine k_VV (As := [.int (41 : Int32)]) (stk := []) hp cv_X10_564 dX10_sayRatio_33 rfl (Nat.le_of_ble_eq_true rfl) ly_10 (H.mono (fun h2 H => ?_)) ⟨Nat.le_refl _, Nat.le_refl _⟩
    refine r_aload_n dX10_sayRatio_36 rfl rfl ?_
    refine r_bipush (v := (47 : Int32)) dX10_sayRatio_37 rfl ?_
    refine k_VV (As := [.int (47 : Int32)]) (stk := []) hp cv_X10_564 dX10_sayRatio_39 rfl (Nat.le_of_ble_eq_true rfl) ly_10 (H.mono (fun h3 H => ?_)) ⟨Nat.le_refl _, Nat.le_refl _⟩
    refine r_aload_n dX10_sayRatio_42 rfl rfl ?_
    refine r_bipush (v := (40 : Int32)) dX10_sayRatio_43 rfl ?_
    refine k_VV (As := [.int (40 : Int32)]) (stk := []) hp cv_X10_564 dX10_sayRatio_45 rfl (Nat.le_of_ble_eq_true rfl) ly_10 (H.mono (fun h4 H => ?_)) ⟨Nat.le_refl _, Nat.le_refl _⟩
    refine r_aload_n dX10_sayRatio_48 rfl rfl ?_
    refine r_aload_n dX10_sayRatio_49 rfl rfl ?_
    refine m_getF (x := (a1 + 2)) hp fw_X10_210 dX10_sayRatio_50 rfl t1 (ff_11_2 t1) ?_
    refine k_VV (As := [.ref (a1 + 2)]) (stk := []) hp cv_X10_583 dX10_sayRatio_53 rfl (Nat.le_of_ble_eq_true rfl) ly_10 (H.mono (fun h5 H => ?_)) ⟨Nat.le_refl _, Nat.le_refl _⟩
    refine r_aload_n dX10_sayRatio_56 rfl rfl ?_
    refine r_bipush (v := (41 : Int32)) dX10_sayRatio_57 rfl ?_
    refine k_VV (As := [.int (41 : Int32)]) (stk := []) hp cv_X10_564 dX10_sayRatio_59 rfl (Nat.le_of_ble_eq_true rfl) ly_10 (H.mono (fun h6 H => ?_)) ⟨Nat.le_refl _, Nat.le_refl _⟩
    exact r_vret dX10_sayRatio_62 rfl (Nat.le_refl _) (Nat.le_refl _) H
abbrev W_X10_say (g : GX) (d : Nat) (av : List Value) (Q : QT) (n : Nat) (pc : Nat) (ls : LV) (stk : List Value) (h : Hp) : Prop := RJ g m_X10_say d 0 0 av Q pc ls stk n h 0 0
theorem s_X10_say_0 {g : GX} {d : Nat} {av : List Value} {Q : QT} {n : Nat} {h : Hp} {x1 : Int32} (hp : g.2.2.2.2 = true)  (H : (((4000 : Int32) ≤ (ri h 2759 25)) → (W_X10_say g d av Q n 21 [some (.ref 2759), none] [] h)) ∧ ((¬ (4000 : Int32) ≤ (ri h 2759 25)) → (vp_in (ri h 2759 25) 4000 ∧ ∀ h1, h1 = wi h 2852 ((ri h 2759 25)).toNatClampNeg (x1).toInt8.toInt32 → (W_X10_say g d av Q n 21 [some (.ref 2759), none] [] h1)))) : W_X10_say g d av Q n 0 [some (.ref 2759), some (.int x1)] [] h := by
  refine r_aload_n dX10_say_0 rfl rfl ?_
  refine m_getI hp fw_X10_561 dX10_say_1 rfl ly_10 ?_
  refine r_sipush (v := (4000 : Int32)) dX10_say_4 rfl ?_
  refine r_icmp_ge (tgt := 21) dX10_say_7 rfl (fun cH => ?_) (fun cH => ?_)
  · replace H := H.1 cH
    refine r_prune [true, false] (ls2 := [some (.ref 2759), none]) rfl ?_
    exact H
  · replace H := H.2 cH
    refine r_aload_n dX10_say_10 rfl rfl ?_
    refine m_getF (x := 2852) hp fw_X10_462 dX10_say_11 rfl ly_10 (ff_10_26 ly_10) ?_
    refine r_aload_n dX10_say_14 rfl rfl ?_
    refine m_getI hp fw_X10_561 dX10_say_15 rfl ly_10 ?_
    refine r_iload_n dX10_say_18 rfl rfl ?_
    refine r_i2b dX10_say_19 ?_
    refine m_bast hp dX10_say_20 (lf_10_26 ly_10) H.1 (pk_nb _) (fun h1 eh1 => ?_)
    replace H := H.2 h1 eh1
    refine r_prune [true, false] (ls2 := [some (.ref 2759), none]) rfl ?_
    exact H
theorem s_X10_say_21 {g : GX} {d : Nat} {av : List Value} {Q : QT} {n : Nat} {h : Hp}  (hp : g.2.2.2.2 = true)  (H : ∀ h1, h1 = wi h 2759 25 ((ri h 2759 25) + (1 : Int32)) → (Q none n h1)) : W_X10_say g d av Q n 21 [some (.ref 2759), none] [] h := by
  refine r_aload_n dX10_say_21 rfl rfl ?_
  refine r_dup dX10_say_22 rfl ?_
  refine m_getI hp fw_X10_561 dX10_say_23 rfl ly_10 ?_
  refine r_iconst (v := (1 : Int32)) dX10_say_26 rfl ?_
  refine r_iadd dX10_say_27 ?_
  refine m_putI hp fw_X10_561 dX10_say_28 rfl rfl ly_10 (fun h1 eh1 => ?_)
  replace H := H h1 eh1
  exact r_vret dX10_say_31 rfl (Nat.le_refl _) (Nat.le_refl _) H
abbrev W_X10_sayCells (g : GX) (d : Nat) (av : List Value) (Q : QT) (n : Nat) (pc : Nat) (ls : LV) (stk : List Value) (h : Hp) : Prop := RJ g m_X10_sayCells (d + 1) 0 0 av Q pc ls stk n h 0 0
theorem s_X10_sayCells_0 {g : GX} {d : Nat} {av : List Value} {Q : QT} {n : Nat} {h : Hp} {a1 : Nat} {L1 : Nat} (hp : g.2.2.2.2 = true) (t1 : lay a1 = (1, L1, 0)) (H : ((1 : Int32) = 0 ∨ (1 : Int32) = 1) ∧ ∀ h1, h1 = wi h 2759 27 (1 : Int32) → (W_X10_sayCells g d av Q n 8 [some (.ref 2759), some (.ref a1), some (.int (12 : Int32)), none] [] h1)) : W_X10_sayCells g d av Q n 0 [some (.ref 2759), some (.ref a1), none, none] [] h := by
  refine r_aload_n dX10_sayCells_0 rfl rfl ?_
  refine r_iconst (v := (1 : Int32)) dX10_sayCells_1 rfl ?_
  refine m_putZ hp fw_X10_567 dX10_sayCells_2 rfl rfl ly_10 H.1 (fun h1 eh1 => ?_)
  replace H := H.2 h1 eh1
  refine r_bipush (v := (12 : Int32)) dX10_sayCells_5 rfl ?_
  refine r_istore_n (ls2 := [some (.ref 2759), some (.ref a1), some (.int (12 : Int32)), none]) dX10_sayCells_7 rfl (by decide) rfl ?_
  exact H
theorem s_X10_sayCells_8 {g : GX} {d : Nat} {av : List Value} {Q : QT} {n : Nat} {h : Hp} {a1 : Nat} {L1 : Nat} {x2 : Int32} (hp : g.2.2.2.2 = true) (t1 : lay a1 = (1, L1, 0)) (H : ((x2 < (0 : Int32)) → ((((ri h 2759 27) = (0 : Int32)) → (Q none n h)) ∧ ((¬ (ri h 2759 27) = (0 : Int32)) → (CallV g m_X10_say d [.ref 2759, .int (48 : Int32)] n h (fun h1 => (Q none n h1)))))) ∧ ((¬ x2 < (0 : Int32)) → (W_X10_sayCells g d av Q n 15 [some (.ref 2759), some (.ref a1), some (.int x2), some (.int (24 : Int32))] [] h))) : W_X10_sayCells g d av Q n 8 [some (.ref 2759), some (.ref a1), some (.int x2), none] [] h := by
  refine r_iload_n dX10_sayCells_8 rfl rfl ?_
  refine r_if_lt (tgt := 56) dX10_sayCells_9 rfl (fun cH => ?_) (fun cH => ?_)
  · replace H := H.1 cH
    refine r_aload_n dX10_sayCells_56 rfl rfl ?_
    refine m_getI hp fw_X10_567 dX10_sayCells_57 rfl ly_10 ?_
    refine r_if_eq (tgt := 69) dX10_sayCells_60 rfl (fun cH => ?_) (fun cH => ?_)
    · replace H := H.1 cH
      exact r_vret dX10_sayCells_69 rfl (Nat.le_refl _) (Nat.le_refl _) H
    · replace H := H.2 cH
      refine r_aload_n dX10_sayCells_63 rfl rfl ?_
      refine r_bipush (v := (48 : Int32)) dX10_sayCells_64 rfl ?_
      refine k_VV (As := [.int (48 : Int32)]) (stk := []) hp cv_X10_564 dX10_sayCells_66 rfl (Nat.le_of_ble_eq_true rfl) ly_10 (H.mono (fun h1 H => ?_)) ⟨Nat.le_refl _, Nat.le_refl _⟩
      exact r_vret dX10_sayCells_69 rfl (Nat.le_refl _) (Nat.le_refl _) H
  · replace H := H.2 cH
    refine r_bipush (v := (24 : Int32)) dX10_sayCells_12 rfl ?_
    refine r_istore_n (ls2 := [some (.ref 2759), some (.ref a1), some (.int x2), some (.int (24 : Int32))]) dX10_sayCells_14 rfl (by decide) rfl ?_
    exact H
theorem s_X10_sayCells_15 {g : GX} {d : Nat} {av : List Value} {Q : QT} {n : Nat} {h : Hp} {a1 : Nat} {L1 : Nat} {x2 : Int32} {x3 : Int32} (hp : g.2.2.2.2 = true) (t1 : lay a1 = (1, L1, 0)) (H : ((x3 < (0 : Int32)) → (W_X10_sayCells g d av Q n 8 [some (.ref 2759), some (.ref a1), some (.int (x2 + (-1 : Int32))), none] [] h)) ∧ ((¬ x3 < (0 : Int32)) → (vp_in (((25 : Int32) * x2) + x3) L1 ∧ ((((ri h a1 ((((25 : Int32) * x2) + x3)).toNatClampNeg) = (0 : Int32)) → (W_X10_sayCells g d av Q n 44 [some (.ref 2759), some (.ref a1), some (.int x2), some (.int x3)] [] h)) ∧ ((¬ (ri h a1 ((((25 : Int32) * x2) + x3)).toNatClampNeg) = (0 : Int32)) → (vp_in (((25 : Int32) * x2) + x3) L1 ∧ (CallV g m_X10_sayPart d [.ref 2759, .int (ri h a1 ((((25 : Int32) * x2) + x3)).toNatClampNeg), .int x3, .int x2] n h (fun h1 => (W_X10_sayCells g d av Q n 44 [some (.ref 2759), some (.ref a1), some (.int x2), some (.int x3)] [] h1))))))))) : W_X10_sayCells g d av Q n 15 [some (.ref 2759), some (.ref a1), some (.int x2), some (.int x3)] [] h := by
  refine r_iload_n dX10_sayCells_15 rfl rfl ?_
  refine r_if_lt (tgt := 50) dX10_sayCells_16 rfl (fun cH => ?_) (fun cH => ?_)
  · replace H := H.1 cH
    refine r_iinc (v := (x2 + (-1 : Int32))) (ls2 := [some (.ref 2759), some (.ref a1), some (.int (x2 + (-1 : Int32))), some (.int x3)]) dX10_sayCells_50 rfl rfl (by decide) rfl ?_
    refine r_goto (tgt := 8) dX10_sayCells_53 rfl ?_
    refine r_prune [true, true, true, false] (ls2 := [some (.ref 2759), some (.ref a1), some (.int (x2 + (-1 : Int32))), none]) rfl ?_
    exact H
  · replace H := H.2 cH
    refine r_aload_n dX10_sayCells_19 rfl rfl ?_
    refine r_bipush (v := (25 : Int32)) dX10_sayCells_20 rfl ?_
    refine r_iload_n dX10_sayCells_22 rfl rfl ?_
    refine r_imul dX10_sayCells_23 ?_
    refine r_iload_n dX10_sayCells_24 rfl rfl ?_
    refine r_iadd dX10_sayCells_25 ?_
    refine m_iald hp dX10_sayCells_26 t1 H.1 ?_
    replace H := H.2
    refine r_if_eq (tgt := 44) dX10_sayCells_27 rfl (fun cH => ?_) (fun cH => ?_)
    · replace H := H.1 cH
      exact H
    · replace H := H.2 cH
      refine r_aload_n dX10_sayCells_30 rfl rfl ?_
      refine r_aload_n dX10_sayCells_31 rfl rfl ?_
      refine r_bipush (v := (25 : Int32)) dX10_sayCells_32 rfl ?_
      refine r_iload_n dX10_sayCells_34 rfl rfl ?_
      refine r_imul dX10_sayCells_35 ?_
      refine r_iload_n dX10_sayCells_36 rfl rfl ?_
      refine r_iadd dX10_sayCells_37 ?_
      refine m_iald hp dX10_sayCells_38 t1 H.1 ?_
      replace H := H.2
      refine r_iload_n dX10_sayCells_39 rfl rfl ?_
      refine r_iload_n dX10_sayCells_40 rfl rfl ?_
      refine k_VV (As := [.int (ri h a1 ((((25 : Int32) * x2) + x3)).toNatClampNeg), .int x3, .int x2]) (stk := []) hp cv_X10_579 dX10_sayCells_41 rfl (Nat.le_of_ble_eq_true rfl) ly_10 (H.mono (fun h1 H => ?_)) ⟨Nat.le_refl _, Nat.le_refl _⟩
      exact H
theorem s_X10_sayCells_44 {g : GX} {d : Nat} {av : List Value} {Q : QT} {n : Nat} {h : Hp} {a1 : Nat} {L1 : Nat} {x2 : Int32} {x3 : Int32} (hp : g.2.2.2.2 = true) (t1 : lay a1 = (1, L1, 0)) (H : W_X10_sayCells g d av Q n 15 [some (.ref 2759), some (.ref a1), some (.int x2), some (.int (x3 + (-1 : Int32)))] [] h) : W_X10_sayCells g d av Q n 44 [some (.ref 2759), some (.ref a1), some (.int x2), some (.int x3)] [] h := by
  refine r_iinc (v := (x3 + (-1 : Int32))) (ls2 := [some (.ref 2759), some (.ref a1), some (.int x2), some (.int (x3 + (-1 : Int32)))]) dX10_sayCells_44 rfl rfl (by decide) rfl ?_
  refine r_goto (tgt := 15) dX10_sayCells_47 rfl ?_
  exact H
abbrev W_X10_sayPart (g : GX) (d : Nat) (av : List Value) (Q : QT) (n : Nat) (pc : Nat) (ls : LV) (stk : List Value) (h : Hp) : Prop := RJ g m_X10_sayPart (d + 1) 0 0 av Q pc ls stk n h 0 0
theorem s_X10_sayPart_0 {g : GX} {d : Nat} {av : List Value} {Q : QT} {n : Nat} {h : Hp} {x1 : Int32} {x2 : Int32} {x3 : Int32} (hp : g.2.2.2.2 = true)  (H : CallI g m_X10_small d [.int x1] n h (fun v1 h1 => ((((0 : Int32) ≤ v1) → (((¬ (ri h1 2759 27) = (0 : Int32)) → (W_X10_sayPart g d av Q n 33 [some (.ref 2759), none, some (.int x2), some (.int x3), some (.int v1), none, none] [] h1)) ∧ (((ri h1 2759 27) = (0 : Int32)) → (CallV g m_X10_say d [.ref 2759, .int (43 : Int32)] n h1 (fun h2 => (W_X10_sayPart g d av Q n 33 [some (.ref 2759), none, some (.int x2), some (.int x3), some (.int v1), none, none] [] h2)))))) ∧ ((¬ (0 : Int32) ≤ v1) → (CallV g m_X10_say d [.ref 2759, .int (45 : Int32)] n h1 (fun h3 => (W_X10_sayPart g d av Q n 33 [some (.ref 2759), none, some (.int x2), some (.int x3), some (.int v1), none, none] [] h3))))))) : W_X10_sayPart g d av Q n 0 [some (.ref 2759), some (.int x1), some (.int x2), some (.int x3), none, none, none] [] h := by
  refine r_iload_n dX10_sayPart_0 rfl rfl ?_
  refine k_SI (As := [.int x1]) (stk := []) cs_X10_390 dX10_sayPart_1 rfl (Nat.le_of_ble_eq_true rfl) (H.mono (fun v1 h1 H => ?_)) ⟨Nat.le_refl _, Nat.le_refl _⟩
  refine r_istore (ls2 := [some (.ref 2759), some (.int x1), some (.int x2), some (.int x3), some (.int v1), none, none]) dX10_sayPart_4 (by decide) rfl ?_
  refine r_iload dX10_sayPart_6 rfl ?_
  refine r_if_ge (tgt := 20) dX10_sayPart_8 rfl (fun cH => ?_) (fun cH => ?_)
  · replace H := H.1 cH
    refine r_aload_n dX10_sayPart_20 rfl rfl ?_
    refine m_getI hp fw_X10_567 dX10_sayPart_21 rfl ly_10 ?_
    refine r_if_ne (tgt := 33) dX10_sayPart_24 rfl (fun cH => ?_) (fun cH => ?_)
    · replace H := H.1 cH
      refine r_prune [true, false, true, true, true, false, false] (ls2 := [some (.ref 2759), none, some (.int x2), some (.int x3), some (.int v1), none, none]) rfl ?_
      exact H
    · replace H := H.2 cH
      refine r_aload_n dX10_sayPart_27 rfl rfl ?_
      refine r_bipush (v := (43 : Int32)) dX10_sayPart_28 rfl ?_
      refine k_VV (As := [.int (43 : Int32)]) (stk := []) hp cv_X10_564 dX10_sayPart_30 rfl (Nat.le_of_ble_eq_true rfl) ly_10 (H.mono (fun h2 H => ?_)) ⟨Nat.le_refl _, Nat.le_refl _⟩
      refine r_prune [true, false, true, true, true, false, false] (ls2 := [some (.ref 2759), none, some (.int x2), some (.int x3), some (.int v1), none, none]) rfl ?_
      exact H
  · replace H := H.2 cH
    refine r_aload_n dX10_sayPart_11 rfl rfl ?_
    refine r_bipush (v := (45 : Int32)) dX10_sayPart_12 rfl ?_
    refine k_VV (As := [.int (45 : Int32)]) (stk := []) hp cv_X10_564 dX10_sayPart_14 rfl (Nat.le_of_ble_eq_true rfl) ly_10 (H.mono (fun h3 H => ?_)) ⟨Nat.le_refl _, Nat.le_refl _⟩
    refine r_goto (tgt := 33) dX10_sayPart_17 rfl ?_
    refine r_prune [true, false, true, true, true, false, false] (ls2 := [some (.ref 2759), none, some (.int x2), some (.int x3), some (.int v1), none, none]) rfl ?_
    exact H
theorem s_X10_sayPart_33 {g : GX} {d : Nat} {av : List Value} {Q : QT} {n : Nat} {h : Hp} {x2 : Int32} {x3 : Int32} {x4 : Int32} (hp : g.2.2.2.2 = true)  (H : ((0 : Int32) = 0 ∨ (0 : Int32) = 1) ∧ ∀ h1, h1 = wi h 2759 27 (0 : Int32) → (CallI g m_J3_abs d [.int x4] n h1 (fun v2 h2 => (((¬ v2 = (1 : Int32)) → (W_X10_sayPart g d av Q n 59 [some (.ref 2759), none, some (.int x2), some (.int x3), none, some (.int v2), none] [] h2)) ∧ ((v2 = (1 : Int32)) → (((¬ x2 = (0 : Int32)) → (W_X10_sayPart g d av Q n 63 [some (.ref 2759), none, some (.int x2), some (.int x3), none, some (.int v2), none] [] h2)) ∧ ((x2 = (0 : Int32)) → (((¬ x3 = (0 : Int32)) → (W_X10_sayPart g d av Q n 63 [some (.ref 2759), none, some (.int x2), some (.int x3), none, some (.int v2), none] [] h2)) ∧ ((x3 = (0 : Int32)) → (W_X10_sayPart g d av Q n 59 [some (.ref 2759), none, some (.int x2), some (.int x3), none, some (.int v2), none] [] h2)))))))))) : W_X10_sayPart g d av Q n 33 [some (.ref 2759), none, some (.int x2), some (.int x3), some (.int x4), none, none] [] h := by
  refine r_aload_n dX10_sayPart_33 rfl rfl ?_
  refine r_iconst (v := (0 : Int32)) dX10_sayPart_34 rfl ?_
  refine m_putZ hp fw_X10_567 dX10_sayPart_35 rfl rfl ly_10 H.1 (fun h1 eh1 => ?_)
  replace H := H.2 h1 eh1
  refine r_iload dX10_sayPart_38 rfl ?_
  refine k_SI (As := [.int x4]) (stk := []) cs_X10_273 dX10_sayPart_40 rfl (Nat.le_of_ble_eq_true rfl) (H.mono (fun v2 h2 H => ?_)) ⟨Nat.le_refl _, Nat.le_refl _⟩
  refine r_istore (ls2 := [some (.ref 2759), none, some (.int x2), some (.int x3), some (.int x4), some (.int v2), none]) dX10_sayPart_43 (by decide) rfl ?_
  refine r_iload dX10_sayPart_45 rfl ?_
  refine r_iconst (v := (1 : Int32)) dX10_sayPart_47 rfl ?_
  refine r_icmp_ne (tgt := 59) dX10_sayPart_48 rfl (fun cH => ?_) (fun cH => ?_)
  · replace H := H.1 cH
    refine r_prune [true, false, true, true, false, true, false] (ls2 := [some (.ref 2759), none, some (.int x2), some (.int x3), none, some (.int v2), none]) rfl ?_
    exact H
  · replace H := H.2 cH
    refine r_iload_n dX10_sayPart_51 rfl rfl ?_
    refine r_if_ne (tgt := 63) dX10_sayPart_52 rfl (fun cH => ?_) (fun cH => ?_)
    · replace H := H.1 cH
      refine r_prune [true, false, true, true, false, true, false] (ls2 := [some (.ref 2759), none, some (.int x2), some (.int x3), none, some (.int v2), none]) rfl ?_
      exact H
    · replace H := H.2 cH
      refine r_iload_n dX10_sayPart_55 rfl rfl ?_
      refine r_if_ne (tgt := 63) dX10_sayPart_56 rfl (fun cH => ?_) (fun cH => ?_)
      · replace H := H.1 cH
        refine r_prune [true, false, true, true, false, true, false] (ls2 := [some (.ref 2759), none, some (.int x2), some (.int x3), none, some (.int v2), none]) rfl ?_
        exact H
      · replace H := H.2 cH
        refine r_prune [true, false, true, true, false, true, false] (ls2 := [some (.ref 2759), none, some (.int x2), some (.int x3), none, some (.int v2), none]) rfl ?_
        exact H
theorem s_X10_sayPart_59 {g : GX} {d : Nat} {av : List Value} {Q : QT} {n : Nat} {h : Hp} {x2 : Int32} {x3 : Int32} {x5 : Int32} (hp : g.2.2.2.2 = true)  (H : W_X10_sayPart g d av Q n 64 [some (.ref 2759), none, some (.int x2), some (.int x3), none, some (.int x5), none] [.int (1 : Int32)] h) : W_X10_sayPart g d av Q n 59 [some (.ref 2759), none, some (.int x2), some (.int x3), none, some (.int x5), none] [] h := by
  refine r_iconst (v := (1 : Int32)) dX10_sayPart_59 rfl ?_
  refine r_goto (tgt := 64) dX10_sayPart_60 rfl ?_
  exact H
theorem s_X10_sayPart_63 {g : GX} {d : Nat} {av : List Value} {Q : QT} {n : Nat} {h : Hp} {x2 : Int32} {x3 : Int32} {x5 : Int32} (hp : g.2.2.2.2 = true)  (H : W_X10_sayPart g d av Q n 64 [some (.ref 2759), none, some (.int x2), some (.int x3), none, some (.int x5), none] [.int (0 : Int32)] h) : W_X10_sayPart g d av Q n 63 [some (.ref 2759), none, some (.int x2), some (.int x3), none, some (.int x5), none] [] h := by
  refine r_iconst (v := (0 : Int32)) dX10_sayPart_63 rfl ?_
  exact H
theorem s_X10_sayPart_64 {g : GX} {d : Nat} {av : List Value} {Q : QT} {n : Nat} {h : Hp} {x2 : Int32} {x3 : Int32} {x5 : Int32} {xs0 : Int32} (hp : g.2.2.2.2 = true)  (H : ((xs0 = (0 : Int32)) → (W_X10_sayPart g d av Q n 78 [some (.ref 2759), none, some (.int x2), some (.int x3), none, none, some (.int xs0)] [] h)) ∧ ((¬ xs0 = (0 : Int32)) → (CallV g m_X10_sayNumber d [.ref 2759, .long (x5).toInt64] n h (fun h1 => (W_X10_sayPart g d av Q n 78 [some (.ref 2759), none, some (.int x2), some (.int x3), none, none, some (.int xs0)] [] h1))))) : W_X10_sayPart g d av Q n 64 [some (.ref 2759), none, some (.int x2), some (.int x3), none, some (.int x5), none] [.int xs0] h := by
  refine r_istore (ls2 := [some (.ref 2759), none, some (.int x2), some (.int x3), none, some (.int x5), some (.int xs0)]) dX10_sayPart_64 (by decide) rfl ?_
  refine r_iload dX10_sayPart_66 rfl ?_
  refine r_if_eq (tgt := 78) dX10_sayPart_68 rfl (fun cH => ?_) (fun cH => ?_)
  · replace H := H.1 cH
    refine r_prune [true, false, true, true, false, false, true] (ls2 := [some (.ref 2759), none, some (.int x2), some (.int x3), none, none, some (.int xs0)]) rfl ?_
    exact H
  · replace H := H.2 cH
    refine r_aload_n dX10_sayPart_71 rfl rfl ?_
    refine r_iload dX10_sayPart_72 rfl ?_
    refine r_i2l dX10_sayPart_74 ?_
    refine k_VV (As := [.long (x5).toInt64]) (stk := []) hp cv_X10_571 dX10_sayPart_75 rfl (Nat.le_of_ble_eq_true rfl) ly_10 (H.mono (fun h1 H => ?_)) ⟨Nat.le_refl _, Nat.le_refl _⟩
    refine r_prune [true, false, true, true, false, false, true] (ls2 := [some (.ref 2759), none, some (.int x2), some (.int x3), none, none, some (.int xs0)]) rfl ?_
    exact H
theorem s_X10_sayPart_78 {g : GX} {d : Nat} {av : List Value} {Q : QT} {n : Nat} {h : Hp} {x2 : Int32} {x3 : Int32} {x6 : Int32} (hp : g.2.2.2.2 = true)  (H : CallV g m_X10_sayLetter d [.ref 2759, .int (110 : Int32), .int x2, .int x6] n h (fun h1 => (((¬ x6 = (0 : Int32)) → (W_X10_sayPart g d av Q n 100 [none, none, none, none, none, none, none] [.int x3, .int (107 : Int32), .ref 2759] h1)) ∧ ((x6 = (0 : Int32)) → (((x2 ≤ (0 : Int32)) → (W_X10_sayPart g d av Q n 105 [none, none, none, none, none, none, none] [.int (0 : Int32), .int x3, .int (107 : Int32), .ref 2759] h1)) ∧ ((¬ x2 ≤ (0 : Int32)) → (W_X10_sayPart g d av Q n 100 [none, none, none, none, none, none, none] [.int x3, .int (107 : Int32), .ref 2759] h1))))))) : W_X10_sayPart g d av Q n 78 [some (.ref 2759), none, some (.int x2), some (.int x3), none, none, some (.int x6)] [] h := by
  refine r_aload_n dX10_sayPart_78 rfl rfl ?_
  refine r_bipush (v := (110 : Int32)) dX10_sayPart_79 rfl ?_
  refine r_iload_n dX10_sayPart_81 rfl rfl ?_
  refine r_iload dX10_sayPart_82 rfl ?_
  refine k_VV (As := [.int (110 : Int32), .int x2, .int x6]) (stk := []) hp cv_X10_575 dX10_sayPart_84 rfl (Nat.le_of_ble_eq_true rfl) ly_10 (H.mono (fun h1 H => ?_)) ⟨Nat.le_refl _, Nat.le_refl _⟩
  refine r_aload_n dX10_sayPart_87 rfl rfl ?_
  refine r_bipush (v := (107 : Int32)) dX10_sayPart_88 rfl ?_
  refine r_iload_n dX10_sayPart_90 rfl rfl ?_
  refine r_iload dX10_sayPart_91 rfl ?_
  refine r_if_ne (tgt := 100) dX10_sayPart_93 rfl (fun cH => ?_) (fun cH => ?_)
  · replace H := H.1 cH
    refine r_prune [false, false, false, false, false, false, false] (ls2 := [none, none, none, none, none, none, none]) rfl ?_
    exact H
  · replace H := H.2 cH
    refine r_iload_n dX10_sayPart_96 rfl rfl ?_
    refine r_if_le (tgt := 104) dX10_sayPart_97 rfl (fun cH => ?_) (fun cH => ?_)
    · replace H := H.1 cH
      refine r_iconst (v := (0 : Int32)) dX10_sayPart_104 rfl ?_
      refine r_prune [false, false, false, false, false, false, false] (ls2 := [none, none, none, none, none, none, none]) rfl ?_
      exact H
    · replace H := H.2 cH
      refine r_prune [false, false, false, false, false, false, false] (ls2 := [none, none, none, none, none, none, none]) rfl ?_
      exact H
theorem s_X10_sayPart_100 {g : GX} {d : Nat} {av : List Value} {Q : QT} {n : Nat} {h : Hp} {xs0 : Int32} {xs1 : Int32} {as2 : Nat} (hp : g.2.2.2.2 = true) (ts2 : lay as2 = (0, 10, 65)) (H : W_X10_sayPart g d av Q n 105 [none, none, none, none, none, none, none] [.int (1 : Int32), .int xs0, .int xs1, .ref as2] h) : W_X10_sayPart g d av Q n 100 [none, none, none, none, none, none, none] [.int xs0, .int xs1, .ref as2] h := by
  refine r_iconst (v := (1 : Int32)) dX10_sayPart_100 rfl ?_
  refine r_goto (tgt := 105) dX10_sayPart_101 rfl ?_
  exact H
theorem s_X10_sayPart_105 {g : GX} {d : Nat} {av : List Value} {Q : QT} {n : Nat} {h : Hp} {xs0 : Int32} {xs1 : Int32} {xs2 : Int32} {as3 : Nat} (hp : g.2.2.2.2 = true) (ts3 : lay as3 = (0, 10, 65)) (H : CallV g m_X10_sayLetter d [.ref as3, .int xs2, .int xs1, .int xs0] n h (fun h1 => (Q none n h1))) : W_X10_sayPart g d av Q n 105 [none, none, none, none, none, none, none] [.int xs0, .int xs1, .int xs2, .ref as3] h := by
  refine k_VV (As := [.int xs2, .int xs1, .int xs0]) (stk := []) hp cv_X10_575 dX10_sayPart_105 rfl (Nat.le_of_ble_eq_true rfl) ts3 (H.mono (fun h1 H => ?_)) ⟨Nat.le_refl _, Nat.le_refl _⟩
  exact r_vret dX10_sayPart_108 rfl (Nat.le_refl _) (Nat.le_refl _) H
abbrev W_X10_sayNumber (g : GX) (d : Nat) (av : List Value) (Q : QT) (n : Nat) (pc : Nat) (ls : LV) (stk : List Value) (h : Hp) : Prop := RJ g m_X10_sayNumber (d + 1) 0 0 av Q pc ls stk n h 0 0
theorem s_X10_sayNumber_0 {g : GX} {d : Nat} {av : List Value} {Q : QT} {n : Nat} {h : Hp} {y1 : Int64} (hp : g.2.2.2.2 = true)  (H : W_X10_sayNumber g d av Q n 2 [some (.ref 2759), some (.long y1), none, some (.long (1 : Int64)), none] [] h) : W_X10_sayNumber g d av Q n 0 [some (.ref 2759), some (.long y1), none, none, none] [] h := by
  refine r_lconst (v := (1 : Int64)) dX10_sayNumber_0 rfl ?_
  refine r_lstore_n (ls2 := [some (.ref 2759), some (.long y1), none, some (.long (1 : Int64)), none]) dX10_sayNumber_1 rfl (by decide) rfl ?_
  exact H
theorem s_X10_sayNumber_2 {g : GX} {d : Nat} {av : List Value} {Q : QT} {n : Nat} {h : Hp} {y1 : Int64} {y3 : Int64} (hp : g.2.2.2.2 = true)  (H : (¬ y3 = 0) ∧ ((((lg_cmp (y1 / y3) (10 : Int64)) < (0 : Int32)) → (W_X10_sayNumber g d av Q n 21 [some (.ref 2759), some (.long y1), none, some (.long y3), none] [] h)) ∧ ((¬ (lg_cmp (y1 / y3) (10 : Int64)) < (0 : Int32)) → (W_X10_sayNumber g d av Q n 2 [some (.ref 2759), some (.long y1), none, some (.long (y3 * (10 : Int64))), none] [] h)))) : W_X10_sayNumber g d av Q n 2 [some (.ref 2759), some (.long y1), none, some (.long y3), none] [] h := by
  refine r_lload_n dX10_sayNumber_2 rfl rfl ?_
  refine r_lload_n dX10_sayNumber_3 rfl rfl ?_
  refine r_ldiv dX10_sayNumber_4 H.1 ?_
  replace H := H.2
  refine r_ldc2 (own := "") (v := (10 : Int64)) dX10_sayNumber_5 q2254 ?_
  refine r_lcmp dX10_sayNumber_8 ?_
  refine r_if_lt (tgt := 21) dX10_sayNumber_9 rfl (fun cH => ?_) (fun cH => ?_)
  · replace H := H.1 cH
    exact H
  · replace H := H.2 cH
    refine r_lload_n dX10_sayNumber_12 rfl rfl ?_
    refine r_ldc2 (own := "") (v := (10 : Int64)) dX10_sayNumber_13 q2254 ?_
    refine r_lmul dX10_sayNumber_16 ?_
    refine r_lstore_n (ls2 := [some (.ref 2759), some (.long y1), none, some (.long (y3 * (10 : Int64))), none]) dX10_sayNumber_17 rfl (by decide) rfl ?_
    refine r_goto (tgt := 2) dX10_sayNumber_18 rfl ?_
    exact H
theorem s_X10_sayNumber_21 {g : GX} {d : Nat} {av : List Value} {Q : QT} {n : Nat} {h : Hp} {y1 : Int64} {y3 : Int64} (hp : g.2.2.2.2 = true)  (H : (((lg_cmp y3 (0 : Int64)) ≤ (0 : Int32)) → (Q none n h)) ∧ ((¬ (lg_cmp y3 (0 : Int64)) ≤ (0 : Int32)) → ((¬ y3 = 0) ∧ (CallV g m_X10_say d [.ref 2759, .int (((48 : Int64) + ((y1 / y3) - (y1 / y3) / (10 : Int64) * (10 : Int64)))).toInt32] n h (fun h1 => (W_X10_sayNumber g d av Q n 21 [some (.ref 2759), some (.long y1), none, some (.long (y3 / (10 : Int64))), none] [] h1)))))) : W_X10_sayNumber g d av Q n 21 [some (.ref 2759), some (.long y1), none, some (.long y3), none] [] h := by
  refine r_lload_n dX10_sayNumber_21 rfl rfl ?_
  refine r_lconst (v := (0 : Int64)) dX10_sayNumber_22 rfl ?_
  refine r_lcmp dX10_sayNumber_23 ?_
  refine r_if_le (tgt := 52) dX10_sayNumber_24 rfl (fun cH => ?_) (fun cH => ?_)
  · replace H := H.1 cH
    exact r_vret dX10_sayNumber_52 rfl (Nat.le_refl _) (Nat.le_refl _) H
  · replace H := H.2 cH
    refine r_aload_n dX10_sayNumber_27 rfl rfl ?_
    refine r_ldc2 (own := "") (v := (48 : Int64)) dX10_sayNumber_28 q2255 ?_
    refine r_lload_n dX10_sayNumber_31 rfl rfl ?_
    refine r_lload_n dX10_sayNumber_32 rfl rfl ?_
    refine r_ldiv dX10_sayNumber_33 H.1 ?_
    replace H := H.2
    refine r_ldc2 (own := "") (v := (10 : Int64)) dX10_sayNumber_34 q2254 ?_
    refine r_lrem dX10_sayNumber_37 (by decide) ?_
    refine r_ladd dX10_sayNumber_38 ?_
    refine r_l2i dX10_sayNumber_39 ?_
    refine k_VV (As := [.int (((48 : Int64) + ((y1 / y3) - (y1 / y3) / (10 : Int64) * (10 : Int64)))).toInt32]) (stk := []) hp cv_X10_564 dX10_sayNumber_40 rfl (Nat.le_of_ble_eq_true rfl) ly_10 (H.mono (fun h1 H => ?_)) ⟨Nat.le_refl _, Nat.le_refl _⟩
    refine r_lload_n dX10_sayNumber_43 rfl rfl ?_
    refine r_ldc2 (own := "") (v := (10 : Int64)) dX10_sayNumber_44 q2254 ?_
    refine r_ldiv dX10_sayNumber_47 (by decide) ?_
    refine r_lstore_n (ls2 := [some (.ref 2759), some (.long y1), none, some (.long (y3 / (10 : Int64))), none]) dX10_sayNumber_48 rfl (by decide) rfl ?_
    refine r_goto (tgt := 21) dX10_sayNumber_49 rfl ?_
    exact H
abbrev W_X10_sayLetter (g : GX) (d : Nat) (av : List Value) (Q : QT) (n : Nat) (pc : Nat) (ls : LV) (stk : List Value) (h : Hp) : Prop := RJ g m_X10_sayLetter (d + 1) 0 0 av Q pc ls stk n h 0 0
theorem s_X10_sayLetter_0 {g : GX} {d : Nat} {av : List Value} {Q : QT} {n : Nat} {h : Hp} {x1 : Int32} {x2 : Int32} {x3 : Int32} (hp : g.2.2.2.2 = true)  (H : ((¬ x2 = (0 : Int32)) → (((x3 = (0 : Int32)) → (W_X10_sayLetter g d av Q n 15 [some (.ref 2759), some (.int x1), some (.int x2), none] [] h)) ∧ ((¬ x3 = (0 : Int32)) → (CallV g m_X10_say d [.ref 2759, .int (42 : Int32)] n h (fun h1 => (W_X10_sayLetter g d av Q n 15 [some (.ref 2759), some (.int x1), some (.int x2), none] [] h1)))))) ∧ ((x2 = (0 : Int32)) → (Q none n h))) : W_X10_sayLetter g d av Q n 0 [some (.ref 2759), some (.int x1), some (.int x2), some (.int x3)] [] h := by
  refine r_iload_n dX10_sayLetter_0 rfl rfl ?_
  refine r_if_ne (tgt := 5) dX10_sayLetter_1 rfl (fun cH => ?_) (fun cH => ?_)
  · replace H := H.1 cH
    refine r_iload_n dX10_sayLetter_5 rfl rfl ?_
    refine r_if_eq (tgt := 15) dX10_sayLetter_6 rfl (fun cH => ?_) (fun cH => ?_)
    · replace H := H.1 cH
      refine r_prune [true, true, true, false] (ls2 := [some (.ref 2759), some (.int x1), some (.int x2), none]) rfl ?_
      exact H
    · replace H := H.2 cH
      refine r_aload_n dX10_sayLetter_9 rfl rfl ?_
      refine r_bipush (v := (42 : Int32)) dX10_sayLetter_10 rfl ?_
      refine k_VV (As := [.int (42 : Int32)]) (stk := []) hp cv_X10_564 dX10_sayLetter_12 rfl (Nat.le_of_ble_eq_true rfl) ly_10 (H.mono (fun h1 H => ?_)) ⟨Nat.le_refl _, Nat.le_refl _⟩
      refine r_prune [true, true, true, false] (ls2 := [some (.ref 2759), some (.int x1), some (.int x2), none]) rfl ?_
      exact H
  · replace H := H.2 cH
    exact r_vret dX10_sayLetter_4 rfl (Nat.le_refl _) (Nat.le_refl _) H
theorem s_X10_sayLetter_15 {g : GX} {d : Nat} {av : List Value} {Q : QT} {n : Nat} {h : Hp} {x1 : Int32} {x2 : Int32} (hp : g.2.2.2.2 = true)  (H : CallV g m_X10_say d [.ref 2759, .int x1] n h (fun h1 => (((x2 ≤ (1 : Int32)) → (Q none n h1)) ∧ ((¬ x2 ≤ (1 : Int32)) → (CallV g m_X10_say d [.ref 2759, .int (94 : Int32)] n h1 (fun h2 => (CallV g m_X10_sayNumber d [.ref 2759, .long (x2).toInt64] n h2 (fun h3 => (Q none n h3))))))))) : W_X10_sayLetter g d av Q n 15 [some (.ref 2759), some (.int x1), some (.int x2), none] [] h := by
  refine r_aload_n dX10_sayLetter_15 rfl rfl ?_
  refine r_iload_n dX10_sayLetter_16 rfl rfl ?_
  refine k_VV (As := [.int x1]) (stk := []) hp cv_X10_564 dX10_sayLetter_17 rfl (Nat.le_of_ble_eq_true rfl) ly_10 (H.mono (fun h1 H => ?_)) ⟨Nat.le_refl _, Nat.le_refl _⟩
  refine r_iload_n dX10_sayLetter_20 rfl rfl ?_
  refine r_iconst (v := (1 : Int32)) dX10_sayLetter_21 rfl ?_
  refine r_icmp_le (tgt := 37) dX10_sayLetter_22 rfl (fun cH => ?_) (fun cH => ?_)
  · replace H := H.1 cH
    exact r_vret dX10_sayLetter_37 rfl (Nat.le_refl _) (Nat.le_refl _) H
  · replace H := H.2 cH
    refine r_aload_n dX10_sayLetter_25 rfl rfl ?_
    refine r_bipush (v := (94 : Int32)) dX10_sayLetter_26 rfl ?_
    refine k_VV (As := [.int (94 : Int32)]) (stk := []) hp cv_X10_564 dX10_sayLetter_28 rfl (Nat.le_of_ble_eq_true rfl) ly_10 (H.mono (fun h2 H => ?_)) ⟨Nat.le_refl _, Nat.le_refl _⟩
    refine r_aload_n dX10_sayLetter_31 rfl rfl ?_
    refine r_iload_n dX10_sayLetter_32 rfl rfl ?_
    refine r_i2l dX10_sayLetter_33 ?_
    refine k_VV (As := [.long (x2).toInt64]) (stk := []) hp cv_X10_571 dX10_sayLetter_34 rfl (Nat.le_of_ble_eq_true rfl) ly_10 (H.mono (fun h3 H => ?_)) ⟨Nat.le_refl _, Nat.le_refl _⟩
    exact r_vret dX10_sayLetter_37 rfl (Nat.le_refl _) (Nat.le_refl _) H
abbrev W_X10_sayBase (g : GX) (d : Nat) (av : List Value) (Q : QT) (n : Nat) (pc : Nat) (ls : LV) (stk : List Value) (h : Hp) : Prop := RJ g m_X10_sayBase (d + 1) 0 0 av Q pc ls stk n h 0 0
theorem s_X10_sayBase_0 {g : GX} {d : Nat} {av : List Value} {Q : QT} {n : Nat} {h : Hp} {x1 : Int32} {x2 : Int32} (hp : g.2.2.2.2 = true)  (H : ((x1 = (1 : Int32)) → (Q none n h)) ∧ ((¬ x1 = (1 : Int32)) → (CallV g m_X10_say d [.ref 2759, .int (42 : Int32)] n h (fun h1 => (CallV g m_X10_sayNumber d [.ref 2759, .long (x1).toInt64] n h1 (fun h2 => (CallV g m_X10_say d [.ref 2759, .int (94 : Int32)] n h2 (fun h3 => (CallV g m_X10_say d [.ref 2759, .int x2] n h3 (fun h4 => (Q none n h4))))))))))) : W_X10_sayBase g d av Q n 0 [some (.ref 2759), some (.int x1), some (.int x2)] [] h := by
  refine r_iload_n dX10_sayBase_0 rfl rfl ?_
  refine r_iconst (v := (1 : Int32)) dX10_sayBase_1 rfl ?_
  refine r_icmp_eq (tgt := 28) dX10_sayBase_2 rfl (fun cH => ?_) (fun cH => ?_)
  · replace H := H.1 cH
    exact r_vret dX10_sayBase_28 rfl (Nat.le_refl _) (Nat.le_refl _) H
  · replace H := H.2 cH
    refine r_aload_n dX10_sayBase_5 rfl rfl ?_
    refine r_bipush (v := (42 : Int32)) dX10_sayBase_6 rfl ?_
    refine k_VV (As := [.int (42 : Int32)]) (stk := []) hp cv_X10_564 dX10_sayBase_8 rfl (Nat.le_of_ble_eq_true rfl) ly_10 (H.mono (fun h1 H => ?_)) ⟨Nat.le_refl _, Nat.le_refl _⟩
    refine r_aload_n dX10_sayBase_11 rfl rfl ?_
    refine r_iload_n dX10_sayBase_12 rfl rfl ?_
    refine r_i2l dX10_sayBase_13 ?_
    refine k_VV (As := [.long (x1).toInt64]) (stk := []) hp cv_X10_571 dX10_sayBase_14 rfl (Nat.le_of_ble_eq_true rfl) ly_10 (H.mono (fun h2 H => ?_)) ⟨Nat.le_refl _, Nat.le_refl _⟩
    refine r_aload_n dX10_sayBase_17 rfl rfl ?_
    refine r_bipush (v := (94 : Int32)) dX10_sayBase_18 rfl ?_
    refine k_VV (As := [.int (94 : Int32)]) (stk := []) hp cv_X10_564 dX10_sayBase_20 rfl (Nat.le_of_ble_eq_true rfl) ly_10 (H.mono (fun h3 H => ?_)) ⟨Nat.le_refl _, Nat.le_refl _⟩
    refine r_aload_n dX10_sayBase_23 rfl rfl ?_
    refine r_iload_n dX10_sayBase_24 rfl rfl ?_
    refine k_VV (As := [.int x2]) (stk := []) hp cv_X10_564 dX10_sayBase_25 rfl (Nat.le_of_ble_eq_true rfl) ly_10 (H.mono (fun h4 H => ?_)) ⟨Nat.le_refl _, Nat.le_refl _⟩
    exact r_vret dX10_sayBase_28 rfl (Nat.le_refl _) (Nat.le_refl _) H
abbrev W_X10_sayLine (g : GX) (d : Nat) (av : List Value) (Q : QT) (n : Nat) (pc : Nat) (ls : LV) (stk : List Value) (h : Hp) : Prop := RJ g m_X10_sayLine (d + 1) 0 0 av Q pc ls stk n h 0 0
theorem s_X10_sayLine_0 {g : GX} {d : Nat} {av : List Value} {Q : QT} {n : Nat} {h : Hp} {x1 : Int32} {x2 : Int32} {x3 : Int32} (hp : g.2.2.2.2 = true)  (H : ((x1 = (0 : Int32)) → (Q none n h)) ∧ ((¬ x1 = (0 : Int32)) → (CallI g m_X10_rest d [.int x1] n h (fun v1 h1 => (CallV g m_X10_sayPart d [.ref 2759, .int v1, .int x2, .int x3] n h1 (fun h2 => (Q none n h2))))))) : W_X10_sayLine g d av Q n 0 [some (.ref 2759), some (.int x1), some (.int x2), some (.int x3)] [] h := by
  refine r_iload_n dX10_sayLine_0 rfl rfl ?_
  refine r_if_eq (tgt := 14) dX10_sayLine_1 rfl (fun cH => ?_) (fun cH => ?_)
  · replace H := H.1 cH
    exact r_vret dX10_sayLine_14 rfl (Nat.le_refl _) (Nat.le_refl _) H
  · replace H := H.2 cH
    refine r_aload_n dX10_sayLine_4 rfl rfl ?_
    refine r_iload_n dX10_sayLine_5 rfl rfl ?_
    refine k_SI (As := [.int x1]) (stk := [.ref 2759]) cs_X10_600 dX10_sayLine_6 rfl (Nat.le_of_ble_eq_true rfl) (H.mono (fun v1 h1 H => ?_)) ⟨Nat.le_refl _, Nat.le_refl _⟩
    refine r_iload_n dX10_sayLine_9 rfl rfl ?_
    refine r_iload_n dX10_sayLine_10 rfl rfl ?_
    refine k_VV (As := [.int v1, .int x2, .int x3]) (stk := []) hp cv_X10_579 dX10_sayLine_11 rfl (Nat.le_of_ble_eq_true rfl) ly_10 (H.mono (fun h2 H => ?_)) ⟨Nat.le_refl _, Nat.le_refl _⟩
    exact r_vret dX10_sayLine_14 rfl (Nat.le_refl _) (Nat.le_refl _) H
abbrev W_X10_rest (g : GX) (d : Nat) (av : List Value) (Q : QT) (n : Nat) (pc : Nat) (ls : LV) (stk : List Value) (h : Hp) : Prop := RJ g m_X10_rest d 0 0 av Q pc ls stk n h 0 0
theorem s_X10_rest_0 {g : GX} {d : Nat} {av : List Value} {Q : QT} {n : Nat} {h : Hp} {x0 : Int32} (hp : g.2.2.2.2 = true)  (H : (((0 : Int32) ≤ (x0 - x0 / (2147483647 : Int32) * (2147483647 : Int32))) → (Q (some (.int (x0 - x0 / (2147483647 : Int32) * (2147483647 : Int32)))) n h)) ∧ ((¬ (0 : Int32) ≤ (x0 - x0 / (2147483647 : Int32) * (2147483647 : Int32))) → (Q (some (.int ((x0 - x0 / (2147483647 : Int32) * (2147483647 : Int32)) + (2147483647 : Int32)))) n h))) : W_X10_rest g d av Q n 0 [some (.int x0), none] [] h := by
  refine r_iload_n dX10_rest_0 rfl rfl ?_
  refine r_ldc (own := "") (v := (2147483647 : Int32)) dX10_rest_1 q2190 ?_
  refine r_irem dX10_rest_3 (by decide) ?_
  refine r_istore_n (ls2 := [some (.int x0), some (.int (x0 - x0 / (2147483647 : Int32) * (2147483647 : Int32)))]) dX10_rest_4 rfl (by decide) rfl ?_
  refine r_iload_n dX10_rest_5 rfl rfl ?_
  refine r_if_ge (tgt := 16) dX10_rest_6 rfl (fun cH => ?_) (fun cH => ?_)
  · replace H := H.1 cH
    refine r_iload_n dX10_rest_16 rfl rfl ?_
    exact r_zret dX10_rest_17 rfl rfl (Nat.le_refl _) (Nat.le_refl _) H
  · replace H := H.2 cH
    refine r_iload_n dX10_rest_9 rfl rfl ?_
    refine r_ldc (own := "") (v := (2147483647 : Int32)) dX10_rest_10 q2190 ?_
    refine r_iadd dX10_rest_12 ?_
    refine r_goto (tgt := 17) dX10_rest_13 rfl ?_
    exact r_zret dX10_rest_17 rfl rfl (Nat.le_refl _) (Nat.le_refl _) H
abbrev W_X10_written (g : GX) (d : Nat) (av : List Value) (Q : QT) (n : Nat) (pc : Nat) (ls : LV) (stk : List Value) (h : Hp) : Prop := RJ g m_X10_written d 0 0 av Q pc ls stk n h 0 0
theorem s_X10_written_0 {g : GX} {d : Nat} {av : List Value} {Q : QT} {n : Nat} {h : Hp} {x1 : Int32} (hp : g.2.2.2.2 = true)  (H : ((x1 < (0 : Int32)) → (Q (some (.int (-1 : Int32))) n h)) ∧ ((¬ x1 < (0 : Int32)) → ((((ri h 2759 24) ≤ x1) → (Q (some (.int (-1 : Int32))) n h)) ∧ ((¬ (ri h 2759 24) ≤ x1) → (vp_in x1 4000 ∧ (Q (some (.int ((ri h 2851 (x1).toNatClampNeg) &&& (255 : Int32)))) n h)))))) : W_X10_written g d av Q n 0 [some (.ref 2759), some (.int x1)] [] h := by
  refine r_iload_n dX10_written_0 rfl rfl ?_
  refine r_if_lt (tgt := 25) dX10_written_1 rfl (fun cH => ?_) (fun cH => ?_)
  · replace H := H.1 cH
    refine r_iconst (v := (-1 : Int32)) dX10_written_25 rfl ?_
    exact r_zret dX10_written_26 rfl rfl (Nat.le_refl _) (Nat.le_refl _) H
  · replace H := H.2 cH
    refine r_iload_n dX10_written_4 rfl rfl ?_
    refine r_aload_n dX10_written_5 rfl rfl ?_
    refine m_getI hp fw_X10_597 dX10_written_6 rfl ly_10 ?_
    refine r_icmp_ge (tgt := 25) dX10_written_9 rfl (fun cH => ?_) (fun cH => ?_)
    · replace H := H.1 cH
      refine r_iconst (v := (-1 : Int32)) dX10_written_25 rfl ?_
      exact r_zret dX10_written_26 rfl rfl (Nat.le_refl _) (Nat.le_refl _) H
    · replace H := H.2 cH
      refine r_aload_n dX10_written_12 rfl rfl ?_
      refine m_getF (x := 2851) hp fw_X10_459 dX10_written_13 rfl ly_10 (ff_10_23 ly_10) ?_
      refine r_iload_n dX10_written_16 rfl rfl ?_
      refine m_bald hp dX10_written_17 (lf_10_23 ly_10) H.1 ?_
      replace H := H.2
      refine r_sipush (v := (255 : Int32)) dX10_written_18 rfl ?_
      refine r_iand dX10_written_21 ?_
      refine r_goto (tgt := 26) dX10_written_22 rfl ?_
      exact r_zret dX10_written_26 rfl rfl (Nat.le_refl _) (Nat.le_refl _) H
abbrev W_X10_again (g : GX) (d : Nat) (av : List Value) (Q : QT) (n : Nat) (pc : Nat) (ls : LV) (stk : List Value) (h : Hp) : Prop := RJ g m_X10_again (d + 1) 0 0 av Q pc ls stk n h 0 0
theorem s_X10_again_0 {g : GX} {d : Nat} {av : List Value} {Q : QT} {n : Nat} {h : Hp}  (hp : g.2.2.2.2 = true)  (H : (((ri h 2759 24) ≤ (400 : Int32)) → (¬ (0 : Int32) < 0 ∧ ¬ (0 : Int32) < 0 ∧ ¬ (ri h 2759 24) < 0 ∧ ((0 : Int32)).toNatClampNeg + ((ri h 2759 24)).toNatClampNeg ≤ 4000 ∧ ((0 : Int32)).toNatClampNeg + ((ri h 2759 24)).toNatClampNeg ≤ 400 ∧ (∀ i, i < ((ri h 2759 24)).toNatClampNeg → fits .byte (.int (ri h 2851 (((0 : Int32)).toNatClampNeg + i))) = true) ∧ ∀ h1, h1 = cpy h 2851 ((0 : Int32)).toNatClampNeg 2839 ((0 : Int32)).toNatClampNeg ((ri h 2759 24)).toNatClampNeg → (∀ h2, h2 = wi h1 2759 12 (ri h1 2759 24) → (Q (some (.int (ri h2 2759 12))) n h2)))) ∧ ((¬ (ri h 2759 24) ≤ (400 : Int32)) → (Q (some (.int (-2 : Int32))) n h))) : W_X10_again g d av Q n 0 [some (.ref 2759)] [] h := by
  refine r_aload_n dX10_again_0 rfl rfl ?_
  refine m_getI hp fw_X10_597 dX10_again_1 rfl ly_10 ?_
  refine r_sipush (v := (400 : Int32)) dX10_again_4 rfl ?_
  refine r_icmp_le (tgt := 13) dX10_again_7 rfl (fun cH => ?_) (fun cH => ?_)
  · replace H := H.1 cH
    refine r_aload_n dX10_again_13 rfl rfl ?_
    refine m_getF (x := 2851) hp fw_X10_459 dX10_again_14 rfl ly_10 (ff_10_23 ly_10) ?_
    refine r_iconst (v := (0 : Int32)) dX10_again_17 rfl ?_
    refine r_aload_n dX10_again_18 rfl rfl ?_
    refine m_getF (x := 2839) hp fw_X10_339 dX10_again_19 rfl ly_10 (ff_10_11 ly_10) ?_
    refine r_iconst (v := (0 : Int32)) dX10_again_22 rfl ?_
    refine r_aload_n dX10_again_23 rfl rfl ?_
    refine m_getI hp fw_X10_597 dX10_again_24 rfl ly_10 ?_
    obtain ⟨c1, c2, c3, c4, c5, hF, H⟩ := H
    refine m_copy hp ar_X10_34 dX10_again_27 rfl rfl (lf_10_23 ly_10) (lf_10_11 ly_10) c1 c2 c3 c4 c5 hF (Nat.le_of_ble_eq_true rfl) (Nat.le_add_left 1 d) (fun h1 eh1 => ?_)
    replace H := H h1 eh1
    refine r_aload_n dX10_again_30 rfl rfl ?_
    refine r_aload_n dX10_again_31 rfl rfl ?_
    refine m_getI hp fw_X10_597 dX10_again_32 rfl ly_10 ?_
    refine m_putI hp fw_X10_336 dX10_again_35 rfl rfl ly_10 (fun h2 eh2 => ?_)
    replace H := H h2 eh2
    refine r_aload_n dX10_again_38 rfl rfl ?_
    refine m_getI hp fw_X10_336 dX10_again_39 rfl ly_10 ?_
    exact r_zret dX10_again_42 rfl rfl (Nat.le_refl _) (Nat.le_refl _) H
  · replace H := H.2 cH
    refine r_bipush (v := (-2 : Int32)) dX10_again_10 rfl ?_
    exact r_zret dX10_again_12 rfl rfl (Nat.le_refl _) (Nat.le_refl _) H
abbrev W_X10_kind (g : GX) (d : Nat) (av : List Value) (Q : QT) (n : Nat) (pc : Nat) (ls : LV) (stk : List Value) (h : Hp) : Prop := RJ g m_X10_kind (d + 1) 0 0 av Q pc ls stk n h 0 0
theorem s_X10_kind_0 {g : GX} {d : Nat} {av : List Value} {Q : QT} {n : Nat} {h : Hp} {x1 : Int32} (hp : g.2.2.2.2 = true)  (H : CallI g m_X10_isSlot d [.int x1] n h (fun v1 h1 => (((v1 = (0 : Int32)) → (Q (some (.int (-1 : Int32))) n h1)) ∧ ((¬ v1 = (0 : Int32)) → (vp_in x1 12 ∧ ∀ r2, r2 = 10245 + 9 * (x1).toNatClampNeg → (Q (some (.int (ri h1 r2 0))) n h1)))))) : W_X10_kind g d av Q n 0 [some (.ref 2759), some (.int x1)] [] h := by
  refine r_iload_n dX10_kind_0 rfl rfl ?_
  refine k_SI (As := [.int x1]) (stk := []) cs_X10_551 dX10_kind_1 rfl (Nat.le_of_ble_eq_true rfl) (H.mono (fun v1 h1 H => ?_)) ⟨Nat.le_refl _, Nat.le_refl _⟩
  refine r_if_eq (tgt := 19) dX10_kind_4 rfl (fun cH => ?_) (fun cH => ?_)
  · replace H := H.1 cH
    refine r_iconst (v := (-1 : Int32)) dX10_kind_19 rfl ?_
    exact r_zret dX10_kind_20 rfl rfl (Nat.le_refl _) (Nat.le_refl _) H
  · replace H := H.2 cH
    refine r_aload_n dX10_kind_7 rfl rfl ?_
    refine m_getF (x := 2841) hp fw_X10_450 dX10_kind_8 rfl ly_10 (ff_10_20 ly_10) ?_
    refine r_iload_n dX10_kind_11 rfl rfl ?_
    obtain ⟨r2, er2⟩ : ∃ y, y = 10245 + 9 * (x1).toNatClampNeg := ⟨_, rfl⟩
    have hir2 := H.1
    replace H := H.2 r2 er2
    have tLr2 := la_2841 hir2 er2
    refine m_aalF (x := r2) hp dX10_kind_12 (lf_10_20 ly_10) rfl rfl (lu_10_20 ly_10) hir2 (fa_2841 hir2 er2) ?_
    refine m_getI hp fw_X10_202 dX10_kind_13 rfl tLr2 ?_
    refine r_goto (tgt := 20) dX10_kind_16 rfl ?_
    exact r_zret dX10_kind_20 rfl rfl (Nat.le_refl _) (Nat.le_refl _) H
abbrev W_X10_drop (g : GX) (d : Nat) (av : List Value) (Q : QT) (n : Nat) (pc : Nat) (ls : LV) (stk : List Value) (h : Hp) : Prop := RJ g m_X10_drop (d + 1) 0 0 av Q pc ls stk n h 0 0
theorem s_X10_drop_0 {g : GX} {d : Nat} {av : List Value} {Q : QT} {n : Nat} {h : Hp} {x1 : Int32} (hp : g.2.2.2.2 = true)  (H : CallI g m_X10_isSlot d [.int x1] n h (fun v1 h1 => (((¬ v1 = (0 : Int32)) → (vp_in x1 12 ∧ ∀ r2, r2 = 10245 + 9 * (x1).toNatClampNeg → (vp_in x1 12 ∧ ∀ r3, r3 = 10245 + 9 * (x1).toNatClampNeg → (∀ h4, h4 = wi h1 r3 0 (0 : Int32) → (Q (some (.int (ri h1 r2 0))) n h4))))) ∧ ((v1 = (0 : Int32)) → (Q (some (.int (-1 : Int32))) n h1))))) : W_X10_drop g d av Q n 0 [some (.ref 2759), some (.int x1), none] [] h := by
  refine r_iload_n dX10_drop_0 rfl rfl ?_
  refine k_SI (As := [.int x1]) (stk := []) cs_X10_551 dX10_drop_1 rfl (Nat.le_of_ble_eq_true rfl) (H.mono (fun v1 h1 H => ?_)) ⟨Nat.le_refl _, Nat.le_refl _⟩
  refine r_if_ne (tgt := 9) dX10_drop_4 rfl (fun cH => ?_) (fun cH => ?_)
  · replace H := H.1 cH
    refine r_aload_n dX10_drop_9 rfl rfl ?_
    refine m_getF (x := 2841) hp fw_X10_450 dX10_drop_10 rfl ly_10 (ff_10_20 ly_10) ?_
    refine r_iload_n dX10_drop_13 rfl rfl ?_
    obtain ⟨r2, er2⟩ : ∃ y, y = 10245 + 9 * (x1).toNatClampNeg := ⟨_, rfl⟩
    have hir2 := H.1
    replace H := H.2 r2 er2
    have tLr2 := la_2841 hir2 er2
    refine m_aalF (x := r2) hp dX10_drop_14 (lf_10_20 ly_10) rfl rfl (lu_10_20 ly_10) hir2 (fa_2841 hir2 er2) ?_
    refine m_getI hp fw_X10_202 dX10_drop_15 rfl tLr2 ?_
    refine r_istore_n (ls2 := [some (.ref 2759), some (.int x1), some (.int (ri h1 r2 0))]) dX10_drop_18 rfl (by decide) rfl ?_
    refine r_aload_n dX10_drop_19 rfl rfl ?_
    refine m_getF (x := 2841) hp fw_X10_450 dX10_drop_20 rfl ly_10 (ff_10_20 ly_10) ?_
    refine r_iload_n dX10_drop_23 rfl rfl ?_
    obtain ⟨r3, er3⟩ : ∃ y, y = 10245 + 9 * (x1).toNatClampNeg := ⟨_, rfl⟩
    have hir3 := H.1
    replace H := H.2 r3 er3
    have tLr3 := la_2841 hir3 er3
    refine m_aalF (x := r3) hp dX10_drop_24 (lf_10_20 ly_10) rfl rfl (lu_10_20 ly_10) hir3 (fa_2841 hir3 er3) ?_
    refine r_iconst (v := (0 : Int32)) dX10_drop_25 rfl ?_
    refine m_putI hp fw_X10_202 dX10_drop_26 rfl rfl tLr3 (fun h4 eh4 => ?_)
    replace H := H h4 eh4
    refine r_iload_n dX10_drop_29 rfl rfl ?_
    exact r_zret dX10_drop_30 rfl rfl (Nat.le_refl _) (Nat.le_refl _) H
  · replace H := H.2 cH
    refine r_iconst (v := (-1 : Int32)) dX10_drop_7 rfl ?_
    exact r_zret dX10_drop_8 rfl rfl (Nat.le_refl _) (Nat.le_refl _) H
abbrev W_X10_degree (g : GX) (d : Nat) (av : List Value) (Q : QT) (n : Nat) (pc : Nat) (ls : LV) (stk : List Value) (h : Hp) : Prop := RJ g m_X10_degree (d + 1) 0 0 av Q pc ls stk n h 0 0
theorem s_X10_degree_0 {g : GX} {d : Nat} {av : List Value} {Q : QT} {n : Nat} {h : Hp} {x1 : Int32} {x2 : Int32} {x3 : Int32} (hp : g.2.2.2.2 = true)  (H : CallI g m_X10_isSlot d [.int x1] n h (fun v1 h1 => (((¬ v1 = (0 : Int32)) → (vp_in x1 12 ∧ ∀ r2, r2 = 10245 + 9 * (x1).toNatClampNeg → ((((ri h1 r2 0) < (1 : Int32)) → (Q (some (.int (-3 : Int32))) n h1)) ∧ ((¬ (ri h1 r2 0) < (1 : Int32)) → ((((ri h1 r2 0) ≤ (3 : Int32)) → (((x2 < (0 : Int32)) → (Q (some (.int (-1 : Int32))) n h1)) ∧ ((¬ x2 < (0 : Int32)) → ((((1 : Int32) < x2) → (Q (some (.int (-1 : Int32))) n h1)) ∧ ((¬ (1 : Int32) < x2) → (((x3 < (0 : Int32)) → (Q (some (.int (-1 : Int32))) n h1)) ∧ ((¬ x3 < (0 : Int32)) → (((x3 ≤ (1 : Int32)) → (((¬ x2 = (0 : Int32)) → (W_X10_degree g d av Q n 75 [none, none, none, some (.int x3), none] [.ref (r2 + 2)] h1)) ∧ ((x2 = (0 : Int32)) → (W_X10_degree g d av Q n 75 [none, none, none, some (.int x3), none] [.ref (r2 + 1)] h1)))) ∧ ((¬ x3 ≤ (1 : Int32)) → (Q (some (.int (-1 : Int32))) n h1)))))))))) ∧ ((¬ (ri h1 r2 0) ≤ (3 : Int32)) → (Q (some (.int (-3 : Int32))) n h1))))))) ∧ ((v1 = (0 : Int32)) → (Q (some (.int (-1 : Int32))) n h1))))) : W_X10_degree g d av Q n 0 [some (.ref 2759), some (.int x1), some (.int x2), some (.int x3), none] [] h := by
  refine r_iload_n dX10_degree_0 rfl rfl ?_
  refine k_SI (As := [.int x1]) (stk := []) cs_X10_551 dX10_degree_1 rfl (Nat.le_of_ble_eq_true rfl) (H.mono (fun v1 h1 H => ?_)) ⟨Nat.le_refl _, Nat.le_refl _⟩
  refine r_if_ne (tgt := 9) dX10_degree_4 rfl (fun cH => ?_) (fun cH => ?_)
  · replace H := H.1 cH
    refine r_aload_n dX10_degree_9 rfl rfl ?_
    refine m_getF (x := 2841) hp fw_X10_450 dX10_degree_10 rfl ly_10 (ff_10_20 ly_10) ?_
    refine r_iload_n dX10_degree_13 rfl rfl ?_
    obtain ⟨r2, er2⟩ : ∃ y, y = 10245 + 9 * (x1).toNatClampNeg := ⟨_, rfl⟩
    have hir2 := H.1
    replace H := H.2 r2 er2
    have tLr2 := la_2841 hir2 er2
    refine m_aalF (x := r2) hp dX10_degree_14 (lf_10_20 ly_10) rfl rfl (lu_10_20 ly_10) hir2 (fa_2841 hir2 er2) ?_
    refine r_astore (ls2 := [some (.ref 2759), some (.int x1), some (.int x2), some (.int x3), some (.ref r2)]) dX10_degree_15 (by decide) rfl ?_
    refine r_aload dX10_degree_17 rfl ?_
    refine m_getI hp fw_X10_202 dX10_degree_19 rfl tLr2 ?_
    refine r_iconst (v := (1 : Int32)) dX10_degree_22 rfl ?_
    refine r_icmp_lt (tgt := 35) dX10_degree_23 rfl (fun cH => ?_) (fun cH => ?_)
    · replace H := H.1 cH
      refine r_bipush (v := (-3 : Int32)) dX10_degree_35 rfl ?_
      exact r_zret dX10_degree_37 rfl rfl (Nat.le_refl _) (Nat.le_refl _) H
    · replace H := H.2 cH
      refine r_aload dX10_degree_26 rfl ?_
      refine m_getI hp fw_X10_202 dX10_degree_28 rfl tLr2 ?_
      refine r_iconst (v := (3 : Int32)) dX10_degree_31 rfl ?_
      refine r_icmp_le (tgt := 38) dX10_degree_32 rfl (fun cH => ?_) (fun cH => ?_)
      · replace H := H.1 cH
        refine r_iload_n dX10_degree_38 rfl rfl ?_
        refine r_if_lt (tgt := 56) dX10_degree_39 rfl (fun cH => ?_) (fun cH => ?_)
        · replace H := H.1 cH
          refine r_iconst (v := (-1 : Int32)) dX10_degree_56 rfl ?_
          exact r_zret dX10_degree_57 rfl rfl (Nat.le_refl _) (Nat.le_refl _) H
        · replace H := H.2 cH
          refine r_iload_n dX10_degree_42 rfl rfl ?_
          refine r_iconst (v := (1 : Int32)) dX10_degree_43 rfl ?_
          refine r_icmp_gt (tgt := 56) dX10_degree_44 rfl (fun cH => ?_) (fun cH => ?_)
          · replace H := H.1 cH
            refine r_iconst (v := (-1 : Int32)) dX10_degree_56 rfl ?_
            exact r_zret dX10_degree_57 rfl rfl (Nat.le_refl _) (Nat.le_refl _) H
          · replace H := H.2 cH
            refine r_iload_n dX10_degree_47 rfl rfl ?_
            refine r_if_lt (tgt := 56) dX10_degree_48 rfl (fun cH => ?_) (fun cH => ?_)
            · replace H := H.1 cH
              refine r_iconst (v := (-1 : Int32)) dX10_degree_56 rfl ?_
              exact r_zret dX10_degree_57 rfl rfl (Nat.le_refl _) (Nat.le_refl _) H
            · replace H := H.2 cH
              refine r_iload_n dX10_degree_51 rfl rfl ?_
              refine r_iconst (v := (1 : Int32)) dX10_degree_52 rfl ?_
              refine r_icmp_le (tgt := 58) dX10_degree_53 rfl (fun cH => ?_) (fun cH => ?_)
              · replace H := H.1 cH
                refine r_iload_n dX10_degree_58 rfl rfl ?_
                refine r_if_ne (tgt := 70) dX10_degree_59 rfl (fun cH => ?_) (fun cH => ?_)
                · replace H := H.1 cH
                  refine r_aload dX10_degree_70 rfl ?_
                  refine m_getF (x := (r2 + 2)) hp fw_X10_210 dX10_degree_72 rfl tLr2 (ff_11_2 tLr2) ?_
                  refine r_prune [false, false, false, true, false] (ls2 := [none, none, none, some (.int x3), none]) rfl ?_
                  exact H
                · replace H := H.2 cH
                  refine r_aload dX10_degree_62 rfl ?_
                  refine m_getF (x := (r2 + 1)) hp fw_X10_207 dX10_degree_64 rfl tLr2 (ff_11_1 tLr2) ?_
                  refine r_goto (tgt := 75) dX10_degree_67 rfl ?_
                  refine r_prune [false, false, false, true, false] (ls2 := [none, none, none, some (.int x3), none]) rfl ?_
                  exact H
              · replace H := H.2 cH
                refine r_iconst (v := (-1 : Int32)) dX10_degree_56 rfl ?_
                exact r_zret dX10_degree_57 rfl rfl (Nat.le_refl _) (Nat.le_refl _) H
      · replace H := H.2 cH
        refine r_bipush (v := (-3 : Int32)) dX10_degree_35 rfl ?_
        exact r_zret dX10_degree_37 rfl rfl (Nat.le_refl _) (Nat.le_refl _) H
  · replace H := H.2 cH
    refine r_iconst (v := (-1 : Int32)) dX10_degree_7 rfl ?_
    exact r_zret dX10_degree_8 rfl rfl (Nat.le_refl _) (Nat.le_refl _) H
theorem s_X10_degree_75 {g : GX} {d : Nat} {av : List Value} {Q : QT} {n : Nat} {h : Hp} {x3 : Int32} {as0 : Nat} {Ls0 : Nat} (hp : g.2.2.2.2 = true) (ts0 : lay as0 = (1, Ls0, 0)) (H : CallI g m_X10_degree_2 d [.ref as0, .int x3] n h (fun v1 h1 => (Q (some (.int v1)) n h1))) : W_X10_degree g d av Q n 75 [none, none, none, some (.int x3), none] [.ref as0] h := by
  refine r_iload_n dX10_degree_75 rfl rfl ?_
  refine k_SI (As := [.ref as0, .int x3]) (stk := []) cs_X10_603 dX10_degree_76 rfl (Nat.le_of_ble_eq_true rfl) (H.mono (fun v1 h1 H => ?_)) ⟨Nat.le_refl _, Nat.le_refl _⟩
  exact r_zret dX10_degree_79 rfl rfl (Nat.le_refl _) (Nat.le_refl _) H
abbrev W_X10_degree_2 (g : GX) (d : Nat) (av : List Value) (Q : QT) (n : Nat) (pc : Nat) (ls : LV) (stk : List Value) (h : Hp) : Prop := RJ g m_X10_degree_2 (d + 1) 0 0 av Q pc ls stk n h 0 0
theorem s_X10_degree_2_0 {g : GX} {d : Nat} {av : List Value} {Q : QT} {n : Nat} {h : Hp} {a0 : Nat} {L0 : Nat} {x1 : Int32} (hp : g.2.2.2.2 = true) (t0 : lay a0 = (1, L0, 0)) (H : W_X10_degree_2 g d av Q n 4 [some (.ref a0), some (.int x1), some (.int (0 : Int32)), some (.int (0 : Int32))] [] h) : W_X10_degree_2 g d av Q n 0 [some (.ref a0), some (.int x1), none, none] [] h := by
  refine r_iconst (v := (0 : Int32)) dX10_degree_2_0 rfl ?_
  refine r_istore_n (ls2 := [some (.ref a0), some (.int x1), some (.int (0 : Int32)), none]) dX10_degree_2_1 rfl (by decide) rfl ?_
  refine r_iconst (v := (0 : Int32)) dX10_degree_2_2 rfl ?_
  refine r_istore_n (ls2 := [some (.ref a0), some (.int x1), some (.int (0 : Int32)), some (.int (0 : Int32))]) dX10_degree_2_3 rfl (by decide) rfl ?_
  exact H
theorem s_X10_degree_2_4 {g : GX} {d : Nat} {av : List Value} {Q : QT} {n : Nat} {h : Hp} {a0 : Nat} {L0 : Nat} {x1 : Int32} {x2 : Int32} {x3 : Int32} (hp : g.2.2.2.2 = true) (t0 : lay a0 = (1, L0, 0)) (H : (((325 : Int32) ≤ x3) → (Q (some (.int x2)) n h)) ∧ ((¬ (325 : Int32) ≤ x3) → (vp_in x3 L0 ∧ ((((ri h a0 (x3).toNatClampNeg) = (0 : Int32)) → (W_X10_degree_2 g d av Q n 40 [some (.ref a0), some (.int x1), none, some (.int x3)] [.int x2] h)) ∧ ((¬ (ri h a0 (x3).toNatClampNeg) = (0 : Int32)) → (((¬ x1 = (0 : Int32)) → (W_X10_degree_2 g d av Q n 33 [some (.ref a0), some (.int x1), none, some (.int x3)] [.int (x3 / (25 : Int32)), .int x2] h)) ∧ ((x1 = (0 : Int32)) → (W_X10_degree_2 g d av Q n 33 [some (.ref a0), some (.int x1), none, some (.int x3)] [.int (x3 - x3 / (25 : Int32) * (25 : Int32)), .int x2] h)))))))) : W_X10_degree_2 g d av Q n 4 [some (.ref a0), some (.int x1), some (.int x2), some (.int x3)] [] h := by
  refine r_iload_n dX10_degree_2_4 rfl rfl ?_
  refine r_sipush (v := (325 : Int32)) dX10_degree_2_5 rfl ?_
  refine r_icmp_ge (tgt := 47) dX10_degree_2_8 rfl (fun cH => ?_) (fun cH => ?_)
  · replace H := H.1 cH
    refine r_iload_n dX10_degree_2_47 rfl rfl ?_
    exact r_zret dX10_degree_2_48 rfl rfl (Nat.le_refl _) (Nat.le_refl _) H
  · replace H := H.2 cH
    refine r_aload_n dX10_degree_2_11 rfl rfl ?_
    refine r_iload_n dX10_degree_2_12 rfl rfl ?_
    refine m_iald hp dX10_degree_2_13 t0 H.1 ?_
    replace H := H.2
    refine r_if_eq (tgt := 39) dX10_degree_2_14 rfl (fun cH => ?_) (fun cH => ?_)
    · replace H := H.1 cH
      refine r_iload_n dX10_degree_2_39 rfl rfl ?_
      refine r_prune [true, true, false, true] (ls2 := [some (.ref a0), some (.int x1), none, some (.int x3)]) rfl ?_
      exact H
    · replace H := H.2 cH
      refine r_iload_n dX10_degree_2_17 rfl rfl ?_
      refine r_iload_n dX10_degree_2_18 rfl rfl ?_
      refine r_if_ne (tgt := 29) dX10_degree_2_19 rfl (fun cH => ?_) (fun cH => ?_)
      · replace H := H.1 cH
        refine r_iload_n dX10_degree_2_29 rfl rfl ?_
        refine r_bipush (v := (25 : Int32)) dX10_degree_2_30 rfl ?_
        refine r_idiv dX10_degree_2_32 (by decide) ?_
        refine r_prune [true, true, false, true] (ls2 := [some (.ref a0), some (.int x1), none, some (.int x3)]) rfl ?_
        exact H
      · replace H := H.2 cH
        refine r_iload_n dX10_degree_2_22 rfl rfl ?_
        refine r_bipush (v := (25 : Int32)) dX10_degree_2_23 rfl ?_
        refine r_irem dX10_degree_2_25 (by decide) ?_
        refine r_goto (tgt := 33) dX10_degree_2_26 rfl ?_
        refine r_prune [true, true, false, true] (ls2 := [some (.ref a0), some (.int x1), none, some (.int x3)]) rfl ?_
        exact H
theorem s_X10_degree_2_33 {g : GX} {d : Nat} {av : List Value} {Q : QT} {n : Nat} {h : Hp} {a0 : Nat} {L0 : Nat} {x1 : Int32} {x3 : Int32} {xs0 : Int32} {xs1 : Int32} (hp : g.2.2.2.2 = true) (t0 : lay a0 = (1, L0, 0)) (H : CallI g m_J3_max d [.int xs1, .int xs0] n h (fun v1 h1 => (W_X10_degree_2 g d av Q n 40 [some (.ref a0), some (.int x1), none, some (.int x3)] [.int v1] h1))) : W_X10_degree_2 g d av Q n 33 [some (.ref a0), some (.int x1), none, some (.int x3)] [.int xs0, .int xs1] h := by
  refine k_SI (As := [.int xs1, .int xs0]) (stk := []) cs_X10_40 dX10_degree_2_33 rfl (Nat.le_of_ble_eq_true rfl) (H.mono (fun v1 h1 H => ?_)) ⟨Nat.le_refl _, Nat.le_refl _⟩
  refine r_goto (tgt := 40) dX10_degree_2_36 rfl ?_
  exact H
theorem s_X10_degree_2_40 {g : GX} {d : Nat} {av : List Value} {Q : QT} {n : Nat} {h : Hp} {a0 : Nat} {L0 : Nat} {x1 : Int32} {x3 : Int32} {xs0 : Int32} (hp : g.2.2.2.2 = true) (t0 : lay a0 = (1, L0, 0)) (H : W_X10_degree_2 g d av Q n 4 [some (.ref a0), some (.int x1), some (.int xs0), some (.int (x3 + (1 : Int32)))] [] h) : W_X10_degree_2 g d av Q n 40 [some (.ref a0), some (.int x1), none, some (.int x3)] [.int xs0] h := by
  refine r_istore_n (ls2 := [some (.ref a0), some (.int x1), some (.int xs0), some (.int x3)]) dX10_degree_2_40 rfl (by decide) rfl ?_
  refine r_iinc (v := (x3 + (1 : Int32))) (ls2 := [some (.ref a0), some (.int x1), some (.int xs0), some (.int (x3 + (1 : Int32)))]) dX10_degree_2_41 rfl rfl (by decide) rfl ?_
  refine r_goto (tgt := 4) dX10_degree_2_44 rfl ?_
  exact H
abbrev W_X10_number_2 (g : GX) (d : Nat) (av : List Value) (Q : QT) (n : Nat) (pc : Nat) (ls : LV) (stk : List Value) (h : Hp) : Prop := RJ g m_X10_number_2 (d + 1) 0 0 av Q pc ls stk n h 0 0
theorem s_X10_number_2_0 {g : GX} {d : Nat} {av : List Value} {Q : QT} {n : Nat} {h : Hp} {x1 : Int32} {x2 : Int32} {x3 : Int32} {x4 : Int32} (hp : g.2.2.2.2 = true)  (H : CallI g m_X10_isSlot d [.int x1] n h (fun v1 h1 => (((¬ v1 = (0 : Int32)) → (vp_in x1 12 ∧ ∀ r2, r2 = 10245 + 9 * (x1).toNatClampNeg → ((((ri h1 r2 0) = (3 : Int32)) → (W_X10_number_2 g d av Q n 35 [none, none, some (.int x2), some (.int x3), some (.int x4), some (.ref r2), none] [] h1)) ∧ ((¬ (ri h1 r2 0) = (3 : Int32)) → (((¬ (ri h1 r2 0) = (4 : Int32)) → (W_X10_number_2 g d av Q n 40 [none, none, some (.int x2), some (.int x3), some (.int x4), some (.ref r2), none] [.int (0 : Int32)] h1)) ∧ (((ri h1 r2 0) = (4 : Int32)) → (W_X10_number_2 g d av Q n 35 [none, none, some (.int x2), some (.int x3), some (.int x4), some (.ref r2), none] [] h1))))))) ∧ ((v1 = (0 : Int32)) → (Q (some (.int (-1 : Int32))) n h1))))) : W_X10_number_2 g d av Q n 0 [some (.ref 2759), some (.int x1), some (.int x2), some (.int x3), some (.int x4), none, none] [] h := by
  refine r_iload_n dX10_number_2_0 rfl rfl ?_
  refine k_SI (As := [.int x1]) (stk := []) cs_X10_551 dX10_number_2_1 rfl (Nat.le_of_ble_eq_true rfl) (H.mono (fun v1 h1 H => ?_)) ⟨Nat.le_refl _, Nat.le_refl _⟩
  refine r_if_ne (tgt := 9) dX10_number_2_4 rfl (fun cH => ?_) (fun cH => ?_)
  · replace H := H.1 cH
    refine r_aload_n dX10_number_2_9 rfl rfl ?_
    refine m_getF (x := 2841) hp fw_X10_450 dX10_number_2_10 rfl ly_10 (ff_10_20 ly_10) ?_
    refine r_iload_n dX10_number_2_13 rfl rfl ?_
    obtain ⟨r2, er2⟩ : ∃ y, y = 10245 + 9 * (x1).toNatClampNeg := ⟨_, rfl⟩
    have hir2 := H.1
    replace H := H.2 r2 er2
    have tLr2 := la_2841 hir2 er2
    refine m_aalF (x := r2) hp dX10_number_2_14 (lf_10_20 ly_10) rfl rfl (lu_10_20 ly_10) hir2 (fa_2841 hir2 er2) ?_
    refine r_astore (ls2 := [some (.ref 2759), some (.int x1), some (.int x2), some (.int x3), some (.int x4), some (.ref r2), none]) dX10_number_2_15 (by decide) rfl ?_
    refine r_aload dX10_number_2_17 rfl ?_
    refine m_getI hp fw_X10_202 dX10_number_2_19 rfl tLr2 ?_
    refine r_iconst (v := (3 : Int32)) dX10_number_2_22 rfl ?_
    refine r_icmp_eq (tgt := 35) dX10_number_2_23 rfl (fun cH => ?_) (fun cH => ?_)
    · replace H := H.1 cH
      refine r_prune [false, false, true, true, true, true, false] (ls2 := [none, none, some (.int x2), some (.int x3), some (.int x4), some (.ref r2), none]) rfl ?_
      exact H
    · replace H := H.2 cH
      refine r_aload dX10_number_2_26 rfl ?_
      refine m_getI hp fw_X10_202 dX10_number_2_28 rfl tLr2 ?_
      refine r_iconst (v := (4 : Int32)) dX10_number_2_31 rfl ?_
      refine r_icmp_ne (tgt := 39) dX10_number_2_32 rfl (fun cH => ?_) (fun cH => ?_)
      · replace H := H.1 cH
        refine r_iconst (v := (0 : Int32)) dX10_number_2_39 rfl ?_
        refine r_prune [false, false, true, true, true, true, false] (ls2 := [none, none, some (.int x2), some (.int x3), some (.int x4), some (.ref r2), none]) rfl ?_
        exact H
      · replace H := H.2 cH
        refine r_prune [false, false, true, true, true, true, false] (ls2 := [none, none, some (.int x2), some (.int x3), some (.int x4), some (.ref r2), none]) rfl ?_
        exact H
  · replace H := H.2 cH
    refine r_iconst (v := (-1 : Int32)) dX10_number_2_7 rfl ?_
    exact r_zret dX10_number_2_8 rfl rfl (Nat.le_refl _) (Nat.le_refl _) H
theorem s_X10_number_2_35 {g : GX} {d : Nat} {av : List Value} {Q : QT} {n : Nat} {h : Hp} {x2 : Int32} {x3 : Int32} {x4 : Int32} {a5 : Nat} (hp : g.2.2.2.2 = true) (t5 : lay a5 = (0, 11, 15)) (H : W_X10_number_2 g d av Q n 40 [none, none, some (.int x2), some (.int x3), some (.int x4), some (.ref a5), none] [.int (1 : Int32)] h) : W_X10_number_2 g d av Q n 35 [none, none, some (.int x2), some (.int x3), some (.int x4), some (.ref a5), none] [] h := by
  refine r_iconst (v := (1 : Int32)) dX10_number_2_35 rfl ?_
  refine r_goto (tgt := 40) dX10_number_2_36 rfl ?_
  exact H
theorem s_X10_number_2_40 {g : GX} {d : Nat} {av : List Value} {Q : QT} {n : Nat} {h : Hp} {x2 : Int32} {x3 : Int32} {x4 : Int32} {a5 : Nat} {xs0 : Int32} (hp : g.2.2.2.2 = true) (t5 : lay a5 = (0, 11, 15)) (H : (((ri h a5 0) = (0 : Int32)) → (Q (some (.int (-3 : Int32))) n h)) ∧ ((¬ (ri h a5 0) = (0 : Int32)) → (((¬ (ri h a5 0) = (4 : Int32)) → (W_X10_number_2 g d av Q n 68 [none, none, some (.int x2), some (.int x3), some (.int x4), some (.ref a5), some (.int xs0)] [] h)) ∧ (((ri h a5 0) = (4 : Int32)) → (((x2 = (0 : Int32)) → (Q (some (.int (-3 : Int32))) n h)) ∧ ((¬ x2 = (0 : Int32)) → (((x2 = (1 : Int32)) → (Q (some (.int (-3 : Int32))) n h)) ∧ ((¬ x2 = (1 : Int32)) → (W_X10_number_2 g d av Q n 68 [none, none, some (.int x2), some (.int x3), some (.int x4), some (.ref a5), some (.int xs0)] [] h))))))))) : W_X10_number_2 g d av Q n 40 [none, none, some (.int x2), some (.int x3), some (.int x4), some (.ref a5), none] [.int xs0] h := by
  refine r_istore (ls2 := [none, none, some (.int x2), some (.int x3), some (.int x4), some (.ref a5), some (.int xs0)]) dX10_number_2_40 (by decide) rfl ?_
  refine r_aload dX10_number_2_42 rfl ?_
  refine m_getI hp fw_X10_202 dX10_number_2_44 rfl t5 ?_
  refine r_if_eq (tgt := 78) dX10_number_2_47 rfl (fun cH => ?_) (fun cH => ?_)
  · replace H := H.1 cH
    refine r_bipush (v := (-3 : Int32)) dX10_number_2_78 rfl ?_
    exact r_zret dX10_number_2_80 rfl rfl (Nat.le_refl _) (Nat.le_refl _) H
  · replace H := H.2 cH
    refine r_aload dX10_number_2_50 rfl ?_
    refine m_getI hp fw_X10_202 dX10_number_2_52 rfl t5 ?_
    refine r_iconst (v := (4 : Int32)) dX10_number_2_55 rfl ?_
    refine r_icmp_ne (tgt := 68) dX10_number_2_56 rfl (fun cH => ?_) (fun cH => ?_)
    · replace H := H.1 cH
      exact H
    · replace H := H.2 cH
      refine r_iload_n dX10_number_2_59 rfl rfl ?_
      refine r_if_eq (tgt := 78) dX10_number_2_60 rfl (fun cH => ?_) (fun cH => ?_)
      · replace H := H.1 cH
        refine r_bipush (v := (-3 : Int32)) dX10_number_2_78 rfl ?_
        exact r_zret dX10_number_2_80 rfl rfl (Nat.le_refl _) (Nat.le_refl _) H
      · replace H := H.2 cH
        refine r_iload_n dX10_number_2_63 rfl rfl ?_
        refine r_iconst (v := (1 : Int32)) dX10_number_2_64 rfl ?_
        refine r_icmp_eq (tgt := 78) dX10_number_2_65 rfl (fun cH => ?_) (fun cH => ?_)
        · replace H := H.1 cH
          refine r_bipush (v := (-3 : Int32)) dX10_number_2_78 rfl ?_
          exact r_zret dX10_number_2_80 rfl rfl (Nat.le_refl _) (Nat.le_refl _) H
        · replace H := H.2 cH
          exact H
theorem s_X10_number_2_68 {g : GX} {d : Nat} {av : List Value} {Q : QT} {n : Nat} {h : Hp} {x2 : Int32} {x3 : Int32} {x4 : Int32} {a5 : Nat} {x6 : Int32} (hp : g.2.2.2.2 = true) (t5 : lay a5 = (0, 11, 15)) (H : ((¬ x6 = (0 : Int32)) → (W_X10_number_2 g d av Q n 81 [none, none, some (.int x2), some (.int x3), some (.int x4), some (.ref a5), none] [] h)) ∧ ((x6 = (0 : Int32)) → (((x2 ≤ (1 : Int32)) → (W_X10_number_2 g d av Q n 81 [none, none, some (.int x2), some (.int x3), some (.int x4), some (.ref a5), none] [] h)) ∧ ((¬ x2 ≤ (1 : Int32)) → (Q (some (.int (-3 : Int32))) n h))))) : W_X10_number_2 g d av Q n 68 [none, none, some (.int x2), some (.int x3), some (.int x4), some (.ref a5), some (.int x6)] [] h := by
  refine r_iload dX10_number_2_68 rfl ?_
  refine r_if_ne (tgt := 81) dX10_number_2_70 rfl (fun cH => ?_) (fun cH => ?_)
  · replace H := H.1 cH
    refine r_prune [false, false, true, true, true, true, false] (ls2 := [none, none, some (.int x2), some (.int x3), some (.int x4), some (.ref a5), none]) rfl ?_
    exact H
  · replace H := H.2 cH
    refine r_iload_n dX10_number_2_73 rfl rfl ?_
    refine r_iconst (v := (1 : Int32)) dX10_number_2_74 rfl ?_
    refine r_icmp_le (tgt := 81) dX10_number_2_75 rfl (fun cH => ?_) (fun cH => ?_)
    · replace H := H.1 cH
      refine r_prune [false, false, true, true, true, true, false] (ls2 := [none, none, some (.int x2), some (.int x3), some (.int x4), some (.ref a5), none]) rfl ?_
      exact H
    · replace H := H.2 cH
      refine r_bipush (v := (-3 : Int32)) dX10_number_2_78 rfl ?_
      exact r_zret dX10_number_2_80 rfl rfl (Nat.le_refl _) (Nat.le_refl _) H
theorem s_X10_number_2_81 {g : GX} {d : Nat} {av : List Value} {Q : QT} {n : Nat} {h : Hp} {x2 : Int32} {x3 : Int32} {x4 : Int32} {a5 : Nat} (hp : g.2.2.2.2 = true) (t5 : lay a5 = (0, 11, 15)) (H : ((x2 < (0 : Int32)) → (Q (some (.int (-1 : Int32))) n h)) ∧ ((¬ x2 < (0 : Int32)) → (((x2 ≤ (1 : Int32)) → (W_X10_number_2 g d av Q n 103 [none, none, some (.int x2), some (.int x3), some (.int x4), some (.ref a5), none] [] h)) ∧ ((¬ x2 ≤ (1 : Int32)) → ((((x2 - (2 : Int32)) ≤ (ri h a5 10)) → (W_X10_number_2 g d av Q n 103 [none, none, some (.int x2), some (.int x3), some (.int x4), some (.ref a5), none] [] h)) ∧ ((¬ (x2 - (2 : Int32)) ≤ (ri h a5 10)) → (Q (some (.int (-1 : Int32))) n h))))))) : W_X10_number_2 g d av Q n 81 [none, none, some (.int x2), some (.int x3), some (.int x4), some (.ref a5), none] [] h := by
  refine r_iload_n dX10_number_2_81 rfl rfl ?_
  refine r_if_lt (tgt := 101) dX10_number_2_82 rfl (fun cH => ?_) (fun cH => ?_)
  · replace H := H.1 cH
    refine r_iconst (v := (-1 : Int32)) dX10_number_2_101 rfl ?_
    exact r_zret dX10_number_2_102 rfl rfl (Nat.le_refl _) (Nat.le_refl _) H
  · replace H := H.2 cH
    refine r_iload_n dX10_number_2_85 rfl rfl ?_
    refine r_iconst (v := (1 : Int32)) dX10_number_2_86 rfl ?_
    refine r_icmp_le (tgt := 103) dX10_number_2_87 rfl (fun cH => ?_) (fun cH => ?_)
    · replace H := H.1 cH
      exact H
    · replace H := H.2 cH
      refine r_iload_n dX10_number_2_90 rfl rfl ?_
      refine r_iconst (v := (2 : Int32)) dX10_number_2_91 rfl ?_
      refine r_isub dX10_number_2_92 ?_
      refine r_aload dX10_number_2_93 rfl ?_
      refine m_getI hp fw_X10_234 dX10_number_2_95 rfl t5 ?_
      refine r_icmp_le (tgt := 103) dX10_number_2_98 rfl (fun cH => ?_) (fun cH => ?_)
      · replace H := H.1 cH
        exact H
      · replace H := H.2 cH
        refine r_iconst (v := (-1 : Int32)) dX10_number_2_101 rfl ?_
        exact r_zret dX10_number_2_102 rfl rfl (Nat.le_refl _) (Nat.le_refl _) H
theorem s_X10_number_2_103 {g : GX} {d : Nat} {av : List Value} {Q : QT} {n : Nat} {h : Hp} {x2 : Int32} {x3 : Int32} {x4 : Int32} {a5 : Nat} (hp : g.2.2.2.2 = true) (t5 : lay a5 = (0, 11, 15)) (H : ((x2 ≤ (1 : Int32)) → (((x3 < (0 : Int32)) → (Q (some (.int (0 : Int32))) n h)) ∧ ((¬ x3 < (0 : Int32)) → ((((24 : Int32) < x3) → (Q (some (.int (0 : Int32))) n h)) ∧ ((¬ (24 : Int32) < x3) → (((x4 < (0 : Int32)) → (Q (some (.int (0 : Int32))) n h)) ∧ ((¬ x4 < (0 : Int32)) → (((x4 ≤ (12 : Int32)) → (((¬ x2 = (0 : Int32)) → (W_X10_number_2 g d av Q n 185 [none, none, none, some (.int x3), some (.int x4), none, none] [.ref (a5 + 2)] h)) ∧ ((x2 = (0 : Int32)) → (W_X10_number_2 g d av Q n 185 [none, none, none, some (.int x3), some (.int x4), none, none] [.ref (a5 + 1)] h)))) ∧ ((¬ x4 ≤ (12 : Int32)) → (Q (some (.int (0 : Int32))) n h)))))))))) ∧ ((¬ x2 ≤ (1 : Int32)) → (((¬ x4 = (0 : Int32)) → (Q (some (.int (0 : Int32))) n h)) ∧ ((x4 = (0 : Int32)) → (((x3 < (0 : Int32)) → (Q (some (.int (0 : Int32))) n h)) ∧ ((¬ x3 < (0 : Int32)) → ((((24 : Int32) < x3) → (Q (some (.int (0 : Int32))) n h)) ∧ ((¬ (24 : Int32) < x3) → (vp_in (((25 : Int32) * (x2 - (2 : Int32))) + x3) 175 ∧ (Q (some (.int (ri h (a5 + 7) ((((25 : Int32) * (x2 - (2 : Int32))) + x3)).toNatClampNeg))) n h)))))))))) : W_X10_number_2 g d av Q n 103 [none, none, some (.int x2), some (.int x3), some (.int x4), some (.ref a5), none] [] h := by
  refine r_iload_n dX10_number_2_103 rfl rfl ?_
  refine r_iconst (v := (1 : Int32)) dX10_number_2_104 rfl ?_
  refine r_icmp_le (tgt := 142) dX10_number_2_105 rfl (fun cH => ?_) (fun cH => ?_)
  · replace H := H.1 cH
    refine r_iload_n dX10_number_2_142 rfl rfl ?_
    refine r_if_lt (tgt := 164) dX10_number_2_143 rfl (fun cH => ?_) (fun cH => ?_)
    · replace H := H.1 cH
      refine r_iconst (v := (0 : Int32)) dX10_number_2_164 rfl ?_
      refine r_goto (tgt := 193) dX10_number_2_165 rfl ?_
      exact r_zret dX10_number_2_193 rfl rfl (Nat.le_refl _) (Nat.le_refl _) H
    · replace H := H.2 cH
      refine r_iload_n dX10_number_2_146 rfl rfl ?_
      refine r_bipush (v := (24 : Int32)) dX10_number_2_147 rfl ?_
      refine r_icmp_gt (tgt := 164) dX10_number_2_149 rfl (fun cH => ?_) (fun cH => ?_)
      · replace H := H.1 cH
        refine r_iconst (v := (0 : Int32)) dX10_number_2_164 rfl ?_
        refine r_goto (tgt := 193) dX10_number_2_165 rfl ?_
        exact r_zret dX10_number_2_193 rfl rfl (Nat.le_refl _) (Nat.le_refl _) H
      · replace H := H.2 cH
        refine r_iload dX10_number_2_152 rfl ?_
        refine r_if_lt (tgt := 164) dX10_number_2_154 rfl (fun cH => ?_) (fun cH => ?_)
        · replace H := H.1 cH
          refine r_iconst (v := (0 : Int32)) dX10_number_2_164 rfl ?_
          refine r_goto (tgt := 193) dX10_number_2_165 rfl ?_
          exact r_zret dX10_number_2_193 rfl rfl (Nat.le_refl _) (Nat.le_refl _) H
        · replace H := H.2 cH
          refine r_iload dX10_number_2_157 rfl ?_
          refine r_bipush (v := (12 : Int32)) dX10_number_2_159 rfl ?_
          refine r_icmp_le (tgt := 168) dX10_number_2_161 rfl (fun cH => ?_) (fun cH => ?_)
          · replace H := H.1 cH
            refine r_iload_n dX10_number_2_168 rfl rfl ?_
            refine r_if_ne (tgt := 180) dX10_number_2_169 rfl (fun cH => ?_) (fun cH => ?_)
            · replace H := H.1 cH
              refine r_aload dX10_number_2_180 rfl ?_
              refine m_getF (x := (a5 + 2)) hp fw_X10_210 dX10_number_2_182 rfl t5 (ff_11_2 t5) ?_
              refine r_prune [false, false, false, true, true, false, false] (ls2 := [none, none, none, some (.int x3), some (.int x4), none, none]) rfl ?_
              exact H
            · replace H := H.2 cH
              refine r_aload dX10_number_2_172 rfl ?_
              refine m_getF (x := (a5 + 1)) hp fw_X10_207 dX10_number_2_174 rfl t5 (ff_11_1 t5) ?_
              refine r_goto (tgt := 185) dX10_number_2_177 rfl ?_
              refine r_prune [false, false, false, true, true, false, false] (ls2 := [none, none, none, some (.int x3), some (.int x4), none, none]) rfl ?_
              exact H
          · replace H := H.2 cH
            refine r_iconst (v := (0 : Int32)) dX10_number_2_164 rfl ?_
            refine r_goto (tgt := 193) dX10_number_2_165 rfl ?_
            exact r_zret dX10_number_2_193 rfl rfl (Nat.le_refl _) (Nat.le_refl _) H
  · replace H := H.2 cH
    refine r_iload dX10_number_2_108 rfl ?_
    refine r_if_ne (tgt := 140) dX10_number_2_110 rfl (fun cH => ?_) (fun cH => ?_)
    · replace H := H.1 cH
      refine r_iconst (v := (0 : Int32)) dX10_number_2_140 rfl ?_
      exact r_zret dX10_number_2_141 rfl rfl (Nat.le_refl _) (Nat.le_refl _) H
    · replace H := H.2 cH
      refine r_iload_n dX10_number_2_113 rfl rfl ?_
      refine r_if_lt (tgt := 140) dX10_number_2_114 rfl (fun cH => ?_) (fun cH => ?_)
      · replace H := H.1 cH
        refine r_iconst (v := (0 : Int32)) dX10_number_2_140 rfl ?_
        exact r_zret dX10_number_2_141 rfl rfl (Nat.le_refl _) (Nat.le_refl _) H
      · replace H := H.2 cH
        refine r_iload_n dX10_number_2_117 rfl rfl ?_
        refine r_bipush (v := (24 : Int32)) dX10_number_2_118 rfl ?_
        refine r_icmp_gt (tgt := 140) dX10_number_2_120 rfl (fun cH => ?_) (fun cH => ?_)
        · replace H := H.1 cH
          refine r_iconst (v := (0 : Int32)) dX10_number_2_140 rfl ?_
          exact r_zret dX10_number_2_141 rfl rfl (Nat.le_refl _) (Nat.le_refl _) H
        · replace H := H.2 cH
          refine r_aload dX10_number_2_123 rfl ?_
          refine m_getF (x := (a5 + 7)) hp fw_X10_237 dX10_number_2_125 rfl t5 (ff_11_11 t5) ?_
          refine r_bipush (v := (25 : Int32)) dX10_number_2_128 rfl ?_
          refine r_iload_n dX10_number_2_130 rfl rfl ?_
          refine r_iconst (v := (2 : Int32)) dX10_number_2_131 rfl ?_
          refine r_isub dX10_number_2_132 ?_
          refine r_imul dX10_number_2_133 ?_
          refine r_iload_n dX10_number_2_134 rfl rfl ?_
          refine r_iadd dX10_number_2_135 ?_
          refine m_iald hp dX10_number_2_136 (lf_11_11 t5) H.1 ?_
          replace H := H.2
          refine r_goto (tgt := 141) dX10_number_2_137 rfl ?_
          exact r_zret dX10_number_2_141 rfl rfl (Nat.le_refl _) (Nat.le_refl _) H
theorem s_X10_number_2_185 {g : GX} {d : Nat} {av : List Value} {Q : QT} {n : Nat} {h : Hp} {x3 : Int32} {x4 : Int32} {as0 : Nat} {Ls0 : Nat} (hp : g.2.2.2.2 = true) (ts0 : lay as0 = (1, Ls0, 0)) (H : vp_in (((25 : Int32) * x4) + x3) Ls0 ∧ (Q (some (.int (ri h as0 ((((25 : Int32) * x4) + x3)).toNatClampNeg))) n h)) : W_X10_number_2 g d av Q n 185 [none, none, none, some (.int x3), some (.int x4), none, none] [.ref as0] h := by
  refine r_bipush (v := (25 : Int32)) dX10_number_2_185 rfl ?_
  refine r_iload dX10_number_2_187 rfl ?_
  refine r_imul dX10_number_2_189 ?_
  refine r_iload_n dX10_number_2_190 rfl rfl ?_
  refine r_iadd dX10_number_2_191 ?_
  refine m_iald hp dX10_number_2_192 ts0 H.1 ?_
  replace H := H.2
  exact r_zret dX10_number_2_193 rfl rfl (Nat.le_refl _) (Nat.le_refl _) H
abbrev W_X10_told (g : GX) (d : Nat) (av : List Value) (Q : QT) (n : Nat) (pc : Nat) (ls : LV) (stk : List Value) (h : Hp) : Prop := RJ g m_X10_told (d + 1) 0 0 av Q pc ls stk n h 0 0
theorem s_X10_told_0 {g : GX} {d : Nat} {av : List Value} {Q : QT} {n : Nat} {h : Hp} {x1 : Int32} {x2 : Int32} (hp : g.2.2.2.2 = true)  (H : CallI g m_X10_isSlot d [.int x1] n h (fun v1 h1 => (((¬ v1 = (0 : Int32)) → (vp_in x1 12 ∧ ∀ r2, r2 = 10245 + 9 * (x1).toNatClampNeg → ((((2 : Int32) < x2) → (((¬ x2 = (3 : Int32)) → (((¬ (ri h1 r2 0) = (4 : Int32)) → (W_X10_told g d av Q n 79 [none, none, some (.int x2), some (.ref r2), none] [.int (0 : Int32)] h1)) ∧ (((ri h1 r2 0) = (4 : Int32)) → (W_X10_told g d av Q n 79 [none, none, some (.int x2), some (.ref r2), none] [.int (1 : Int32)] h1)))) ∧ ((x2 = (3 : Int32)) → ((((ri h1 r2 0) = (3 : Int32)) → (W_X10_told g d av Q n 58 [none, none, some (.int x2), some (.ref r2), none] [] h1)) ∧ ((¬ (ri h1 r2 0) = (3 : Int32)) → (((¬ (ri h1 r2 0) = (4 : Int32)) → (W_X10_told g d av Q n 79 [none, none, some (.int x2), some (.ref r2), none] [.int (0 : Int32)] h1)) ∧ (((ri h1 r2 0) = (4 : Int32)) → (W_X10_told g d av Q n 58 [none, none, some (.int x2), some (.ref r2), none] [] h1)))))))) ∧ ((¬ (2 : Int32) < x2) → (((¬ (ri h1 r2 0) = (2 : Int32)) → (W_X10_told g d av Q n 79 [none, none, some (.int x2), some (.ref r2), none] [.int (0 : Int32)] h1)) ∧ (((ri h1 r2 0) = (2 : Int32)) → (W_X10_told g d av Q n 79 [none, none, some (.int x2), some (.ref r2), none] [.int (1 : Int32)] h1))))))) ∧ ((v1 = (0 : Int32)) → (Q (some (.int (-1 : Int32))) n h1))))) : W_X10_told g d av Q n 0 [some (.ref 2759), some (.int x1), some (.int x2), none, none] [] h := by
  refine r_iload_n dX10_told_0 rfl rfl ?_
  refine k_SI (As := [.int x1]) (stk := []) cs_X10_551 dX10_told_1 rfl (Nat.le_of_ble_eq_true rfl) (H.mono (fun v1 h1 H => ?_)) ⟨Nat.le_refl _, Nat.le_refl _⟩
  refine r_if_ne (tgt := 9) dX10_told_4 rfl (fun cH => ?_) (fun cH => ?_)
  · replace H := H.1 cH
    refine r_aload_n dX10_told_9 rfl rfl ?_
    refine m_getF (x := 2841) hp fw_X10_450 dX10_told_10 rfl ly_10 (ff_10_20 ly_10) ?_
    refine r_iload_n dX10_told_13 rfl rfl ?_
    obtain ⟨r2, er2⟩ : ∃ y, y = 10245 + 9 * (x1).toNatClampNeg := ⟨_, rfl⟩
    have hir2 := H.1
    replace H := H.2 r2 er2
    have tLr2 := la_2841 hir2 er2
    refine m_aalF (x := r2) hp dX10_told_14 (lf_10_20 ly_10) rfl rfl (lu_10_20 ly_10) hir2 (fa_2841 hir2 er2) ?_
    refine r_astore_n (ls2 := [some (.ref 2759), some (.int x1), some (.int x2), some (.ref r2), none]) dX10_told_15 rfl (by decide) rfl ?_
    refine r_iload_n dX10_told_16 rfl rfl ?_
    refine r_iconst (v := (2 : Int32)) dX10_told_17 rfl ?_
    refine r_icmp_gt (tgt := 37) dX10_told_18 rfl (fun cH => ?_) (fun cH => ?_)
    · replace H := H.1 cH
      refine r_iload_n dX10_told_37 rfl rfl ?_
      refine r_iconst (v := (3 : Int32)) dX10_told_38 rfl ?_
      refine r_icmp_ne (tgt := 66) dX10_told_39 rfl (fun cH => ?_) (fun cH => ?_)
      · replace H := H.1 cH
        refine r_aload_n dX10_told_66 rfl rfl ?_
        refine m_getI hp fw_X10_202 dX10_told_67 rfl tLr2 ?_
        refine r_iconst (v := (4 : Int32)) dX10_told_70 rfl ?_
        refine r_icmp_ne (tgt := 78) dX10_told_71 rfl (fun cH => ?_) (fun cH => ?_)
        · replace H := H.1 cH
          refine r_iconst (v := (0 : Int32)) dX10_told_78 rfl ?_
          refine r_prune [false, false, true, true, false] (ls2 := [none, none, some (.int x2), some (.ref r2), none]) rfl ?_
          exact H
        · replace H := H.2 cH
          refine r_iconst (v := (1 : Int32)) dX10_told_74 rfl ?_
          refine r_goto (tgt := 79) dX10_told_75 rfl ?_
          refine r_prune [false, false, true, true, false] (ls2 := [none, none, some (.int x2), some (.ref r2), none]) rfl ?_
          exact H
      · replace H := H.2 cH
        refine r_aload_n dX10_told_42 rfl rfl ?_
        refine m_getI hp fw_X10_202 dX10_told_43 rfl tLr2 ?_
        refine r_iconst (v := (3 : Int32)) dX10_told_46 rfl ?_
        refine r_icmp_eq (tgt := 58) dX10_told_47 rfl (fun cH => ?_) (fun cH => ?_)
        · replace H := H.1 cH
          refine r_prune [false, false, true, true, false] (ls2 := [none, none, some (.int x2), some (.ref r2), none]) rfl ?_
          exact H
        · replace H := H.2 cH
          refine r_aload_n dX10_told_50 rfl rfl ?_
          refine m_getI hp fw_X10_202 dX10_told_51 rfl tLr2 ?_
          refine r_iconst (v := (4 : Int32)) dX10_told_54 rfl ?_
          refine r_icmp_ne (tgt := 62) dX10_told_55 rfl (fun cH => ?_) (fun cH => ?_)
          · replace H := H.1 cH
            refine r_iconst (v := (0 : Int32)) dX10_told_62 rfl ?_
            refine r_goto (tgt := 79) dX10_told_63 rfl ?_
            refine r_prune [false, false, true, true, false] (ls2 := [none, none, some (.int x2), some (.ref r2), none]) rfl ?_
            exact H
          · replace H := H.2 cH
            refine r_prune [false, false, true, true, false] (ls2 := [none, none, some (.int x2), some (.ref r2), none]) rfl ?_
            exact H
    · replace H := H.2 cH
      refine r_aload_n dX10_told_21 rfl rfl ?_
      refine m_getI hp fw_X10_202 dX10_told_22 rfl tLr2 ?_
      refine r_iconst (v := (2 : Int32)) dX10_told_25 rfl ?_
      refine r_icmp_ne (tgt := 33) dX10_told_26 rfl (fun cH => ?_) (fun cH => ?_)
      · replace H := H.1 cH
        refine r_iconst (v := (0 : Int32)) dX10_told_33 rfl ?_
        refine r_goto (tgt := 79) dX10_told_34 rfl ?_
        refine r_prune [false, false, true, true, false] (ls2 := [none, none, some (.int x2), some (.ref r2), none]) rfl ?_
        exact H
      · replace H := H.2 cH
        refine r_iconst (v := (1 : Int32)) dX10_told_29 rfl ?_
        refine r_goto (tgt := 79) dX10_told_30 rfl ?_
        refine r_prune [false, false, true, true, false] (ls2 := [none, none, some (.int x2), some (.ref r2), none]) rfl ?_
        exact H
  · replace H := H.2 cH
    refine r_iconst (v := (-1 : Int32)) dX10_told_7 rfl ?_
    exact r_zret dX10_told_8 rfl rfl (Nat.le_refl _) (Nat.le_refl _) H
theorem s_X10_told_58 {g : GX} {d : Nat} {av : List Value} {Q : QT} {n : Nat} {h : Hp} {x2 : Int32} {a3 : Nat} (hp : g.2.2.2.2 = true) (t3 : lay a3 = (0, 11, 15)) (H : W_X10_told g d av Q n 79 [none, none, some (.int x2), some (.ref a3), none] [.int (1 : Int32)] h) : W_X10_told g d av Q n 58 [none, none, some (.int x2), some (.ref a3), none] [] h := by
  refine r_iconst (v := (1 : Int32)) dX10_told_58 rfl ?_
  refine r_goto (tgt := 79) dX10_told_59 rfl ?_
  exact H
theorem s_X10_told_79 {g : GX} {d : Nat} {av : List Value} {Q : QT} {n : Nat} {h : Hp} {x2 : Int32} {a3 : Nat} {xs0 : Int32} (hp : g.2.2.2.2 = true) (t3 : lay a3 = (0, 11, 15)) (H : ((x2 < (0 : Int32)) → (Q (some (.int (-1 : Int32))) n h)) ∧ ((¬ x2 < (0 : Int32)) → (((x2 ≤ (4 : Int32)) → (((¬ xs0 = (0 : Int32)) → (((¬ x2 = (0 : Int32)) → (((¬ x2 = (1 : Int32)) → (((¬ x2 = (2 : Int32)) → (((¬ x2 = (3 : Int32)) → (Q (some (.int (ri h a3 12))) n h)) ∧ ((x2 = (3 : Int32)) → (Q (some (.int (ri h a3 10))) n h)))) ∧ ((x2 = (2 : Int32)) → (Q (some (.int (ri h a3 5))) n h)))) ∧ ((x2 = (1 : Int32)) → (Q (some (.int (ri h a3 4))) n h)))) ∧ ((x2 = (0 : Int32)) → (Q (some (.int (ri h a3 3))) n h)))) ∧ ((xs0 = (0 : Int32)) → (Q (some (.int (-3 : Int32))) n h)))) ∧ ((¬ x2 ≤ (4 : Int32)) → (Q (some (.int (-1 : Int32))) n h))))) : W_X10_told g d av Q n 79 [none, none, some (.int x2), some (.ref a3), none] [.int xs0] h := by
  refine r_istore (ls2 := [none, none, some (.int x2), some (.ref a3), some (.int xs0)]) dX10_told_79 (by decide) rfl ?_
  refine r_iload_n dX10_told_81 rfl rfl ?_
  refine r_if_lt (tgt := 90) dX10_told_82 rfl (fun cH => ?_) (fun cH => ?_)
  · replace H := H.1 cH
    refine r_iconst (v := (-1 : Int32)) dX10_told_90 rfl ?_
    exact r_zret dX10_told_91 rfl rfl (Nat.le_refl _) (Nat.le_refl _) H
  · replace H := H.2 cH
    refine r_iload_n dX10_told_85 rfl rfl ?_
    refine r_iconst (v := (4 : Int32)) dX10_told_86 rfl ?_
    refine r_icmp_le (tgt := 92) dX10_told_87 rfl (fun cH => ?_) (fun cH => ?_)
    · replace H := H.1 cH
      refine r_iload dX10_told_92 rfl ?_
      refine r_if_ne (tgt := 100) dX10_told_94 rfl (fun cH => ?_) (fun cH => ?_)
      · replace H := H.1 cH
        refine r_iload_n dX10_told_100 rfl rfl ?_
        refine r_if_ne (tgt := 111) dX10_told_101 rfl (fun cH => ?_) (fun cH => ?_)
        · replace H := H.1 cH
          refine r_iload_n dX10_told_111 rfl rfl ?_
          refine r_iconst (v := (1 : Int32)) dX10_told_112 rfl ?_
          refine r_icmp_ne (tgt := 123) dX10_told_113 rfl (fun cH => ?_) (fun cH => ?_)
          · replace H := H.1 cH
            refine r_iload_n dX10_told_123 rfl rfl ?_
            refine r_iconst (v := (2 : Int32)) dX10_told_124 rfl ?_
            refine r_icmp_ne (tgt := 135) dX10_told_125 rfl (fun cH => ?_) (fun cH => ?_)
            · replace H := H.1 cH
              refine r_iload_n dX10_told_135 rfl rfl ?_
              refine r_iconst (v := (3 : Int32)) dX10_told_136 rfl ?_
              refine r_icmp_ne (tgt := 147) dX10_told_137 rfl (fun cH => ?_) (fun cH => ?_)
              · replace H := H.1 cH
                refine r_aload_n dX10_told_147 rfl rfl ?_
                refine m_getI hp fw_X10_240 dX10_told_148 rfl t3 ?_
                exact r_zret dX10_told_151 rfl rfl (Nat.le_refl _) (Nat.le_refl _) H
              · replace H := H.2 cH
                refine r_aload_n dX10_told_140 rfl rfl ?_
                refine m_getI hp fw_X10_234 dX10_told_141 rfl t3 ?_
                refine r_goto (tgt := 151) dX10_told_144 rfl ?_
                exact r_zret dX10_told_151 rfl rfl (Nat.le_refl _) (Nat.le_refl _) H
            · replace H := H.2 cH
              refine r_aload_n dX10_told_128 rfl rfl ?_
              refine m_getI hp fw_X10_219 dX10_told_129 rfl t3 ?_
              refine r_goto (tgt := 151) dX10_told_132 rfl ?_
              exact r_zret dX10_told_151 rfl rfl (Nat.le_refl _) (Nat.le_refl _) H
          · replace H := H.2 cH
            refine r_aload_n dX10_told_116 rfl rfl ?_
            refine m_getI hp fw_X10_216 dX10_told_117 rfl t3 ?_
            refine r_goto (tgt := 151) dX10_told_120 rfl ?_
            exact r_zret dX10_told_151 rfl rfl (Nat.le_refl _) (Nat.le_refl _) H
        · replace H := H.2 cH
          refine r_aload_n dX10_told_104 rfl rfl ?_
          refine m_getI hp fw_X10_213 dX10_told_105 rfl t3 ?_
          refine r_goto (tgt := 151) dX10_told_108 rfl ?_
          exact r_zret dX10_told_151 rfl rfl (Nat.le_refl _) (Nat.le_refl _) H
      · replace H := H.2 cH
        refine r_bipush (v := (-3 : Int32)) dX10_told_97 rfl ?_
        exact r_zret dX10_told_99 rfl rfl (Nat.le_refl _) (Nat.le_refl _) H
    · replace H := H.2 cH
      refine r_iconst (v := (-1 : Int32)) dX10_told_90 rfl ?_
      exact r_zret dX10_told_91 rfl rfl (Nat.le_refl _) (Nat.le_refl _) H
abbrev W_X10_factorial_2 (g : GX) (d : Nat) (av : List Value) (Q : QT) (n : Nat) (pc : Nat) (ls : LV) (stk : List Value) (h : Hp) : Prop := RJ g m_X10_factorial_2 (d + 1) 0 0 av Q pc ls stk n h 0 0
theorem s_X10_factorial_2_0 {g : GX} {d : Nat} {av : List Value} {Q : QT} {n : Nat} {h : Hp} {x1 : Int32} {x2 : Int32} {x3 : Int32} (hp : g.2.2.2.2 = true)  (H : CallI g m_X10_isSlot d [.int x1] n h (fun v1 h1 => (((¬ v1 = (0 : Int32)) → (vp_in x1 12 ∧ ∀ r2, r2 = 10245 + 9 * (x1).toNatClampNeg → (((¬ (ri h1 r2 0) = (2 : Int32)) → (Q (some (.int (0 : Int32))) n h1)) ∧ (((ri h1 r2 0) = (2 : Int32)) → (((x2 < (0 : Int32)) → (Q (some (.int (0 : Int32))) n h1)) ∧ ((¬ x2 < (0 : Int32)) → ((((ri h1 r2 5) ≤ x2) → (Q (some (.int (0 : Int32))) n h1)) ∧ ((¬ (ri h1 r2 5) ≤ x2) → (((x3 < (0 : Int32)) → (Q (some (.int (0 : Int32))) n h1)) ∧ ((¬ x3 < (0 : Int32)) → (((x3 ≤ (3 : Int32)) → (((¬ x3 = (0 : Int32)) → (((¬ x3 = (1 : Int32)) → (((¬ x3 = (2 : Int32)) → (vp_in x2 13 ∧ (Q (some (.int (ri h1 (r2 + 6) (x2).toNatClampNeg))) n h1))) ∧ ((x3 = (2 : Int32)) → (vp_in x2 13 ∧ (Q (some (.int (ri h1 (r2 + 5) (x2).toNatClampNeg))) n h1))))) ∧ ((x3 = (1 : Int32)) → (vp_in x2 13 ∧ (Q (some (.int (ri h1 (r2 + 4) (x2).toNatClampNeg))) n h1))))) ∧ ((x3 = (0 : Int32)) → (vp_in x2 13 ∧ (Q (some (.int (ri h1 (r2 + 3) (x2).toNatClampNeg))) n h1))))) ∧ ((¬ x3 ≤ (3 : Int32)) → (Q (some (.int (0 : Int32))) n h1))))))))))))) ∧ ((v1 = (0 : Int32)) → (Q (some (.int (-1 : Int32))) n h1))))) : W_X10_factorial_2 g d av Q n 0 [some (.ref 2759), some (.int x1), some (.int x2), some (.int x3), none] [] h := by
  refine r_iload_n dX10_factorial_2_0 rfl rfl ?_
  refine k_SI (As := [.int x1]) (stk := []) cs_X10_551 dX10_factorial_2_1 rfl (Nat.le_of_ble_eq_true rfl) (H.mono (fun v1 h1 H => ?_)) ⟨Nat.le_refl _, Nat.le_refl _⟩
  refine r_if_ne (tgt := 9) dX10_factorial_2_4 rfl (fun cH => ?_) (fun cH => ?_)
  · replace H := H.1 cH
    refine r_aload_n dX10_factorial_2_9 rfl rfl ?_
    refine m_getF (x := 2841) hp fw_X10_450 dX10_factorial_2_10 rfl ly_10 (ff_10_20 ly_10) ?_
    refine r_iload_n dX10_factorial_2_13 rfl rfl ?_
    obtain ⟨r2, er2⟩ : ∃ y, y = 10245 + 9 * (x1).toNatClampNeg := ⟨_, rfl⟩
    have hir2 := H.1
    replace H := H.2 r2 er2
    have tLr2 := la_2841 hir2 er2
    refine m_aalF (x := r2) hp dX10_factorial_2_14 (lf_10_20 ly_10) rfl rfl (lu_10_20 ly_10) hir2 (fa_2841 hir2 er2) ?_
    refine r_astore (ls2 := [some (.ref 2759), some (.int x1), some (.int x2), some (.int x3), some (.ref r2)]) dX10_factorial_2_15 (by decide) rfl ?_
    refine r_aload dX10_factorial_2_17 rfl ?_
    refine m_getI hp fw_X10_202 dX10_factorial_2_19 rfl tLr2 ?_
    refine r_iconst (v := (2 : Int32)) dX10_factorial_2_22 rfl ?_
    refine r_icmp_ne (tgt := 48) dX10_factorial_2_23 rfl (fun cH => ?_) (fun cH => ?_)
    · replace H := H.1 cH
      refine r_iconst (v := (0 : Int32)) dX10_factorial_2_48 rfl ?_
      exact r_zret dX10_factorial_2_49 rfl rfl (Nat.le_refl _) (Nat.le_refl _) H
    · replace H := H.2 cH
      refine r_iload_n dX10_factorial_2_26 rfl rfl ?_
      refine r_if_lt (tgt := 48) dX10_factorial_2_27 rfl (fun cH => ?_) (fun cH => ?_)
      · replace H := H.1 cH
        refine r_iconst (v := (0 : Int32)) dX10_factorial_2_48 rfl ?_
        exact r_zret dX10_factorial_2_49 rfl rfl (Nat.le_refl _) (Nat.le_refl _) H
      · replace H := H.2 cH
        refine r_iload_n dX10_factorial_2_30 rfl rfl ?_
        refine r_aload dX10_factorial_2_31 rfl ?_
        refine m_getI hp fw_X10_219 dX10_factorial_2_33 rfl tLr2 ?_
        refine r_icmp_ge (tgt := 48) dX10_factorial_2_36 rfl (fun cH => ?_) (fun cH => ?_)
        · replace H := H.1 cH
          refine r_iconst (v := (0 : Int32)) dX10_factorial_2_48 rfl ?_
          exact r_zret dX10_factorial_2_49 rfl rfl (Nat.le_refl _) (Nat.le_refl _) H
        · replace H := H.2 cH
          refine r_iload_n dX10_factorial_2_39 rfl rfl ?_
          refine r_if_lt (tgt := 48) dX10_factorial_2_40 rfl (fun cH => ?_) (fun cH => ?_)
          · replace H := H.1 cH
            refine r_iconst (v := (0 : Int32)) dX10_factorial_2_48 rfl ?_
            exact r_zret dX10_factorial_2_49 rfl rfl (Nat.le_refl _) (Nat.le_refl _) H
          · replace H := H.2 cH
            refine r_iload_n dX10_factorial_2_43 rfl rfl ?_
            refine r_iconst (v := (3 : Int32)) dX10_factorial_2_44 rfl ?_
            refine r_icmp_le (tgt := 50) dX10_factorial_2_45 rfl (fun cH => ?_) (fun cH => ?_)
            · replace H := H.1 cH
              refine r_iload_n dX10_factorial_2_50 rfl rfl ?_
              refine r_if_ne (tgt := 64) dX10_factorial_2_51 rfl (fun cH => ?_) (fun cH => ?_)
              · replace H := H.1 cH
                refine r_iload_n dX10_factorial_2_64 rfl rfl ?_
                refine r_iconst (v := (1 : Int32)) dX10_factorial_2_65 rfl ?_
                refine r_icmp_ne (tgt := 79) dX10_factorial_2_66 rfl (fun cH => ?_) (fun cH => ?_)
                · replace H := H.1 cH
                  refine r_iload_n dX10_factorial_2_79 rfl rfl ?_
                  refine r_iconst (v := (2 : Int32)) dX10_factorial_2_80 rfl ?_
                  refine r_icmp_ne (tgt := 94) dX10_factorial_2_81 rfl (fun cH => ?_) (fun cH => ?_)
                  · replace H := H.1 cH
                    refine r_aload dX10_factorial_2_94 rfl ?_
                    refine m_getF (x := (r2 + 6)) hp fw_X10_231 dX10_factorial_2_96 rfl tLr2 (ff_11_9 tLr2) ?_
                    refine r_iload_n dX10_factorial_2_99 rfl rfl ?_
                    refine m_iald hp dX10_factorial_2_100 (lf_11_9 tLr2) H.1 ?_
                    replace H := H.2
                    exact r_zret dX10_factorial_2_101 rfl rfl (Nat.le_refl _) (Nat.le_refl _) H
                  · replace H := H.2 cH
                    refine r_aload dX10_factorial_2_84 rfl ?_
                    refine m_getF (x := (r2 + 5)) hp fw_X10_228 dX10_factorial_2_86 rfl tLr2 (ff_11_8 tLr2) ?_
                    refine r_iload_n dX10_factorial_2_89 rfl rfl ?_
                    refine m_iald hp dX10_factorial_2_90 (lf_11_8 tLr2) H.1 ?_
                    replace H := H.2
                    refine r_goto (tgt := 101) dX10_factorial_2_91 rfl ?_
                    exact r_zret dX10_factorial_2_101 rfl rfl (Nat.le_refl _) (Nat.le_refl _) H
                · replace H := H.2 cH
                  refine r_aload dX10_factorial_2_69 rfl ?_
                  refine m_getF (x := (r2 + 4)) hp fw_X10_225 dX10_factorial_2_71 rfl tLr2 (ff_11_7 tLr2) ?_
                  refine r_iload_n dX10_factorial_2_74 rfl rfl ?_
                  refine m_iald hp dX10_factorial_2_75 (lf_11_7 tLr2) H.1 ?_
                  replace H := H.2
                  refine r_goto (tgt := 101) dX10_factorial_2_76 rfl ?_
                  exact r_zret dX10_factorial_2_101 rfl rfl (Nat.le_refl _) (Nat.le_refl _) H
              · replace H := H.2 cH
                refine r_aload dX10_factorial_2_54 rfl ?_
                refine m_getF (x := (r2 + 3)) hp fw_X10_222 dX10_factorial_2_56 rfl tLr2 (ff_11_6 tLr2) ?_
                refine r_iload_n dX10_factorial_2_59 rfl rfl ?_
                refine m_iald hp dX10_factorial_2_60 (lf_11_6 tLr2) H.1 ?_
                replace H := H.2
                refine r_goto (tgt := 101) dX10_factorial_2_61 rfl ?_
                exact r_zret dX10_factorial_2_101 rfl rfl (Nat.le_refl _) (Nat.le_refl _) H
            · replace H := H.2 cH
              refine r_iconst (v := (0 : Int32)) dX10_factorial_2_48 rfl ?_
              exact r_zret dX10_factorial_2_49 rfl rfl (Nat.le_refl _) (Nat.le_refl _) H
  · replace H := H.2 cH
    refine r_iconst (v := (-1 : Int32)) dX10_factorial_2_7 rfl ?_
    exact r_zret dX10_factorial_2_8 rfl rfl (Nat.le_refl _) (Nat.le_refl _) H
abbrev W_X10_count (g : GX) (d : Nat) (av : List Value) (Q : QT) (n : Nat) (pc : Nat) (ls : LV) (stk : List Value) (h : Hp) : Prop := RJ g m_X10_count d 0 0 av Q pc ls stk n h 0 0
theorem s_X10_count_0 {g : GX} {d : Nat} {av : List Value} {Q : QT} {n : Nat} {h : Hp} {x1 : Int32} (hp : g.2.2.2.2 = true)  (H : W_X10_count g d av Q n 7 [some (.ref 2759), some (.int x1), some (.int (0 : Int32)), some (.int (0 : Int32)), some (.int (0 : Int32))] [] h) : W_X10_count g d av Q n 0 [some (.ref 2759), some (.int x1), none, none, none] [] h := by
  refine r_iconst (v := (0 : Int32)) dX10_count_0 rfl ?_
  refine r_istore_n (ls2 := [some (.ref 2759), some (.int x1), some (.int (0 : Int32)), none, none]) dX10_count_1 rfl (by decide) rfl ?_
  refine r_iconst (v := (0 : Int32)) dX10_count_2 rfl ?_
  refine r_istore_n (ls2 := [some (.ref 2759), some (.int x1), some (.int (0 : Int32)), some (.int (0 : Int32)), none]) dX10_count_3 rfl (by decide) rfl ?_
  refine r_iconst (v := (0 : Int32)) dX10_count_4 rfl ?_
  refine r_istore (ls2 := [some (.ref 2759), some (.int x1), some (.int (0 : Int32)), some (.int (0 : Int32)), some (.int (0 : Int32))]) dX10_count_5 (by decide) rfl ?_
  exact H
theorem s_X10_count_7 {g : GX} {d : Nat} {av : List Value} {Q : QT} {n : Nat} {h : Hp} {x1 : Int32} {x2 : Int32} {x3 : Int32} {x4 : Int32} (hp : g.2.2.2.2 = true)  (H : (((12 : Int32) ≤ x4) → (((x1).toInt = 0 → (Q (some (.int (ri h 2759 12))) n h)) ∧ ((x1).toInt = 1 → (Q (some (.int (ri h 2759 24))) n h)) ∧ ((x1).toInt = 2 → (Q (some (.int (ri h 2759 29))) n h)) ∧ ((x1).toInt = 3 → (Q (some (.int (ri h 2759 31))) n h)) ∧ ((x1).toInt = 4 → (Q (some (.int x2)) n h)) ∧ ((x1).toInt = 5 → (Q (some (.int x3)) n h)) ∧ (((x1).toInt < 0 ∨ 5 < (x1).toInt) → (Q (some (.int (-1 : Int32))) n h)))) ∧ ((¬ (12 : Int32) ≤ x4) → (vp_in x4 12 ∧ ∀ r1, r1 = 10245 + 9 * (x4).toNatClampNeg → ((((ri h r1 0) = (0 : Int32)) → (W_X10_count g d av Q n 33 [some (.ref 2759), some (.int x1), none, some (.int x3), some (.int x4)] [.int (0 : Int32), .int x2] h)) ∧ ((¬ (ri h r1 0) = (0 : Int32)) → (W_X10_count g d av Q n 33 [some (.ref 2759), some (.int x1), none, some (.int x3), some (.int x4)] [.int (1 : Int32), .int x2] h)))))) : W_X10_count g d av Q n 7 [some (.ref 2759), some (.int x1), some (.int x2), some (.int x3), some (.int x4)] [] h := by
  refine r_iload dX10_count_7 rfl ?_
  refine r_bipush (v := (12 : Int32)) dX10_count_9 rfl ?_
  refine r_icmp_ge (tgt := 63) dX10_count_11 rfl (fun cH => ?_) (fun cH => ?_)
  · replace H := H.1 cH
    refine r_iload_n dX10_count_63 rfl rfl ?_
    by_cases c0 : (x1).toInt = 0
    · replace H := H.1 c0
      refine r_tableIn (tgt := 104) dX10_count_64 (by omega) (by omega) (by rw [c0]; rfl) rfl ?_
      refine r_aload_n dX10_count_104 rfl rfl ?_
      refine m_getI hp fw_X10_336 dX10_count_105 rfl ly_10 ?_
      exact r_zret dX10_count_108 rfl rfl (Nat.le_refl _) (Nat.le_refl _) H
    by_cases c1 : (x1).toInt = 1
    · replace H := H.2.1 c1
      refine r_tableIn (tgt := 109) dX10_count_64 (by omega) (by omega) (by rw [c1]; rfl) rfl ?_
      refine r_aload_n dX10_count_109 rfl rfl ?_
      refine m_getI hp fw_X10_597 dX10_count_110 rfl ly_10 ?_
      exact r_zret dX10_count_113 rfl rfl (Nat.le_refl _) (Nat.le_refl _) H
    by_cases c2 : (x1).toInt = 2
    · replace H := H.2.2.1 c2
      refine r_tableIn (tgt := 114) dX10_count_64 (by omega) (by omega) (by rw [c2]; rfl) rfl ?_
      refine r_aload_n dX10_count_114 rfl rfl ?_
      refine m_getI hp fw_X10_607 dX10_count_115 rfl ly_10 ?_
      exact r_zret dX10_count_118 rfl rfl (Nat.le_refl _) (Nat.le_refl _) H
    by_cases c3 : (x1).toInt = 3
    · replace H := H.2.2.2.1 c3
      refine r_tableIn (tgt := 119) dX10_count_64 (by omega) (by omega) (by rw [c3]; rfl) rfl ?_
      refine r_aload_n dX10_count_119 rfl rfl ?_
      refine m_getI hp fw_X10_610 dX10_count_120 rfl ly_10 ?_
      exact r_zret dX10_count_123 rfl rfl (Nat.le_refl _) (Nat.le_refl _) H
    by_cases c4 : (x1).toInt = 4
    · replace H := H.2.2.2.2.1 c4
      refine r_tableIn (tgt := 124) dX10_count_64 (by omega) (by omega) (by rw [c4]; rfl) rfl ?_
      refine r_iload_n dX10_count_124 rfl rfl ?_
      exact r_zret dX10_count_125 rfl rfl (Nat.le_refl _) (Nat.le_refl _) H
    by_cases c5 : (x1).toInt = 5
    · replace H := H.2.2.2.2.2.1 c5
      refine r_tableIn (tgt := 126) dX10_count_64 (by omega) (by omega) (by rw [c5]; rfl) rfl ?_
      refine r_iload_n dX10_count_126 rfl rfl ?_
      exact r_zret dX10_count_127 rfl rfl (Nat.le_refl _) (Nat.le_refl _) H
    have cD : (x1).toInt < 0 ∨ 5 < (x1).toInt := by omega
    replace H := H.2.2.2.2.2.2 cD
    refine r_tableOut (tgt := 128) dX10_count_64 cD rfl ?_
    refine r_iconst (v := (-1 : Int32)) dX10_count_128 rfl ?_
    exact r_zret dX10_count_129 rfl rfl (Nat.le_refl _) (Nat.le_refl _) H
  · replace H := H.2 cH
    refine r_iload_n dX10_count_14 rfl rfl ?_
    refine r_aload_n dX10_count_15 rfl rfl ?_
    refine m_getF (x := 2841) hp fw_X10_450 dX10_count_16 rfl ly_10 (ff_10_20 ly_10) ?_
    refine r_iload dX10_count_19 rfl ?_
    obtain ⟨r1, er1⟩ : ∃ y, y = 10245 + 9 * (x4).toNatClampNeg := ⟨_, rfl⟩
    have hir1 := H.1
    replace H := H.2 r1 er1
    have tLr1 := la_2841 hir1 er1
    refine m_aalF (x := r1) hp dX10_count_21 (lf_10_20 ly_10) rfl rfl (lu_10_20 ly_10) hir1 (fa_2841 hir1 er1) ?_
    refine m_getI hp fw_X10_202 dX10_count_22 rfl tLr1 ?_
    refine r_if_eq (tgt := 32) dX10_count_25 rfl (fun cH => ?_) (fun cH => ?_)
    · replace H := H.1 cH
      refine r_iconst (v := (0 : Int32)) dX10_count_32 rfl ?_
      refine r_prune [true, true, false, true, true] (ls2 := [some (.ref 2759), some (.int x1), none, some (.int x3), some (.int x4)]) rfl ?_
      exact H
    · replace H := H.2 cH
      refine r_iconst (v := (1 : Int32)) dX10_count_28 rfl ?_
      refine r_goto (tgt := 33) dX10_count_29 rfl ?_
      refine r_prune [true, true, false, true, true] (ls2 := [some (.ref 2759), some (.int x1), none, some (.int x3), some (.int x4)]) rfl ?_
      exact H
theorem s_X10_count_33 {g : GX} {d : Nat} {av : List Value} {Q : QT} {n : Nat} {h : Hp} {x1 : Int32} {x3 : Int32} {x4 : Int32} {xs0 : Int32} {xs1 : Int32} (hp : g.2.2.2.2 = true)  (H : vp_in x4 12 ∧ ∀ r1, r1 = 10245 + 9 * (x4).toNatClampNeg → (((¬ (ri h r1 0) = (3 : Int32)) → (W_X10_count g d av Q n 55 [some (.ref 2759), some (.int x1), some (.int (xs1 + xs0)), none, some (.int x4)] [.int (0 : Int32), .int x3] h)) ∧ (((ri h r1 0) = (3 : Int32)) → (W_X10_count g d av Q n 55 [some (.ref 2759), some (.int x1), some (.int (xs1 + xs0)), none, some (.int x4)] [.int (1 : Int32), .int x3] h)))) : W_X10_count g d av Q n 33 [some (.ref 2759), some (.int x1), none, some (.int x3), some (.int x4)] [.int xs0, .int xs1] h := by
  refine r_iadd dX10_count_33 ?_
  refine r_istore_n (ls2 := [some (.ref 2759), some (.int x1), some (.int (xs1 + xs0)), some (.int x3), some (.int x4)]) dX10_count_34 rfl (by decide) rfl ?_
  refine r_iload_n dX10_count_35 rfl rfl ?_
  refine r_aload_n dX10_count_36 rfl rfl ?_
  refine m_getF (x := 2841) hp fw_X10_450 dX10_count_37 rfl ly_10 (ff_10_20 ly_10) ?_
  refine r_iload dX10_count_40 rfl ?_
  obtain ⟨r1, er1⟩ : ∃ y, y = 10245 + 9 * (x4).toNatClampNeg := ⟨_, rfl⟩
  have hir1 := H.1
  replace H := H.2 r1 er1
  have tLr1 := la_2841 hir1 er1
  refine m_aalF (x := r1) hp dX10_count_42 (lf_10_20 ly_10) rfl rfl (lu_10_20 ly_10) hir1 (fa_2841 hir1 er1) ?_
  refine m_getI hp fw_X10_202 dX10_count_43 rfl tLr1 ?_
  refine r_iconst (v := (3 : Int32)) dX10_count_46 rfl ?_
  refine r_icmp_ne (tgt := 54) dX10_count_47 rfl (fun cH => ?_) (fun cH => ?_)
  · replace H := H.1 cH
    refine r_iconst (v := (0 : Int32)) dX10_count_54 rfl ?_
    refine r_prune [true, true, true, false, true] (ls2 := [some (.ref 2759), some (.int x1), some (.int (xs1 + xs0)), none, some (.int x4)]) rfl ?_
    exact H
  · replace H := H.2 cH
    refine r_iconst (v := (1 : Int32)) dX10_count_50 rfl ?_
    refine r_goto (tgt := 55) dX10_count_51 rfl ?_
    refine r_prune [true, true, true, false, true] (ls2 := [some (.ref 2759), some (.int x1), some (.int (xs1 + xs0)), none, some (.int x4)]) rfl ?_
    exact H
theorem s_X10_count_55 {g : GX} {d : Nat} {av : List Value} {Q : QT} {n : Nat} {h : Hp} {x1 : Int32} {x2 : Int32} {x4 : Int32} {xs0 : Int32} {xs1 : Int32} (hp : g.2.2.2.2 = true)  (H : W_X10_count g d av Q n 7 [some (.ref 2759), some (.int x1), some (.int x2), some (.int (xs1 + xs0)), some (.int (x4 + (1 : Int32)))] [] h) : W_X10_count g d av Q n 55 [some (.ref 2759), some (.int x1), some (.int x2), none, some (.int x4)] [.int xs0, .int xs1] h := by
  refine r_iadd dX10_count_55 ?_
  refine r_istore_n (ls2 := [some (.ref 2759), some (.int x1), some (.int x2), some (.int (xs1 + xs0)), some (.int x4)]) dX10_count_56 rfl (by decide) rfl ?_
  refine r_iinc (v := (x4 + (1 : Int32))) (ls2 := [some (.ref 2759), some (.int x1), some (.int x2), some (.int (xs1 + xs0)), some (.int (x4 + (1 : Int32)))]) dX10_count_57 rfl rfl (by decide) rfl ?_
  refine r_goto (tgt := 7) dX10_count_60 rfl ?_
  exact H
abbrev W_X10_quotient (g : GX) (d : Nat) (av : List Value) (Q : QT) (n : Nat) (pc : Nat) (ls : LV) (stk : List Value) (h : Hp) : Prop := RJ g m_X10_quotient (d + 1) 0 0 av Q pc ls stk n h 0 0
theorem s_X10_quotient_0 {g : GX} {d : Nat} {av : List Value} {Q : QT} {n : Nat} {h : Hp} {x1 : Int32} {x2 : Int32} {x3 : Int32} (hp : g.2.2.2.2 = true)  (H : CallI g m_X10_isSlot d [.int x1] n h (fun v1 h1 => (((v1 = (0 : Int32)) → (Q (some (.int (-1 : Int32))) n h1)) ∧ ((¬ v1 = (0 : Int32)) → (CallI g m_X10_isSlot d [.int x3] n h1 (fun v2 h2 => (((¬ v2 = (0 : Int32)) → (vp_in x1 12 ∧ ∀ r3, r3 = 10245 + 9 * (x1).toNatClampNeg → ((((ri h2 r3 0) = (1 : Int32)) → (W_X10_quotient g d av Q n 45 [some (.ref 2759), none, some (.int x2), some (.int x3), some (.ref r3), none, none, none] [] h2)) ∧ ((¬ (ri h2 r3 0) = (1 : Int32)) → ((((ri h2 r3 0) = (2 : Int32)) → (W_X10_quotient g d av Q n 45 [some (.ref 2759), none, some (.int x2), some (.int x3), some (.ref r3), none, none, none] [] h2)) ∧ ((¬ (ri h2 r3 0) = (2 : Int32)) → (Q (some (.int (-3 : Int32))) n h2))))))) ∧ ((v2 = (0 : Int32)) → (Q (some (.int (-1 : Int32))) n h2))))))))) : W_X10_quotient g d av Q n 0 [some (.ref 2759), some (.int x1), some (.int x2), some (.int x3), none, none, none, none] [] h := by
  refine r_iload_n dX10_quotient_0 rfl rfl ?_
  refine k_SI (As := [.int x1]) (stk := []) cs_X10_551 dX10_quotient_1 rfl (Nat.le_of_ble_eq_true rfl) (H.mono (fun v1 h1 H => ?_)) ⟨Nat.le_refl _, Nat.le_refl _⟩
  refine r_if_eq (tgt := 14) dX10_quotient_4 rfl (fun cH => ?_) (fun cH => ?_)
  · replace H := H.1 cH
    refine r_iconst (v := (-1 : Int32)) dX10_quotient_14 rfl ?_
    exact r_zret dX10_quotient_15 rfl rfl (Nat.le_refl _) (Nat.le_refl _) H
  · replace H := H.2 cH
    refine r_iload_n dX10_quotient_7 rfl rfl ?_
    refine k_SI (As := [.int x3]) (stk := []) cs_X10_551 dX10_quotient_8 rfl (Nat.le_of_ble_eq_true rfl) (H.mono (fun v2 h2 H => ?_)) ⟨Nat.le_refl _, Nat.le_refl _⟩
    refine r_if_ne (tgt := 16) dX10_quotient_11 rfl (fun cH => ?_) (fun cH => ?_)
    · replace H := H.1 cH
      refine r_aload_n dX10_quotient_16 rfl rfl ?_
      refine m_getF (x := 2841) hp fw_X10_450 dX10_quotient_17 rfl ly_10 (ff_10_20 ly_10) ?_
      refine r_iload_n dX10_quotient_20 rfl rfl ?_
      obtain ⟨r3, er3⟩ : ∃ y, y = 10245 + 9 * (x1).toNatClampNeg := ⟨_, rfl⟩
      have hir3 := H.1
      replace H := H.2 r3 er3
      have tLr3 := la_2841 hir3 er3
      refine m_aalF (x := r3) hp dX10_quotient_21 (lf_10_20 ly_10) rfl rfl (lu_10_20 ly_10) hir3 (fa_2841 hir3 er3) ?_
      refine r_astore (ls2 := [some (.ref 2759), some (.int x1), some (.int x2), some (.int x3), some (.ref r3), none, none, none]) dX10_quotient_22 (by decide) rfl ?_
      refine r_aload dX10_quotient_24 rfl ?_
      refine m_getI hp fw_X10_202 dX10_quotient_26 rfl tLr3 ?_
      refine r_iconst (v := (1 : Int32)) dX10_quotient_29 rfl ?_
      refine r_icmp_eq (tgt := 45) dX10_quotient_30 rfl (fun cH => ?_) (fun cH => ?_)
      · replace H := H.1 cH
        refine r_prune [true, false, true, true, true, false, false, false] (ls2 := [some (.ref 2759), none, some (.int x2), some (.int x3), some (.ref r3), none, none, none]) rfl ?_
        exact H
      · replace H := H.2 cH
        refine r_aload dX10_quotient_33 rfl ?_
        refine m_getI hp fw_X10_202 dX10_quotient_35 rfl tLr3 ?_
        refine r_iconst (v := (2 : Int32)) dX10_quotient_38 rfl ?_
        refine r_icmp_eq (tgt := 45) dX10_quotient_39 rfl (fun cH => ?_) (fun cH => ?_)
        · replace H := H.1 cH
          refine r_prune [true, false, true, true, true, false, false, false] (ls2 := [some (.ref 2759), none, some (.int x2), some (.int x3), some (.ref r3), none, none, none]) rfl ?_
          exact H
        · replace H := H.2 cH
          refine r_bipush (v := (-3 : Int32)) dX10_quotient_42 rfl ?_
          exact r_zret dX10_quotient_44 rfl rfl (Nat.le_refl _) (Nat.le_refl _) H
    · replace H := H.2 cH
      refine r_iconst (v := (-1 : Int32)) dX10_quotient_14 rfl ?_
      exact r_zret dX10_quotient_15 rfl rfl (Nat.le_refl _) (Nat.le_refl _) H
theorem s_X10_quotient_45 {g : GX} {d : Nat} {av : List Value} {Q : QT} {n : Nat} {h : Hp} {x2 : Int32} {x3 : Int32} {a4 : Nat} (hp : g.2.2.2.2 = true) (t4 : lay a4 = (0, 11, 15)) (H : ((x2 < (0 : Int32)) → (Q (some (.int (-1 : Int32))) n h)) ∧ ((¬ x2 < (0 : Int32)) → ((((1 : Int32) < x2) → (Q (some (.int (-1 : Int32))) n h)) ∧ ((¬ (1 : Int32) < x2) → (CallI g m_X10_isZero d [.ref a4] n h (fun v1 h1 => (((v1 = (0 : Int32)) → (CallV g m_X10_begin d [.ref 2759] n h1 (fun h2 => (CallR g m_X10_newB d [.ref 2759] n h2 (fun v3 h3 => (lay v3 = (0, 14, 2) ∧ (CallR g m_X10_newB d [.ref 2759] n h3 (fun v4 h4 => (lay v4 = (0, 14, 2) ∧ (((¬ x2 = (0 : Int32)) → (W_X10_quotient g d av Q n 96 [some (.ref 2759), none, some (.int x2), some (.int x3), none, some (.ref v3), some (.ref v4), none] [.int (0 : Int32), .ref a4, .ref v4, .ref v3, .ref 2759] h4)) ∧ ((x2 = (0 : Int32)) → (W_X10_quotient g d av Q n 96 [some (.ref 2759), none, some (.int x2), some (.int x3), none, some (.ref v3), some (.ref v4), none] [.int (1 : Int32), .ref a4, .ref v4, .ref v3, .ref 2759] h4)))))))))))) ∧ ((¬ v1 = (0 : Int32)) → (Q (some (.int (-1 : Int32))) n h1))))))))) : W_X10_quotient g d av Q n 45 [some (.ref 2759), none, some (.int x2), some (.int x3), some (.ref a4), none, none, none] [] h := by
  refine r_iload_n dX10_quotient_45 rfl rfl ?_
  refine r_if_lt (tgt := 62) dX10_quotient_46 rfl (fun cH => ?_) (fun cH => ?_)
  · replace H := H.1 cH
    refine r_iconst (v := (-1 : Int32)) dX10_quotient_62 rfl ?_
    exact r_zret dX10_quotient_63 rfl rfl (Nat.le_refl _) (Nat.le_refl _) H
  · replace H := H.2 cH
    refine r_iload_n dX10_quotient_49 rfl rfl ?_
    refine r_iconst (v := (1 : Int32)) dX10_quotient_50 rfl ?_
    refine r_icmp_gt (tgt := 62) dX10_quotient_51 rfl (fun cH => ?_) (fun cH => ?_)
    · replace H := H.1 cH
      refine r_iconst (v := (-1 : Int32)) dX10_quotient_62 rfl ?_
      exact r_zret dX10_quotient_63 rfl rfl (Nat.le_refl _) (Nat.le_refl _) H
    · replace H := H.2 cH
      refine r_aload dX10_quotient_54 rfl ?_
      refine k_SI (As := [.ref a4]) (stk := []) cs_X10_288 dX10_quotient_56 rfl (Nat.le_of_ble_eq_true rfl) (H.mono (fun v1 h1 H => ?_)) ⟨Nat.le_refl _, Nat.le_refl _⟩
      refine r_if_eq (tgt := 64) dX10_quotient_59 rfl (fun cH => ?_) (fun cH => ?_)
      · replace H := H.1 cH
        refine r_aload_n dX10_quotient_64 rfl rfl ?_
        refine k_VV (As := []) (stk := []) hp cv_X10_555 dX10_quotient_65 rfl (Nat.le_of_ble_eq_true rfl) ly_10 (H.mono (fun h2 H => ?_)) ⟨Nat.le_refl _, Nat.le_refl _⟩
        refine r_aload_n dX10_quotient_68 rfl rfl ?_
        refine k_VR (As := []) (stk := []) hp cv_X10_140 dX10_quotient_69 rfl (Nat.le_of_ble_eq_true rfl) ly_10 (H.mono (fun v3 h3 H => ?_)) ⟨Nat.le_refl _, Nat.le_refl _⟩
        obtain ⟨tv3, H⟩ := H
        refine r_astore (ls2 := [some (.ref 2759), none, some (.int x2), some (.int x3), some (.ref a4), some (.ref v3), none, none]) dX10_quotient_72 (by decide) rfl ?_
        refine r_aload_n dX10_quotient_74 rfl rfl ?_
        refine k_VR (As := []) (stk := []) hp cv_X10_140 dX10_quotient_75 rfl (Nat.le_of_ble_eq_true rfl) ly_10 (H.mono (fun v4 h4 H => ?_)) ⟨Nat.le_refl _, Nat.le_refl _⟩
        obtain ⟨tv4, H⟩ := H
        refine r_astore (ls2 := [some (.ref 2759), none, some (.int x2), some (.int x3), some (.ref a4), some (.ref v3), some (.ref v4), none]) dX10_quotient_78 (by decide) rfl ?_
        refine r_aload_n dX10_quotient_80 rfl rfl ?_
        refine r_aload dX10_quotient_81 rfl ?_
        refine r_aload dX10_quotient_83 rfl ?_
        refine r_aload dX10_quotient_85 rfl ?_
        refine r_iload_n dX10_quotient_87 rfl rfl ?_
        refine r_if_ne (tgt := 95) dX10_quotient_88 rfl (fun cH => ?_) (fun cH => ?_)
        · replace H := H.1 cH
          refine r_iconst (v := (0 : Int32)) dX10_quotient_95 rfl ?_
          refine r_prune [true, false, true, true, false, true, true, false] (ls2 := [some (.ref 2759), none, some (.int x2), some (.int x3), none, some (.ref v3), some (.ref v4), none]) rfl ?_
          exact H
        · replace H := H.2 cH
          refine r_iconst (v := (1 : Int32)) dX10_quotient_91 rfl ?_
          refine r_goto (tgt := 96) dX10_quotient_92 rfl ?_
          refine r_prune [true, false, true, true, false, true, true, false] (ls2 := [some (.ref 2759), none, some (.int x2), some (.int x3), none, some (.ref v3), some (.ref v4), none]) rfl ?_
          exact H
      · replace H := H.2 cH
        refine r_iconst (v := (-1 : Int32)) dX10_quotient_62 rfl ?_
        exact r_zret dX10_quotient_63 rfl rfl (Nat.le_refl _) (Nat.le_refl _) H
theorem s_X10_quotient_96 {g : GX} {d : Nat} {av : List Value} {Q : QT} {n : Nat} {h : Hp} {x2 : Int32} {x3 : Int32} {a5 : Nat} {a6 : Nat} {xs0 : Int32} {as1 : Nat} {as2 : Nat} {as3 : Nat} {as4 : Nat} (hp : g.2.2.2.2 = true) (t5 : lay a5 = (0, 14, 2)) (t6 : lay a6 = (0, 14, 2)) (ts1 : lay as1 = (0, 11, 15)) (ts2 : lay as2 = (0, 14, 2)) (ts3 : lay as3 = (0, 14, 2)) (ts4 : lay as4 = (0, 10, 65)) (H : CallI g m_X10_quotient_2 d [.ref as4, .ref as3, .ref as2, .ref as1, .int xs0, .int x2] n h (fun v1 h1 => (((¬ v1 = (0 : Int32)) → (CallV g m_X10_plain d [.ref 2842] n h1 (fun h2 => (CallI g m_X10_put d [.ref 2842, .ref a5, .ref a6] n h2 (fun v3 h3 => (CallI g m_X10_keep d [.ref 2759, .int x3] n h3 (fun v4 h4 => (Q (some (.int v4)) n h4)))))))) ∧ ((v1 = (0 : Int32)) → (Q (some (.int (-2 : Int32))) n h1))))) : W_X10_quotient g d av Q n 96 [some (.ref 2759), none, some (.int x2), some (.int x3), none, some (.ref a5), some (.ref a6), none] [.int xs0, .ref as1, .ref as2, .ref as3, .ref as4] h := by
  refine r_iload_n dX10_quotient_96 rfl rfl ?_
  refine k_VI (As := [.ref as3, .ref as2, .ref as1, .int xs0, .int x2]) (stk := []) hp cv_X10_633 dX10_quotient_97 rfl (Nat.le_of_ble_eq_true rfl) ts4 (H.mono (fun v1 h1 H => ?_)) ⟨Nat.le_refl _, Nat.le_refl _⟩
  refine r_if_ne (tgt := 106) dX10_quotient_100 rfl (fun cH => ?_) (fun cH => ?_)
  · replace H := H.1 cH
    refine r_aload_n dX10_quotient_106 rfl rfl ?_
    refine m_getF (x := 2842) hp fw_X10_453 dX10_quotient_107 rfl ly_10 (ff_10_21 ly_10) ?_
    refine k_SV (As := [.ref 2842]) (stk := []) cs_X10_257 dX10_quotient_110 rfl (Nat.le_of_ble_eq_true rfl) (H.mono (fun h2 H => ?_)) ⟨Nat.le_refl _, Nat.le_refl _⟩
    refine r_aload_n dX10_quotient_113 rfl rfl ?_
    refine m_getF (x := 2842) hp fw_X10_453 dX10_quotient_114 rfl ly_10 (ff_10_21 ly_10) ?_
    refine r_aload dX10_quotient_117 rfl ?_
    refine r_aload dX10_quotient_119 rfl ?_
    refine k_SI (As := [.ref 2842, .ref a5, .ref a6]) (stk := []) cs_X10_261 dX10_quotient_121 rfl (Nat.le_of_ble_eq_true rfl) (H.mono (fun v3 h3 H => ?_)) ⟨Nat.le_refl _, Nat.le_refl _⟩
    refine r_istore (ls2 := [some (.ref 2759), none, some (.int x2), some (.int x3), none, some (.ref a5), some (.ref a6), some (.int v3)]) dX10_quotient_124 (by decide) rfl ?_
    refine r_aload_n dX10_quotient_126 rfl rfl ?_
    refine r_iload_n dX10_quotient_127 rfl rfl ?_
    refine k_VI (As := [.int x3]) (stk := []) hp cv_X10_558 dX10_quotient_128 rfl (Nat.le_of_ble_eq_true rfl) ly_10 (H.mono (fun v4 h4 H => ?_)) ⟨Nat.le_refl _, Nat.le_refl _⟩
    exact r_zret dX10_quotient_131 rfl rfl (Nat.le_refl _) (Nat.le_refl _) H
  · replace H := H.2 cH
    refine r_bipush (v := (-2 : Int32)) dX10_quotient_103 rfl ?_
    exact r_zret dX10_quotient_105 rfl rfl (Nat.le_refl _) (Nat.le_refl _) H
abbrev W_X10_quotient_2 (g : GX) (d : Nat) (av : List Value) (Q : QT) (n : Nat) (pc : Nat) (ls : LV) (stk : List Value) (h : Hp) : Prop := RJ g m_X10_quotient_2 (d + 1) 0 0 av Q pc ls stk n h 0 0
theorem s_X10_quotient_2_0 {g : GX} {d : Nat} {av : List Value} {Q : QT} {n : Nat} {h : Hp} {a1 : Nat} {a2 : Nat} {a3 : Nat} {x4 : Int32} {x5 : Int32} (hp : g.2.2.2.2 = true) (t1 : lay a1 = (0, 14, 2)) (t2 : lay a2 = (0, 14, 2)) (t3 : lay a3 = (0, 11, 15)) (H : ∀ h1, h1 = wi h 2759 36 (0 : Int32) → (CallI g m_X10_pow d [.int (ri h1 a3 3), .long (x4).toInt64] n h1 (fun v2 h2 => (CallI g m_X10_pow d [.int (ri h2 a3 4), .long (x5).toInt64] n h2 (fun v3 h3 => (CallI g m_X10_mul d [.int v2, .int v3] n h3 (fun v4 h4 => (∀ h5, h5 = wi h4 2759 37 v4 → (W_X10_quotient_2 g d av Q n 41 [some (.ref 2759), some (.ref a1), some (.ref a2), some (.ref a3), some (.int x4), some (.int x5), some (.int (ri h 2759 3)), some (.int (0 : Int32)), none, none, none, none, none] [] h5))))))))) : W_X10_quotient_2 g d av Q n 0 [some (.ref 2759), some (.ref a1), some (.ref a2), some (.ref a3), some (.int x4), some (.int x5), none, none, none, none, none, none, none] [] h := by
  refine r_aload_n dX10_quotient_2_0 rfl rfl ?_
  refine m_getI hp fw_X10_90 dX10_quotient_2_1 rfl ly_10 ?_
  refine r_istore (ls2 := [some (.ref 2759), some (.ref a1), some (.ref a2), some (.ref a3), some (.int x4), some (.int x5), some (.int (ri h 2759 3)), none, none, none, none, none, none]) dX10_quotient_2_4 (by decide) rfl ?_
  refine r_aload_n dX10_quotient_2_6 rfl rfl ?_
  refine r_iconst (v := (0 : Int32)) dX10_quotient_2_7 rfl ?_
  refine m_putI hp fw_X10_616 dX10_quotient_2_8 rfl rfl ly_10 (fun h1 eh1 => ?_)
  replace H := H h1 eh1
  refine r_aload_n dX10_quotient_2_11 rfl rfl ?_
  refine r_aload_n dX10_quotient_2_12 rfl rfl ?_
  refine m_getI hp fw_X10_213 dX10_quotient_2_13 rfl t3 ?_
  refine r_iload dX10_quotient_2_16 rfl ?_
  refine r_i2l dX10_quotient_2_18 ?_
  refine k_SI (As := [.int (ri h1 a3 3), .long (x4).toInt64]) (stk := [.ref 2759]) cs_X10_8 dX10_quotient_2_19 rfl (Nat.le_of_ble_eq_true rfl) (H.mono (fun v2 h2 H => ?_)) ⟨Nat.le_refl _, Nat.le_refl _⟩
  refine r_aload_n dX10_quotient_2_22 rfl rfl ?_
  refine m_getI hp fw_X10_216 dX10_quotient_2_23 rfl t3 ?_
  refine r_iload dX10_quotient_2_26 rfl ?_
  refine r_i2l dX10_quotient_2_28 ?_
  refine k_SI (As := [.int (ri h2 a3 4), .long (x5).toInt64]) (stk := [.int v2, .ref 2759]) cs_X10_8 dX10_quotient_2_29 rfl (Nat.le_of_ble_eq_true rfl) (H.mono (fun v3 h3 H => ?_)) ⟨Nat.le_refl _, Nat.le_refl _⟩
  refine k_SI (As := [.int v2, .int v3]) (stk := [.ref 2759]) cs_X10_56 dX10_quotient_2_32 rfl (Nat.le_of_ble_eq_true rfl) (H.mono (fun v4 h4 H => ?_)) ⟨Nat.le_refl _, Nat.le_refl _⟩
  refine m_putI hp fw_X10_613 dX10_quotient_2_35 rfl rfl ly_10 (fun h5 eh5 => ?_)
  replace H := H h5 eh5
  refine r_iconst (v := (0 : Int32)) dX10_quotient_2_38 rfl ?_
  refine r_istore (ls2 := [some (.ref 2759), some (.ref a1), some (.ref a2), some (.ref a3), some (.int x4), some (.int x5), some (.int (ri h 2759 3)), some (.int (0 : Int32)), none, none, none, none, none]) dX10_quotient_2_39 (by decide) rfl ?_
  exact H
theorem s_X10_quotient_2_41 {g : GX} {d : Nat} {av : List Value} {Q : QT} {n : Nat} {h : Hp} {a1 : Nat} {a2 : Nat} {a3 : Nat} {x4 : Int32} {x5 : Int32} {x6 : Int32} {x7 : Int32} (hp : g.2.2.2.2 = true) (t1 : lay a1 = (0, 14, 2)) (t2 : lay a2 = (0, 14, 2)) (t3 : lay a3 = (0, 11, 15)) (H : (((ri h a3 5) ≤ x7) → (CallR g m_X10_newB d [.ref 2759] n h (fun v1 h1 => (lay v1 = (0, 14, 2) ∧ (CallR g m_X10_newB d [.ref 2759] n h1 (fun v2 h2 => (lay v2 = (0, 14, 2) ∧ (CallR g m_X10_newB d [.ref 2759] n h2 (fun v3 h3 => (lay v3 = (0, 14, 2) ∧ (CallR g m_X10_newB d [.ref 2759] n h3 (fun v4 h4 => (lay v4 = (0, 14, 2) ∧ (CallV g m_X10_load d [.ref v1, .ref (a3 + 1)] n h4 (fun h5 => (CallV g m_X10_load d [.ref v2, .ref (a3 + 2)] n h5 (fun h6 => (CallV g m_X10_shiftN d [.ref v3, .ref v1, .int x4] n h6 (fun h7 => (CallV g m_X10_shiftK d [.ref v3, .ref v3, .int x5] n h7 (fun h8 => (CallV g m_X10_shiftN d [.ref v4, .ref v2, .int x4] n h8 (fun h9 => (CallV g m_X10_shiftK d [.ref v4, .ref v4, .int x5] n h9 (fun h10 => (CallV g m_X10_multiply_2 d [.ref 2759, .ref a1, .ref a2, .ref v3, .ref v4, .ref v2, .ref v1] n h10 (fun h11 => (W_X10_quotient_2 g d av Q n 298 [some (.ref 2759), some (.ref a1), some (.ref a2), none, none, none, some (.int x6), none, none, none, none, some (.int (1 : Int32)), some (.int (0 : Int32))] [] h11)))))))))))))))))))))))))))) ∧ ((¬ (ri h a3 5) ≤ x7) → (vp_in x7 13 ∧ (vp_in x7 13 ∧ (W_X10_quotient_2 g d av Q n 76 [some (.ref 2759), some (.ref a1), some (.ref a2), some (.ref a3), some (.int x4), some (.int x5), some (.int x6), some (.int x7), some (.int (((ri h (a3 + 3) (x7).toNatClampNeg) * x4) + ((ri h (a3 + 4) (x7).toNatClampNeg) * x5))), some (.int (1 : Int32)), none, none, none] [] h))))) : W_X10_quotient_2 g d av Q n 41 [some (.ref 2759), some (.ref a1), some (.ref a2), some (.ref a3), some (.int x4), some (.int x5), some (.int x6), some (.int x7), none, none, none, none, none] [] h := by
  refine r_iload dX10_quotient_2_41 rfl ?_
  refine r_aload_n dX10_quotient_2_43 rfl rfl ?_
  refine m_getI hp fw_X10_219 dX10_quotient_2_44 rfl t3 ?_
  refine r_icmp_ge (tgt := 200) dX10_quotient_2_47 rfl (fun cH => ?_) (fun cH => ?_)
  · replace H := H.1 cH
    refine r_aload_n dX10_quotient_2_200 rfl rfl ?_
    refine k_VR (As := []) (stk := []) hp cv_X10_140 dX10_quotient_2_201 rfl (Nat.le_of_ble_eq_true rfl) ly_10 (H.mono (fun v1 h1 H => ?_)) ⟨Nat.le_refl _, Nat.le_refl _⟩
    obtain ⟨tv1, H⟩ := H
    refine r_astore (ls2 := [some (.ref 2759), some (.ref a1), some (.ref a2), some (.ref a3), some (.int x4), some (.int x5), some (.int x6), some (.ref v1), none, none, none, none, none]) dX10_quotient_2_204 (by decide) rfl ?_
    refine r_aload_n dX10_quotient_2_206 rfl rfl ?_
    refine k_VR (As := []) (stk := []) hp cv_X10_140 dX10_quotient_2_207 rfl (Nat.le_of_ble_eq_true rfl) ly_10 (H.mono (fun v2 h2 H => ?_)) ⟨Nat.le_refl _, Nat.le_refl _⟩
    obtain ⟨tv2, H⟩ := H
    refine r_astore (ls2 := [some (.ref 2759), some (.ref a1), some (.ref a2), some (.ref a3), some (.int x4), some (.int x5), some (.int x6), some (.ref v1), some (.ref v2), none, none, none, none]) dX10_quotient_2_210 (by decide) rfl ?_
    refine r_aload_n dX10_quotient_2_212 rfl rfl ?_
    refine k_VR (As := []) (stk := []) hp cv_X10_140 dX10_quotient_2_213 rfl (Nat.le_of_ble_eq_true rfl) ly_10 (H.mono (fun v3 h3 H => ?_)) ⟨Nat.le_refl _, Nat.le_refl _⟩
    obtain ⟨tv3, H⟩ := H
    refine r_astore (ls2 := [some (.ref 2759), some (.ref a1), some (.ref a2), some (.ref a3), some (.int x4), some (.int x5), some (.int x6), some (.ref v1), some (.ref v2), some (.ref v3), none, none, none]) dX10_quotient_2_216 (by decide) rfl ?_
    refine r_aload_n dX10_quotient_2_218 rfl rfl ?_
    refine k_VR (As := []) (stk := []) hp cv_X10_140 dX10_quotient_2_219 rfl (Nat.le_of_ble_eq_true rfl) ly_10 (H.mono (fun v4 h4 H => ?_)) ⟨Nat.le_refl _, Nat.le_refl _⟩
    obtain ⟨tv4, H⟩ := H
    refine r_astore (ls2 := [some (.ref 2759), some (.ref a1), some (.ref a2), some (.ref a3), some (.int x4), some (.int x5), some (.int x6), some (.ref v1), some (.ref v2), some (.ref v3), some (.ref v4), none, none]) dX10_quotient_2_222 (by decide) rfl ?_
    refine r_aload dX10_quotient_2_224 rfl ?_
    refine r_aload_n dX10_quotient_2_226 rfl rfl ?_
    refine m_getF (x := (a3 + 1)) hp fw_X10_207 dX10_quotient_2_227 rfl t3 (ff_11_1 t3) ?_
    refine k_SV (As := [.ref v1, .ref (a3 + 1)]) (stk := []) cs_X10_295 dX10_quotient_2_230 rfl (Nat.le_of_ble_eq_true rfl) (H.mono (fun h5 H => ?_)) ⟨Nat.le_refl _, Nat.le_refl _⟩
    refine r_aload dX10_quotient_2_233 rfl ?_
    refine r_aload_n dX10_quotient_2_235 rfl rfl ?_
    refine m_getF (x := (a3 + 2)) hp fw_X10_210 dX10_quotient_2_236 rfl t3 (ff_11_2 t3) ?_
    refine k_SV (As := [.ref v2, .ref (a3 + 2)]) (stk := []) cs_X10_295 dX10_quotient_2_239 rfl (Nat.le_of_ble_eq_true rfl) (H.mono (fun h6 H => ?_)) ⟨Nat.le_refl _, Nat.le_refl _⟩
    refine r_aload dX10_quotient_2_242 rfl ?_
    refine r_aload dX10_quotient_2_244 rfl ?_
    refine r_iload dX10_quotient_2_246 rfl ?_
    refine k_SV (As := [.ref v3, .ref v1, .int x4]) (stk := []) cs_X10_623 dX10_quotient_2_248 rfl (Nat.le_of_ble_eq_true rfl) (H.mono (fun h7 H => ?_)) ⟨Nat.le_refl _, Nat.le_refl _⟩
    refine r_aload dX10_quotient_2_251 rfl ?_
    refine r_aload dX10_quotient_2_253 rfl ?_
    refine r_iload dX10_quotient_2_255 rfl ?_
    refine k_SV (As := [.ref v3, .ref v3, .int x5]) (stk := []) cs_X10_626 dX10_quotient_2_257 rfl (Nat.le_of_ble_eq_true rfl) (H.mono (fun h8 H => ?_)) ⟨Nat.le_refl _, Nat.le_refl _⟩
    refine r_aload dX10_quotient_2_260 rfl ?_
    refine r_aload dX10_quotient_2_262 rfl ?_
    refine r_iload dX10_quotient_2_264 rfl ?_
    refine k_SV (As := [.ref v4, .ref v2, .int x4]) (stk := []) cs_X10_623 dX10_quotient_2_266 rfl (Nat.le_of_ble_eq_true rfl) (H.mono (fun h9 H => ?_)) ⟨Nat.le_refl _, Nat.le_refl _⟩
    refine r_aload dX10_quotient_2_269 rfl ?_
    refine r_aload dX10_quotient_2_271 rfl ?_
    refine r_iload dX10_quotient_2_273 rfl ?_
    refine k_SV (As := [.ref v4, .ref v4, .int x5]) (stk := []) cs_X10_626 dX10_quotient_2_275 rfl (Nat.le_of_ble_eq_true rfl) (H.mono (fun h10 H => ?_)) ⟨Nat.le_refl _, Nat.le_refl _⟩
    refine r_aload_n dX10_quotient_2_278 rfl rfl ?_
    refine r_aload_n dX10_quotient_2_279 rfl rfl ?_
    refine r_aload_n dX10_quotient_2_280 rfl rfl ?_
    refine r_aload dX10_quotient_2_281 rfl ?_
    refine r_aload dX10_quotient_2_283 rfl ?_
    refine r_aload dX10_quotient_2_285 rfl ?_
    refine r_aload dX10_quotient_2_287 rfl ?_
    refine k_VV (As := [.ref a1, .ref a2, .ref v3, .ref v4, .ref v2, .ref v1]) (stk := []) hp cv_X10_299 dX10_quotient_2_289 rfl (Nat.le_of_ble_eq_true rfl) ly_10 (H.mono (fun h11 H => ?_)) ⟨Nat.le_refl _, Nat.le_refl _⟩
    refine r_iconst (v := (1 : Int32)) dX10_quotient_2_292 rfl ?_
    refine r_istore (ls2 := [some (.ref 2759), some (.ref a1), some (.ref a2), some (.ref a3), some (.int x4), some (.int x5), some (.int x6), some (.ref v1), some (.ref v2), some (.ref v3), some (.ref v4), some (.int (1 : Int32)), none]) dX10_quotient_2_293 (by decide) rfl ?_
    refine r_iconst (v := (0 : Int32)) dX10_quotient_2_295 rfl ?_
    refine r_istore (ls2 := [some (.ref 2759), some (.ref a1), some (.ref a2), some (.ref a3), some (.int x4), some (.int x5), some (.int x6), some (.ref v1), some (.ref v2), some (.ref v3), some (.ref v4), some (.int (1 : Int32)), some (.int (0 : Int32))]) dX10_quotient_2_296 (by decide) rfl ?_
    refine r_prune [true, true, true, false, false, false, true, false, false, false, false, true, true] (ls2 := [some (.ref 2759), some (.ref a1), some (.ref a2), none, none, none, some (.int x6), none, none, none, none, some (.int (1 : Int32)), some (.int (0 : Int32))]) rfl ?_
    exact H
  · replace H := H.2 cH
    refine r_aload_n dX10_quotient_2_50 rfl rfl ?_
    refine m_getF (x := (a3 + 3)) hp fw_X10_222 dX10_quotient_2_51 rfl t3 (ff_11_6 t3) ?_
    refine r_iload dX10_quotient_2_54 rfl ?_
    refine m_iald hp dX10_quotient_2_56 (lf_11_6 t3) H.1 ?_
    replace H := H.2
    refine r_iload dX10_quotient_2_57 rfl ?_
    refine r_imul dX10_quotient_2_59 ?_
    refine r_aload_n dX10_quotient_2_60 rfl rfl ?_
    refine m_getF (x := (a3 + 4)) hp fw_X10_225 dX10_quotient_2_61 rfl t3 (ff_11_7 t3) ?_
    refine r_iload dX10_quotient_2_64 rfl ?_
    refine m_iald hp dX10_quotient_2_66 (lf_11_7 t3) H.1 ?_
    replace H := H.2
    refine r_iload dX10_quotient_2_67 rfl ?_
    refine r_imul dX10_quotient_2_69 ?_
    refine r_iadd dX10_quotient_2_70 ?_
    refine r_istore (ls2 := [some (.ref 2759), some (.ref a1), some (.ref a2), some (.ref a3), some (.int x4), some (.int x5), some (.int x6), some (.int x7), some (.int (((ri h (a3 + 3) (x7).toNatClampNeg) * x4) + ((ri h (a3 + 4) (x7).toNatClampNeg) * x5))), none, none, none, none]) dX10_quotient_2_71 (by decide) rfl ?_
    refine r_iconst (v := (1 : Int32)) dX10_quotient_2_73 rfl ?_
    refine r_istore (ls2 := [some (.ref 2759), some (.ref a1), some (.ref a2), some (.ref a3), some (.int x4), some (.int x5), some (.int x6), some (.int x7), some (.int (((ri h (a3 + 3) (x7).toNatClampNeg) * x4) + ((ri h (a3 + 4) (x7).toNatClampNeg) * x5))), some (.int (1 : Int32)), none, none, none]) dX10_quotient_2_74 (by decide) rfl ?_
    exact H
theorem s_X10_quotient_2_76 {g : GX} {d : Nat} {av : List Value} {Q : QT} {n : Nat} {h : Hp} {a1 : Nat} {a2 : Nat} {a3 : Nat} {x4 : Int32} {x5 : Int32} {x6 : Int32} {x7 : Int32} {x8 : Int32} {x9 : Int32} (hp : g.2.2.2.2 = true) (t1 : lay a1 = (0, 14, 2)) (t2 : lay a2 = (0, 14, 2)) (t3 : lay a3 = (0, 11, 15)) (H : ((x8 < x9) → (W_X10_quotient_2 g d av Q n 136 [some (.ref 2759), some (.ref a1), some (.ref a2), some (.ref a3), some (.int x4), some (.int x5), some (.int x6), some (.int x7), some (.int x8), some (.int (0 : Int32)), none, none, none] [] h)) ∧ ((¬ x8 < x9) → (vp_in x7 13 ∧ (CallI g m_X10_rest d [.int (ri h (a3 + 3) (x7).toNatClampNeg)] n h (fun v1 h1 => (vp_in x7 13 ∧ (CallI g m_X10_rest d [.int (ri h1 (a3 + 4) (x7).toNatClampNeg)] n h1 (fun v2 h2 => (vp_in x7 13 ∧ (CallI g m_X10_rest d [.int ((ri h2 (a3 + 5) (x7).toNatClampNeg) + x9)] n h2 (fun v3 h3 => (vp_in x7 13 ∧ (CallV g m_X10_lineFactor d [.ref 2759, .int v1, .int v2, .int v3, .int (ri h3 (a3 + 6) (x7).toNatClampNeg)] n h3 (fun h4 => (W_X10_quotient_2 g d av Q n 76 [some (.ref 2759), some (.ref a1), some (.ref a2), some (.ref a3), some (.int x4), some (.int x5), some (.int x6), some (.int x7), some (.int x8), some (.int (x9 + (1 : Int32))), none, none, none] [] h4))))))))))))))) : W_X10_quotient_2 g d av Q n 76 [some (.ref 2759), some (.ref a1), some (.ref a2), some (.ref a3), some (.int x4), some (.int x5), some (.int x6), some (.int x7), some (.int x8), some (.int x9), none, none, none] [] h := by
  refine r_iload dX10_quotient_2_76 rfl ?_
  refine r_iload dX10_quotient_2_78 rfl ?_
  refine r_icmp_gt (tgt := 133) dX10_quotient_2_80 rfl (fun cH => ?_) (fun cH => ?_)
  · replace H := H.1 cH
    refine r_iconst (v := (0 : Int32)) dX10_quotient_2_133 rfl ?_
    refine r_istore (ls2 := [some (.ref 2759), some (.ref a1), some (.ref a2), some (.ref a3), some (.int x4), some (.int x5), some (.int x6), some (.int x7), some (.int x8), some (.int (0 : Int32)), none, none, none]) dX10_quotient_2_134 (by decide) rfl ?_
    exact H
  · replace H := H.2 cH
    refine r_aload_n dX10_quotient_2_83 rfl rfl ?_
    refine r_aload_n dX10_quotient_2_84 rfl rfl ?_
    refine m_getF (x := (a3 + 3)) hp fw_X10_222 dX10_quotient_2_85 rfl t3 (ff_11_6 t3) ?_
    refine r_iload dX10_quotient_2_88 rfl ?_
    refine m_iald hp dX10_quotient_2_90 (lf_11_6 t3) H.1 ?_
    replace H := H.2
    refine k_SI (As := [.int (ri h (a3 + 3) (x7).toNatClampNeg)]) (stk := [.ref 2759]) cs_X10_600 dX10_quotient_2_91 rfl (Nat.le_of_ble_eq_true rfl) (H.mono (fun v1 h1 H => ?_)) ⟨Nat.le_refl _, Nat.le_refl _⟩
    refine r_aload_n dX10_quotient_2_94 rfl rfl ?_
    refine m_getF (x := (a3 + 4)) hp fw_X10_225 dX10_quotient_2_95 rfl t3 (ff_11_7 t3) ?_
    refine r_iload dX10_quotient_2_98 rfl ?_
    refine m_iald hp dX10_quotient_2_100 (lf_11_7 t3) H.1 ?_
    replace H := H.2
    refine k_SI (As := [.int (ri h1 (a3 + 4) (x7).toNatClampNeg)]) (stk := [.int v1, .ref 2759]) cs_X10_600 dX10_quotient_2_101 rfl (Nat.le_of_ble_eq_true rfl) (H.mono (fun v2 h2 H => ?_)) ⟨Nat.le_refl _, Nat.le_refl _⟩
    refine r_aload_n dX10_quotient_2_104 rfl rfl ?_
    refine m_getF (x := (a3 + 5)) hp fw_X10_228 dX10_quotient_2_105 rfl t3 (ff_11_8 t3) ?_
    refine r_iload dX10_quotient_2_108 rfl ?_
    refine m_iald hp dX10_quotient_2_110 (lf_11_8 t3) H.1 ?_
    replace H := H.2
    refine r_iload dX10_quotient_2_111 rfl ?_
    refine r_iadd dX10_quotient_2_113 ?_
    refine k_SI (As := [.int ((ri h2 (a3 + 5) (x7).toNatClampNeg) + x9)]) (stk := [.int v2, .int v1, .ref 2759]) cs_X10_600 dX10_quotient_2_114 rfl (Nat.le_of_ble_eq_true rfl) (H.mono (fun v3 h3 H => ?_)) ⟨Nat.le_refl _, Nat.le_refl _⟩
    refine r_aload_n dX10_quotient_2_117 rfl rfl ?_
    refine m_getF (x := (a3 + 6)) hp fw_X10_231 dX10_quotient_2_118 rfl t3 (ff_11_9 t3) ?_
    refine r_iload dX10_quotient_2_121 rfl ?_
    refine m_iald hp dX10_quotient_2_123 (lf_11_9 t3) H.1 ?_
    replace H := H.2
    refine k_VV (As := [.int v1, .int v2, .int v3, .int (ri h3 (a3 + 6) (x7).toNatClampNeg)]) (stk := []) hp cv_X10_619 dX10_quotient_2_124 rfl (Nat.le_of_ble_eq_true rfl) ly_10 (H.mono (fun h4 H => ?_)) ⟨Nat.le_refl _, Nat.le_refl _⟩
    refine r_iinc (v := (x9 + (1 : Int32))) (ls2 := [some (.ref 2759), some (.ref a1), some (.ref a2), some (.ref a3), some (.int x4), some (.int x5), some (.int x6), some (.int x7), some (.int x8), some (.int (x9 + (1 : Int32))), none, none, none]) dX10_quotient_2_127 rfl rfl (by decide) rfl ?_
    refine r_goto (tgt := 76) dX10_quotient_2_130 rfl ?_
    exact H
theorem s_X10_quotient_2_136 {g : GX} {d : Nat} {av : List Value} {Q : QT} {n : Nat} {h : Hp} {a1 : Nat} {a2 : Nat} {a3 : Nat} {x4 : Int32} {x5 : Int32} {x6 : Int32} {x7 : Int32} {x8 : Int32} {x9 : Int32} (hp : g.2.2.2.2 = true) (t1 : lay a1 = (0, 14, 2)) (t2 : lay a2 = (0, 14, 2)) (t3 : lay a3 = (0, 11, 15)) (H : ((x9 ≤ x8) → (W_X10_quotient_2 g d av Q n 41 [some (.ref 2759), some (.ref a1), some (.ref a2), some (.ref a3), some (.int x4), some (.int x5), some (.int x6), some (.int (x7 + (1 : Int32))), none, none, none, none, none] [] h)) ∧ ((¬ x9 ≤ x8) → (vp_in x7 13 ∧ (CallI g m_X10_rest d [.int (ri h (a3 + 3) (x7).toNatClampNeg)] n h (fun v1 h1 => (vp_in x7 13 ∧ (CallI g m_X10_rest d [.int (ri h1 (a3 + 4) (x7).toNatClampNeg)] n h1 (fun v2 h2 => (vp_in x7 13 ∧ (CallI g m_X10_rest d [.int ((ri h2 (a3 + 5) (x7).toNatClampNeg) + x9)] n h2 (fun v3 h3 => (vp_in x7 13 ∧ (CallV g m_X10_lineFactor d [.ref 2759, .int v1, .int v2, .int v3, .int (-(ri h3 (a3 + 6) (x7).toNatClampNeg))] n h3 (fun h4 => (W_X10_quotient_2 g d av Q n 136 [some (.ref 2759), some (.ref a1), some (.ref a2), some (.ref a3), some (.int x4), some (.int x5), some (.int x6), some (.int x7), some (.int x8), some (.int (x9 + (-1 : Int32))), none, none, none] [] h4))))))))))))))) : W_X10_quotient_2 g d av Q n 136 [some (.ref 2759), some (.ref a1), some (.ref a2), some (.ref a3), some (.int x4), some (.int x5), some (.int x6), some (.int x7), some (.int x8), some (.int x9), none, none, none] [] h := by
  refine r_iload dX10_quotient_2_136 rfl ?_
  refine r_iload dX10_quotient_2_138 rfl ?_
  refine r_icmp_le (tgt := 194) dX10_quotient_2_140 rfl (fun cH => ?_) (fun cH => ?_)
  · replace H := H.1 cH
    refine r_iinc (v := (x7 + (1 : Int32))) (ls2 := [some (.ref 2759), some (.ref a1), some (.ref a2), some (.ref a3), some (.int x4), some (.int x5), some (.int x6), some (.int (x7 + (1 : Int32))), some (.int x8), some (.int x9), none, none, none]) dX10_quotient_2_194 rfl rfl (by decide) rfl ?_
    refine r_goto (tgt := 41) dX10_quotient_2_197 rfl ?_
    refine r_prune [true, true, true, true, true, true, true, true, false, false, false, false, false] (ls2 := [some (.ref 2759), some (.ref a1), some (.ref a2), some (.ref a3), some (.int x4), some (.int x5), some (.int x6), some (.int (x7 + (1 : Int32))), none, none, none, none, none]) rfl ?_
    exact H
  · replace H := H.2 cH
    refine r_aload_n dX10_quotient_2_143 rfl rfl ?_
    refine r_aload_n dX10_quotient_2_144 rfl rfl ?_
    refine m_getF (x := (a3 + 3)) hp fw_X10_222 dX10_quotient_2_145 rfl t3 (ff_11_6 t3) ?_
    refine r_iload dX10_quotient_2_148 rfl ?_
    refine m_iald hp dX10_quotient_2_150 (lf_11_6 t3) H.1 ?_
    replace H := H.2
    refine k_SI (As := [.int (ri h (a3 + 3) (x7).toNatClampNeg)]) (stk := [.ref 2759]) cs_X10_600 dX10_quotient_2_151 rfl (Nat.le_of_ble_eq_true rfl) (H.mono (fun v1 h1 H => ?_)) ⟨Nat.le_refl _, Nat.le_refl _⟩
    refine r_aload_n dX10_quotient_2_154 rfl rfl ?_
    refine m_getF (x := (a3 + 4)) hp fw_X10_225 dX10_quotient_2_155 rfl t3 (ff_11_7 t3) ?_
    refine r_iload dX10_quotient_2_158 rfl ?_
    refine m_iald hp dX10_quotient_2_160 (lf_11_7 t3) H.1 ?_
    replace H := H.2
    refine k_SI (As := [.int (ri h1 (a3 + 4) (x7).toNatClampNeg)]) (stk := [.int v1, .ref 2759]) cs_X10_600 dX10_quotient_2_161 rfl (Nat.le_of_ble_eq_true rfl) (H.mono (fun v2 h2 H => ?_)) ⟨Nat.le_refl _, Nat.le_refl _⟩
    refine r_aload_n dX10_quotient_2_164 rfl rfl ?_
    refine m_getF (x := (a3 + 5)) hp fw_X10_228 dX10_quotient_2_165 rfl t3 (ff_11_8 t3) ?_
    refine r_iload dX10_quotient_2_168 rfl ?_
    refine m_iald hp dX10_quotient_2_170 (lf_11_8 t3) H.1 ?_
    replace H := H.2
    refine r_iload dX10_quotient_2_171 rfl ?_
    refine r_iadd dX10_quotient_2_173 ?_
    refine k_SI (As := [.int ((ri h2 (a3 + 5) (x7).toNatClampNeg) + x9)]) (stk := [.int v2, .int v1, .ref 2759]) cs_X10_600 dX10_quotient_2_174 rfl (Nat.le_of_ble_eq_true rfl) (H.mono (fun v3 h3 H => ?_)) ⟨Nat.le_refl _, Nat.le_refl _⟩
    refine r_aload_n dX10_quotient_2_177 rfl rfl ?_
    refine m_getF (x := (a3 + 6)) hp fw_X10_231 dX10_quotient_2_178 rfl t3 (ff_11_9 t3) ?_
    refine r_iload dX10_quotient_2_181 rfl ?_
    refine m_iald hp dX10_quotient_2_183 (lf_11_9 t3) H.1 ?_
    replace H := H.2
    refine r_ineg dX10_quotient_2_184 ?_
    refine k_VV (As := [.int v1, .int v2, .int v3, .int (-(ri h3 (a3 + 6) (x7).toNatClampNeg))]) (stk := []) hp cv_X10_619 dX10_quotient_2_185 rfl (Nat.le_of_ble_eq_true rfl) ly_10 (H.mono (fun h4 H => ?_)) ⟨Nat.le_refl _, Nat.le_refl _⟩
    refine r_iinc (v := (x9 + (-1 : Int32))) (ls2 := [some (.ref 2759), some (.ref a1), some (.ref a2), some (.ref a3), some (.int x4), some (.int x5), some (.int x6), some (.int x7), some (.int x8), some (.int (x9 + (-1 : Int32))), none, none, none]) dX10_quotient_2_188 rfl rfl (by decide) rfl ?_
    refine r_goto (tgt := 136) dX10_quotient_2_191 rfl ?_
    exact H
theorem s_X10_quotient_2_298 {g : GX} {d : Nat} {av : List Value} {Q : QT} {n : Nat} {h : Hp} {a1 : Nat} {a2 : Nat} {x6 : Int32} {x11 : Int32} {x12 : Int32} (hp : g.2.2.2.2 = true) (t1 : lay a1 = (0, 14, 2)) (t2 : lay a2 = (0, 14, 2)) (H : (((ri h 2759 36) ≤ x12) → (W_X10_quotient_2 g d av Q n 328 [some (.ref 2759), some (.ref a1), some (.ref a2), none, none, none, some (.int x6), none, none, none, none, some (.int x11), none] [] h)) ∧ ((¬ (ri h 2759 36) ≤ x12) → (((x11 = (0 : Int32)) → (W_X10_quotient_2 g d av Q n 328 [some (.ref 2759), some (.ref a1), some (.ref a2), none, none, none, some (.int x6), none, none, none, none, some (.int x11), none] [] h)) ∧ ((¬ x11 = (0 : Int32)) → (CallI g m_X10_lineInto d [.ref 2759, .ref a1, .ref a2, .int x12] n h (fun v1 h1 => (W_X10_quotient_2 g d av Q n 298 [some (.ref 2759), some (.ref a1), some (.ref a2), none, none, none, some (.int x6), none, none, none, none, some (.int v1), some (.int (x12 + (1 : Int32)))] [] h1))))))) : W_X10_quotient_2 g d av Q n 298 [some (.ref 2759), some (.ref a1), some (.ref a2), none, none, none, some (.int x6), none, none, none, none, some (.int x11), some (.int x12)] [] h := by
  refine r_iload dX10_quotient_2_298 rfl ?_
  refine r_aload_n dX10_quotient_2_300 rfl rfl ?_
  refine m_getI hp fw_X10_616 dX10_quotient_2_301 rfl ly_10 ?_
  refine r_icmp_ge (tgt := 328) dX10_quotient_2_304 rfl (fun cH => ?_) (fun cH => ?_)
  · replace H := H.1 cH
    refine r_prune [true, true, true, false, false, false, true, false, false, false, false, true, false] (ls2 := [some (.ref 2759), some (.ref a1), some (.ref a2), none, none, none, some (.int x6), none, none, none, none, some (.int x11), none]) rfl ?_
    exact H
  · replace H := H.2 cH
    refine r_iload dX10_quotient_2_307 rfl ?_
    refine r_if_eq (tgt := 328) dX10_quotient_2_309 rfl (fun cH => ?_) (fun cH => ?_)
    · replace H := H.1 cH
      refine r_prune [true, true, true, false, false, false, true, false, false, false, false, true, false] (ls2 := [some (.ref 2759), some (.ref a1), some (.ref a2), none, none, none, some (.int x6), none, none, none, none, some (.int x11), none]) rfl ?_
      exact H
    · replace H := H.2 cH
      refine r_aload_n dX10_quotient_2_312 rfl rfl ?_
      refine r_aload_n dX10_quotient_2_313 rfl rfl ?_
      refine r_aload_n dX10_quotient_2_314 rfl rfl ?_
      refine r_iload dX10_quotient_2_315 rfl ?_
      refine k_VI (As := [.ref a1, .ref a2, .int x12]) (stk := []) hp cv_X10_629 dX10_quotient_2_317 rfl (Nat.le_of_ble_eq_true rfl) ly_10 (H.mono (fun v1 h1 H => ?_)) ⟨Nat.le_refl _, Nat.le_refl _⟩
      refine r_istore (ls2 := [some (.ref 2759), some (.ref a1), some (.ref a2), none, none, none, some (.int x6), none, none, none, none, some (.int v1), some (.int x12)]) dX10_quotient_2_320 (by decide) rfl ?_
      refine r_iinc (v := (x12 + (1 : Int32))) (ls2 := [some (.ref 2759), some (.ref a1), some (.ref a2), none, none, none, some (.int x6), none, none, none, none, some (.int v1), some (.int (x12 + (1 : Int32)))]) dX10_quotient_2_322 rfl rfl (by decide) rfl ?_
      refine r_goto (tgt := 298) dX10_quotient_2_325 rfl ?_
      exact H
theorem s_X10_quotient_2_328 {g : GX} {d : Nat} {av : List Value} {Q : QT} {n : Nat} {h : Hp} {a1 : Nat} {a2 : Nat} {x6 : Int32} {x11 : Int32} (hp : g.2.2.2.2 = true) (t1 : lay a1 = (0, 14, 2)) (t2 : lay a2 = (0, 14, 2)) (H : ((x11 = (0 : Int32)) → (W_X10_quotient_2 g d av Q n 368 [some (.ref 2759), none, none, none, none, none, some (.int x6), none, none, none, none, some (.int x11), none] [] h)) ∧ ((¬ x11 = (0 : Int32)) → (CallV g m_X10_scale d [.ref a1, .ref a1, .int (ri h 2759 37)] n h (fun h1 => (CallV g m_X10_settle d [.ref a1, .ref a2] n h1 (fun h2 => (CallI g m_X10_fits d [.ref a1] n h2 (fun v3 h3 => (((v3 = (0 : Int32)) → (W_X10_quotient_2 g d av Q n 365 [some (.ref 2759), none, none, none, none, none, some (.int x6), none, none, none, none, none, none] [] h3)) ∧ ((¬ v3 = (0 : Int32)) → (CallI g m_X10_fits d [.ref a2] n h3 (fun v4 h4 => (((v4 = (0 : Int32)) → (W_X10_quotient_2 g d av Q n 365 [some (.ref 2759), none, none, none, none, none, some (.int x6), none, none, none, none, none, none] [] h4)) ∧ ((¬ v4 = (0 : Int32)) → (W_X10_quotient_2 g d av Q n 366 [some (.ref 2759), none, none, none, none, none, some (.int x6), none, none, none, none, none, none] [.int (1 : Int32)] h4))))))))))))))) : W_X10_quotient_2 g d av Q n 328 [some (.ref 2759), some (.ref a1), some (.ref a2), none, none, none, some (.int x6), none, none, none, none, some (.int x11), none] [] h := by
  refine r_iload dX10_quotient_2_328 rfl ?_
  refine r_if_eq (tgt := 368) dX10_quotient_2_330 rfl (fun cH => ?_) (fun cH => ?_)
  · replace H := H.1 cH
    refine r_prune [true, false, false, false, false, false, true, false, false, false, false, true, false] (ls2 := [some (.ref 2759), none, none, none, none, none, some (.int x6), none, none, none, none, some (.int x11), none]) rfl ?_
    exact H
  · replace H := H.2 cH
    refine r_aload_n dX10_quotient_2_333 rfl rfl ?_
    refine r_aload_n dX10_quotient_2_334 rfl rfl ?_
    refine r_aload_n dX10_quotient_2_335 rfl rfl ?_
    refine m_getI hp fw_X10_613 dX10_quotient_2_336 rfl ly_10 ?_
    refine k_SV (As := [.ref a1, .ref a1, .int (ri h 2759 37)]) (stk := []) cs_X10_182 dX10_quotient_2_339 rfl (Nat.le_of_ble_eq_true rfl) (H.mono (fun h1 H => ?_)) ⟨Nat.le_refl _, Nat.le_refl _⟩
    refine r_aload_n dX10_quotient_2_342 rfl rfl ?_
    refine r_aload_n dX10_quotient_2_343 rfl rfl ?_
    refine k_SV (As := [.ref a1, .ref a2]) (stk := []) cs_X10_191 dX10_quotient_2_344 rfl (Nat.le_of_ble_eq_true rfl) (H.mono (fun h2 H => ?_)) ⟨Nat.le_refl _, Nat.le_refl _⟩
    refine r_aload_n dX10_quotient_2_347 rfl rfl ?_
    refine k_SI (As := [.ref a1]) (stk := []) cs_X10_249 dX10_quotient_2_348 rfl (Nat.le_of_ble_eq_true rfl) (H.mono (fun v3 h3 H => ?_)) ⟨Nat.le_refl _, Nat.le_refl _⟩
    refine r_if_eq (tgt := 365) dX10_quotient_2_351 rfl (fun cH => ?_) (fun cH => ?_)
    · replace H := H.1 cH
      refine r_prune [true, false, false, false, false, false, true, false, false, false, false, false, false] (ls2 := [some (.ref 2759), none, none, none, none, none, some (.int x6), none, none, none, none, none, none]) rfl ?_
      exact H
    · replace H := H.2 cH
      refine r_aload_n dX10_quotient_2_354 rfl rfl ?_
      refine k_SI (As := [.ref a2]) (stk := []) cs_X10_249 dX10_quotient_2_355 rfl (Nat.le_of_ble_eq_true rfl) (H.mono (fun v4 h4 H => ?_)) ⟨Nat.le_refl _, Nat.le_refl _⟩
      refine r_if_eq (tgt := 365) dX10_quotient_2_358 rfl (fun cH => ?_) (fun cH => ?_)
      · replace H := H.1 cH
        refine r_prune [true, false, false, false, false, false, true, false, false, false, false, false, false] (ls2 := [some (.ref 2759), none, none, none, none, none, some (.int x6), none, none, none, none, none, none]) rfl ?_
        exact H
      · replace H := H.2 cH
        refine r_iconst (v := (1 : Int32)) dX10_quotient_2_361 rfl ?_
        refine r_goto (tgt := 366) dX10_quotient_2_362 rfl ?_
        refine r_prune [true, false, false, false, false, false, true, false, false, false, false, false, false] (ls2 := [some (.ref 2759), none, none, none, none, none, some (.int x6), none, none, none, none, none, none]) rfl ?_
        exact H
theorem s_X10_quotient_2_365 {g : GX} {d : Nat} {av : List Value} {Q : QT} {n : Nat} {h : Hp} {x6 : Int32} (hp : g.2.2.2.2 = true)  (H : W_X10_quotient_2 g d av Q n 366 [some (.ref 2759), none, none, none, none, none, some (.int x6), none, none, none, none, none, none] [.int (0 : Int32)] h) : W_X10_quotient_2 g d av Q n 365 [some (.ref 2759), none, none, none, none, none, some (.int x6), none, none, none, none, none, none] [] h := by
  refine r_iconst (v := (0 : Int32)) dX10_quotient_2_365 rfl ?_
  exact H
theorem s_X10_quotient_2_366 {g : GX} {d : Nat} {av : List Value} {Q : QT} {n : Nat} {h : Hp} {x6 : Int32} {xs0 : Int32} (hp : g.2.2.2.2 = true)  (H : W_X10_quotient_2 g d av Q n 368 [some (.ref 2759), none, none, none, none, none, some (.int x6), none, none, none, none, some (.int xs0), none] [] h) : W_X10_quotient_2 g d av Q n 366 [some (.ref 2759), none, none, none, none, none, some (.int x6), none, none, none, none, none, none] [.int xs0] h := by
  refine r_istore (ls2 := [some (.ref 2759), none, none, none, none, none, some (.int x6), none, none, none, none, some (.int xs0), none]) dX10_quotient_2_366 (by decide) rfl ?_
  exact H
theorem s_X10_quotient_2_368 {g : GX} {d : Nat} {av : List Value} {Q : QT} {n : Nat} {h : Hp} {x6 : Int32} {x11 : Int32} (hp : g.2.2.2.2 = true)  (H : ∀ h1, h1 = wi h 2759 3 x6 → ((x11 = 0 ∨ x11 = 1) ∧ Q (some (.int x11)) n h1)) : W_X10_quotient_2 g d av Q n 368 [some (.ref 2759), none, none, none, none, none, some (.int x6), none, none, none, none, some (.int x11), none] [] h := by
  refine r_aload_n dX10_quotient_2_368 rfl rfl ?_
  refine r_iload dX10_quotient_2_369 rfl ?_
  refine m_putI hp fw_X10_90 dX10_quotient_2_371 rfl rfl ly_10 (fun h1 eh1 => ?_)
  replace H := H h1 eh1
  refine r_iload dX10_quotient_2_374 rfl ?_
  exact r_zret dX10_quotient_2_376 rfl (nar01 H.1) (Nat.le_refl _) (Nat.le_refl _) H.2
abbrev W_X10_lineFactor (g : GX) (d : Nat) (av : List Value) (Q : QT) (n : Nat) (pc : Nat) (ls : LV) (stk : List Value) (h : Hp) : Prop := RJ g m_X10_lineFactor (d + 1) 0 0 av Q pc ls stk n h 0 0
theorem s_X10_lineFactor_0 {g : GX} {d : Nat} {av : List Value} {Q : QT} {n : Nat} {h : Hp} {x1 : Int32} {x2 : Int32} {x3 : Int32} {x4 : Int32} (hp : g.2.2.2.2 = true)  (H : ((x2 = (0 : Int32)) → (W_X10_lineFactor g d av Q n 9 [some (.ref 2759), some (.int x1), some (.int x2), some (.int x3), some (.int x4), none, none, none, none, none, none] [.int x1] h)) ∧ ((¬ x2 = (0 : Int32)) → (W_X10_lineFactor g d av Q n 9 [some (.ref 2759), some (.int x1), some (.int x2), some (.int x3), some (.int x4), none, none, none, none, none, none] [.int x2] h))) : W_X10_lineFactor g d av Q n 0 [some (.ref 2759), some (.int x1), some (.int x2), some (.int x3), some (.int x4), none, none, none, none, none, none] [] h := by
  refine r_iload_n dX10_lineFactor_0 rfl rfl ?_
  refine r_if_eq (tgt := 8) dX10_lineFactor_1 rfl (fun cH => ?_) (fun cH => ?_)
  · replace H := H.1 cH
    refine r_iload_n dX10_lineFactor_8 rfl rfl ?_
    exact H
  · replace H := H.2 cH
    refine r_iload_n dX10_lineFactor_4 rfl rfl ?_
    refine r_goto (tgt := 9) dX10_lineFactor_5 rfl ?_
    exact H
theorem s_X10_lineFactor_9 {g : GX} {d : Nat} {av : List Value} {Q : QT} {n : Nat} {h : Hp} {x1 : Int32} {x2 : Int32} {x3 : Int32} {x4 : Int32} {xs0 : Int32} (hp : g.2.2.2.2 = true)  (H : ((¬ xs0 = (0 : Int32)) → (CallI g m_X10_inv d [.int xs0] n h (fun v1 h1 => (CallI g m_X10_power d [.int xs0, .int x4] n h1 (fun v2 h2 => (CallI g m_X10_mul d [.int (ri h1 2759 37), .int v2] n h2 (fun v3 h3 => (∀ h4, h4 = wi h3 2759 37 v3 → (CallI g m_X10_mul d [.int x1, .int v1] n h4 (fun v5 h5 => (CallI g m_X10_mul d [.int x2, .int v1] n h5 (fun v6 h6 => (CallI g m_X10_mul d [.int x3, .int v1] n h6 (fun v7 h7 => (W_X10_lineFactor g d av Q n 86 [some (.ref 2759), none, none, none, some (.int x4), none, none, some (.int v5), some (.int v6), some (.int v7), some (.int (0 : Int32))] [] h7))))))))))))))) ∧ ((xs0 = (0 : Int32)) → (CallI g m_X10_power d [.int x3, .int x4] n h (fun v8 h8 => (CallI g m_X10_mul d [.int (ri h 2759 37), .int v8] n h8 (fun v9 h9 => (∀ h10, h10 = wi h9 2759 37 v9 → (Q none n h10)))))))) : W_X10_lineFactor g d av Q n 9 [some (.ref 2759), some (.int x1), some (.int x2), some (.int x3), some (.int x4), none, none, none, none, none, none] [.int xs0] h := by
  refine r_istore (ls2 := [some (.ref 2759), some (.int x1), some (.int x2), some (.int x3), some (.int x4), some (.int xs0), none, none, none, none, none]) dX10_lineFactor_9 (by decide) rfl ?_
  refine r_iload dX10_lineFactor_11 rfl ?_
  refine r_if_ne (tgt := 34) dX10_lineFactor_13 rfl (fun cH => ?_) (fun cH => ?_)
  · replace H := H.1 cH
    refine r_iload dX10_lineFactor_34 rfl ?_
    refine k_SI (As := [.int xs0]) (stk := []) cs_X10_13 dX10_lineFactor_36 rfl (Nat.le_of_ble_eq_true rfl) (H.mono (fun v1 h1 H => ?_)) ⟨Nat.le_refl _, Nat.le_refl _⟩
    refine r_istore (ls2 := [some (.ref 2759), some (.int x1), some (.int x2), some (.int x3), some (.int x4), some (.int xs0), some (.int v1), none, none, none, none]) dX10_lineFactor_39 (by decide) rfl ?_
    refine r_aload_n dX10_lineFactor_41 rfl rfl ?_
    refine r_aload_n dX10_lineFactor_42 rfl rfl ?_
    refine m_getI hp fw_X10_613 dX10_lineFactor_43 rfl ly_10 ?_
    refine r_iload dX10_lineFactor_46 rfl ?_
    refine r_iload dX10_lineFactor_48 rfl ?_
    refine k_SI (As := [.int xs0, .int x4]) (stk := [.int (ri h1 2759 37), .ref 2759]) cs_X10_317 dX10_lineFactor_50 rfl (Nat.le_of_ble_eq_true rfl) (H.mono (fun v2 h2 H => ?_)) ⟨Nat.le_refl _, Nat.le_refl _⟩
    refine k_SI (As := [.int (ri h1 2759 37), .int v2]) (stk := [.ref 2759]) cs_X10_56 dX10_lineFactor_53 rfl (Nat.le_of_ble_eq_true rfl) (H.mono (fun v3 h3 H => ?_)) ⟨Nat.le_refl _, Nat.le_refl _⟩
    refine m_putI hp fw_X10_613 dX10_lineFactor_56 rfl rfl ly_10 (fun h4 eh4 => ?_)
    replace H := H h4 eh4
    refine r_iload_n dX10_lineFactor_59 rfl rfl ?_
    refine r_iload dX10_lineFactor_60 rfl ?_
    refine k_SI (As := [.int x1, .int v1]) (stk := []) cs_X10_56 dX10_lineFactor_62 rfl (Nat.le_of_ble_eq_true rfl) (H.mono (fun v5 h5 H => ?_)) ⟨Nat.le_refl _, Nat.le_refl _⟩
    refine r_istore (ls2 := [some (.ref 2759), some (.int x1), some (.int x2), some (.int x3), some (.int x4), some (.int xs0), some (.int v1), some (.int v5), none, none, none]) dX10_lineFactor_65 (by decide) rfl ?_
    refine r_iload_n dX10_lineFactor_67 rfl rfl ?_
    refine r_iload dX10_lineFactor_68 rfl ?_
    refine k_SI (As := [.int x2, .int v1]) (stk := []) cs_X10_56 dX10_lineFactor_70 rfl (Nat.le_of_ble_eq_true rfl) (H.mono (fun v6 h6 H => ?_)) ⟨Nat.le_refl _, Nat.le_refl _⟩
    refine r_istore (ls2 := [some (.ref 2759), some (.int x1), some (.int x2), some (.int x3), some (.int x4), some (.int xs0), some (.int v1), some (.int v5), some (.int v6), none, none]) dX10_lineFactor_73 (by decide) rfl ?_
    refine r_iload_n dX10_lineFactor_75 rfl rfl ?_
    refine r_iload dX10_lineFactor_76 rfl ?_
    refine k_SI (As := [.int x3, .int v1]) (stk := []) cs_X10_56 dX10_lineFactor_78 rfl (Nat.le_of_ble_eq_true rfl) (H.mono (fun v7 h7 H => ?_)) ⟨Nat.le_refl _, Nat.le_refl _⟩
    refine r_istore (ls2 := [some (.ref 2759), some (.int x1), some (.int x2), some (.int x3), some (.int x4), some (.int xs0), some (.int v1), some (.int v5), some (.int v6), some (.int v7), none]) dX10_lineFactor_81 (by decide) rfl ?_
    refine r_iconst (v := (0 : Int32)) dX10_lineFactor_83 rfl ?_
    refine r_istore (ls2 := [some (.ref 2759), some (.int x1), some (.int x2), some (.int x3), some (.int x4), some (.int xs0), some (.int v1), some (.int v5), some (.int v6), some (.int v7), some (.int (0 : Int32))]) dX10_lineFactor_84 (by decide) rfl ?_
    refine r_prune [true, false, false, false, true, false, false, true, true, true, true] (ls2 := [some (.ref 2759), none, none, none, some (.int x4), none, none, some (.int v5), some (.int v6), some (.int v7), some (.int (0 : Int32))]) rfl ?_
    exact H
  · replace H := H.2 cH
    refine r_aload_n dX10_lineFactor_16 rfl rfl ?_
    refine r_aload_n dX10_lineFactor_17 rfl rfl ?_
    refine m_getI hp fw_X10_613 dX10_lineFactor_18 rfl ly_10 ?_
    refine r_iload_n dX10_lineFactor_21 rfl rfl ?_
    refine r_iload dX10_lineFactor_22 rfl ?_
    refine k_SI (As := [.int x3, .int x4]) (stk := [.int (ri h 2759 37), .ref 2759]) cs_X10_317 dX10_lineFactor_24 rfl (Nat.le_of_ble_eq_true rfl) (H.mono (fun v8 h8 H => ?_)) ⟨Nat.le_refl _, Nat.le_refl _⟩
    refine k_SI (As := [.int (ri h 2759 37), .int v8]) (stk := [.ref 2759]) cs_X10_56 dX10_lineFactor_27 rfl (Nat.le_of_ble_eq_true rfl) (H.mono (fun v9 h9 H => ?_)) ⟨Nat.le_refl _, Nat.le_refl _⟩
    refine m_putI hp fw_X10_613 dX10_lineFactor_30 rfl rfl ly_10 (fun h10 eh10 => ?_)
    replace H := H h10 eh10
    exact r_vret dX10_lineFactor_33 rfl (Nat.le_refl _) (Nat.le_refl _) H
theorem s_X10_lineFactor_86 {g : GX} {d : Nat} {av : List Value} {Q : QT} {n : Nat} {h : Hp} {x4 : Int32} {x7 : Int32} {x8 : Int32} {x9 : Int32} {x10 : Int32} (hp : g.2.2.2.2 = true)  (H : (((ri h 2759 36) ≤ x10) → (W_X10_lineFactor g d av Q n 137 [some (.ref 2759), none, none, none, some (.int x4), none, none, some (.int x7), some (.int x8), some (.int x9), some (.int x10)] [] h)) ∧ ((¬ (ri h 2759 36) ≤ x10) → (vp_in x10 120 ∧ (((¬ (ri h 2855 (x10).toNatClampNeg) = x7) → (W_X10_lineFactor g d av Q n 131 [some (.ref 2759), none, none, none, some (.int x4), none, none, some (.int x7), some (.int x8), some (.int x9), some (.int x10)] [] h)) ∧ (((ri h 2855 (x10).toNatClampNeg) = x7) → (vp_in x10 120 ∧ (((¬ (ri h 2856 (x10).toNatClampNeg) = x8) → (W_X10_lineFactor g d av Q n 131 [some (.ref 2759), none, none, none, some (.int x4), none, none, some (.int x7), some (.int x8), some (.int x9), some (.int x10)] [] h)) ∧ (((ri h 2856 (x10).toNatClampNeg) = x8) → (vp_in x10 120 ∧ ((((ri h 2857 (x10).toNatClampNeg) = x9) → (W_X10_lineFactor g d av Q n 137 [some (.ref 2759), none, none, none, some (.int x4), none, none, some (.int x7), some (.int x8), some (.int x9), some (.int x10)] [] h)) ∧ ((¬ (ri h 2857 (x10).toNatClampNeg) = x9) → (W_X10_lineFactor g d av Q n 131 [some (.ref 2759), none, none, none, some (.int x4), none, none, some (.int x7), some (.int x8), some (.int x9), some (.int x10)] [] h)))))))))))) : W_X10_lineFactor g d av Q n 86 [some (.ref 2759), none, none, none, some (.int x4), none, none, some (.int x7), some (.int x8), some (.int x9), some (.int x10)] [] h := by
  refine r_iload dX10_lineFactor_86 rfl ?_
  refine r_aload_n dX10_lineFactor_88 rfl rfl ?_
  refine m_getI hp fw_X10_616 dX10_lineFactor_89 rfl ly_10 ?_
  refine r_icmp_ge (tgt := 137) dX10_lineFactor_92 rfl (fun cH => ?_) (fun cH => ?_)
  · replace H := H.1 cH
    exact H
  · replace H := H.2 cH
    refine r_aload_n dX10_lineFactor_95 rfl rfl ?_
    refine m_getF (x := 2855) hp fw_X10_471 dX10_lineFactor_96 rfl ly_10 (ff_10_32 ly_10) ?_
    refine r_iload dX10_lineFactor_99 rfl ?_
    refine m_iald hp dX10_lineFactor_101 (lf_10_32 ly_10) H.1 ?_
    replace H := H.2
    refine r_iload dX10_lineFactor_102 rfl ?_
    refine r_icmp_ne (tgt := 131) dX10_lineFactor_104 rfl (fun cH => ?_) (fun cH => ?_)
    · replace H := H.1 cH
      exact H
    · replace H := H.2 cH
      refine r_aload_n dX10_lineFactor_107 rfl rfl ?_
      refine m_getF (x := 2856) hp fw_X10_474 dX10_lineFactor_108 rfl ly_10 (ff_10_33 ly_10) ?_
      refine r_iload dX10_lineFactor_111 rfl ?_
      refine m_iald hp dX10_lineFactor_113 (lf_10_33 ly_10) H.1 ?_
      replace H := H.2
      refine r_iload dX10_lineFactor_114 rfl ?_
      refine r_icmp_ne (tgt := 131) dX10_lineFactor_116 rfl (fun cH => ?_) (fun cH => ?_)
      · replace H := H.1 cH
        exact H
      · replace H := H.2 cH
        refine r_aload_n dX10_lineFactor_119 rfl rfl ?_
        refine m_getF (x := 2857) hp fw_X10_477 dX10_lineFactor_120 rfl ly_10 (ff_10_34 ly_10) ?_
        refine r_iload dX10_lineFactor_123 rfl ?_
        refine m_iald hp dX10_lineFactor_125 (lf_10_34 ly_10) H.1 ?_
        replace H := H.2
        refine r_iload dX10_lineFactor_126 rfl ?_
        refine r_icmp_eq (tgt := 137) dX10_lineFactor_128 rfl (fun cH => ?_) (fun cH => ?_)
        · replace H := H.1 cH
          exact H
        · replace H := H.2 cH
          exact H
theorem s_X10_lineFactor_131 {g : GX} {d : Nat} {av : List Value} {Q : QT} {n : Nat} {h : Hp} {x4 : Int32} {x7 : Int32} {x8 : Int32} {x9 : Int32} {x10 : Int32} (hp : g.2.2.2.2 = true)  (H : W_X10_lineFactor g d av Q n 86 [some (.ref 2759), none, none, none, some (.int x4), none, none, some (.int x7), some (.int x8), some (.int x9), some (.int (x10 + (1 : Int32)))] [] h) : W_X10_lineFactor g d av Q n 131 [some (.ref 2759), none, none, none, some (.int x4), none, none, some (.int x7), some (.int x8), some (.int x9), some (.int x10)] [] h := by
  refine r_iinc (v := (x10 + (1 : Int32))) (ls2 := [some (.ref 2759), none, none, none, some (.int x4), none, none, some (.int x7), some (.int x8), some (.int x9), some (.int (x10 + (1 : Int32)))]) dX10_lineFactor_131 rfl rfl (by decide) rfl ?_
  refine r_goto (tgt := 86) dX10_lineFactor_134 rfl ?_
  exact H
theorem s_X10_lineFactor_137 {g : GX} {d : Nat} {av : List Value} {Q : QT} {n : Nat} {h : Hp} {x4 : Int32} {x7 : Int32} {x8 : Int32} {x9 : Int32} {x10 : Int32} (hp : g.2.2.2.2 = true)  (H : ((¬ x10 = (ri h 2759 36)) → (W_X10_lineFactor g d av Q n 191 [some (.ref 2759), none, none, none, some (.int x4), none, none, none, none, none, some (.int x10)] [] h)) ∧ ((x10 = (ri h 2759 36)) → (vp_in x10 120 ∧ ∀ h1, h1 = wi h 2855 (x10).toNatClampNeg x7 → (vp_in x10 120 ∧ ∀ h2, h2 = wi h1 2856 (x10).toNatClampNeg x8 → (vp_in x10 120 ∧ ∀ h3, h3 = wi h2 2857 (x10).toNatClampNeg x9 → (vp_in x10 120 ∧ ∀ h4, h4 = wi h3 2858 (x10).toNatClampNeg (0 : Int32) → (∀ h5, h5 = wi h4 2759 36 ((ri h4 2759 36) + (1 : Int32)) → (W_X10_lineFactor g d av Q n 191 [some (.ref 2759), none, none, none, some (.int x4), none, none, none, none, none, some (.int x10)] [] h5)))))))) : W_X10_lineFactor g d av Q n 137 [some (.ref 2759), none, none, none, some (.int x4), none, none, some (.int x7), some (.int x8), some (.int x9), some (.int x10)] [] h := by
  refine r_iload dX10_lineFactor_137 rfl ?_
  refine r_aload_n dX10_lineFactor_139 rfl rfl ?_
  refine m_getI hp fw_X10_616 dX10_lineFactor_140 rfl ly_10 ?_
  refine r_icmp_ne (tgt := 191) dX10_lineFactor_143 rfl (fun cH => ?_) (fun cH => ?_)
  · replace H := H.1 cH
    refine r_prune [true, false, false, false, true, false, false, false, false, false, true] (ls2 := [some (.ref 2759), none, none, none, some (.int x4), none, none, none, none, none, some (.int x10)]) rfl ?_
    exact H
  · replace H := H.2 cH
    refine r_aload_n dX10_lineFactor_146 rfl rfl ?_
    refine m_getF (x := 2855) hp fw_X10_471 dX10_lineFactor_147 rfl ly_10 (ff_10_32 ly_10) ?_
    refine r_iload dX10_lineFactor_150 rfl ?_
    refine r_iload dX10_lineFactor_152 rfl ?_
    refine m_iast hp dX10_lineFactor_154 (lf_10_32 ly_10) H.1 (fun h1 eh1 => ?_)
    replace H := H.2 h1 eh1
    refine r_aload_n dX10_lineFactor_155 rfl rfl ?_
    refine m_getF (x := 2856) hp fw_X10_474 dX10_lineFactor_156 rfl ly_10 (ff_10_33 ly_10) ?_
    refine r_iload dX10_lineFactor_159 rfl ?_
    refine r_iload dX10_lineFactor_161 rfl ?_
    refine m_iast hp dX10_lineFactor_163 (lf_10_33 ly_10) H.1 (fun h2 eh2 => ?_)
    replace H := H.2 h2 eh2
    refine r_aload_n dX10_lineFactor_164 rfl rfl ?_
    refine m_getF (x := 2857) hp fw_X10_477 dX10_lineFactor_165 rfl ly_10 (ff_10_34 ly_10) ?_
    refine r_iload dX10_lineFactor_168 rfl ?_
    refine r_iload dX10_lineFactor_170 rfl ?_
    refine m_iast hp dX10_lineFactor_172 (lf_10_34 ly_10) H.1 (fun h3 eh3 => ?_)
    replace H := H.2 h3 eh3
    refine r_aload_n dX10_lineFactor_173 rfl rfl ?_
    refine m_getF (x := 2858) hp fw_X10_480 dX10_lineFactor_174 rfl ly_10 (ff_10_35 ly_10) ?_
    refine r_iload dX10_lineFactor_177 rfl ?_
    refine r_iconst (v := (0 : Int32)) dX10_lineFactor_179 rfl ?_
    refine m_iast hp dX10_lineFactor_180 (lf_10_35 ly_10) H.1 (fun h4 eh4 => ?_)
    replace H := H.2 h4 eh4
    refine r_aload_n dX10_lineFactor_181 rfl rfl ?_
    refine r_dup dX10_lineFactor_182 rfl ?_
    refine m_getI hp fw_X10_616 dX10_lineFactor_183 rfl ly_10 ?_
    refine r_iconst (v := (1 : Int32)) dX10_lineFactor_186 rfl ?_
    refine r_iadd dX10_lineFactor_187 ?_
    refine m_putI hp fw_X10_616 dX10_lineFactor_188 rfl rfl ly_10 (fun h5 eh5 => ?_)
    replace H := H h5 eh5
    refine r_prune [true, false, false, false, true, false, false, false, false, false, true] (ls2 := [some (.ref 2759), none, none, none, some (.int x4), none, none, none, none, none, some (.int x10)]) rfl ?_
    exact H
theorem s_X10_lineFactor_191 {g : GX} {d : Nat} {av : List Value} {Q : QT} {n : Nat} {h : Hp} {x4 : Int32} {x10 : Int32} (hp : g.2.2.2.2 = true)  (H : vp_in x10 120 ∧ (vp_in x10 120 ∧ ∀ h1, h1 = wi h 2858 (x10).toNatClampNeg ((ri h 2858 (x10).toNatClampNeg) + x4) → (Q none n h1))) : W_X10_lineFactor g d av Q n 191 [some (.ref 2759), none, none, none, some (.int x4), none, none, none, none, none, some (.int x10)] [] h := by
  refine r_aload_n dX10_lineFactor_191 rfl rfl ?_
  refine m_getF (x := 2858) hp fw_X10_480 dX10_lineFactor_192 rfl ly_10 (ff_10_35 ly_10) ?_
  refine r_iload dX10_lineFactor_195 rfl ?_
  refine r_dup2 dX10_lineFactor_197 rfl rfl ?_
  refine m_iald hp dX10_lineFactor_198 (lf_10_35 ly_10) H.1 ?_
  replace H := H.2
  refine r_iload dX10_lineFactor_199 rfl ?_
  refine r_iadd dX10_lineFactor_201 ?_
  refine m_iast hp dX10_lineFactor_202 (lf_10_35 ly_10) H.1 (fun h1 eh1 => ?_)
  replace H := H.2 h1 eh1
  exact r_vret dX10_lineFactor_203 rfl (Nat.le_refl _) (Nat.le_refl _) H
abbrev W_X10_shiftN (g : GX) (d : Nat) (av : List Value) (Q : QT) (n : Nat) (pc : Nat) (ls : LV) (stk : List Value) (h : Hp) : Prop := RJ g m_X10_shiftN (d + 1) 0 0 av Q pc ls stk n h 0 0
theorem s_X10_shiftN_0 {g : GX} {d : Nat} {av : List Value} {Q : QT} {n : Nat} {h : Hp} {a0 : Nat} {a1 : Nat} {x2 : Int32} (hp : g.2.2.2.2 = true) (t0 : lay a0 = (0, 14, 2)) (t1 : lay a1 = (0, 14, 2)) (H : W_X10_shiftN g d av Q n 2 [some (.ref a0), some (.ref a1), some (.int x2), some (.int (0 : Int32))] [] h) : W_X10_shiftN g d av Q n 0 [some (.ref a0), some (.ref a1), some (.int x2), none] [] h := by
  refine r_iconst (v := (0 : Int32)) dX10_shiftN_0 rfl ?_
  refine r_istore_n (ls2 := [some (.ref a0), some (.ref a1), some (.int x2), some (.int (0 : Int32))]) dX10_shiftN_1 rfl (by decide) rfl ?_
  exact H
theorem s_X10_shiftN_2 {g : GX} {d : Nat} {av : List Value} {Q : QT} {n : Nat} {h : Hp} {a0 : Nat} {a1 : Nat} {x2 : Int32} {x3 : Int32} (hp : g.2.2.2.2 = true) (t0 : lay a0 = (0, 14, 2)) (t1 : lay a1 = (0, 14, 2)) (H : (((ri h a1 1) ≤ x3) → (∀ h1, h1 = wi h a0 1 (ri h a1 1) → (Q none n h1))) ∧ ((¬ (ri h a1 1) ≤ x3) → (vp_in x3 64 ∧ ∀ r2, r2 = (a0 + 2) + 2 * (x3).toNatClampNeg → (vp_in x3 64 ∧ ∀ r3, r3 = (a1 + 2) + 2 * (x3).toNatClampNeg → (CallV g m_X10_shift d [.ref r2, .ref r3, .int x2] n h (fun h4 => (W_X10_shiftN g d av Q n 2 [some (.ref a0), some (.ref a1), some (.int x2), some (.int (x3 + (1 : Int32)))] [] h4))))))) : W_X10_shiftN g d av Q n 2 [some (.ref a0), some (.ref a1), some (.int x2), some (.int x3)] [] h := by
  refine r_iload_n dX10_shiftN_2 rfl rfl ?_
  refine r_aload_n dX10_shiftN_3 rfl rfl ?_
  refine m_getI hp fw_X10_93 dX10_shiftN_4 rfl t1 ?_
  refine r_icmp_ge (tgt := 32) dX10_shiftN_7 rfl (fun cH => ?_) (fun cH => ?_)
  · replace H := H.1 cH
    refine r_aload_n dX10_shiftN_32 rfl rfl ?_
    refine r_aload_n dX10_shiftN_33 rfl rfl ?_
    refine m_getI hp fw_X10_93 dX10_shiftN_34 rfl t1 ?_
    refine m_putI hp fw_X10_93 dX10_shiftN_37 rfl rfl t0 (fun h1 eh1 => ?_)
    replace H := H h1 eh1
    exact r_vret dX10_shiftN_40 rfl (Nat.le_refl _) (Nat.le_refl _) H
  · replace H := H.2 cH
    refine r_aload_n dX10_shiftN_10 rfl rfl ?_
    refine m_getF (x := (a0 + 1)) hp fw_X10_98 dX10_shiftN_11 rfl t0 (ff_14_0 t0) ?_
    refine r_iload_n dX10_shiftN_14 rfl rfl ?_
    obtain ⟨r2, er2⟩ : ∃ y, y = (a0 + 2) + 2 * (x3).toNatClampNeg := ⟨_, rfl⟩
    have hir2 := H.1
    replace H := H.2 r2 er2
    have tLr2 := le_14 t0 hir2 er2
    refine m_aalF (x := r2) hp dX10_shiftN_15 (lf_14_0 t0) rfl rfl (lu_14_0 t0) hir2 (fe_14 t0 hir2 er2) ?_
    refine r_aload_n dX10_shiftN_16 rfl rfl ?_
    refine m_getF (x := (a1 + 1)) hp fw_X10_98 dX10_shiftN_17 rfl t1 (ff_14_0 t1) ?_
    refine r_iload_n dX10_shiftN_20 rfl rfl ?_
    obtain ⟨r3, er3⟩ : ∃ y, y = (a1 + 2) + 2 * (x3).toNatClampNeg := ⟨_, rfl⟩
    have hir3 := H.1
    replace H := H.2 r3 er3
    have tLr3 := le_14 t1 hir3 er3
    refine m_aalF (x := r3) hp dX10_shiftN_21 (lf_14_0 t1) rfl rfl (lu_14_0 t1) hir3 (fe_14 t1 hir3 er3) ?_
    refine r_iload_n dX10_shiftN_22 rfl rfl ?_
    refine k_SV (As := [.ref r2, .ref r3, .int x2]) (stk := []) cs_X10_116 dX10_shiftN_23 rfl (Nat.le_of_ble_eq_true rfl) (H.mono (fun h4 H => ?_)) ⟨Nat.le_refl _, Nat.le_refl _⟩
    refine r_iinc (v := (x3 + (1 : Int32))) (ls2 := [some (.ref a0), some (.ref a1), some (.int x2), some (.int (x3 + (1 : Int32)))]) dX10_shiftN_26 rfl rfl (by decide) rfl ?_
    refine r_goto (tgt := 2) dX10_shiftN_29 rfl ?_
    exact H
abbrev W_X10_shift (g : GX) (d : Nat) (av : List Value) (Q : QT) (n : Nat) (pc : Nat) (ls : LV) (stk : List Value) (h : Hp) : Prop := RJ g m_X10_shift (d + 1) 0 0 av Q pc ls stk n h 0 0
theorem s_X10_shift_0 {g : GX} {d : Nat} {av : List Value} {Q : QT} {n : Nat} {h : Hp} {a0 : Nat} {a1 : Nat} {x2 : Int32} (hp : g.2.2.2.2 = true) (t0 : lay a0 = (0, 13, 2)) (t1 : lay a1 = (0, 13, 2)) (H : ((a0 = a1) → (W_X10_shift g d av Q n 15 [some (.ref a0), none, some (.int x2), some (.int (ri h a1 1)), none, none] [] h)) ∧ ((¬ a0 = a1) → (CallV g m_X10_set_2 d [.ref a0, .ref a1] n h (fun h1 => (W_X10_shift g d av Q n 15 [some (.ref a0), none, some (.int x2), some (.int (ri h a1 1)), none, none] [] h1))))) : W_X10_shift g d av Q n 0 [some (.ref a0), some (.ref a1), some (.int x2), none, none, none] [] h := by
  refine r_aload_n dX10_shift_0 rfl rfl ?_
  refine m_getI hp fw_X10_25 dX10_shift_1 rfl t1 ?_
  refine r_istore_n (ls2 := [some (.ref a0), some (.ref a1), some (.int x2), some (.int (ri h a1 1)), none, none]) dX10_shift_4 rfl (by decide) rfl ?_
  refine r_aload_n dX10_shift_5 rfl rfl ?_
  refine r_aload_n dX10_shift_6 rfl rfl ?_
  refine r_acmp_eq (tgt := 15) dX10_shift_7 rfl (fun cH => ?_) (fun cH => ?_)
  · replace H := H.1 cH
    refine r_prune [true, false, true, true, false, false] (ls2 := [some (.ref a0), none, some (.int x2), some (.int (ri h a1 1)), none, none]) rfl ?_
    exact H
  · replace H := H.2 cH
    refine r_aload_n dX10_shift_10 rfl rfl ?_
    refine r_aload_n dX10_shift_11 rfl rfl ?_
    refine k_SV (As := [.ref a0, .ref a1]) (stk := []) cs_X10_62 dX10_shift_12 rfl (Nat.le_of_ble_eq_true rfl) (H.mono (fun h1 H => ?_)) ⟨Nat.le_refl _, Nat.le_refl _⟩
    refine r_prune [true, false, true, true, false, false] (ls2 := [some (.ref a0), none, some (.int x2), some (.int (ri h a1 1)), none, none]) rfl ?_
    exact H
theorem s_X10_shift_15 {g : GX} {d : Nat} {av : List Value} {Q : QT} {n : Nat} {h : Hp} {a0 : Nat} {x2 : Int32} {x3 : Int32} (hp : g.2.2.2.2 = true) (t0 : lay a0 = (0, 13, 2)) (H : W_X10_shift g d av Q n 18 [some (.ref a0), none, some (.int x2), some (.int x3), some (.int (0 : Int32)), none] [] h) : W_X10_shift g d av Q n 15 [some (.ref a0), none, some (.int x2), some (.int x3), none, none] [] h := by
  refine r_iconst (v := (0 : Int32)) dX10_shift_15 rfl ?_
  refine r_istore (ls2 := [some (.ref a0), none, some (.int x2), some (.int x3), some (.int (0 : Int32)), none]) dX10_shift_16 (by decide) rfl ?_
  exact H
theorem s_X10_shift_18 {g : GX} {d : Nat} {av : List Value} {Q : QT} {n : Nat} {h : Hp} {a0 : Nat} {x2 : Int32} {x3 : Int32} {x4 : Int32} (hp : g.2.2.2.2 = true) (t0 : lay a0 = (0, 13, 2)) (H : (((x3 - (1 : Int32)) ≤ x4) → (Q none n h)) ∧ ((¬ (x3 - (1 : Int32)) ≤ x4) → (W_X10_shift g d av Q n 31 [some (.ref a0), none, some (.int x2), some (.int x3), some (.int x4), some (.int (x3 - (2 : Int32)))] [] h))) : W_X10_shift g d av Q n 18 [some (.ref a0), none, some (.int x2), some (.int x3), some (.int x4), none] [] h := by
  refine r_iload dX10_shift_18 rfl ?_
  refine r_iload_n dX10_shift_20 rfl rfl ?_
  refine r_iconst (v := (1 : Int32)) dX10_shift_21 rfl ?_
  refine r_isub dX10_shift_22 ?_
  refine r_icmp_ge (tgt := 80) dX10_shift_23 rfl (fun cH => ?_) (fun cH => ?_)
  · replace H := H.1 cH
    exact r_vret dX10_shift_80 rfl (Nat.le_refl _) (Nat.le_refl _) H
  · replace H := H.2 cH
    refine r_iload_n dX10_shift_26 rfl rfl ?_
    refine r_iconst (v := (2 : Int32)) dX10_shift_27 rfl ?_
    refine r_isub dX10_shift_28 ?_
    refine r_istore (ls2 := [some (.ref a0), none, some (.int x2), some (.int x3), some (.int x4), some (.int (x3 - (2 : Int32)))]) dX10_shift_29 (by decide) rfl ?_
    exact H
theorem s_X10_shift_31 {g : GX} {d : Nat} {av : List Value} {Q : QT} {n : Nat} {h : Hp} {a0 : Nat} {x2 : Int32} {x3 : Int32} {x4 : Int32} {x5 : Int32} (hp : g.2.2.2.2 = true) (t0 : lay a0 = (0, 13, 2)) (H : ((x5 < x4) → (W_X10_shift g d av Q n 18 [some (.ref a0), none, some (.int x2), some (.int x3), some (.int (x4 + (1 : Int32))), none] [] h)) ∧ ((¬ x5 < x4) → (vp_in x5 (rm (a0 + 1)) ∧ (vp_in (x5 + (1 : Int32)) (rm (a0 + 1)) ∧ (CallI g m_X10_mul d [.int x2, .int (ri h (a0 + 1) ((x5 + (1 : Int32))).toNatClampNeg)] n h (fun v1 h1 => (CallI g m_X10_add d [.int (ri h (a0 + 1) (x5).toNatClampNeg), .int v1] n h1 (fun v2 h2 => (vp_in x5 (rm (a0 + 1)) ∧ ∀ h3, h3 = wi h2 (a0 + 1) (x5).toNatClampNeg v2 → (W_X10_shift g d av Q n 31 [some (.ref a0), none, some (.int x2), some (.int x3), some (.int x4), some (.int (x5 + (-1 : Int32)))] [] h3)))))))))) : W_X10_shift g d av Q n 31 [some (.ref a0), none, some (.int x2), some (.int x3), some (.int x4), some (.int x5)] [] h := by
  refine r_iload dX10_shift_31 rfl ?_
  refine r_iload dX10_shift_33 rfl ?_
  refine r_icmp_lt (tgt := 74) dX10_shift_35 rfl (fun cH => ?_) (fun cH => ?_)
  · replace H := H.1 cH
    refine r_iinc (v := (x4 + (1 : Int32))) (ls2 := [some (.ref a0), none, some (.int x2), some (.int x3), some (.int (x4 + (1 : Int32))), some (.int x5)]) dX10_shift_74 rfl rfl (by decide) rfl ?_
    refine r_goto (tgt := 18) dX10_shift_77 rfl ?_
    refine r_prune [true, false, true, true, true, false] (ls2 := [some (.ref a0), none, some (.int x2), some (.int x3), some (.int (x4 + (1 : Int32))), none]) rfl ?_
    exact H
  · replace H := H.2 cH
    refine r_aload_n dX10_shift_38 rfl rfl ?_
    refine m_getF (x := (a0 + 1)) hp fw_X10_30 dX10_shift_39 rfl t0 (ff_13_0 t0) ?_
    refine r_iload dX10_shift_42 rfl ?_
    refine r_aload_n dX10_shift_44 rfl rfl ?_
    refine m_getF (x := (a0 + 1)) hp fw_X10_30 dX10_shift_45 rfl t0 (ff_13_0 t0) ?_
    refine r_iload dX10_shift_48 rfl ?_
    refine m_iald hp dX10_shift_50 (lf_13_0 t0) H.1 ?_
    replace H := H.2
    refine r_iload_n dX10_shift_51 rfl rfl ?_
    refine r_aload_n dX10_shift_52 rfl rfl ?_
    refine m_getF (x := (a0 + 1)) hp fw_X10_30 dX10_shift_53 rfl t0 (ff_13_0 t0) ?_
    refine r_iload dX10_shift_56 rfl ?_
    refine r_iconst (v := (1 : Int32)) dX10_shift_58 rfl ?_
    refine r_iadd dX10_shift_59 ?_
    refine m_iald hp dX10_shift_60 (lf_13_0 t0) H.1 ?_
    replace H := H.2
    refine k_SI (As := [.int x2, .int (ri h (a0 + 1) ((x5 + (1 : Int32))).toNatClampNeg)]) (stk := [.int (ri h (a0 + 1) (x5).toNatClampNeg), .int x5, .ref (a0 + 1)]) cs_X10_56 dX10_shift_61 rfl (Nat.le_of_ble_eq_true rfl) (H.mono (fun v1 h1 H => ?_)) ⟨Nat.le_refl _, Nat.le_refl _⟩
    refine k_SI (As := [.int (ri h (a0 + 1) (x5).toNatClampNeg), .int v1]) (stk := [.int x5, .ref (a0 + 1)]) cs_X10_49 dX10_shift_64 rfl (Nat.le_of_ble_eq_true rfl) (H.mono (fun v2 h2 H => ?_)) ⟨Nat.le_refl _, Nat.le_refl _⟩
    refine m_iast hp dX10_shift_67 (lf_13_0 t0) H.1 (fun h3 eh3 => ?_)
    replace H := H.2 h3 eh3
    refine r_iinc (v := (x5 + (-1 : Int32))) (ls2 := [some (.ref a0), none, some (.int x2), some (.int x3), some (.int x4), some (.int (x5 + (-1 : Int32)))]) dX10_shift_68 rfl rfl (by decide) rfl ?_
    refine r_goto (tgt := 31) dX10_shift_71 rfl ?_
    exact H
abbrev W_X10_shiftK (g : GX) (d : Nat) (av : List Value) (Q : QT) (n : Nat) (pc : Nat) (ls : LV) (stk : List Value) (h : Hp) : Prop := RJ g m_X10_shiftK (d + 1) 0 0 av Q pc ls stk n h 0 0
theorem s_X10_shiftK_0 {g : GX} {d : Nat} {av : List Value} {Q : QT} {n : Nat} {h : Hp} {a0 : Nat} {a1 : Nat} {x2 : Int32} (hp : g.2.2.2.2 = true) (t0 : lay a0 = (0, 14, 2)) (t1 : lay a1 = (0, 14, 2)) (H : ((a0 = a1) → (W_X10_shiftK g d av Q n 10 [some (.ref a0), none, some (.int x2), none, none, none, none, none, none] [] h)) ∧ ((¬ a0 = a1) → (CallV g m_X10_set d [.ref a0, .ref a1] n h (fun h1 => (W_X10_shiftK g d av Q n 10 [some (.ref a0), none, some (.int x2), none, none, none, none, none, none] [] h1))))) : W_X10_shiftK g d av Q n 0 [some (.ref a0), some (.ref a1), some (.int x2), none, none, none, none, none, none] [] h := by
  refine r_aload_n dX10_shiftK_0 rfl rfl ?_
  refine r_aload_n dX10_shiftK_1 rfl rfl ?_
  refine r_acmp_eq (tgt := 10) dX10_shiftK_2 rfl (fun cH => ?_) (fun cH => ?_)
  · replace H := H.1 cH
    refine r_prune [true, false, true, false, false, false, false, false, false] (ls2 := [some (.ref a0), none, some (.int x2), none, none, none, none, none, none]) rfl ?_
    exact H
  · replace H := H.2 cH
    refine r_aload_n dX10_shiftK_5 rfl rfl ?_
    refine r_aload_n dX10_shiftK_6 rfl rfl ?_
    refine k_SV (As := [.ref a0, .ref a1]) (stk := []) cs_X10_113 dX10_shiftK_7 rfl (Nat.le_of_ble_eq_true rfl) (H.mono (fun h1 H => ?_)) ⟨Nat.le_refl _, Nat.le_refl _⟩
    refine r_prune [true, false, true, false, false, false, false, false, false] (ls2 := [some (.ref a0), none, some (.int x2), none, none, none, none, none, none]) rfl ?_
    exact H
theorem s_X10_shiftK_10 {g : GX} {d : Nat} {av : List Value} {Q : QT} {n : Nat} {h : Hp} {a0 : Nat} {x2 : Int32} (hp : g.2.2.2.2 = true) (t0 : lay a0 = (0, 14, 2)) (H : W_X10_shiftK g d av Q n 18 [some (.ref a0), none, some (.int x2), some (.int (ri h a0 1)), some (.int (0 : Int32)), none, none, none, none] [] h) : W_X10_shiftK g d av Q n 10 [some (.ref a0), none, some (.int x2), none, none, none, none, none, none] [] h := by
  refine r_aload_n dX10_shiftK_10 rfl rfl ?_
  refine m_getI hp fw_X10_93 dX10_shiftK_11 rfl t0 ?_
  refine r_istore_n (ls2 := [some (.ref a0), none, some (.int x2), some (.int (ri h a0 1)), none, none, none, none, none]) dX10_shiftK_14 rfl (by decide) rfl ?_
  refine r_iconst (v := (0 : Int32)) dX10_shiftK_15 rfl ?_
  refine r_istore (ls2 := [some (.ref a0), none, some (.int x2), some (.int (ri h a0 1)), some (.int (0 : Int32)), none, none, none, none]) dX10_shiftK_16 (by decide) rfl ?_
  exact H
theorem s_X10_shiftK_18 {g : GX} {d : Nat} {av : List Value} {Q : QT} {n : Nat} {h : Hp} {a0 : Nat} {x2 : Int32} {x3 : Int32} {x4 : Int32} (hp : g.2.2.2.2 = true) (t0 : lay a0 = (0, 14, 2)) (H : (((x3 - (1 : Int32)) ≤ x4) → (Q none n h)) ∧ ((¬ (x3 - (1 : Int32)) ≤ x4) → (W_X10_shiftK g d av Q n 31 [some (.ref a0), none, some (.int x2), some (.int x3), some (.int x4), some (.int (x3 - (2 : Int32))), none, none, none] [] h))) : W_X10_shiftK g d av Q n 18 [some (.ref a0), none, some (.int x2), some (.int x3), some (.int x4), none, none, none, none] [] h := by
  refine r_iload dX10_shiftK_18 rfl ?_
  refine r_iload_n dX10_shiftK_20 rfl rfl ?_
  refine r_iconst (v := (1 : Int32)) dX10_shiftK_21 rfl ?_
  refine r_isub dX10_shiftK_22 ?_
  refine r_icmp_ge (tgt := 175) dX10_shiftK_23 rfl (fun cH => ?_) (fun cH => ?_)
  · replace H := H.1 cH
    exact r_vret dX10_shiftK_175 rfl (Nat.le_refl _) (Nat.le_refl _) H
  · replace H := H.2 cH
    refine r_iload_n dX10_shiftK_26 rfl rfl ?_
    refine r_iconst (v := (2 : Int32)) dX10_shiftK_27 rfl ?_
    refine r_isub dX10_shiftK_28 ?_
    refine r_istore (ls2 := [some (.ref a0), none, some (.int x2), some (.int x3), some (.int x4), some (.int (x3 - (2 : Int32))), none, none, none]) dX10_shiftK_29 (by decide) rfl ?_
    exact H
theorem s_X10_shiftK_31 {g : GX} {d : Nat} {av : List Value} {Q : QT} {n : Nat} {h : Hp} {a0 : Nat} {x2 : Int32} {x3 : Int32} {x4 : Int32} {x5 : Int32} (hp : g.2.2.2.2 = true) (t0 : lay a0 = (0, 14, 2)) (H : ((x5 < x4) → (W_X10_shiftK g d av Q n 18 [some (.ref a0), none, some (.int x2), some (.int x3), some (.int (x4 + (1 : Int32))), none, none, none, none] [] h)) ∧ ((¬ x5 < x4) → (vp_in x5 64 ∧ ∀ r1, r1 = (a0 + 2) + 2 * (x5).toNatClampNeg → (vp_in (x5 + (1 : Int32)) 64 ∧ ∀ r2, r2 = (a0 + 2) + 2 * ((x5 + (1 : Int32))).toNatClampNeg → (W_X10_shiftK g d av Q n 65 [some (.ref a0), none, some (.int x2), some (.int x3), some (.int x4), some (.int x5), some (.ref r1), some (.ref r2), some (.int (ri h r1 1))] [] h))))) : W_X10_shiftK g d av Q n 31 [some (.ref a0), none, some (.int x2), some (.int x3), some (.int x4), some (.int x5), none, none, none] [] h := by
  refine r_iload dX10_shiftK_31 rfl ?_
  refine r_iload dX10_shiftK_33 rfl ?_
  refine r_icmp_lt (tgt := 169) dX10_shiftK_35 rfl (fun cH => ?_) (fun cH => ?_)
  · replace H := H.1 cH
    refine r_iinc (v := (x4 + (1 : Int32))) (ls2 := [some (.ref a0), none, some (.int x2), some (.int x3), some (.int (x4 + (1 : Int32))), some (.int x5), none, none, none]) dX10_shiftK_169 rfl rfl (by decide) rfl ?_
    refine r_goto (tgt := 18) dX10_shiftK_172 rfl ?_
    refine r_prune [true, false, true, true, true, false, false, false, false] (ls2 := [some (.ref a0), none, some (.int x2), some (.int x3), some (.int (x4 + (1 : Int32))), none, none, none, none]) rfl ?_
    exact H
  · replace H := H.2 cH
    refine r_aload_n dX10_shiftK_38 rfl rfl ?_
    refine m_getF (x := (a0 + 1)) hp fw_X10_98 dX10_shiftK_39 rfl t0 (ff_14_0 t0) ?_
    refine r_iload dX10_shiftK_42 rfl ?_
    obtain ⟨r1, er1⟩ : ∃ y, y = (a0 + 2) + 2 * (x5).toNatClampNeg := ⟨_, rfl⟩
    have hir1 := H.1
    replace H := H.2 r1 er1
    have tLr1 := le_14 t0 hir1 er1
    refine m_aalF (x := r1) hp dX10_shiftK_44 (lf_14_0 t0) rfl rfl (lu_14_0 t0) hir1 (fe_14 t0 hir1 er1) ?_
    refine r_astore (ls2 := [some (.ref a0), none, some (.int x2), some (.int x3), some (.int x4), some (.int x5), some (.ref r1), none, none]) dX10_shiftK_45 (by decide) rfl ?_
    refine r_aload_n dX10_shiftK_47 rfl rfl ?_
    refine m_getF (x := (a0 + 1)) hp fw_X10_98 dX10_shiftK_48 rfl t0 (ff_14_0 t0) ?_
    refine r_iload dX10_shiftK_51 rfl ?_
    refine r_iconst (v := (1 : Int32)) dX10_shiftK_53 rfl ?_
    refine r_iadd dX10_shiftK_54 ?_
    obtain ⟨r2, er2⟩ : ∃ y, y = (a0 + 2) + 2 * ((x5 + (1 : Int32))).toNatClampNeg := ⟨_, rfl⟩
    have hir2 := H.1
    replace H := H.2 r2 er2
    have tLr2 := le_14 t0 hir2 er2
    refine m_aalF (x := r2) hp dX10_shiftK_55 (lf_14_0 t0) rfl rfl (lu_14_0 t0) hir2 (fe_14 t0 hir2 er2) ?_
    refine r_astore (ls2 := [some (.ref a0), none, some (.int x2), some (.int x3), some (.int x4), some (.int x5), some (.ref r1), some (.ref r2), none]) dX10_shiftK_56 (by decide) rfl ?_
    refine r_aload dX10_shiftK_58 rfl ?_
    refine m_getI hp fw_X10_25 dX10_shiftK_60 rfl tLr1 ?_
    refine r_istore (ls2 := [some (.ref a0), none, some (.int x2), some (.int x3), some (.int x4), some (.int x5), some (.ref r1), some (.ref r2), some (.int (ri h r1 1))]) dX10_shiftK_63 (by decide) rfl ?_
    exact H
theorem s_X10_shiftK_65 {g : GX} {d : Nat} {av : List Value} {Q : QT} {n : Nat} {h : Hp} {a0 : Nat} {x2 : Int32} {x3 : Int32} {x4 : Int32} {x5 : Int32} {a6 : Nat} {a7 : Nat} {x8 : Int32} (hp : g.2.2.2.2 = true) (t0 : lay a0 = (0, 14, 2)) (t6 : lay a6 = (0, 13, 2)) (t7 : lay a7 = (0, 13, 2)) (H : (((ri h a7 1) ≤ x8) → (CallI g m_J3_max d [.int (ri h a6 1), .int (ri h a7 1)] n h (fun v1 h1 => (∀ h2, h2 = wi h1 a6 1 v1 → (W_X10_shiftK g d av Q n 111 [some (.ref a0), none, some (.int x2), some (.int x3), some (.int x4), some (.int x5), some (.ref a6), some (.ref a7), some (.int (0 : Int32))] [] h2))))) ∧ ((¬ (ri h a7 1) ≤ x8) → (vp_in x8 (rm (a6 + 1)) ∧ ∀ h3, h3 = wi h (a6 + 1) (x8).toNatClampNeg (0 : Int32) → (W_X10_shiftK g d av Q n 65 [some (.ref a0), none, some (.int x2), some (.int x3), some (.int x4), some (.int x5), some (.ref a6), some (.ref a7), some (.int (x8 + (1 : Int32)))] [] h3)))) : W_X10_shiftK g d av Q n 65 [some (.ref a0), none, some (.int x2), some (.int x3), some (.int x4), some (.int x5), some (.ref a6), some (.ref a7), some (.int x8)] [] h := by
  refine r_iload dX10_shiftK_65 rfl ?_
  refine r_aload dX10_shiftK_67 rfl ?_
  refine m_getI hp fw_X10_25 dX10_shiftK_69 rfl t7 ?_
  refine r_icmp_ge (tgt := 90) dX10_shiftK_72 rfl (fun cH => ?_) (fun cH => ?_)
  · replace H := H.1 cH
    refine r_aload dX10_shiftK_90 rfl ?_
    refine r_aload dX10_shiftK_92 rfl ?_
    refine m_getI hp fw_X10_25 dX10_shiftK_94 rfl t6 ?_
    refine r_aload dX10_shiftK_97 rfl ?_
    refine m_getI hp fw_X10_25 dX10_shiftK_99 rfl t7 ?_
    refine k_SI (As := [.int (ri h a6 1), .int (ri h a7 1)]) (stk := [.ref a6]) cs_X10_40 dX10_shiftK_102 rfl (Nat.le_of_ble_eq_true rfl) (H.mono (fun v1 h1 H => ?_)) ⟨Nat.le_refl _, Nat.le_refl _⟩
    refine m_putI hp fw_X10_25 dX10_shiftK_105 rfl rfl t6 (fun h2 eh2 => ?_)
    replace H := H h2 eh2
    refine r_iconst (v := (0 : Int32)) dX10_shiftK_108 rfl ?_
    refine r_istore (ls2 := [some (.ref a0), none, some (.int x2), some (.int x3), some (.int x4), some (.int x5), some (.ref a6), some (.ref a7), some (.int (0 : Int32))]) dX10_shiftK_109 (by decide) rfl ?_
    exact H
  · replace H := H.2 cH
    refine r_aload dX10_shiftK_75 rfl ?_
    refine m_getF (x := (a6 + 1)) hp fw_X10_30 dX10_shiftK_77 rfl t6 (ff_13_0 t6) ?_
    refine r_iload dX10_shiftK_80 rfl ?_
    refine r_iconst (v := (0 : Int32)) dX10_shiftK_82 rfl ?_
    refine m_iast hp dX10_shiftK_83 (lf_13_0 t6) H.1 (fun h3 eh3 => ?_)
    replace H := H.2 h3 eh3
    refine r_iinc (v := (x8 + (1 : Int32))) (ls2 := [some (.ref a0), none, some (.int x2), some (.int x3), some (.int x4), some (.int x5), some (.ref a6), some (.ref a7), some (.int (x8 + (1 : Int32)))]) dX10_shiftK_84 rfl rfl (by decide) rfl ?_
    refine r_goto (tgt := 65) dX10_shiftK_87 rfl ?_
    exact H
theorem s_X10_shiftK_111 {g : GX} {d : Nat} {av : List Value} {Q : QT} {n : Nat} {h : Hp} {a0 : Nat} {x2 : Int32} {x3 : Int32} {x4 : Int32} {x5 : Int32} {a6 : Nat} {a7 : Nat} {x8 : Int32} (hp : g.2.2.2.2 = true) (t0 : lay a0 = (0, 14, 2)) (t6 : lay a6 = (0, 13, 2)) (t7 : lay a7 = (0, 13, 2)) (H : (((ri h a7 1) ≤ x8) → (CallV g m_X13_trim d [.ref a6] n h (fun h1 => (W_X10_shiftK g d av Q n 31 [some (.ref a0), none, some (.int x2), some (.int x3), some (.int x4), some (.int (x5 + (-1 : Int32))), none, none, none] [] h1)))) ∧ ((¬ (ri h a7 1) ≤ x8) → (vp_in x8 (rm (a6 + 1)) ∧ (vp_in x8 (rm (a7 + 1)) ∧ (CallI g m_X10_mul d [.int x2, .int (ri h (a7 + 1) (x8).toNatClampNeg)] n h (fun v2 h2 => (CallI g m_X10_add d [.int (ri h (a6 + 1) (x8).toNatClampNeg), .int v2] n h2 (fun v3 h3 => (vp_in x8 (rm (a6 + 1)) ∧ ∀ h4, h4 = wi h3 (a6 + 1) (x8).toNatClampNeg v3 → (W_X10_shiftK g d av Q n 111 [some (.ref a0), none, some (.int x2), some (.int x3), some (.int x4), some (.int x5), some (.ref a6), some (.ref a7), some (.int (x8 + (1 : Int32)))] [] h4)))))))))) : W_X10_shiftK g d av Q n 111 [some (.ref a0), none, some (.int x2), some (.int x3), some (.int x4), some (.int x5), some (.ref a6), some (.ref a7), some (.int x8)] [] h := by
  refine r_iload dX10_shiftK_111 rfl ?_
  refine r_aload dX10_shiftK_113 rfl ?_
  refine m_getI hp fw_X10_25 dX10_shiftK_115 rfl t7 ?_
  refine r_icmp_ge (tgt := 158) dX10_shiftK_118 rfl (fun cH => ?_) (fun cH => ?_)
  · replace H := H.1 cH
    refine r_aload dX10_shiftK_158 rfl ?_
    refine k_VV (As := []) (stk := []) hp cv_X10_52 dX10_shiftK_160 rfl (Nat.le_of_ble_eq_true rfl) t6 (H.mono (fun h1 H => ?_)) ⟨Nat.le_refl _, Nat.le_refl _⟩
    refine r_iinc (v := (x5 + (-1 : Int32))) (ls2 := [some (.ref a0), none, some (.int x2), some (.int x3), some (.int x4), some (.int (x5 + (-1 : Int32))), some (.ref a6), some (.ref a7), some (.int x8)]) dX10_shiftK_163 rfl rfl (by decide) rfl ?_
    refine r_goto (tgt := 31) dX10_shiftK_166 rfl ?_
    refine r_prune [true, false, true, true, true, true, false, false, false] (ls2 := [some (.ref a0), none, some (.int x2), some (.int x3), some (.int x4), some (.int (x5 + (-1 : Int32))), none, none, none]) rfl ?_
    exact H
  · replace H := H.2 cH
    refine r_aload dX10_shiftK_121 rfl ?_
    refine m_getF (x := (a6 + 1)) hp fw_X10_30 dX10_shiftK_123 rfl t6 (ff_13_0 t6) ?_
    refine r_iload dX10_shiftK_126 rfl ?_
    refine r_aload dX10_shiftK_128 rfl ?_
    refine m_getF (x := (a6 + 1)) hp fw_X10_30 dX10_shiftK_130 rfl t6 (ff_13_0 t6) ?_
    refine r_iload dX10_shiftK_133 rfl ?_
    refine m_iald hp dX10_shiftK_135 (lf_13_0 t6) H.1 ?_
    replace H := H.2
    refine r_iload_n dX10_shiftK_136 rfl rfl ?_
    refine r_aload dX10_shiftK_137 rfl ?_
    refine m_getF (x := (a7 + 1)) hp fw_X10_30 dX10_shiftK_139 rfl t7 (ff_13_0 t7) ?_
    refine r_iload dX10_shiftK_142 rfl ?_
    refine m_iald hp dX10_shiftK_144 (lf_13_0 t7) H.1 ?_
    replace H := H.2
    refine k_SI (As := [.int x2, .int (ri h (a7 + 1) (x8).toNatClampNeg)]) (stk := [.int (ri h (a6 + 1) (x8).toNatClampNeg), .int x8, .ref (a6 + 1)]) cs_X10_56 dX10_shiftK_145 rfl (Nat.le_of_ble_eq_true rfl) (H.mono (fun v2 h2 H => ?_)) ⟨Nat.le_refl _, Nat.le_refl _⟩
    refine k_SI (As := [.int (ri h (a6 + 1) (x8).toNatClampNeg), .int v2]) (stk := [.int x8, .ref (a6 + 1)]) cs_X10_49 dX10_shiftK_148 rfl (Nat.le_of_ble_eq_true rfl) (H.mono (fun v3 h3 H => ?_)) ⟨Nat.le_refl _, Nat.le_refl _⟩
    refine m_iast hp dX10_shiftK_151 (lf_13_0 t6) H.1 (fun h4 eh4 => ?_)
    replace H := H.2 h4 eh4
    refine r_iinc (v := (x8 + (1 : Int32))) (ls2 := [some (.ref a0), none, some (.int x2), some (.int x3), some (.int x4), some (.int x5), some (.ref a6), some (.ref a7), some (.int (x8 + (1 : Int32)))]) dX10_shiftK_152 rfl rfl (by decide) rfl ?_
    refine r_goto (tgt := 111) dX10_shiftK_155 rfl ?_
    exact H
