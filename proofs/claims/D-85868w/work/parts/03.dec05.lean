set_option maxRecDepth 100000
theorem dX12_writeIndex_2 : decode cX12_writeIndex 2 = .ok (.aload_n 0, 1) := by decide +kernel
theorem dX12_writeIndex_3 : decode cX12_writeIndex 3 = .ok (.getfield 174, 3) := by decide +kernel
theorem dX12_writeIndex_6 : decode cX12_writeIndex 6 = .ok (.invokevirtual 109, 3) := by decide +kernel
theorem dX12_writeIndex_9 : decode cX12_writeIndex 9 = .ok (.istore_n 2, 1) := by decide +kernel
theorem dX12_writeIndex_10 : decode cX12_writeIndex 10 = .ok (.iconst 0, 1) := by decide +kernel
theorem dX12_writeIndex_11 : decode cX12_writeIndex 11 = .ok (.istore_n 3, 1) := by decide +kernel
theorem dX12_writeIndex_12 : decode cX12_writeIndex 12 = .ok (.iload_n 3, 1) := by decide +kernel
theorem dX12_writeIndex_13 : decode cX12_writeIndex 13 = .ok (.aload_n 0, 1) := by decide +kernel
theorem dX12_writeIndex_14 : decode cX12_writeIndex 14 = .ok (.getfield 174, 3) := by decide +kernel
theorem dX12_writeIndex_17 : decode cX12_writeIndex 17 = .ok (.if_icmp .ge 218, 3) := by decide +kernel
theorem dX12_writeIndex_20 : decode cX12_writeIndex 20 = .ok (.iload_n 2, 1) := by decide +kernel
theorem dX12_writeIndex_21 : decode cX12_writeIndex 21 = .ok (.ifCond .eq 214, 3) := by decide +kernel
theorem dX12_writeIndex_24 : decode cX12_writeIndex 24 = .ok (.aload_n 0, 1) := by decide +kernel
theorem dX12_writeIndex_25 : decode cX12_writeIndex 25 = .ok (.getfield 47, 3) := by decide +kernel
theorem dX12_writeIndex_28 : decode cX12_writeIndex 28 = .ok (.iload_n 3, 1) := by decide +kernel
theorem dX12_writeIndex_29 : decode cX12_writeIndex 29 = .ok (.iaload, 1) := by decide +kernel
theorem dX12_writeIndex_30 : decode cX12_writeIndex 30 = .ok (.istore 4, 2) := by decide +kernel
theorem dX12_writeIndex_32 : decode cX12_writeIndex 32 = .ok (.iload_n 1, 1) := by decide +kernel
theorem dX12_writeIndex_33 : decode cX12_writeIndex 33 = .ok (.iconst 1, 1) := by decide +kernel
theorem dX12_writeIndex_34 : decode cX12_writeIndex 34 = .ok (.iadd, 1) := by decide +kernel
theorem dX12_writeIndex_35 : decode cX12_writeIndex 35 = .ok (.bipush 10, 2) := by decide +kernel
theorem dX12_writeIndex_37 : decode cX12_writeIndex 37 = .ok (.iload_n 3, 1) := by decide +kernel
theorem dX12_writeIndex_38 : decode cX12_writeIndex 38 = .ok (.imul, 1) := by decide +kernel
theorem dX12_writeIndex_39 : decode cX12_writeIndex 39 = .ok (.iadd, 1) := by decide +kernel
theorem dX12_writeIndex_40 : decode cX12_writeIndex 40 = .ok (.istore 5, 2) := by decide +kernel
theorem dX12_writeIndex_42 : decode cX12_writeIndex 42 = .ok (.aload_n 0, 1) := by decide +kernel
theorem dX12_writeIndex_43 : decode cX12_writeIndex 43 = .ok (.iload 4, 2) := by decide +kernel
theorem dX12_writeIndex_45 : decode cX12_writeIndex 45 = .ok (.invokevirtual 206, 3) := by decide +kernel
theorem dX12_writeIndex_48 : decode cX12_writeIndex 48 = .ok (.lstore 6, 2) := by decide +kernel
theorem dX12_writeIndex_50 : decode cX12_writeIndex 50 = .ok (.aload_n 0, 1) := by decide +kernel
theorem dX12_writeIndex_51 : decode cX12_writeIndex 51 = .ok (.iload 5, 2) := by decide +kernel
theorem dX12_writeIndex_53 : decode cX12_writeIndex 53 = .ok (.aload_n 0, 1) := by decide +kernel
theorem dX12_writeIndex_54 : decode cX12_writeIndex 54 = .ok (.getfield 17, 3) := by decide +kernel
theorem dX12_writeIndex_57 : decode cX12_writeIndex 57 = .ok (.iload 4, 2) := by decide +kernel
theorem dX12_writeIndex_59 : decode cX12_writeIndex 59 = .ok (.iaload, 1) := by decide +kernel
theorem dX12_writeIndex_60 : decode cX12_writeIndex 60 = .ok (.invokevirtual 109, 3) := by decide +kernel
theorem dX12_writeIndex_63 : decode cX12_writeIndex 63 = .ok (.ifCond .eq 164, 3) := by decide +kernel
theorem dX12_writeIndex_66 : decode cX12_writeIndex 66 = .ok (.aload_n 0, 1) := by decide +kernel
theorem dX12_writeIndex_67 : decode cX12_writeIndex 67 = .ok (.iload 5, 2) := by decide +kernel
theorem dX12_writeIndex_69 : decode cX12_writeIndex 69 = .ok (.iconst 1, 1) := by decide +kernel
theorem dX12_writeIndex_70 : decode cX12_writeIndex 70 = .ok (.iadd, 1) := by decide +kernel
theorem dX12_writeIndex_71 : decode cX12_writeIndex 71 = .ok (.aload_n 0, 1) := by decide +kernel
theorem dX12_writeIndex_72 : decode cX12_writeIndex 72 = .ok (.iload 4, 2) := by decide +kernel
theorem dX12_writeIndex_74 : decode cX12_writeIndex 74 = .ok (.invokevirtual 209, 3) := by decide +kernel
theorem dX12_writeIndex_77 : decode cX12_writeIndex 77 = .ok (.invokevirtual 109, 3) := by decide +kernel
theorem dX12_writeIndex_80 : decode cX12_writeIndex 80 = .ok (.ifCond .eq 147, 3) := by decide +kernel
theorem dX12_writeIndex_83 : decode cX12_writeIndex 83 = .ok (.aload_n 0, 1) := by decide +kernel
theorem dX12_writeIndex_84 : decode cX12_writeIndex 84 = .ok (.iload 5, 2) := by decide +kernel
theorem dX12_writeIndex_86 : decode cX12_writeIndex 86 = .ok (.iconst 2, 1) := by decide +kernel
theorem dX12_writeIndex_87 : decode cX12_writeIndex 87 = .ok (.iadd, 1) := by decide +kernel
theorem dX12_writeIndex_88 : decode cX12_writeIndex 88 = .ok (.aload_n 0, 1) := by decide +kernel
theorem dX12_writeIndex_89 : decode cX12_writeIndex 89 = .ok (.iload 4, 2) := by decide +kernel
theorem dX12_writeIndex_91 : decode cX12_writeIndex 91 = .ok (.invokevirtual 212, 3) := by decide +kernel
theorem dX12_writeIndex_94 : decode cX12_writeIndex 94 = .ok (.invokevirtual 109, 3) := by decide +kernel
theorem dX12_writeIndex_97 : decode cX12_writeIndex 97 = .ok (.ifCond .eq 130, 3) := by decide +kernel
theorem dX12_writeIndex_100 : decode cX12_writeIndex 100 = .ok (.aload_n 0, 1) := by decide +kernel
theorem dX12_writeIndex_101 : decode cX12_writeIndex 101 = .ok (.iload 5, 2) := by decide +kernel
theorem dX12_writeIndex_103 : decode cX12_writeIndex 103 = .ok (.iconst 3, 1) := by decide +kernel
theorem dX12_writeIndex_104 : decode cX12_writeIndex 104 = .ok (.iadd, 1) := by decide +kernel
theorem dX12_writeIndex_105 : decode cX12_writeIndex 105 = .ok (.aload_n 0, 1) := by decide +kernel
theorem dX12_writeIndex_106 : decode cX12_writeIndex 106 = .ok (.getfield 20, 3) := by decide +kernel
theorem dX12_writeIndex_109 : decode cX12_writeIndex 109 = .ok (.iload 4, 2) := by decide +kernel
theorem dX12_writeIndex_111 : decode cX12_writeIndex 111 = .ok (.iaload, 1) := by decide +kernel
theorem dX12_writeIndex_112 : decode cX12_writeIndex 112 = .ok (.invokevirtual 109, 3) := by decide +kernel
theorem dX12_writeIndex_115 : decode cX12_writeIndex 115 = .ok (.ifCond .eq 112, 3) := by decide +kernel
theorem dX12_writeIndex_118 : decode cX12_writeIndex 118 = .ok (.aload_n 0, 1) := by decide +kernel
theorem dX12_writeIndex_119 : decode cX12_writeIndex 119 = .ok (.iload 5, 2) := by decide +kernel
theorem dX12_writeIndex_121 : decode cX12_writeIndex 121 = .ok (.iconst 4, 1) := by decide +kernel
theorem dX12_writeIndex_122 : decode cX12_writeIndex 122 = .ok (.iadd, 1) := by decide +kernel
theorem dX12_writeIndex_123 : decode cX12_writeIndex 123 = .ok (.aload_n 0, 1) := by decide +kernel
theorem dX12_writeIndex_124 : decode cX12_writeIndex 124 = .ok (.iload 4, 2) := by decide +kernel
theorem dX12_writeIndex_126 : decode cX12_writeIndex 126 = .ok (.invokevirtual 215, 3) := by decide +kernel
theorem dX12_writeIndex_129 : decode cX12_writeIndex 129 = .ok (.invokevirtual 109, 3) := by decide +kernel
theorem dX12_writeIndex_132 : decode cX12_writeIndex 132 = .ok (.ifCond .eq 95, 3) := by decide +kernel
theorem dX12_writeIndex_135 : decode cX12_writeIndex 135 = .ok (.aload_n 0, 1) := by decide +kernel
theorem dX12_writeIndex_136 : decode cX12_writeIndex 136 = .ok (.iload 5, 2) := by decide +kernel
theorem dX12_writeIndex_138 : decode cX12_writeIndex 138 = .ok (.iconst 5, 1) := by decide +kernel
theorem dX12_writeIndex_139 : decode cX12_writeIndex 139 = .ok (.iadd, 1) := by decide +kernel
theorem dX12_writeIndex_140 : decode cX12_writeIndex 140 = .ok (.aload_n 0, 1) := by decide +kernel
theorem dX12_writeIndex_141 : decode cX12_writeIndex 141 = .ok (.iload 4, 2) := by decide +kernel
theorem dX12_writeIndex_143 : decode cX12_writeIndex 143 = .ok (.invokevirtual 218, 3) := by decide +kernel
theorem dX12_writeIndex_146 : decode cX12_writeIndex 146 = .ok (.invokevirtual 109, 3) := by decide +kernel
theorem dX12_writeIndex_149 : decode cX12_writeIndex 149 = .ok (.ifCond .eq 78, 3) := by decide +kernel
theorem dX12_writeIndex_152 : decode cX12_writeIndex 152 = .ok (.aload_n 0, 1) := by decide +kernel
theorem dX12_writeIndex_153 : decode cX12_writeIndex 153 = .ok (.iload 5, 2) := by decide +kernel
theorem dX12_writeIndex_155 : decode cX12_writeIndex 155 = .ok (.bipush 6, 2) := by decide +kernel
theorem dX12_writeIndex_157 : decode cX12_writeIndex 157 = .ok (.iadd, 1) := by decide +kernel
theorem dX12_writeIndex_158 : decode cX12_writeIndex 158 = .ok (.lload 6, 2) := by decide +kernel
theorem dX12_writeIndex_160 : decode cX12_writeIndex 160 = .ok (.bipush 32, 2) := by decide +kernel
theorem dX12_writeIndex_162 : decode cX12_writeIndex 162 = .ok (.lshr, 1) := by decide +kernel
theorem dX12_writeIndex_163 : decode cX12_writeIndex 163 = .ok (.l2i, 1) := by decide +kernel
theorem dX12_writeIndex_164 : decode cX12_writeIndex 164 = .ok (.invokevirtual 109, 3) := by decide +kernel
theorem dX12_writeIndex_167 : decode cX12_writeIndex 167 = .ok (.ifCond .eq 60, 3) := by decide +kernel
theorem dX12_writeIndex_170 : decode cX12_writeIndex 170 = .ok (.aload_n 0, 1) := by decide +kernel
theorem dX12_writeIndex_171 : decode cX12_writeIndex 171 = .ok (.iload 5, 2) := by decide +kernel
theorem dX12_writeIndex_173 : decode cX12_writeIndex 173 = .ok (.bipush 7, 2) := by decide +kernel
theorem dX12_writeIndex_175 : decode cX12_writeIndex 175 = .ok (.iadd, 1) := by decide +kernel
theorem dX12_writeIndex_176 : decode cX12_writeIndex 176 = .ok (.lload 6, 2) := by decide +kernel
theorem dX12_writeIndex_178 : decode cX12_writeIndex 178 = .ok (.l2i, 1) := by decide +kernel
theorem dX12_writeIndex_179 : decode cX12_writeIndex 179 = .ok (.invokevirtual 109, 3) := by decide +kernel
theorem dX12_writeIndex_182 : decode cX12_writeIndex 182 = .ok (.ifCond .eq 45, 3) := by decide +kernel
theorem dX12_writeIndex_185 : decode cX12_writeIndex 185 = .ok (.aload_n 0, 1) := by decide +kernel
theorem dX12_writeIndex_186 : decode cX12_writeIndex 186 = .ok (.iload 5, 2) := by decide +kernel
theorem dX12_writeIndex_188 : decode cX12_writeIndex 188 = .ok (.bipush 8, 2) := by decide +kernel
theorem dX12_writeIndex_190 : decode cX12_writeIndex 190 = .ok (.iadd, 1) := by decide +kernel
theorem dX12_writeIndex_191 : decode cX12_writeIndex 191 = .ok (.aload_n 0, 1) := by decide +kernel
theorem dX12_writeIndex_192 : decode cX12_writeIndex 192 = .ok (.getfield 23, 3) := by decide +kernel
theorem dX12_writeIndex_195 : decode cX12_writeIndex 195 = .ok (.iload 4, 2) := by decide +kernel
theorem dX12_writeIndex_197 : decode cX12_writeIndex 197 = .ok (.iaload, 1) := by decide +kernel
theorem dX12_writeIndex_198 : decode cX12_writeIndex 198 = .ok (.invokevirtual 109, 3) := by decide +kernel
theorem dX12_writeIndex_201 : decode cX12_writeIndex 201 = .ok (.ifCond .eq 26, 3) := by decide +kernel
theorem dX12_writeIndex_204 : decode cX12_writeIndex 204 = .ok (.aload_n 0, 1) := by decide +kernel
theorem dX12_writeIndex_205 : decode cX12_writeIndex 205 = .ok (.iload 5, 2) := by decide +kernel
theorem dX12_writeIndex_207 : decode cX12_writeIndex 207 = .ok (.bipush 9, 2) := by decide +kernel
theorem dX12_writeIndex_209 : decode cX12_writeIndex 209 = .ok (.iadd, 1) := by decide +kernel
theorem dX12_writeIndex_210 : decode cX12_writeIndex 210 = .ok (.aload_n 0, 1) := by decide +kernel
theorem dX12_writeIndex_211 : decode cX12_writeIndex 211 = .ok (.getfield 26, 3) := by decide +kernel
theorem dX12_writeIndex_214 : decode cX12_writeIndex 214 = .ok (.iload 4, 2) := by decide +kernel
theorem dX12_writeIndex_216 : decode cX12_writeIndex 216 = .ok (.iaload, 1) := by decide +kernel
theorem dX12_writeIndex_217 : decode cX12_writeIndex 217 = .ok (.invokevirtual 109, 3) := by decide +kernel
theorem dX12_writeIndex_220 : decode cX12_writeIndex 220 = .ok (.ifCond .eq 7, 3) := by decide +kernel
theorem dX12_writeIndex_223 : decode cX12_writeIndex 223 = .ok (.iconst 1, 1) := by decide +kernel
theorem dX12_writeIndex_224 : decode cX12_writeIndex 224 = .ok (.goto 4, 3) := by decide +kernel
theorem dX12_writeIndex_227 : decode cX12_writeIndex 227 = .ok (.iconst 0, 1) := by decide +kernel
theorem dX12_writeIndex_228 : decode cX12_writeIndex 228 = .ok (.istore_n 2, 1) := by decide +kernel
theorem dX12_writeIndex_229 : decode cX12_writeIndex 229 = .ok (.iinc 3 1, 3) := by decide +kernel
theorem dX12_writeIndex_232 : decode cX12_writeIndex 232 = .ok (.goto (-220), 3) := by decide +kernel
theorem dX12_writeIndex_235 : decode cX12_writeIndex 235 = .ok (.iload_n 2, 1) := by decide +kernel
theorem dX12_writeIndex_236 : decode cX12_writeIndex 236 = .ok (.ireturn, 1) := by decide +kernel
theorem dX12_sumOf_0 : decode cX12_sumOf 0 = .ok (.lconst 0, 1) := by decide +kernel
theorem dX12_sumOf_1 : decode cX12_sumOf 1 = .ok (.lstore_n 2, 1) := by decide +kernel
theorem dX12_sumOf_2 : decode cX12_sumOf 2 = .ok (.iconst 0, 1) := by decide +kernel
theorem dX12_sumOf_3 : decode cX12_sumOf 3 = .ok (.istore 4, 2) := by decide +kernel
theorem dX12_sumOf_5 : decode cX12_sumOf 5 = .ok (.iload 4, 2) := by decide +kernel
theorem dX12_sumOf_7 : decode cX12_sumOf 7 = .ok (.aload_n 0, 1) := by decide +kernel
theorem dX12_sumOf_8 : decode cX12_sumOf 8 = .ok (.getfield 20, 3) := by decide +kernel
theorem dX12_sumOf_11 : decode cX12_sumOf 11 = .ok (.iload_n 1, 1) := by decide +kernel
theorem dX12_sumOf_12 : decode cX12_sumOf 12 = .ok (.iaload, 1) := by decide +kernel
theorem dX12_sumOf_13 : decode cX12_sumOf 13 = .ok (.if_icmp .ge 25, 3) := by decide +kernel
theorem dX12_sumOf_16 : decode cX12_sumOf 16 = .ok (.lload_n 2, 1) := by decide +kernel
theorem dX12_sumOf_17 : decode cX12_sumOf 17 = .ok (.aload_n 0, 1) := by decide +kernel
theorem dX12_sumOf_18 : decode cX12_sumOf 18 = .ok (.getfield 32, 3) := by decide +kernel
theorem dX12_sumOf_21 : decode cX12_sumOf 21 = .ok (.bipush 64, 2) := by decide +kernel
theorem dX12_sumOf_23 : decode cX12_sumOf 23 = .ok (.iload_n 1, 1) := by decide +kernel
theorem dX12_sumOf_24 : decode cX12_sumOf 24 = .ok (.imul, 1) := by decide +kernel
theorem dX12_sumOf_25 : decode cX12_sumOf 25 = .ok (.iload 4, 2) := by decide +kernel
theorem dX12_sumOf_27 : decode cX12_sumOf 27 = .ok (.iadd, 1) := by decide +kernel
theorem dX12_sumOf_28 : decode cX12_sumOf 28 = .ok (.iaload, 1) := by decide +kernel
theorem dX12_sumOf_29 : decode cX12_sumOf 29 = .ok (.i2l, 1) := by decide +kernel
theorem dX12_sumOf_30 : decode cX12_sumOf 30 = .ok (.ladd, 1) := by decide +kernel
theorem dX12_sumOf_31 : decode cX12_sumOf 31 = .ok (.lstore_n 2, 1) := by decide +kernel
theorem dX12_sumOf_32 : decode cX12_sumOf 32 = .ok (.iinc 4 1, 3) := by decide +kernel
theorem dX12_sumOf_35 : decode cX12_sumOf 35 = .ok (.goto (-30), 3) := by decide +kernel
theorem dX12_sumOf_38 : decode cX12_sumOf 38 = .ok (.lload_n 2, 1) := by decide +kernel
theorem dX12_sumOf_39 : decode cX12_sumOf 39 = .ok (.lreturn, 1) := by decide +kernel
theorem dX12_firstTime_0 : decode cX12_firstTime 0 = .ok (.aload_n 0, 1) := by decide +kernel
theorem dX12_firstTime_1 : decode cX12_firstTime 1 = .ok (.getfield 29, 3) := by decide +kernel
theorem dX12_firstTime_4 : decode cX12_firstTime 4 = .ok (.bipush 64, 2) := by decide +kernel
theorem dX12_firstTime_6 : decode cX12_firstTime 6 = .ok (.iload_n 1, 1) := by decide +kernel
theorem dX12_firstTime_7 : decode cX12_firstTime 7 = .ok (.imul, 1) := by decide +kernel
theorem dX12_firstTime_8 : decode cX12_firstTime 8 = .ok (.iaload, 1) := by decide +kernel
theorem dX12_firstTime_9 : decode cX12_firstTime 9 = .ok (.ireturn, 1) := by decide +kernel
theorem dX12_lastTime_0 : decode cX12_lastTime 0 = .ok (.aload_n 0, 1) := by decide +kernel
theorem dX12_lastTime_1 : decode cX12_lastTime 1 = .ok (.getfield 29, 3) := by decide +kernel
theorem dX12_lastTime_4 : decode cX12_lastTime 4 = .ok (.bipush 64, 2) := by decide +kernel
theorem dX12_lastTime_6 : decode cX12_lastTime 6 = .ok (.iload_n 1, 1) := by decide +kernel
theorem dX12_lastTime_7 : decode cX12_lastTime 7 = .ok (.imul, 1) := by decide +kernel
theorem dX12_lastTime_8 : decode cX12_lastTime 8 = .ok (.aload_n 0, 1) := by decide +kernel
theorem dX12_lastTime_9 : decode cX12_lastTime 9 = .ok (.getfield 20, 3) := by decide +kernel
theorem dX12_lastTime_12 : decode cX12_lastTime 12 = .ok (.iload_n 1, 1) := by decide +kernel
theorem dX12_lastTime_13 : decode cX12_lastTime 13 = .ok (.iaload, 1) := by decide +kernel
theorem dX12_lastTime_14 : decode cX12_lastTime 14 = .ok (.iadd, 1) := by decide +kernel
theorem dX12_lastTime_15 : decode cX12_lastTime 15 = .ok (.iconst 1, 1) := by decide +kernel
theorem dX12_lastTime_16 : decode cX12_lastTime 16 = .ok (.isub, 1) := by decide +kernel
theorem dX12_lastTime_17 : decode cX12_lastTime 17 = .ok (.iaload, 1) := by decide +kernel
theorem dX12_lastTime_18 : decode cX12_lastTime 18 = .ok (.ireturn, 1) := by decide +kernel
theorem dX12_leastOf_0 : decode cX12_leastOf 0 = .ok (.aload_n 0, 1) := by decide +kernel
theorem dX12_leastOf_1 : decode cX12_leastOf 1 = .ok (.getfield 32, 3) := by decide +kernel
theorem dX12_leastOf_4 : decode cX12_leastOf 4 = .ok (.bipush 64, 2) := by decide +kernel
theorem dX12_leastOf_6 : decode cX12_leastOf 6 = .ok (.iload_n 1, 1) := by decide +kernel
theorem dX12_leastOf_7 : decode cX12_leastOf 7 = .ok (.imul, 1) := by decide +kernel
theorem dX12_leastOf_8 : decode cX12_leastOf 8 = .ok (.iaload, 1) := by decide +kernel
theorem dX12_leastOf_9 : decode cX12_leastOf 9 = .ok (.istore_n 2, 1) := by decide +kernel
theorem dX12_leastOf_10 : decode cX12_leastOf 10 = .ok (.iconst 1, 1) := by decide +kernel
theorem dX12_leastOf_11 : decode cX12_leastOf 11 = .ok (.istore_n 3, 1) := by decide +kernel
theorem dX12_leastOf_12 : decode cX12_leastOf 12 = .ok (.iload_n 3, 1) := by decide +kernel
theorem dX12_leastOf_13 : decode cX12_leastOf 13 = .ok (.aload_n 0, 1) := by decide +kernel
theorem dX12_leastOf_14 : decode cX12_leastOf 14 = .ok (.getfield 20, 3) := by decide +kernel
theorem dX12_leastOf_17 : decode cX12_leastOf 17 = .ok (.iload_n 1, 1) := by decide +kernel
theorem dX12_leastOf_18 : decode cX12_leastOf 18 = .ok (.iaload, 1) := by decide +kernel
theorem dX12_leastOf_19 : decode cX12_leastOf 19 = .ok (.if_icmp .ge 40, 3) := by decide +kernel
theorem dX12_leastOf_22 : decode cX12_leastOf 22 = .ok (.aload_n 0, 1) := by decide +kernel
theorem dX12_leastOf_23 : decode cX12_leastOf 23 = .ok (.getfield 32, 3) := by decide +kernel
theorem dX12_leastOf_26 : decode cX12_leastOf 26 = .ok (.bipush 64, 2) := by decide +kernel
theorem dX12_leastOf_28 : decode cX12_leastOf 28 = .ok (.iload_n 1, 1) := by decide +kernel
theorem dX12_leastOf_29 : decode cX12_leastOf 29 = .ok (.imul, 1) := by decide +kernel
theorem dX12_leastOf_30 : decode cX12_leastOf 30 = .ok (.iload_n 3, 1) := by decide +kernel
theorem dX12_leastOf_31 : decode cX12_leastOf 31 = .ok (.iadd, 1) := by decide +kernel
theorem dX12_leastOf_32 : decode cX12_leastOf 32 = .ok (.iaload, 1) := by decide +kernel
theorem dX12_leastOf_33 : decode cX12_leastOf 33 = .ok (.iload_n 2, 1) := by decide +kernel
theorem dX12_leastOf_34 : decode cX12_leastOf 34 = .ok (.if_icmp .ge 17, 3) := by decide +kernel
theorem dX12_leastOf_37 : decode cX12_leastOf 37 = .ok (.aload_n 0, 1) := by decide +kernel
theorem dX12_leastOf_38 : decode cX12_leastOf 38 = .ok (.getfield 32, 3) := by decide +kernel
theorem dX12_leastOf_41 : decode cX12_leastOf 41 = .ok (.bipush 64, 2) := by decide +kernel
theorem dX12_leastOf_43 : decode cX12_leastOf 43 = .ok (.iload_n 1, 1) := by decide +kernel
theorem dX12_leastOf_44 : decode cX12_leastOf 44 = .ok (.imul, 1) := by decide +kernel
theorem dX12_leastOf_45 : decode cX12_leastOf 45 = .ok (.iload_n 3, 1) := by decide +kernel
theorem dX12_leastOf_46 : decode cX12_leastOf 46 = .ok (.iadd, 1) := by decide +kernel
theorem dX12_leastOf_47 : decode cX12_leastOf 47 = .ok (.iaload, 1) := by decide +kernel
theorem dX12_leastOf_48 : decode cX12_leastOf 48 = .ok (.goto 4, 3) := by decide +kernel
theorem dX12_leastOf_51 : decode cX12_leastOf 51 = .ok (.iload_n 2, 1) := by decide +kernel
theorem dX12_leastOf_52 : decode cX12_leastOf 52 = .ok (.istore_n 2, 1) := by decide +kernel
theorem dX12_leastOf_53 : decode cX12_leastOf 53 = .ok (.iinc 3 1, 3) := by decide +kernel
theorem dX12_leastOf_56 : decode cX12_leastOf 56 = .ok (.goto (-44), 3) := by decide +kernel
theorem dX12_leastOf_59 : decode cX12_leastOf 59 = .ok (.iload_n 2, 1) := by decide +kernel
theorem dX12_leastOf_60 : decode cX12_leastOf 60 = .ok (.ireturn, 1) := by decide +kernel
theorem dX12_greatestOf_0 : decode cX12_greatestOf 0 = .ok (.aload_n 0, 1) := by decide +kernel
theorem dX12_greatestOf_1 : decode cX12_greatestOf 1 = .ok (.getfield 32, 3) := by decide +kernel
theorem dX12_greatestOf_4 : decode cX12_greatestOf 4 = .ok (.bipush 64, 2) := by decide +kernel
theorem dX12_greatestOf_6 : decode cX12_greatestOf 6 = .ok (.iload_n 1, 1) := by decide +kernel
theorem dX12_greatestOf_7 : decode cX12_greatestOf 7 = .ok (.imul, 1) := by decide +kernel
theorem dX12_greatestOf_8 : decode cX12_greatestOf 8 = .ok (.iaload, 1) := by decide +kernel
theorem dX12_greatestOf_9 : decode cX12_greatestOf 9 = .ok (.istore_n 2, 1) := by decide +kernel
theorem dX12_greatestOf_10 : decode cX12_greatestOf 10 = .ok (.iconst 1, 1) := by decide +kernel
theorem dX12_greatestOf_11 : decode cX12_greatestOf 11 = .ok (.istore_n 3, 1) := by decide +kernel
theorem dX12_greatestOf_12 : decode cX12_greatestOf 12 = .ok (.iload_n 3, 1) := by decide +kernel
theorem dX12_greatestOf_13 : decode cX12_greatestOf 13 = .ok (.aload_n 0, 1) := by decide +kernel
theorem dX12_greatestOf_14 : decode cX12_greatestOf 14 = .ok (.getfield 20, 3) := by decide +kernel
theorem dX12_greatestOf_17 : decode cX12_greatestOf 17 = .ok (.iload_n 1, 1) := by decide +kernel
theorem dX12_greatestOf_18 : decode cX12_greatestOf 18 = .ok (.iaload, 1) := by decide +kernel
theorem dX12_greatestOf_19 : decode cX12_greatestOf 19 = .ok (.if_icmp .ge 40, 3) := by decide +kernel
theorem dX12_greatestOf_22 : decode cX12_greatestOf 22 = .ok (.aload_n 0, 1) := by decide +kernel
theorem dX12_greatestOf_23 : decode cX12_greatestOf 23 = .ok (.getfield 32, 3) := by decide +kernel
theorem dX12_greatestOf_26 : decode cX12_greatestOf 26 = .ok (.bipush 64, 2) := by decide +kernel
theorem dX12_greatestOf_28 : decode cX12_greatestOf 28 = .ok (.iload_n 1, 1) := by decide +kernel
theorem dX12_greatestOf_29 : decode cX12_greatestOf 29 = .ok (.imul, 1) := by decide +kernel
theorem dX12_greatestOf_30 : decode cX12_greatestOf 30 = .ok (.iload_n 3, 1) := by decide +kernel
theorem dX12_greatestOf_31 : decode cX12_greatestOf 31 = .ok (.iadd, 1) := by decide +kernel
theorem dX12_greatestOf_32 : decode cX12_greatestOf 32 = .ok (.iaload, 1) := by decide +kernel
theorem dX12_greatestOf_33 : decode cX12_greatestOf 33 = .ok (.iload_n 2, 1) := by decide +kernel
theorem dX12_greatestOf_34 : decode cX12_greatestOf 34 = .ok (.if_icmp .le 17, 3) := by decide +kernel
theorem dX12_greatestOf_37 : decode cX12_greatestOf 37 = .ok (.aload_n 0, 1) := by decide +kernel
theorem dX12_greatestOf_38 : decode cX12_greatestOf 38 = .ok (.getfield 32, 3) := by decide +kernel
theorem dX12_greatestOf_41 : decode cX12_greatestOf 41 = .ok (.bipush 64, 2) := by decide +kernel
theorem dX12_greatestOf_43 : decode cX12_greatestOf 43 = .ok (.iload_n 1, 1) := by decide +kernel
theorem dX12_greatestOf_44 : decode cX12_greatestOf 44 = .ok (.imul, 1) := by decide +kernel
theorem dX12_greatestOf_45 : decode cX12_greatestOf 45 = .ok (.iload_n 3, 1) := by decide +kernel
theorem dX12_greatestOf_46 : decode cX12_greatestOf 46 = .ok (.iadd, 1) := by decide +kernel
theorem dX12_greatestOf_47 : decode cX12_greatestOf 47 = .ok (.iaload, 1) := by decide +kernel
theorem dX12_greatestOf_48 : decode cX12_greatestOf 48 = .ok (.goto 4, 3) := by decide +kernel
theorem dX12_greatestOf_51 : decode cX12_greatestOf 51 = .ok (.iload_n 2, 1) := by decide +kernel
theorem dX12_greatestOf_52 : decode cX12_greatestOf 52 = .ok (.istore_n 2, 1) := by decide +kernel
theorem dX12_greatestOf_53 : decode cX12_greatestOf 53 = .ok (.iinc 3 1, 3) := by decide +kernel
theorem dX12_greatestOf_56 : decode cX12_greatestOf 56 = .ok (.goto (-44), 3) := by decide +kernel
theorem dX12_greatestOf_59 : decode cX12_greatestOf 59 = .ok (.iload_n 2, 1) := by decide +kernel
theorem dX12_greatestOf_60 : decode cX12_greatestOf 60 = .ok (.ireturn, 1) := by decide +kernel
theorem dX12_compact_0 : decode cX12_compact 0 = .ok (.aload_n 0, 1) := by decide +kernel
theorem dX12_compact_1 : decode cX12_compact 1 = .ok (.iconst 0, 1) := by decide +kernel
theorem dX12_compact_2 : decode cX12_compact 2 = .ok (.putfield 76, 3) := by decide +kernel
theorem dX12_compact_5 : decode cX12_compact 5 = .ok (.aload_n 0, 1) := by decide +kernel
theorem dX12_compact_6 : decode cX12_compact 6 = .ok (.invokevirtual 95, 3) := by decide +kernel
theorem dX12_compact_9 : decode cX12_compact 9 = .ok (.aload_n 0, 1) := by decide +kernel
theorem dX12_compact_10 : decode cX12_compact 10 = .ok (.getfield 79, 3) := by decide +kernel
theorem dX12_compact_13 : decode cX12_compact 13 = .ok (.ifCond .eq 6, 3) := by decide +kernel
theorem dX12_compact_16 : decode cX12_compact 16 = .ok (.bipush (-9), 2) := by decide +kernel
theorem dX12_compact_18 : decode cX12_compact 18 = .ok (.ireturn, 1) := by decide +kernel
theorem dX12_compact_19 : decode cX12_compact 19 = .ok (.aload_n 0, 1) := by decide +kernel
theorem dX12_compact_20 : decode cX12_compact 20 = .ok (.iload_n 1, 1) := by decide +kernel
theorem dX12_compact_21 : decode cX12_compact 21 = .ok (.invokevirtual 98, 3) := by decide +kernel
theorem dX12_compact_24 : decode cX12_compact 24 = .ok (.ifCond .ne 6, 3) := by decide +kernel
theorem dX12_compact_27 : decode cX12_compact 27 = .ok (.bipush (-2), 2) := by decide +kernel
theorem dX12_compact_29 : decode cX12_compact 29 = .ok (.ireturn, 1) := by decide +kernel
theorem dX12_compact_30 : decode cX12_compact 30 = .ok (.aload_n 0, 1) := by decide +kernel
theorem dX12_compact_31 : decode cX12_compact 31 = .ok (.invokevirtual 221, 3) := by decide +kernel
theorem dX12_compact_34 : decode cX12_compact 34 = .ok (.iconst 0, 1) := by decide +kernel
theorem dX12_compact_35 : decode cX12_compact 35 = .ok (.istore_n 2, 1) := by decide +kernel
theorem dX12_compact_36 : decode cX12_compact 36 = .ok (.iload_n 2, 1) := by decide +kernel
theorem dX12_compact_37 : decode cX12_compact 37 = .ok (.aload_n 0, 1) := by decide +kernel
theorem dX12_compact_38 : decode cX12_compact 38 = .ok (.getfield 115, 3) := by decide +kernel
theorem dX12_compact_41 : decode cX12_compact 41 = .ok (.if_icmp .ge 60, 3) := by decide +kernel
theorem dX12_compact_44 : decode cX12_compact 44 = .ok (.aload_n 0, 1) := by decide +kernel
theorem dX12_compact_45 : decode cX12_compact 45 = .ok (.getfield 17, 3) := by decide +kernel
theorem dX12_compact_48 : decode cX12_compact 48 = .ok (.aload_n 0, 1) := by decide +kernel
theorem dX12_compact_49 : decode cX12_compact 49 = .ok (.getfield 35, 3) := by decide +kernel
theorem dX12_compact_52 : decode cX12_compact 52 = .ok (.iload_n 2, 1) := by decide +kernel
theorem dX12_compact_53 : decode cX12_compact 53 = .ok (.iaload, 1) := by decide +kernel
theorem dX12_compact_54 : decode cX12_compact 54 = .ok (.iaload, 1) := by decide +kernel
theorem dX12_compact_55 : decode cX12_compact 55 = .ok (.iload_n 1, 1) := by decide +kernel
theorem dX12_compact_56 : decode cX12_compact 56 = .ok (.if_icmp .ne 11, 3) := by decide +kernel
theorem dX12_compact_59 : decode cX12_compact 59 = .ok (.aload_n 0, 1) := by decide +kernel
theorem dX12_compact_60 : decode cX12_compact 60 = .ok (.iload_n 2, 1) := by decide +kernel
theorem dX12_compact_61 : decode cX12_compact 61 = .ok (.invokevirtual 241, 3) := by decide +kernel
theorem dX12_compact_64 : decode cX12_compact 64 = .ok (.goto 4, 3) := by decide +kernel
theorem dX12_compact_67 : decode cX12_compact 67 = .ok (.iconst 1, 1) := by decide +kernel
theorem dX12_compact_68 : decode cX12_compact 68 = .ok (.istore_n 3, 1) := by decide +kernel
theorem dX12_compact_69 : decode cX12_compact 69 = .ok (.iload_n 3, 1) := by decide +kernel
theorem dX12_compact_70 : decode cX12_compact 70 = .ok (.iconst 1, 1) := by decide +kernel
theorem dX12_compact_71 : decode cX12_compact 71 = .ok (.if_icmp .ne 17, 3) := by decide +kernel
theorem dX12_compact_74 : decode cX12_compact 74 = .ok (.aload_n 0, 1) := by decide +kernel
theorem dX12_compact_75 : decode cX12_compact 75 = .ok (.aload_n 0, 1) := by decide +kernel
theorem dX12_compact_76 : decode cX12_compact 76 = .ok (.getfield 35, 3) := by decide +kernel
theorem dX12_compact_79 : decode cX12_compact 79 = .ok (.iload_n 2, 1) := by decide +kernel
theorem dX12_compact_80 : decode cX12_compact 80 = .ok (.iaload, 1) := by decide +kernel
theorem dX12_compact_81 : decode cX12_compact 81 = .ok (.iconst 0, 1) := by decide +kernel
theorem dX12_compact_82 : decode cX12_compact 82 = .ok (.invokevirtual 224, 3) := by decide +kernel
theorem dX12_compact_85 : decode cX12_compact 85 = .ok (.goto 9, 3) := by decide +kernel
theorem dX12_compact_88 : decode cX12_compact 88 = .ok (.aload_n 0, 1) := by decide +kernel
theorem dX12_compact_89 : decode cX12_compact 89 = .ok (.iload_n 2, 1) := by decide +kernel
theorem dX12_compact_90 : decode cX12_compact 90 = .ok (.iload_n 3, 1) := by decide +kernel
theorem dX12_compact_91 : decode cX12_compact 91 = .ok (.invokevirtual 244, 3) := by decide +kernel
theorem dX12_compact_94 : decode cX12_compact 94 = .ok (.iload_n 2, 1) := by decide +kernel
theorem dX12_compact_95 : decode cX12_compact 95 = .ok (.iload_n 3, 1) := by decide +kernel
theorem dX12_compact_96 : decode cX12_compact 96 = .ok (.iadd, 1) := by decide +kernel
theorem dX12_compact_97 : decode cX12_compact 97 = .ok (.istore_n 2, 1) := by decide +kernel
theorem dX12_compact_98 : decode cX12_compact 98 = .ok (.goto (-62), 3) := by decide +kernel
theorem dX12_compact_101 : decode cX12_compact 101 = .ok (.aload_n 0, 1) := by decide +kernel
theorem dX12_compact_102 : decode cX12_compact 102 = .ok (.getfield 115, 3) := by decide +kernel
theorem dX12_compact_105 : decode cX12_compact 105 = .ok (.aload_n 0, 1) := by decide +kernel
theorem dX12_compact_106 : decode cX12_compact 106 = .ok (.getfield 174, 3) := by decide +kernel
theorem dX12_compact_109 : decode cX12_compact 109 = .ok (.isub, 1) := by decide +kernel
theorem dX12_compact_110 : decode cX12_compact 110 = .ok (.istore_n 3, 1) := by decide +kernel
theorem dX12_compact_111 : decode cX12_compact 111 = .ok (.iload_n 3, 1) := by decide +kernel
theorem dX12_compact_112 : decode cX12_compact 112 = .ok (.ifCond .ne 5, 3) := by decide +kernel
theorem dX12_compact_115 : decode cX12_compact 115 = .ok (.iconst 0, 1) := by decide +kernel
theorem dX12_compact_116 : decode cX12_compact 116 = .ok (.ireturn, 1) := by decide +kernel
theorem dX12_compact_117 : decode cX12_compact 117 = .ok (.aload_n 0, 1) := by decide +kernel
theorem dX12_compact_118 : decode cX12_compact 118 = .ok (.aload_n 0, 1) := by decide +kernel
theorem dX12_compact_119 : decode cX12_compact 119 = .ok (.getfield 112, 3) := by decide +kernel
theorem dX12_compact_122 : decode cX12_compact 122 = .ok (.invokevirtual 231, 3) := by decide +kernel
theorem dX12_compact_125 : decode cX12_compact 125 = .ok (.istore 4, 2) := by decide +kernel
theorem dX12_compact_127 : decode cX12_compact 127 = .ok (.iload 4, 2) := by decide +kernel
theorem dX12_compact_129 : decode cX12_compact 129 = .ok (.ifCond .ne 7, 3) := by decide +kernel
theorem dX12_compact_132 : decode cX12_compact 132 = .ok (.iload_n 3, 1) := by decide +kernel
theorem dX12_compact_133 : decode cX12_compact 133 = .ok (.goto 5, 3) := by decide +kernel
theorem dX12_compact_136 : decode cX12_compact 136 = .ok (.iload 4, 2) := by decide +kernel
theorem dX12_compact_138 : decode cX12_compact 138 = .ok (.ireturn, 1) := by decide +kernel
theorem dX12_together_0 : decode cX12_together 0 = .ok (.iconst 1, 1) := by decide +kernel
theorem dX12_together_1 : decode cX12_together 1 = .ok (.istore_n 2, 1) := by decide +kernel
theorem dX12_together_2 : decode cX12_together 2 = .ok (.aload_n 0, 1) := by decide +kernel
theorem dX12_together_3 : decode cX12_together 3 = .ok (.getfield 20, 3) := by decide +kernel
theorem dX12_together_6 : decode cX12_together 6 = .ok (.aload_n 0, 1) := by decide +kernel
theorem dX12_together_7 : decode cX12_together 7 = .ok (.getfield 35, 3) := by decide +kernel
theorem dX12_together_10 : decode cX12_together 10 = .ok (.iload_n 1, 1) := by decide +kernel
theorem dX12_together_11 : decode cX12_together 11 = .ok (.iaload, 1) := by decide +kernel
theorem dX12_together_12 : decode cX12_together 12 = .ok (.iaload, 1) := by decide +kernel
theorem dX12_together_13 : decode cX12_together 13 = .ok (.istore_n 3, 1) := by decide +kernel
theorem dX12_together_14 : decode cX12_together 14 = .ok (.iload_n 1, 1) := by decide +kernel
theorem dX12_together_15 : decode cX12_together 15 = .ok (.iload_n 2, 1) := by decide +kernel
theorem dX12_together_16 : decode cX12_together 16 = .ok (.iadd, 1) := by decide +kernel
theorem dX12_together_17 : decode cX12_together 17 = .ok (.aload_n 0, 1) := by decide +kernel
theorem dX12_together_18 : decode cX12_together 18 = .ok (.getfield 115, 3) := by decide +kernel
theorem dX12_together_21 : decode cX12_together 21 = .ok (.if_icmp .ge 74, 3) := by decide +kernel
theorem dX12_together_24 : decode cX12_together 24 = .ok (.aload_n 0, 1) := by decide +kernel
theorem dX12_together_25 : decode cX12_together 25 = .ok (.getfield 17, 3) := by decide +kernel
theorem dX12_together_28 : decode cX12_together 28 = .ok (.aload_n 0, 1) := by decide +kernel
theorem dX12_together_29 : decode cX12_together 29 = .ok (.getfield 35, 3) := by decide +kernel
theorem dX12_together_32 : decode cX12_together 32 = .ok (.iload_n 1, 1) := by decide +kernel
theorem dX12_together_33 : decode cX12_together 33 = .ok (.iload_n 2, 1) := by decide +kernel
theorem dX12_together_34 : decode cX12_together 34 = .ok (.iadd, 1) := by decide +kernel
theorem dX12_together_35 : decode cX12_together 35 = .ok (.iaload, 1) := by decide +kernel
theorem dX12_together_36 : decode cX12_together 36 = .ok (.iaload, 1) := by decide +kernel
theorem dX12_together_37 : decode cX12_together 37 = .ok (.aload_n 0, 1) := by decide +kernel
theorem dX12_together_38 : decode cX12_together 38 = .ok (.getfield 17, 3) := by decide +kernel
theorem dX12_together_41 : decode cX12_together 41 = .ok (.aload_n 0, 1) := by decide +kernel
theorem dX12_together_42 : decode cX12_together 42 = .ok (.getfield 35, 3) := by decide +kernel
theorem dX12_together_45 : decode cX12_together 45 = .ok (.iload_n 1, 1) := by decide +kernel
theorem dX12_together_46 : decode cX12_together 46 = .ok (.iaload, 1) := by decide +kernel
theorem dX12_together_47 : decode cX12_together 47 = .ok (.iaload, 1) := by decide +kernel
theorem dX12_together_48 : decode cX12_together 48 = .ok (.if_icmp .ne 47, 3) := by decide +kernel
theorem dX12_together_51 : decode cX12_together 51 = .ok (.iload_n 3, 1) := by decide +kernel
theorem dX12_together_52 : decode cX12_together 52 = .ok (.aload_n 0, 1) := by decide +kernel
theorem dX12_together_53 : decode cX12_together 53 = .ok (.getfield 20, 3) := by decide +kernel
theorem dX12_together_56 : decode cX12_together 56 = .ok (.aload_n 0, 1) := by decide +kernel
theorem dX12_together_57 : decode cX12_together 57 = .ok (.getfield 35, 3) := by decide +kernel
theorem dX12_together_60 : decode cX12_together 60 = .ok (.iload_n 1, 1) := by decide +kernel
theorem dX12_together_61 : decode cX12_together 61 = .ok (.iload_n 2, 1) := by decide +kernel
theorem dX12_together_62 : decode cX12_together 62 = .ok (.iadd, 1) := by decide +kernel
theorem dX12_together_63 : decode cX12_together 63 = .ok (.iaload, 1) := by decide +kernel
theorem dX12_together_64 : decode cX12_together 64 = .ok (.iaload, 1) := by decide +kernel
theorem dX12_together_65 : decode cX12_together 65 = .ok (.iadd, 1) := by decide +kernel
theorem dX12_together_66 : decode cX12_together 66 = .ok (.aload_n 0, 1) := by decide +kernel
theorem dX12_together_67 : decode cX12_together 67 = .ok (.getfield 70, 3) := by decide +kernel
theorem dX12_together_70 : decode cX12_together 70 = .ok (.if_icmp .gt 25, 3) := by decide +kernel
theorem dX12_together_73 : decode cX12_together 73 = .ok (.iload_n 3, 1) := by decide +kernel
theorem dX12_together_74 : decode cX12_together 74 = .ok (.aload_n 0, 1) := by decide +kernel
theorem dX12_together_75 : decode cX12_together 75 = .ok (.getfield 20, 3) := by decide +kernel
theorem dX12_together_78 : decode cX12_together 78 = .ok (.aload_n 0, 1) := by decide +kernel
theorem dX12_together_79 : decode cX12_together 79 = .ok (.getfield 35, 3) := by decide +kernel
theorem dX12_together_82 : decode cX12_together 82 = .ok (.iload_n 1, 1) := by decide +kernel
theorem dX12_together_83 : decode cX12_together 83 = .ok (.iload_n 2, 1) := by decide +kernel
theorem dX12_together_84 : decode cX12_together 84 = .ok (.iadd, 1) := by decide +kernel
theorem dX12_together_85 : decode cX12_together 85 = .ok (.iaload, 1) := by decide +kernel
theorem dX12_together_86 : decode cX12_together 86 = .ok (.iaload, 1) := by decide +kernel
theorem dX12_together_87 : decode cX12_together 87 = .ok (.iadd, 1) := by decide +kernel
theorem dX12_together_88 : decode cX12_together 88 = .ok (.istore_n 3, 1) := by decide +kernel
theorem dX12_together_89 : decode cX12_together 89 = .ok (.iinc 2 1, 3) := by decide +kernel
theorem dX12_together_92 : decode cX12_together 92 = .ok (.goto (-78), 3) := by decide +kernel
theorem dX12_together_95 : decode cX12_together 95 = .ok (.iload_n 2, 1) := by decide +kernel
theorem dX12_together_96 : decode cX12_together 96 = .ok (.ireturn, 1) := by decide +kernel
theorem dX12_joined_0 : decode cX12_joined 0 = .ok (.aload_n 0, 1) := by decide +kernel
theorem dX12_joined_1 : decode cX12_joined 1 = .ok (.invokevirtual 234, 3) := by decide +kernel
theorem dX12_joined_4 : decode cX12_joined 4 = .ok (.istore_n 3, 1) := by decide +kernel
theorem dX12_joined_5 : decode cX12_joined 5 = .ok (.aload_n 0, 1) := by decide +kernel
theorem dX12_joined_6 : decode cX12_joined 6 = .ok (.getfield 17, 3) := by decide +kernel
theorem dX12_joined_9 : decode cX12_joined 9 = .ok (.iload_n 3, 1) := by decide +kernel
theorem dX12_joined_10 : decode cX12_joined 10 = .ok (.aload_n 0, 1) := by decide +kernel
theorem dX12_joined_11 : decode cX12_joined 11 = .ok (.getfield 17, 3) := by decide +kernel
theorem dX12_joined_14 : decode cX12_joined 14 = .ok (.aload_n 0, 1) := by decide +kernel
theorem dX12_joined_15 : decode cX12_joined 15 = .ok (.getfield 35, 3) := by decide +kernel
theorem dX12_joined_18 : decode cX12_joined 18 = .ok (.iload_n 1, 1) := by decide +kernel
theorem dX12_joined_19 : decode cX12_joined 19 = .ok (.iaload, 1) := by decide +kernel
theorem dX12_joined_20 : decode cX12_joined 20 = .ok (.iaload, 1) := by decide +kernel
theorem dX12_joined_21 : decode cX12_joined 21 = .ok (.iastore, 1) := by decide +kernel
theorem dX12_joined_22 : decode cX12_joined 22 = .ok (.aload_n 0, 1) := by decide +kernel
theorem dX12_joined_23 : decode cX12_joined 23 = .ok (.getfield 20, 3) := by decide +kernel
theorem dX12_joined_26 : decode cX12_joined 26 = .ok (.iload_n 3, 1) := by decide +kernel
theorem dX12_joined_27 : decode cX12_joined 27 = .ok (.iconst 0, 1) := by decide +kernel
theorem dX12_joined_28 : decode cX12_joined 28 = .ok (.iastore, 1) := by decide +kernel
theorem dX12_joined_29 : decode cX12_joined 29 = .ok (.aload_n 0, 1) := by decide +kernel
theorem dX12_joined_30 : decode cX12_joined 30 = .ok (.iload_n 3, 1) := by decide +kernel
theorem dX12_joined_31 : decode cX12_joined 31 = .ok (.iconst 1, 1) := by decide +kernel
theorem dX12_joined_32 : decode cX12_joined 32 = .ok (.invokevirtual 224, 3) := by decide +kernel
theorem dX12_joined_35 : decode cX12_joined 35 = .ok (.iload_n 1, 1) := by decide +kernel
theorem dX12_joined_36 : decode cX12_joined 36 = .ok (.istore 4, 2) := by decide +kernel
theorem dX12_joined_38 : decode cX12_joined 38 = .ok (.iload 4, 2) := by decide +kernel
theorem dX12_joined_40 : decode cX12_joined 40 = .ok (.iload_n 1, 1) := by decide +kernel
theorem dX12_joined_41 : decode cX12_joined 41 = .ok (.iload_n 2, 1) := by decide +kernel
theorem dX12_joined_42 : decode cX12_joined 42 = .ok (.iadd, 1) := by decide +kernel
theorem dX12_joined_43 : decode cX12_joined 43 = .ok (.if_icmp .ge 76, 3) := by decide +kernel
theorem dX12_joined_46 : decode cX12_joined 46 = .ok (.iconst 0, 1) := by decide +kernel
theorem dX12_joined_47 : decode cX12_joined 47 = .ok (.istore 5, 2) := by decide +kernel
theorem dX12_joined_49 : decode cX12_joined 49 = .ok (.iload 5, 2) := by decide +kernel
theorem dX12_joined_51 : decode cX12_joined 51 = .ok (.aload_n 0, 1) := by decide +kernel
theorem dX12_joined_52 : decode cX12_joined 52 = .ok (.getfield 20, 3) := by decide +kernel
theorem dX12_joined_55 : decode cX12_joined 55 = .ok (.aload_n 0, 1) := by decide +kernel
theorem dX12_joined_56 : decode cX12_joined 56 = .ok (.getfield 35, 3) := by decide +kernel
theorem dX12_joined_59 : decode cX12_joined 59 = .ok (.iload 4, 2) := by decide +kernel
theorem dX12_joined_61 : decode cX12_joined 61 = .ok (.iaload, 1) := by decide +kernel
theorem dX12_joined_62 : decode cX12_joined 62 = .ok (.iaload, 1) := by decide +kernel
theorem dX12_joined_63 : decode cX12_joined 63 = .ok (.if_icmp .ge 50, 3) := by decide +kernel
theorem dX12_joined_66 : decode cX12_joined 66 = .ok (.aload_n 0, 1) := by decide +kernel
theorem dX12_joined_67 : decode cX12_joined 67 = .ok (.iload_n 3, 1) := by decide +kernel
theorem dX12_joined_68 : decode cX12_joined 68 = .ok (.aload_n 0, 1) := by decide +kernel
theorem dX12_joined_69 : decode cX12_joined 69 = .ok (.getfield 29, 3) := by decide +kernel
theorem dX12_joined_72 : decode cX12_joined 72 = .ok (.bipush 64, 2) := by decide +kernel
theorem dX12_joined_74 : decode cX12_joined 74 = .ok (.aload_n 0, 1) := by decide +kernel
theorem dX12_joined_75 : decode cX12_joined 75 = .ok (.getfield 35, 3) := by decide +kernel
theorem dX12_joined_78 : decode cX12_joined 78 = .ok (.iload 4, 2) := by decide +kernel
theorem dX12_joined_80 : decode cX12_joined 80 = .ok (.iaload, 1) := by decide +kernel
theorem dX12_joined_81 : decode cX12_joined 81 = .ok (.imul, 1) := by decide +kernel
theorem dX12_joined_82 : decode cX12_joined 82 = .ok (.iload 5, 2) := by decide +kernel
theorem dX12_joined_84 : decode cX12_joined 84 = .ok (.iadd, 1) := by decide +kernel
theorem dX12_joined_85 : decode cX12_joined 85 = .ok (.iaload, 1) := by decide +kernel
theorem dX12_joined_86 : decode cX12_joined 86 = .ok (.aload_n 0, 1) := by decide +kernel
theorem dX12_joined_87 : decode cX12_joined 87 = .ok (.getfield 32, 3) := by decide +kernel
theorem dX12_joined_90 : decode cX12_joined 90 = .ok (.bipush 64, 2) := by decide +kernel
theorem dX12_joined_92 : decode cX12_joined 92 = .ok (.aload_n 0, 1) := by decide +kernel
theorem dX12_joined_93 : decode cX12_joined 93 = .ok (.getfield 35, 3) := by decide +kernel
theorem dX12_joined_96 : decode cX12_joined 96 = .ok (.iload 4, 2) := by decide +kernel
theorem dX12_joined_98 : decode cX12_joined 98 = .ok (.iaload, 1) := by decide +kernel
theorem dX12_joined_99 : decode cX12_joined 99 = .ok (.imul, 1) := by decide +kernel
theorem dX12_joined_100 : decode cX12_joined 100 = .ok (.iload 5, 2) := by decide +kernel
theorem dX12_joined_102 : decode cX12_joined 102 = .ok (.iadd, 1) := by decide +kernel
theorem dX12_joined_103 : decode cX12_joined 103 = .ok (.iaload, 1) := by decide +kernel
theorem dX12_joined_104 : decode cX12_joined 104 = .ok (.invokevirtual 237, 3) := by decide +kernel
theorem dX12_joined_107 : decode cX12_joined 107 = .ok (.iinc 5 1, 3) := by decide +kernel
theorem dX12_joined_110 : decode cX12_joined 110 = .ok (.goto (-61), 3) := by decide +kernel
theorem dX12_joined_113 : decode cX12_joined 113 = .ok (.iinc 4 1, 3) := by decide +kernel
theorem dX12_joined_116 : decode cX12_joined 116 = .ok (.goto (-78), 3) := by decide +kernel
theorem dX12_joined_119 : decode cX12_joined 119 = .ok (.return_, 1) := by decide +kernel
theorem dX12_expire_0 : decode cX12_expire 0 = .ok (.aload_n 0, 1) := by decide +kernel
theorem dX12_expire_1 : decode cX12_expire 1 = .ok (.iconst 0, 1) := by decide +kernel
theorem dX12_expire_2 : decode cX12_expire 2 = .ok (.putfield 76, 3) := by decide +kernel
theorem dX12_expire_5 : decode cX12_expire 5 = .ok (.aload_n 0, 1) := by decide +kernel
theorem dX12_expire_6 : decode cX12_expire 6 = .ok (.invokevirtual 95, 3) := by decide +kernel
theorem dX12_expire_9 : decode cX12_expire 9 = .ok (.aload_n 0, 1) := by decide +kernel
theorem dX12_expire_10 : decode cX12_expire 10 = .ok (.getfield 79, 3) := by decide +kernel
theorem dX12_expire_13 : decode cX12_expire 13 = .ok (.ifCond .eq 6, 3) := by decide +kernel
theorem dX12_expire_16 : decode cX12_expire 16 = .ok (.bipush (-9), 2) := by decide +kernel
theorem dX12_expire_18 : decode cX12_expire 18 = .ok (.ireturn, 1) := by decide +kernel
theorem dX12_expire_19 : decode cX12_expire 19 = .ok (.aload_n 0, 1) := by decide +kernel
theorem dX12_expire_20 : decode cX12_expire 20 = .ok (.invokevirtual 221, 3) := by decide +kernel
theorem dX12_expire_23 : decode cX12_expire 23 = .ok (.iconst 0, 1) := by decide +kernel
theorem dX12_expire_24 : decode cX12_expire 24 = .ok (.istore_n 2, 1) := by decide +kernel
theorem dX12_expire_25 : decode cX12_expire 25 = .ok (.iconst 0, 1) := by decide +kernel
theorem dX12_expire_26 : decode cX12_expire 26 = .ok (.istore_n 3, 1) := by decide +kernel
theorem dX12_expire_27 : decode cX12_expire 27 = .ok (.iload_n 3, 1) := by decide +kernel
theorem dX12_expire_28 : decode cX12_expire 28 = .ok (.aload_n 0, 1) := by decide +kernel
theorem dX12_expire_29 : decode cX12_expire 29 = .ok (.getfield 115, 3) := by decide +kernel
theorem dX12_expire_32 : decode cX12_expire 32 = .ok (.if_icmp .ge 51, 3) := by decide +kernel
theorem dX12_expire_35 : decode cX12_expire 35 = .ok (.aload_n 0, 1) := by decide +kernel
theorem dX12_expire_36 : decode cX12_expire 36 = .ok (.aload_n 0, 1) := by decide +kernel
theorem dX12_expire_37 : decode cX12_expire 37 = .ok (.getfield 35, 3) := by decide +kernel
theorem dX12_expire_40 : decode cX12_expire 40 = .ok (.iload_n 3, 1) := by decide +kernel
theorem dX12_expire_41 : decode cX12_expire 41 = .ok (.iaload, 1) := by decide +kernel
theorem dX12_expire_42 : decode cX12_expire 42 = .ok (.invokevirtual 212, 3) := by decide +kernel
theorem dX12_expire_45 : decode cX12_expire 45 = .ok (.iload_n 1, 1) := by decide +kernel
theorem dX12_expire_46 : decode cX12_expire 46 = .ok (.if_icmp .ge 20, 3) := by decide +kernel
theorem dX12_expire_49 : decode cX12_expire 49 = .ok (.iload_n 2, 1) := by decide +kernel
theorem dX12_expire_50 : decode cX12_expire 50 = .ok (.aload_n 0, 1) := by decide +kernel
theorem dX12_expire_51 : decode cX12_expire 51 = .ok (.getfield 20, 3) := by decide +kernel
theorem dX12_expire_54 : decode cX12_expire 54 = .ok (.aload_n 0, 1) := by decide +kernel
theorem dX12_expire_55 : decode cX12_expire 55 = .ok (.getfield 35, 3) := by decide +kernel
theorem dX12_expire_58 : decode cX12_expire 58 = .ok (.iload_n 3, 1) := by decide +kernel
theorem dX12_expire_59 : decode cX12_expire 59 = .ok (.iaload, 1) := by decide +kernel
theorem dX12_expire_60 : decode cX12_expire 60 = .ok (.iaload, 1) := by decide +kernel
theorem dX12_expire_61 : decode cX12_expire 61 = .ok (.iadd, 1) := by decide +kernel
theorem dX12_expire_62 : decode cX12_expire 62 = .ok (.istore_n 2, 1) := by decide +kernel
theorem dX12_expire_63 : decode cX12_expire 63 = .ok (.goto 14, 3) := by decide +kernel
theorem dX12_expire_66 : decode cX12_expire 66 = .ok (.aload_n 0, 1) := by decide +kernel
theorem dX12_expire_67 : decode cX12_expire 67 = .ok (.aload_n 0, 1) := by decide +kernel
theorem dX12_expire_68 : decode cX12_expire 68 = .ok (.getfield 35, 3) := by decide +kernel
theorem dX12_expire_71 : decode cX12_expire 71 = .ok (.iload_n 3, 1) := by decide +kernel
theorem dX12_expire_72 : decode cX12_expire 72 = .ok (.iaload, 1) := by decide +kernel
theorem dX12_expire_73 : decode cX12_expire 73 = .ok (.iconst 0, 1) := by decide +kernel
theorem dX12_expire_74 : decode cX12_expire 74 = .ok (.invokevirtual 224, 3) := by decide +kernel
theorem dX12_expire_77 : decode cX12_expire 77 = .ok (.iinc 3 1, 3) := by decide +kernel
theorem dX12_expire_80 : decode cX12_expire 80 = .ok (.goto (-53), 3) := by decide +kernel
theorem dX12_expire_83 : decode cX12_expire 83 = .ok (.iload_n 2, 1) := by decide +kernel
theorem dX12_expire_84 : decode cX12_expire 84 = .ok (.ifCond .ne 5, 3) := by decide +kernel
theorem dX12_expire_87 : decode cX12_expire 87 = .ok (.iconst 0, 1) := by decide +kernel
theorem dX12_expire_88 : decode cX12_expire 88 = .ok (.ireturn, 1) := by decide +kernel
theorem dX12_expire_89 : decode cX12_expire 89 = .ok (.aload_n 0, 1) := by decide +kernel
theorem dX12_expire_90 : decode cX12_expire 90 = .ok (.aload_n 0, 1) := by decide +kernel
theorem dX12_expire_91 : decode cX12_expire 91 = .ok (.getfield 112, 3) := by decide +kernel
theorem dX12_expire_94 : decode cX12_expire 94 = .ok (.invokevirtual 231, 3) := by decide +kernel
theorem dX12_expire_97 : decode cX12_expire 97 = .ok (.istore_n 3, 1) := by decide +kernel
theorem dX12_expire_98 : decode cX12_expire 98 = .ok (.iload_n 3, 1) := by decide +kernel
theorem dX12_expire_99 : decode cX12_expire 99 = .ok (.ifCond .ne 7, 3) := by decide +kernel
theorem dX12_expire_102 : decode cX12_expire 102 = .ok (.iload_n 2, 1) := by decide +kernel
theorem dX12_expire_103 : decode cX12_expire 103 = .ok (.goto 4, 3) := by decide +kernel
theorem dX12_expire_106 : decode cX12_expire 106 = .ok (.iload_n 3, 1) := by decide +kernel
theorem dX12_expire_107 : decode cX12_expire 107 = .ok (.ireturn, 1) := by decide +kernel
theorem dX12_seek_0 : decode cX12_seek 0 = .ok (.aload_n 0, 1) := by decide +kernel
theorem dX12_seek_1 : decode cX12_seek 1 = .ok (.iconst 0, 1) := by decide +kernel
theorem dX12_seek_2 : decode cX12_seek 2 = .ok (.putfield 76, 3) := by decide +kernel
theorem dX12_seek_5 : decode cX12_seek 5 = .ok (.aload_n 0, 1) := by decide +kernel
theorem dX12_seek_6 : decode cX12_seek 6 = .ok (.invokevirtual 95, 3) := by decide +kernel
theorem dX12_seek_9 : decode cX12_seek 9 = .ok (.aload_n 0, 1) := by decide +kernel
theorem dX12_seek_10 : decode cX12_seek 10 = .ok (.getfield 79, 3) := by decide +kernel
theorem dX12_seek_13 : decode cX12_seek 13 = .ok (.ifCond .eq 6, 3) := by decide +kernel
theorem dX12_seek_16 : decode cX12_seek 16 = .ok (.bipush (-9), 2) := by decide +kernel
theorem dX12_seek_18 : decode cX12_seek 18 = .ok (.ireturn, 1) := by decide +kernel
theorem dX12_seek_19 : decode cX12_seek 19 = .ok (.aload_n 0, 1) := by decide +kernel
theorem dX12_seek_20 : decode cX12_seek 20 = .ok (.iload_n 1, 1) := by decide +kernel
theorem dX12_seek_21 : decode cX12_seek 21 = .ok (.invokevirtual 98, 3) := by decide +kernel
theorem dX12_seek_24 : decode cX12_seek 24 = .ok (.ifCond .ne 6, 3) := by decide +kernel
theorem dX12_seek_27 : decode cX12_seek 27 = .ok (.bipush (-2), 2) := by decide +kernel
theorem dX12_seek_29 : decode cX12_seek 29 = .ok (.ireturn, 1) := by decide +kernel
theorem dX12_seek_30 : decode cX12_seek 30 = .ok (.aload_n 0, 1) := by decide +kernel
theorem dX12_seek_31 : decode cX12_seek 31 = .ok (.iload_n 1, 1) := by decide +kernel
theorem dX12_seek_32 : decode cX12_seek 32 = .ok (.iload_n 2, 1) := by decide +kernel
theorem dX12_seek_33 : decode cX12_seek 33 = .ok (.iload_n 3, 1) := by decide +kernel
theorem dX12_seek_34 : decode cX12_seek 34 = .ok (.iconst 1, 1) := by decide +kernel
theorem dX12_seek_35 : decode cX12_seek 35 = .ok (.invokevirtual 291, 3) := by decide +kernel
theorem dX12_seek_38 : decode cX12_seek 38 = .ok (.aload_n 0, 1) := by decide +kernel
theorem dX12_seek_39 : decode cX12_seek 39 = .ok (.iconst 1, 1) := by decide +kernel
theorem dX12_seek_40 : decode cX12_seek 40 = .ok (.putfield 86, 3) := by decide +kernel
theorem dX12_seek_43 : decode cX12_seek 43 = .ok (.aload_n 0, 1) := by decide +kernel
theorem dX12_seek_44 : decode cX12_seek 44 = .ok (.aload_n 0, 1) := by decide +kernel
theorem dX12_seek_45 : decode cX12_seek 45 = .ok (.getfield 248, 3) := by decide +kernel
theorem dX12_seek_48 : decode cX12_seek 48 = .ok (.putfield 89, 3) := by decide +kernel
theorem dX12_seek_51 : decode cX12_seek 51 = .ok (.aload_n 0, 1) := by decide +kernel
theorem dX12_seek_52 : decode cX12_seek 52 = .ok (.getfield 248, 3) := by decide +kernel
theorem dX12_seek_55 : decode cX12_seek 55 = .ok (.ireturn, 1) := by decide +kernel
theorem dX12_ask_0 : decode cX12_ask 0 = .ok (.aload_n 0, 1) := by decide +kernel
theorem dX12_ask_1 : decode cX12_ask 1 = .ok (.iconst 0, 1) := by decide +kernel
theorem dX12_ask_2 : decode cX12_ask 2 = .ok (.putfield 248, 3) := by decide +kernel
theorem dX12_ask_5 : decode cX12_ask 5 = .ok (.aload_n 0, 1) := by decide +kernel
theorem dX12_ask_6 : decode cX12_ask 6 = .ok (.iconst 0, 1) := by decide +kernel
theorem dX12_ask_7 : decode cX12_ask 7 = .ok (.putfield 251, 3) := by decide +kernel
theorem dX12_ask_10 : decode cX12_ask 10 = .ok (.aload_n 0, 1) := by decide +kernel
theorem dX12_ask_11 : decode cX12_ask 11 = .ok (.iconst 0, 1) := by decide +kernel
theorem dX12_ask_12 : decode cX12_ask 12 = .ok (.putfield 254, 3) := by decide +kernel
theorem dX12_ask_15 : decode cX12_ask 15 = .ok (.aload_n 0, 1) := by decide +kernel
theorem dX12_ask_16 : decode cX12_ask 16 = .ok (.lconst 0, 1) := by decide +kernel
theorem dX12_ask_17 : decode cX12_ask 17 = .ok (.putfield 257, 3) := by decide +kernel
theorem dX12_ask_20 : decode cX12_ask 20 = .ok (.iconst 0, 1) := by decide +kernel
theorem dX12_ask_21 : decode cX12_ask 21 = .ok (.istore 5, 2) := by decide +kernel
theorem dX12_ask_23 : decode cX12_ask 23 = .ok (.iload 5, 2) := by decide +kernel
theorem dX12_ask_25 : decode cX12_ask 25 = .ok (.aload_n 0, 1) := by decide +kernel
theorem dX12_ask_26 : decode cX12_ask 26 = .ok (.getfield 115, 3) := by decide +kernel
theorem dX12_ask_29 : decode cX12_ask 29 = .ok (.if_icmp .ge 84, 3) := by decide +kernel
theorem dX12_ask_32 : decode cX12_ask 32 = .ok (.aload_n 0, 1) := by decide +kernel
theorem dX12_ask_33 : decode cX12_ask 33 = .ok (.getfield 35, 3) := by decide +kernel
theorem dX12_ask_36 : decode cX12_ask 36 = .ok (.iload 5, 2) := by decide +kernel
theorem dX12_ask_38 : decode cX12_ask 38 = .ok (.iaload, 1) := by decide +kernel
theorem dX12_ask_39 : decode cX12_ask 39 = .ok (.istore 6, 2) := by decide +kernel
theorem dX12_ask_41 : decode cX12_ask 41 = .ok (.iconst 0, 1) := by decide +kernel
theorem dX12_ask_42 : decode cX12_ask 42 = .ok (.istore 7, 2) := by decide +kernel
theorem dX12_ask_44 : decode cX12_ask 44 = .ok (.iload 7, 2) := by decide +kernel
theorem dX12_ask_46 : decode cX12_ask 46 = .ok (.aload_n 0, 1) := by decide +kernel
theorem dX12_ask_47 : decode cX12_ask 47 = .ok (.getfield 20, 3) := by decide +kernel
theorem dX12_ask_50 : decode cX12_ask 50 = .ok (.iload 6, 2) := by decide +kernel
theorem dX12_ask_52 : decode cX12_ask 52 = .ok (.iaload, 1) := by decide +kernel
theorem dX12_ask_53 : decode cX12_ask 53 = .ok (.if_icmp .ge 54, 3) := by decide +kernel
theorem dX12_ask_56 : decode cX12_ask 56 = .ok (.aload_n 0, 1) := by decide +kernel
theorem dX12_ask_57 : decode cX12_ask 57 = .ok (.getfield 17, 3) := by decide +kernel
theorem dX12_ask_60 : decode cX12_ask 60 = .ok (.iload 6, 2) := by decide +kernel
theorem dX12_ask_62 : decode cX12_ask 62 = .ok (.iaload, 1) := by decide +kernel
theorem dX12_ask_63 : decode cX12_ask 63 = .ok (.iload_n 1, 1) := by decide +kernel
theorem dX12_ask_64 : decode cX12_ask 64 = .ok (.if_icmp .ne 43, 3) := by decide +kernel
theorem dX12_ask_67 : decode cX12_ask 67 = .ok (.aload_n 0, 1) := by decide +kernel
theorem dX12_ask_68 : decode cX12_ask 68 = .ok (.aload_n 0, 1) := by decide +kernel
theorem dX12_ask_69 : decode cX12_ask 69 = .ok (.getfield 29, 3) := by decide +kernel
theorem dX12_ask_72 : decode cX12_ask 72 = .ok (.bipush 64, 2) := by decide +kernel
theorem dX12_ask_74 : decode cX12_ask 74 = .ok (.iload 6, 2) := by decide +kernel
theorem dX12_ask_76 : decode cX12_ask 76 = .ok (.imul, 1) := by decide +kernel
theorem dX12_ask_77 : decode cX12_ask 77 = .ok (.iload 7, 2) := by decide +kernel
theorem dX12_ask_79 : decode cX12_ask 79 = .ok (.iadd, 1) := by decide +kernel
theorem dX12_ask_80 : decode cX12_ask 80 = .ok (.iaload, 1) := by decide +kernel
theorem dX12_ask_81 : decode cX12_ask 81 = .ok (.aload_n 0, 1) := by decide +kernel
theorem dX12_ask_82 : decode cX12_ask 82 = .ok (.getfield 32, 3) := by decide +kernel
theorem dX12_ask_85 : decode cX12_ask 85 = .ok (.bipush 64, 2) := by decide +kernel
theorem dX12_ask_87 : decode cX12_ask 87 = .ok (.iload 6, 2) := by decide +kernel
theorem dX12_ask_89 : decode cX12_ask 89 = .ok (.imul, 1) := by decide +kernel
theorem dX12_ask_90 : decode cX12_ask 90 = .ok (.iload 7, 2) := by decide +kernel
theorem dX12_ask_92 : decode cX12_ask 92 = .ok (.iadd, 1) := by decide +kernel
theorem dX12_ask_93 : decode cX12_ask 93 = .ok (.iaload, 1) := by decide +kernel
theorem dX12_ask_94 : decode cX12_ask 94 = .ok (.iload_n 2, 1) := by decide +kernel
theorem dX12_ask_95 : decode cX12_ask 95 = .ok (.iload_n 3, 1) := by decide +kernel
theorem dX12_ask_96 : decode cX12_ask 96 = .ok (.iload 4, 2) := by decide +kernel
theorem dX12_ask_98 : decode cX12_ask 98 = .ok (.invokevirtual 261, 3) := by decide +kernel
theorem dX12_ask_101 : decode cX12_ask 101 = .ok (.iinc 7 1, 3) := by decide +kernel
theorem dX12_ask_104 : decode cX12_ask 104 = .ok (.goto (-60), 3) := by decide +kernel
theorem dX12_ask_107 : decode cX12_ask 107 = .ok (.iinc 5 1, 3) := by decide +kernel
theorem dX12_ask_110 : decode cX12_ask 110 = .ok (.goto (-87), 3) := by decide +kernel
theorem dX12_ask_113 : decode cX12_ask 113 = .ok (.iconst 0, 1) := by decide +kernel
theorem dX12_ask_114 : decode cX12_ask 114 = .ok (.istore 5, 2) := by decide +kernel
theorem dX12_ask_116 : decode cX12_ask 116 = .ok (.iload 5, 2) := by decide +kernel
theorem dX12_ask_118 : decode cX12_ask 118 = .ok (.aload_n 0, 1) := by decide +kernel
theorem dX12_ask_119 : decode cX12_ask 119 = .ok (.getfield 106, 3) := by decide +kernel
theorem dX12_ask_122 : decode cX12_ask 122 = .ok (.if_icmp .ge 42, 3) := by decide +kernel
theorem dX12_ask_125 : decode cX12_ask 125 = .ok (.aload_n 0, 1) := by decide +kernel
theorem dX12_ask_126 : decode cX12_ask 126 = .ok (.getfield 38, 3) := by decide +kernel
theorem dX12_ask_129 : decode cX12_ask 129 = .ok (.iload 5, 2) := by decide +kernel
theorem dX12_ask_131 : decode cX12_ask 131 = .ok (.iaload, 1) := by decide +kernel
theorem dX12_ask_132 : decode cX12_ask 132 = .ok (.iload_n 1, 1) := by decide +kernel
theorem dX12_ask_133 : decode cX12_ask 133 = .ok (.if_icmp .ne 25, 3) := by decide +kernel
theorem dX12_ask_136 : decode cX12_ask 136 = .ok (.aload_n 0, 1) := by decide +kernel
theorem dX12_ask_137 : decode cX12_ask 137 = .ok (.aload_n 0, 1) := by decide +kernel
theorem dX12_ask_138 : decode cX12_ask 138 = .ok (.getfield 41, 3) := by decide +kernel
theorem dX12_ask_141 : decode cX12_ask 141 = .ok (.iload 5, 2) := by decide +kernel
theorem dX12_ask_143 : decode cX12_ask 143 = .ok (.iaload, 1) := by decide +kernel
theorem dX12_ask_144 : decode cX12_ask 144 = .ok (.aload_n 0, 1) := by decide +kernel
theorem dX12_ask_145 : decode cX12_ask 145 = .ok (.getfield 44, 3) := by decide +kernel
theorem dX12_ask_148 : decode cX12_ask 148 = .ok (.iload 5, 2) := by decide +kernel
theorem dX12_ask_150 : decode cX12_ask 150 = .ok (.iaload, 1) := by decide +kernel
theorem dX12_ask_151 : decode cX12_ask 151 = .ok (.iload_n 2, 1) := by decide +kernel
theorem dX12_ask_152 : decode cX12_ask 152 = .ok (.iload_n 3, 1) := by decide +kernel
theorem dX12_ask_153 : decode cX12_ask 153 = .ok (.iload 4, 2) := by decide +kernel
theorem dX12_ask_155 : decode cX12_ask 155 = .ok (.invokevirtual 261, 3) := by decide +kernel
theorem dX12_ask_158 : decode cX12_ask 158 = .ok (.iinc 5 1, 3) := by decide +kernel
theorem dX12_ask_161 : decode cX12_ask 161 = .ok (.goto (-45), 3) := by decide +kernel
theorem dX12_ask_164 : decode cX12_ask 164 = .ok (.aload_n 0, 1) := by decide +kernel
theorem dX12_ask_165 : decode cX12_ask 165 = .ok (.iload_n 1, 1) := by decide +kernel
theorem dX12_ask_166 : decode cX12_ask 166 = .ok (.iload_n 2, 1) := by decide +kernel
theorem dX12_ask_167 : decode cX12_ask 167 = .ok (.iload_n 3, 1) := by decide +kernel
theorem dX12_ask_168 : decode cX12_ask 168 = .ok (.invokevirtual 265, 3) := by decide +kernel
theorem dX12_ask_171 : decode cX12_ask 171 = .ok (.return_, 1) := by decide +kernel
theorem dX12_meet_0 : decode cX12_meet 0 = .ok (.iload_n 1, 1) := by decide +kernel
theorem dX12_meet_1 : decode cX12_meet 1 = .ok (.iload_n 3, 1) := by decide +kernel
theorem dX12_meet_2 : decode cX12_meet 2 = .ok (.if_icmp .lt 9, 3) := by decide +kernel
theorem dX12_meet_5 : decode cX12_meet 5 = .ok (.iload_n 1, 1) := by decide +kernel
theorem dX12_meet_6 : decode cX12_meet 6 = .ok (.iload 4, 2) := by decide +kernel
theorem dX12_meet_8 : decode cX12_meet 8 = .ok (.if_icmp .le 4, 3) := by decide +kernel
theorem dX12_meet_11 : decode cX12_meet 11 = .ok (.return_, 1) := by decide +kernel
theorem dX12_meet_12 : decode cX12_meet 12 = .ok (.aload_n 0, 1) := by decide +kernel
theorem dX12_meet_13 : decode cX12_meet 13 = .ok (.aload_n 0, 1) := by decide +kernel
theorem dX12_meet_14 : decode cX12_meet 14 = .ok (.getfield 248, 3) := by decide +kernel
theorem dX12_meet_17 : decode cX12_meet 17 = .ok (.ifCond .eq 11, 3) := by decide +kernel
theorem dX12_meet_20 : decode cX12_meet 20 = .ok (.iload_n 2, 1) := by decide +kernel
theorem dX12_meet_21 : decode cX12_meet 21 = .ok (.aload_n 0, 1) := by decide +kernel
theorem dX12_meet_22 : decode cX12_meet 22 = .ok (.getfield 251, 3) := by decide +kernel
theorem dX12_meet_25 : decode cX12_meet 25 = .ok (.if_icmp .ge 7, 3) := by decide +kernel
theorem dX12_meet_28 : decode cX12_meet 28 = .ok (.iload_n 2, 1) := by decide +kernel
theorem dX12_meet_29 : decode cX12_meet 29 = .ok (.goto 7, 3) := by decide +kernel
theorem dX12_meet_32 : decode cX12_meet 32 = .ok (.aload_n 0, 1) := by decide +kernel
theorem dX12_meet_33 : decode cX12_meet 33 = .ok (.getfield 251, 3) := by decide +kernel
theorem dX12_meet_36 : decode cX12_meet 36 = .ok (.putfield 251, 3) := by decide +kernel
theorem dX12_meet_39 : decode cX12_meet 39 = .ok (.aload_n 0, 1) := by decide +kernel
theorem dX12_meet_40 : decode cX12_meet 40 = .ok (.aload_n 0, 1) := by decide +kernel
theorem dX12_meet_41 : decode cX12_meet 41 = .ok (.getfield 248, 3) := by decide +kernel
theorem dX12_meet_44 : decode cX12_meet 44 = .ok (.ifCond .eq 11, 3) := by decide +kernel
theorem dX12_meet_47 : decode cX12_meet 47 = .ok (.iload_n 2, 1) := by decide +kernel
theorem dX12_meet_48 : decode cX12_meet 48 = .ok (.aload_n 0, 1) := by decide +kernel
theorem dX12_meet_49 : decode cX12_meet 49 = .ok (.getfield 254, 3) := by decide +kernel
theorem dX12_meet_52 : decode cX12_meet 52 = .ok (.if_icmp .le 7, 3) := by decide +kernel
theorem dX12_meet_55 : decode cX12_meet 55 = .ok (.iload_n 2, 1) := by decide +kernel
theorem dX12_meet_56 : decode cX12_meet 56 = .ok (.goto 7, 3) := by decide +kernel
theorem dX12_meet_59 : decode cX12_meet 59 = .ok (.aload_n 0, 1) := by decide +kernel
theorem dX12_meet_60 : decode cX12_meet 60 = .ok (.getfield 254, 3) := by decide +kernel
theorem dX12_meet_63 : decode cX12_meet 63 = .ok (.putfield 254, 3) := by decide +kernel
theorem dX12_meet_66 : decode cX12_meet 66 = .ok (.aload_n 0, 1) := by decide +kernel
theorem dX12_meet_67 : decode cX12_meet 67 = .ok (.dup, 1) := by decide +kernel
theorem dX12_meet_68 : decode cX12_meet 68 = .ok (.getfield 257, 3) := by decide +kernel
theorem dX12_meet_71 : decode cX12_meet 71 = .ok (.iload_n 2, 1) := by decide +kernel
theorem dX12_meet_72 : decode cX12_meet 72 = .ok (.i2l, 1) := by decide +kernel
theorem dX12_meet_73 : decode cX12_meet 73 = .ok (.ladd, 1) := by decide +kernel
theorem dX12_meet_74 : decode cX12_meet 74 = .ok (.putfield 257, 3) := by decide +kernel
theorem dX12_meet_77 : decode cX12_meet 77 = .ok (.iload 5, 2) := by decide +kernel
theorem dX12_meet_79 : decode cX12_meet 79 = .ok (.ifCond .eq 23, 3) := by decide +kernel
theorem dX12_meet_82 : decode cX12_meet 82 = .ok (.aload_n 0, 1) := by decide +kernel
theorem dX12_meet_83 : decode cX12_meet 83 = .ok (.getfield 54, 3) := by decide +kernel
theorem dX12_meet_86 : decode cX12_meet 86 = .ok (.aload_n 0, 1) := by decide +kernel
theorem dX12_meet_87 : decode cX12_meet 87 = .ok (.getfield 248, 3) := by decide +kernel
theorem dX12_meet_90 : decode cX12_meet 90 = .ok (.iload_n 1, 1) := by decide +kernel
theorem dX12_meet_91 : decode cX12_meet 91 = .ok (.iastore, 1) := by decide +kernel
theorem dX12_meet_92 : decode cX12_meet 92 = .ok (.aload_n 0, 1) := by decide +kernel
theorem dX12_meet_93 : decode cX12_meet 93 = .ok (.getfield 57, 3) := by decide +kernel
theorem dX12_meet_96 : decode cX12_meet 96 = .ok (.aload_n 0, 1) := by decide +kernel
theorem dX12_meet_97 : decode cX12_meet 97 = .ok (.getfield 248, 3) := by decide +kernel
theorem dX12_meet_100 : decode cX12_meet 100 = .ok (.iload_n 2, 1) := by decide +kernel
theorem dX12_meet_101 : decode cX12_meet 101 = .ok (.iastore, 1) := by decide +kernel
theorem dX12_meet_102 : decode cX12_meet 102 = .ok (.aload_n 0, 1) := by decide +kernel
theorem dX12_meet_103 : decode cX12_meet 103 = .ok (.dup, 1) := by decide +kernel
theorem dX12_meet_104 : decode cX12_meet 104 = .ok (.getfield 248, 3) := by decide +kernel
theorem dX12_meet_107 : decode cX12_meet 107 = .ok (.iconst 1, 1) := by decide +kernel
theorem dX12_meet_108 : decode cX12_meet 108 = .ok (.iadd, 1) := by decide +kernel
theorem dX12_meet_109 : decode cX12_meet 109 = .ok (.putfield 248, 3) := by decide +kernel
theorem dX12_meet_112 : decode cX12_meet 112 = .ok (.return_, 1) := by decide +kernel
theorem dX12_lookAt_0 : decode cX12_lookAt 0 = .ok (.aload_n 0, 1) := by decide +kernel
theorem dX12_lookAt_1 : decode cX12_lookAt 1 = .ok (.iconst 0, 1) := by decide +kernel
theorem dX12_lookAt_2 : decode cX12_lookAt 2 = .ok (.putfield 268, 3) := by decide +kernel
theorem dX12_lookAt_5 : decode cX12_lookAt 5 = .ok (.aload_n 0, 1) := by decide +kernel
theorem dX12_lookAt_6 : decode cX12_lookAt 6 = .ok (.iconst 0, 1) := by decide +kernel
theorem dX12_lookAt_7 : decode cX12_lookAt 7 = .ok (.putfield 271, 3) := by decide +kernel
theorem dX12_lookAt_10 : decode cX12_lookAt 10 = .ok (.aload_n 0, 1) := by decide +kernel
theorem dX12_lookAt_11 : decode cX12_lookAt 11 = .ok (.iload_n 1, 1) := by decide +kernel
theorem dX12_lookAt_12 : decode cX12_lookAt 12 = .ok (.invokevirtual 274, 3) := by decide +kernel
theorem dX12_lookAt_15 : decode cX12_lookAt 15 = .ok (.istore 4, 2) := by decide +kernel
theorem dX12_lookAt_17 : decode cX12_lookAt 17 = .ok (.iconst 0, 1) := by decide +kernel
theorem dX12_lookAt_18 : decode cX12_lookAt 18 = .ok (.istore 5, 2) := by decide +kernel
theorem dX12_lookAt_20 : decode cX12_lookAt 20 = .ok (.iload 5, 2) := by decide +kernel
theorem dX12_lookAt_22 : decode cX12_lookAt 22 = .ok (.aload_n 0, 1) := by decide +kernel
theorem dX12_lookAt_23 : decode cX12_lookAt 23 = .ok (.iload_n 1, 1) := by decide +kernel
theorem dX12_lookAt_24 : decode cX12_lookAt 24 = .ok (.invokevirtual 277, 3) := by decide +kernel
theorem dX12_lookAt_27 : decode cX12_lookAt 27 = .ok (.if_icmp .ge 97, 3) := by decide +kernel
theorem dX12_lookAt_30 : decode cX12_lookAt 30 = .ok (.aload_n 0, 1) := by decide +kernel
theorem dX12_lookAt_31 : decode cX12_lookAt 31 = .ok (.dup, 1) := by decide +kernel
theorem dX12_lookAt_32 : decode cX12_lookAt 32 = .ok (.getfield 268, 3) := by decide +kernel
theorem dX12_lookAt_35 : decode cX12_lookAt 35 = .ok (.iconst 1, 1) := by decide +kernel
theorem dX12_lookAt_36 : decode cX12_lookAt 36 = .ok (.iadd, 1) := by decide +kernel
theorem dX12_lookAt_37 : decode cX12_lookAt 37 = .ok (.putfield 268, 3) := by decide +kernel
theorem dX12_lookAt_40 : decode cX12_lookAt 40 = .ok (.aload_n 0, 1) := by decide +kernel
theorem dX12_lookAt_41 : decode cX12_lookAt 41 = .ok (.getfield 73, 3) := by decide +kernel
theorem dX12_lookAt_44 : decode cX12_lookAt 44 = .ok (.iload 5, 2) := by decide +kernel
theorem dX12_lookAt_46 : decode cX12_lookAt 46 = .ok (.imul, 1) := by decide +kernel
theorem dX12_lookAt_47 : decode cX12_lookAt 47 = .ok (.istore 6, 2) := by decide +kernel
theorem dX12_lookAt_49 : decode cX12_lookAt 49 = .ok (.iload 6, 2) := by decide +kernel
theorem dX12_lookAt_51 : decode cX12_lookAt 51 = .ok (.aload_n 0, 1) := by decide +kernel
theorem dX12_lookAt_52 : decode cX12_lookAt 52 = .ok (.getfield 73, 3) := by decide +kernel
theorem dX12_lookAt_55 : decode cX12_lookAt 55 = .ok (.iadd, 1) := by decide +kernel
theorem dX12_lookAt_56 : decode cX12_lookAt 56 = .ok (.iload 4, 2) := by decide +kernel
theorem dX12_lookAt_58 : decode cX12_lookAt 58 = .ok (.if_icmp .ge 13, 3) := by decide +kernel
theorem dX12_lookAt_61 : decode cX12_lookAt 61 = .ok (.iload 6, 2) := by decide +kernel
theorem dX12_lookAt_63 : decode cX12_lookAt 63 = .ok (.aload_n 0, 1) := by decide +kernel
theorem dX12_lookAt_64 : decode cX12_lookAt 64 = .ok (.getfield 73, 3) := by decide +kernel
theorem dX12_lookAt_67 : decode cX12_lookAt 67 = .ok (.iadd, 1) := by decide +kernel
theorem dX12_lookAt_68 : decode cX12_lookAt 68 = .ok (.goto 5, 3) := by decide +kernel
theorem dX12_lookAt_71 : decode cX12_lookAt 71 = .ok (.iload 4, 2) := by decide +kernel
theorem dX12_lookAt_73 : decode cX12_lookAt 73 = .ok (.istore 7, 2) := by decide +kernel
theorem dX12_lookAt_75 : decode cX12_lookAt 75 = .ok (.aload_n 0, 1) := by decide +kernel
theorem dX12_lookAt_76 : decode cX12_lookAt 76 = .ok (.aload_n 0, 1) := by decide +kernel
theorem dX12_lookAt_77 : decode cX12_lookAt 77 = .ok (.iload_n 1, 1) := by decide +kernel
theorem dX12_lookAt_78 : decode cX12_lookAt 78 = .ok (.iload 6, 2) := by decide +kernel
theorem dX12_lookAt_80 : decode cX12_lookAt 80 = .ok (.invokevirtual 280, 3) := by decide +kernel
theorem dX12_lookAt_83 : decode cX12_lookAt 83 = .ok (.invokevirtual 209, 3) := by decide +kernel
theorem dX12_lookAt_86 : decode cX12_lookAt 86 = .ok (.aload_n 0, 1) := by decide +kernel
theorem dX12_lookAt_87 : decode cX12_lookAt 87 = .ok (.aload_n 0, 1) := by decide +kernel
theorem dX12_lookAt_88 : decode cX12_lookAt 88 = .ok (.iload_n 1, 1) := by decide +kernel
theorem dX12_lookAt_89 : decode cX12_lookAt 89 = .ok (.iload 7, 2) := by decide +kernel
theorem dX12_lookAt_91 : decode cX12_lookAt 91 = .ok (.iconst 1, 1) := by decide +kernel
theorem dX12_lookAt_92 : decode cX12_lookAt 92 = .ok (.isub, 1) := by decide +kernel
theorem dX12_lookAt_93 : decode cX12_lookAt 93 = .ok (.invokevirtual 280, 3) := by decide +kernel
theorem dX12_lookAt_96 : decode cX12_lookAt 96 = .ok (.invokevirtual 212, 3) := by decide +kernel
theorem dX12_lookAt_99 : decode cX12_lookAt 99 = .ok (.iload_n 2, 1) := by decide +kernel
theorem dX12_lookAt_100 : decode cX12_lookAt 100 = .ok (.iload_n 3, 1) := by decide +kernel
theorem dX12_lookAt_101 : decode cX12_lookAt 101 = .ok (.invokestatic 283, 3) := by decide +kernel
theorem dX12_lookAt_104 : decode cX12_lookAt 104 = .ok (.ifCond .eq 14, 3) := by decide +kernel
theorem dX12_lookAt_107 : decode cX12_lookAt 107 = .ok (.aload_n 0, 1) := by decide +kernel
theorem dX12_lookAt_108 : decode cX12_lookAt 108 = .ok (.iload_n 1, 1) := by decide +kernel
theorem dX12_lookAt_109 : decode cX12_lookAt 109 = .ok (.iload 6, 2) := by decide +kernel
theorem dX12_lookAt_111 : decode cX12_lookAt 111 = .ok (.iload 7, 2) := by decide +kernel
theorem dX12_lookAt_113 : decode cX12_lookAt 113 = .ok (.iload_n 2, 1) := by decide +kernel
theorem dX12_lookAt_114 : decode cX12_lookAt 114 = .ok (.iload_n 3, 1) := by decide +kernel
theorem dX12_lookAt_115 : decode cX12_lookAt 115 = .ok (.invokevirtual 287, 3) := by decide +kernel
theorem dX12_lookAt_118 : decode cX12_lookAt 118 = .ok (.iinc 5 1, 3) := by decide +kernel
theorem dX12_lookAt_121 : decode cX12_lookAt 121 = .ok (.goto (-101), 3) := by decide +kernel
theorem dX12_lookAt_124 : decode cX12_lookAt 124 = .ok (.return_, 1) := by decide +kernel
theorem dX12_chunksOf_0 : decode cX12_chunksOf 0 = .ok (.iconst 0, 1) := by decide +kernel
theorem dX12_chunksOf_1 : decode cX12_chunksOf 1 = .ok (.istore_n 2, 1) := by decide +kernel
theorem dX12_chunksOf_2 : decode cX12_chunksOf 2 = .ok (.iconst 0, 1) := by decide +kernel
theorem dX12_chunksOf_3 : decode cX12_chunksOf 3 = .ok (.istore_n 3, 1) := by decide +kernel
theorem dX12_chunksOf_4 : decode cX12_chunksOf 4 = .ok (.iload_n 3, 1) := by decide +kernel
theorem dX12_chunksOf_5 : decode cX12_chunksOf 5 = .ok (.aload_n 0, 1) := by decide +kernel
theorem dX12_chunksOf_6 : decode cX12_chunksOf 6 = .ok (.getfield 115, 3) := by decide +kernel
theorem dX12_chunksOf_9 : decode cX12_chunksOf 9 = .ok (.if_icmp .ge 32, 3) := by decide +kernel
theorem dX12_chunksOf_12 : decode cX12_chunksOf 12 = .ok (.iload_n 2, 1) := by decide +kernel
theorem dX12_chunksOf_13 : decode cX12_chunksOf 13 = .ok (.aload_n 0, 1) := by decide +kernel
theorem dX12_chunksOf_14 : decode cX12_chunksOf 14 = .ok (.getfield 17, 3) := by decide +kernel
theorem dX12_chunksOf_17 : decode cX12_chunksOf 17 = .ok (.aload_n 0, 1) := by decide +kernel
theorem dX12_chunksOf_18 : decode cX12_chunksOf 18 = .ok (.getfield 35, 3) := by decide +kernel
theorem dX12_chunksOf_21 : decode cX12_chunksOf 21 = .ok (.iload_n 3, 1) := by decide +kernel
theorem dX12_chunksOf_22 : decode cX12_chunksOf 22 = .ok (.iaload, 1) := by decide +kernel
theorem dX12_chunksOf_23 : decode cX12_chunksOf 23 = .ok (.iaload, 1) := by decide +kernel
theorem dX12_chunksOf_24 : decode cX12_chunksOf 24 = .ok (.iload_n 1, 1) := by decide +kernel
theorem dX12_chunksOf_25 : decode cX12_chunksOf 25 = .ok (.if_icmp .ne 7, 3) := by decide +kernel
theorem dX12_chunksOf_28 : decode cX12_chunksOf 28 = .ok (.iconst 1, 1) := by decide +kernel
theorem dX12_chunksOf_29 : decode cX12_chunksOf 29 = .ok (.goto 4, 3) := by decide +kernel
theorem dX12_chunksOf_32 : decode cX12_chunksOf 32 = .ok (.iconst 0, 1) := by decide +kernel
theorem dX12_chunksOf_33 : decode cX12_chunksOf 33 = .ok (.iadd, 1) := by decide +kernel
theorem dX12_chunksOf_34 : decode cX12_chunksOf 34 = .ok (.istore_n 2, 1) := by decide +kernel
theorem dX12_chunksOf_35 : decode cX12_chunksOf 35 = .ok (.iinc 3 1, 3) := by decide +kernel
theorem dX12_chunksOf_38 : decode cX12_chunksOf 38 = .ok (.goto (-34), 3) := by decide +kernel
theorem dX12_chunksOf_41 : decode cX12_chunksOf 41 = .ok (.iload_n 2, 1) := by decide +kernel
theorem dX12_chunksOf_42 : decode cX12_chunksOf 42 = .ok (.ireturn, 1) := by decide +kernel
theorem dX12_groupsOf_0 : decode cX12_groupsOf 0 = .ok (.aload_n 0, 1) := by decide +kernel
theorem dX12_groupsOf_1 : decode cX12_groupsOf 1 = .ok (.iload_n 1, 1) := by decide +kernel
theorem dX12_groupsOf_2 : decode cX12_groupsOf 2 = .ok (.invokevirtual 274, 3) := by decide +kernel
theorem dX12_groupsOf_5 : decode cX12_groupsOf 5 = .ok (.aload_n 0, 1) := by decide +kernel
theorem dX12_groupsOf_6 : decode cX12_groupsOf 6 = .ok (.getfield 73, 3) := by decide +kernel
theorem dX12_groupsOf_9 : decode cX12_groupsOf 9 = .ok (.iadd, 1) := by decide +kernel
theorem dX12_groupsOf_10 : decode cX12_groupsOf 10 = .ok (.iconst 1, 1) := by decide +kernel
theorem dX12_groupsOf_11 : decode cX12_groupsOf 11 = .ok (.isub, 1) := by decide +kernel
theorem dX12_groupsOf_12 : decode cX12_groupsOf 12 = .ok (.aload_n 0, 1) := by decide +kernel
theorem dX12_groupsOf_13 : decode cX12_groupsOf 13 = .ok (.getfield 73, 3) := by decide +kernel
theorem dX12_groupsOf_16 : decode cX12_groupsOf 16 = .ok (.idiv, 1) := by decide +kernel
theorem dX12_groupsOf_17 : decode cX12_groupsOf 17 = .ok (.ireturn, 1) := by decide +kernel
theorem dX12_slot_0 : decode cX12_slot 0 = .ok (.iconst 0, 1) := by decide +kernel
theorem dX12_slot_1 : decode cX12_slot 1 = .ok (.istore_n 3, 1) := by decide +kernel
theorem dX12_slot_2 : decode cX12_slot 2 = .ok (.iconst 0, 1) := by decide +kernel
theorem dX12_slot_3 : decode cX12_slot 3 = .ok (.istore 4, 2) := by decide +kernel
theorem dX12_slot_5 : decode cX12_slot 5 = .ok (.iload 4, 2) := by decide +kernel
theorem dX12_slot_7 : decode cX12_slot 7 = .ok (.aload_n 0, 1) := by decide +kernel
theorem dX12_slot_8 : decode cX12_slot 8 = .ok (.getfield 115, 3) := by decide +kernel
theorem dX12_slot_11 : decode cX12_slot 11 = .ok (.if_icmp .ge 44, 3) := by decide +kernel
theorem dX12_slot_14 : decode cX12_slot 14 = .ok (.aload_n 0, 1) := by decide +kernel
theorem dX12_slot_15 : decode cX12_slot 15 = .ok (.getfield 17, 3) := by decide +kernel
theorem dX12_slot_18 : decode cX12_slot 18 = .ok (.aload_n 0, 1) := by decide +kernel
theorem dX12_slot_19 : decode cX12_slot 19 = .ok (.getfield 35, 3) := by decide +kernel
theorem dX12_slot_22 : decode cX12_slot 22 = .ok (.iload 4, 2) := by decide +kernel
theorem dX12_slot_24 : decode cX12_slot 24 = .ok (.iaload, 1) := by decide +kernel
theorem dX12_slot_25 : decode cX12_slot 25 = .ok (.iaload, 1) := by decide +kernel
theorem dX12_slot_26 : decode cX12_slot 26 = .ok (.iload_n 1, 1) := by decide +kernel
theorem dX12_slot_27 : decode cX12_slot 27 = .ok (.if_icmp .eq 6, 3) := by decide +kernel
theorem dX12_slot_30 : decode cX12_slot 30 = .ok (.goto 19, 3) := by decide +kernel
theorem dX12_slot_33 : decode cX12_slot 33 = .ok (.iload_n 3, 1) := by decide +kernel
theorem dX12_slot_34 : decode cX12_slot 34 = .ok (.iload_n 2, 1) := by decide +kernel
theorem dX12_slot_35 : decode cX12_slot 35 = .ok (.if_icmp .ne 11, 3) := by decide +kernel
theorem dX12_slot_38 : decode cX12_slot 38 = .ok (.aload_n 0, 1) := by decide +kernel
theorem dX12_slot_39 : decode cX12_slot 39 = .ok (.getfield 35, 3) := by decide +kernel
theorem dX12_slot_42 : decode cX12_slot 42 = .ok (.iload 4, 2) := by decide +kernel
theorem dX12_slot_44 : decode cX12_slot 44 = .ok (.iaload, 1) := by decide +kernel
theorem dX12_slot_45 : decode cX12_slot 45 = .ok (.ireturn, 1) := by decide +kernel
theorem dX12_slot_46 : decode cX12_slot 46 = .ok (.iinc 3 1, 3) := by decide +kernel
theorem dX12_slot_49 : decode cX12_slot 49 = .ok (.iinc 4 1, 3) := by decide +kernel
theorem dX12_slot_52 : decode cX12_slot 52 = .ok (.goto (-47), 3) := by decide +kernel
theorem dX12_slot_55 : decode cX12_slot 55 = .ok (.iconst (-1), 1) := by decide +kernel
theorem dX12_slot_56 : decode cX12_slot 56 = .ok (.ireturn, 1) := by decide +kernel
theorem dX12_isPart_0 : decode cX12_isPart 0 = .ok (.iload_n 1, 1) := by decide +kernel
theorem dX12_isPart_1 : decode cX12_isPart 1 = .ok (.iload_n 2, 1) := by decide +kernel
theorem dX12_isPart_2 : decode cX12_isPart 2 = .ok (.if_icmp .lt 8, 3) := by decide +kernel
theorem dX12_isPart_5 : decode cX12_isPart 5 = .ok (.iload_n 0, 1) := by decide +kernel
theorem dX12_isPart_6 : decode cX12_isPart 6 = .ok (.iload_n 3, 1) := by decide +kernel
theorem dX12_isPart_7 : decode cX12_isPart 7 = .ok (.if_icmp .le 7, 3) := by decide +kernel
theorem dX12_isPart_10 : decode cX12_isPart 10 = .ok (.iconst 1, 1) := by decide +kernel
theorem dX12_isPart_11 : decode cX12_isPart 11 = .ok (.goto 4, 3) := by decide +kernel
theorem dX12_isPart_14 : decode cX12_isPart 14 = .ok (.iconst 0, 1) := by decide +kernel
theorem dX12_isPart_15 : decode cX12_isPart 15 = .ok (.istore 4, 2) := by decide +kernel
theorem dX12_isPart_17 : decode cX12_isPart 17 = .ok (.iload_n 0, 1) := by decide +kernel
theorem dX12_isPart_18 : decode cX12_isPart 18 = .ok (.iload_n 2, 1) := by decide +kernel
theorem dX12_isPart_19 : decode cX12_isPart 19 = .ok (.if_icmp .lt 12, 3) := by decide +kernel
theorem dX12_isPart_22 : decode cX12_isPart 22 = .ok (.iload_n 1, 1) := by decide +kernel
theorem dX12_isPart_23 : decode cX12_isPart 23 = .ok (.iload_n 3, 1) := by decide +kernel
theorem dX12_isPart_24 : decode cX12_isPart 24 = .ok (.if_icmp .gt 7, 3) := by decide +kernel
theorem dX12_isPart_27 : decode cX12_isPart 27 = .ok (.iconst 1, 1) := by decide +kernel
theorem dX12_isPart_28 : decode cX12_isPart 28 = .ok (.goto 4, 3) := by decide +kernel
theorem dX12_isPart_31 : decode cX12_isPart 31 = .ok (.iconst 0, 1) := by decide +kernel
theorem dX12_isPart_32 : decode cX12_isPart 32 = .ok (.istore 5, 2) := by decide +kernel
theorem dX12_isPart_34 : decode cX12_isPart 34 = .ok (.iload 4, 2) := by decide +kernel
theorem dX12_isPart_36 : decode cX12_isPart 36 = .ok (.ifCond .ne 12, 3) := by decide +kernel
theorem dX12_isPart_39 : decode cX12_isPart 39 = .ok (.iload 5, 2) := by decide +kernel
theorem dX12_isPart_41 : decode cX12_isPart 41 = .ok (.ifCond .ne 7, 3) := by decide +kernel
theorem dX12_isPart_44 : decode cX12_isPart 44 = .ok (.iconst 1, 1) := by decide +kernel
theorem dX12_isPart_45 : decode cX12_isPart 45 = .ok (.goto 4, 3) := by decide +kernel
theorem dX12_isPart_48 : decode cX12_isPart 48 = .ok (.iconst 0, 1) := by decide +kernel
theorem dX12_isPart_49 : decode cX12_isPart 49 = .ok (.ireturn, 1) := by decide +kernel
theorem dX12_lookInto_0 : decode cX12_lookInto 0 = .ok (.iload_n 2, 1) := by decide +kernel
theorem dX12_lookInto_1 : decode cX12_lookInto 1 = .ok (.istore 6, 2) := by decide +kernel
theorem dX12_lookInto_3 : decode cX12_lookInto 3 = .ok (.iload 6, 2) := by decide +kernel
theorem dX12_lookInto_5 : decode cX12_lookInto 5 = .ok (.iload_n 3, 1) := by decide +kernel
theorem dX12_lookInto_6 : decode cX12_lookInto 6 = .ok (.if_icmp .ge 65, 3) := by decide +kernel
theorem dX12_lookInto_9 : decode cX12_lookInto 9 = .ok (.aload_n 0, 1) := by decide +kernel
theorem dX12_lookInto_10 : decode cX12_lookInto 10 = .ok (.dup, 1) := by decide +kernel
theorem dX12_lookInto_11 : decode cX12_lookInto 11 = .ok (.getfield 268, 3) := by decide +kernel
theorem dX12_lookInto_14 : decode cX12_lookInto 14 = .ok (.iconst 1, 1) := by decide +kernel
theorem dX12_lookInto_15 : decode cX12_lookInto 15 = .ok (.iadd, 1) := by decide +kernel
theorem dX12_lookInto_16 : decode cX12_lookInto 16 = .ok (.putfield 268, 3) := by decide +kernel
theorem dX12_lookInto_19 : decode cX12_lookInto 19 = .ok (.aload_n 0, 1) := by decide +kernel
