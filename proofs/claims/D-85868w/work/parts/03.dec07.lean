set_option maxRecDepth 100000
theorem dX12_group_245 : decode cX12_group 245 = .ok (.iload 9, 2) := by decide +kernel
theorem dX12_group_247 : decode cX12_group 247 = .ok (.invokevirtual 215, 3) := by decide +kernel
theorem dX12_group_250 : decode cX12_group 250 = .ok (.goto 5, 3) := by decide +kernel
theorem dX12_group_253 : decode cX12_group 253 = .ok (.iload 7, 2) := by decide +kernel
theorem dX12_group_255 : decode cX12_group 255 = .ok (.istore 7, 2) := by decide +kernel
theorem dX12_group_257 : decode cX12_group 257 = .ok (.iload_n 3, 1) := by decide +kernel
theorem dX12_group_258 : decode cX12_group 258 = .ok (.iconst 4, 1) := by decide +kernel
theorem dX12_group_259 : decode cX12_group 259 = .ok (.if_icmp .ne 27, 3) := by decide +kernel
theorem dX12_group_262 : decode cX12_group 262 = .ok (.aload_n 0, 1) := by decide +kernel
theorem dX12_group_263 : decode cX12_group 263 = .ok (.iload 9, 2) := by decide +kernel
theorem dX12_group_265 : decode cX12_group 265 = .ok (.invokevirtual 218, 3) := by decide +kernel
theorem dX12_group_268 : decode cX12_group 268 = .ok (.iload 7, 2) := by decide +kernel
theorem dX12_group_270 : decode cX12_group 270 = .ok (.if_icmp .le 12, 3) := by decide +kernel
theorem dX12_group_273 : decode cX12_group 273 = .ok (.aload_n 0, 1) := by decide +kernel
theorem dX12_group_274 : decode cX12_group 274 = .ok (.iload 9, 2) := by decide +kernel
theorem dX12_group_276 : decode cX12_group 276 = .ok (.invokevirtual 218, 3) := by decide +kernel
theorem dX12_group_279 : decode cX12_group 279 = .ok (.goto 5, 3) := by decide +kernel
theorem dX12_group_282 : decode cX12_group 282 = .ok (.iload 7, 2) := by decide +kernel
theorem dX12_group_284 : decode cX12_group 284 = .ok (.istore 7, 2) := by decide +kernel
theorem dX12_group_286 : decode cX12_group 286 = .ok (.iinc 8 1, 3) := by decide +kernel
theorem dX12_group_289 : decode cX12_group 289 = .ok (.goto (-94), 3) := by decide +kernel
theorem dX12_group_292 : decode cX12_group 292 = .ok (.iload 7, 2) := by decide +kernel
theorem dX12_group_294 : decode cX12_group 294 = .ok (.ireturn, 1) := by decide +kernel
theorem dX12_look_0 : decode cX12_look 0 = .ok (.aload_n 0, 1) := by decide +kernel
theorem dX12_look_1 : decode cX12_look 1 = .ok (.iconst 0, 1) := by decide +kernel
theorem dX12_look_2 : decode cX12_look 2 = .ok (.putfield 76, 3) := by decide +kernel
theorem dX12_look_5 : decode cX12_look 5 = .ok (.iload_n 1, 1) := by decide +kernel
theorem dX12_look_6 : decode cX12_look 6 = .ok (.tableswitch 114 0 8 #[50, 55, 60, 65, 70, 75, 80, 93, 109], 50) := by decide +kernel
theorem dX12_look_56 : decode cX12_look 56 = .ok (.aload_n 0, 1) := by decide +kernel
theorem dX12_look_57 : decode cX12_look 57 = .ok (.getfield 83, 3) := by decide +kernel
theorem dX12_look_60 : decode cX12_look 60 = .ok (.ireturn, 1) := by decide +kernel
theorem dX12_look_61 : decode cX12_look 61 = .ok (.aload_n 0, 1) := by decide +kernel
theorem dX12_look_62 : decode cX12_look 62 = .ok (.getfield 106, 3) := by decide +kernel
theorem dX12_look_65 : decode cX12_look 65 = .ok (.ireturn, 1) := by decide +kernel
theorem dX12_look_66 : decode cX12_look 66 = .ok (.aload_n 0, 1) := by decide +kernel
theorem dX12_look_67 : decode cX12_look 67 = .ok (.getfield 115, 3) := by decide +kernel
theorem dX12_look_70 : decode cX12_look 70 = .ok (.ireturn, 1) := by decide +kernel
theorem dX12_look_71 : decode cX12_look 71 = .ok (.aload_n 0, 1) := by decide +kernel
theorem dX12_look_72 : decode cX12_look 72 = .ok (.invokevirtual 310, 3) := by decide +kernel
theorem dX12_look_75 : decode cX12_look 75 = .ok (.ireturn, 1) := by decide +kernel
theorem dX12_look_76 : decode cX12_look 76 = .ok (.aload_n 0, 1) := by decide +kernel
theorem dX12_look_77 : decode cX12_look 77 = .ok (.getfield 268, 3) := by decide +kernel
theorem dX12_look_80 : decode cX12_look 80 = .ok (.ireturn, 1) := by decide +kernel
theorem dX12_look_81 : decode cX12_look 81 = .ok (.aload_n 0, 1) := by decide +kernel
theorem dX12_look_82 : decode cX12_look 82 = .ok (.getfield 271, 3) := by decide +kernel
theorem dX12_look_85 : decode cX12_look 85 = .ok (.ireturn, 1) := by decide +kernel
theorem dX12_look_86 : decode cX12_look 86 = .ok (.aload_n 0, 1) := by decide +kernel
theorem dX12_look_87 : decode cX12_look 87 = .ok (.getfield 79, 3) := by decide +kernel
theorem dX12_look_90 : decode cX12_look 90 = .ok (.ifCond .eq 7, 3) := by decide +kernel
theorem dX12_look_93 : decode cX12_look 93 = .ok (.iconst 1, 1) := by decide +kernel
theorem dX12_look_94 : decode cX12_look 94 = .ok (.goto 4, 3) := by decide +kernel
theorem dX12_look_97 : decode cX12_look 97 = .ok (.iconst 0, 1) := by decide +kernel
theorem dX12_look_98 : decode cX12_look 98 = .ok (.ireturn, 1) := by decide +kernel
theorem dX12_look_99 : decode cX12_look 99 = .ok (.aload_n 0, 1) := by decide +kernel
theorem dX12_look_100 : decode cX12_look 100 = .ok (.getfield 79, 3) := by decide +kernel
theorem dX12_look_103 : decode cX12_look 103 = .ok (.ifCond .eq 7, 3) := by decide +kernel
theorem dX12_look_106 : decode cX12_look 106 = .ok (.iconst 0, 1) := by decide +kernel
theorem dX12_look_107 : decode cX12_look 107 = .ok (.goto 7, 3) := by decide +kernel
theorem dX12_look_110 : decode cX12_look 110 = .ok (.aload_n 0, 1) := by decide +kernel
theorem dX12_look_111 : decode cX12_look 111 = .ok (.getfield 13, 3) := by decide +kernel
theorem dX12_look_114 : decode cX12_look 114 = .ok (.ireturn, 1) := by decide +kernel
theorem dX12_look_115 : decode cX12_look 115 = .ok (.aload_n 0, 1) := by decide +kernel
theorem dX12_look_116 : decode cX12_look 116 = .ok (.getfield 304, 3) := by decide +kernel
theorem dX12_look_119 : decode cX12_look 119 = .ok (.ireturn, 1) := by decide +kernel
theorem dX12_look_120 : decode cX12_look 120 = .ok (.iconst (-1), 1) := by decide +kernel
theorem dX12_look_121 : decode cX12_look 121 = .ok (.ireturn, 1) := by decide +kernel
theorem dX12_taken_0 : decode cX12_taken 0 = .ok (.iconst 0, 1) := by decide +kernel
theorem dX12_taken_1 : decode cX12_taken 1 = .ok (.istore_n 1, 1) := by decide +kernel
theorem dX12_taken_2 : decode cX12_taken 2 = .ok (.iconst 0, 1) := by decide +kernel
theorem dX12_taken_3 : decode cX12_taken 3 = .ok (.istore_n 2, 1) := by decide +kernel
theorem dX12_taken_4 : decode cX12_taken 4 = .ok (.iload_n 2, 1) := by decide +kernel
theorem dX12_taken_5 : decode cX12_taken 5 = .ok (.aload_n 0, 1) := by decide +kernel
theorem dX12_taken_6 : decode cX12_taken 6 = .ok (.getfield 115, 3) := by decide +kernel
theorem dX12_taken_9 : decode cX12_taken 9 = .ok (.if_icmp .ge 23, 3) := by decide +kernel
theorem dX12_taken_12 : decode cX12_taken 12 = .ok (.iload_n 1, 1) := by decide +kernel
theorem dX12_taken_13 : decode cX12_taken 13 = .ok (.aload_n 0, 1) := by decide +kernel
theorem dX12_taken_14 : decode cX12_taken 14 = .ok (.getfield 26, 3) := by decide +kernel
theorem dX12_taken_17 : decode cX12_taken 17 = .ok (.aload_n 0, 1) := by decide +kernel
theorem dX12_taken_18 : decode cX12_taken 18 = .ok (.getfield 35, 3) := by decide +kernel
theorem dX12_taken_21 : decode cX12_taken 21 = .ok (.iload_n 2, 1) := by decide +kernel
theorem dX12_taken_22 : decode cX12_taken 22 = .ok (.iaload, 1) := by decide +kernel
theorem dX12_taken_23 : decode cX12_taken 23 = .ok (.iaload, 1) := by decide +kernel
theorem dX12_taken_24 : decode cX12_taken 24 = .ok (.iadd, 1) := by decide +kernel
theorem dX12_taken_25 : decode cX12_taken 25 = .ok (.istore_n 1, 1) := by decide +kernel
theorem dX12_taken_26 : decode cX12_taken 26 = .ok (.iinc 2 1, 3) := by decide +kernel
theorem dX12_taken_29 : decode cX12_taken 29 = .ok (.goto (-25), 3) := by decide +kernel
theorem dX12_taken_32 : decode cX12_taken 32 = .ok (.iload_n 1, 1) := by decide +kernel
theorem dX12_taken_33 : decode cX12_taken 33 = .ok (.ireturn, 1) := by decide +kernel
theorem dJ3_init_0 : decode cJ3_init 0 = .ok (.aload_n 0, 1) := by decide +kernel
theorem dJ3_init_1 : decode cJ3_init 1 = .ok (.aload_n 1, 1) := by decide +kernel
theorem dJ3_init_2 : decode cJ3_init 2 = .ok (.invokespecial 7, 3) := by decide +kernel
theorem dJ3_init_5 : decode cJ3_init 5 = .ok (.return_, 1) := by decide +kernel
theorem dJ3_init_2_0 : decode cJ3_init_2 0 = .ok (.aload_n 0, 1) := by decide +kernel
theorem dJ3_init_2_1 : decode cJ3_init_2 1 = .ok (.invokespecial 1, 3) := by decide +kernel
theorem dJ3_init_2_4 : decode cJ3_init_2 4 = .ok (.return_, 1) := by decide +kernel
theorem dJ4_init_0 : decode cJ4_init 0 = .ok (.aload_n 0, 1) := by decide +kernel
theorem dJ4_init_1 : decode cJ4_init 1 = .ok (.aload_n 1, 1) := by decide +kernel
theorem dJ4_init_2 : decode cJ4_init 2 = .ok (.invokespecial 7, 3) := by decide +kernel
theorem dJ4_init_5 : decode cJ4_init 5 = .ok (.return_, 1) := by decide +kernel
theorem dJ4_init_2_0 : decode cJ4_init_2 0 = .ok (.aload_n 0, 1) := by decide +kernel
theorem dJ4_init_2_1 : decode cJ4_init_2 1 = .ok (.invokespecial 1, 3) := by decide +kernel
theorem dJ4_init_2_4 : decode cJ4_init_2 4 = .ok (.return_, 1) := by decide +kernel
theorem dJ5_init_0 : decode cJ5_init 0 = .ok (.aload_n 0, 1) := by decide +kernel
theorem dJ5_init_1 : decode cJ5_init 1 = .ok (.aload_n 1, 1) := by decide +kernel
theorem dJ5_init_2 : decode cJ5_init 2 = .ok (.invokespecial 7, 3) := by decide +kernel
theorem dJ5_init_5 : decode cJ5_init 5 = .ok (.return_, 1) := by decide +kernel
theorem dJ7_init_0 : decode cJ7_init 0 = .ok (.aload_n 0, 1) := by decide +kernel
theorem dJ7_init_1 : decode cJ7_init 1 = .ok (.invokespecial 1, 3) := by decide +kernel
theorem dJ7_init_4 : decode cJ7_init 4 = .ok (.return_, 1) := by decide +kernel
theorem dJ8_init_0 : decode cJ8_init 0 = .ok (.aload_n 0, 1) := by decide +kernel
theorem dJ8_init_1 : decode cJ8_init 1 = .ok (.invokespecial 1, 3) := by decide +kernel
theorem dJ8_init_4 : decode cJ8_init 4 = .ok (.return_, 1) := by decide +kernel
theorem dJ9_init_0 : decode cJ9_init 0 = .ok (.aload_n 0, 1) := by decide +kernel
theorem dJ9_init_1 : decode cJ9_init 1 = .ok (.invokespecial 1, 3) := by decide +kernel
theorem dJ9_init_4 : decode cJ9_init 4 = .ok (.return_, 1) := by decide +kernel
theorem dJ10_init_0 : decode cJ10_init 0 = .ok (.return_, 1) := by decide +kernel
theorem dL_law_0 : decode cL_law 0 = .ok (.new 8, 3) := by decide +kernel
theorem dL_law_3 : decode cL_law 3 = .ok (.dup, 1) := by decide +kernel
theorem dL_law_4 : decode cL_law 4 = .ok (.aload_n 0, 1) := by decide +kernel
theorem dL_law_5 : decode cL_law 5 = .ok (.iconst 0, 1) := by decide +kernel
theorem dL_law_6 : decode cL_law 6 = .ok (.invokestatic 36, 3) := by decide +kernel
theorem dL_law_9 : decode cL_law 9 = .ok (.aload_n 0, 1) := by decide +kernel
theorem dL_law_10 : decode cL_law 10 = .ok (.iconst 1, 1) := by decide +kernel
theorem dL_law_11 : decode cL_law 11 = .ok (.invokestatic 36, 3) := by decide +kernel
theorem dL_law_14 : decode cL_law 14 = .ok (.aload_n 0, 1) := by decide +kernel
theorem dL_law_15 : decode cL_law 15 = .ok (.iconst 2, 1) := by decide +kernel
theorem dL_law_16 : decode cL_law 16 = .ok (.invokestatic 36, 3) := by decide +kernel
theorem dL_law_19 : decode cL_law 19 = .ok (.invokespecial 42, 3) := by decide +kernel
theorem dL_law_22 : decode cL_law 22 = .ok (.astore_n 1, 1) := by decide +kernel
theorem dL_law_23 : decode cL_law 23 = .ok (.new 45, 3) := by decide +kernel
theorem dL_law_26 : decode cL_law 26 = .ok (.dup, 1) := by decide +kernel
theorem dL_law_27 : decode cL_law 27 = .ok (.aload_n 0, 1) := by decide +kernel
theorem dL_law_28 : decode cL_law 28 = .ok (.iconst 0, 1) := by decide +kernel
theorem dL_law_29 : decode cL_law 29 = .ok (.invokestatic 36, 3) := by decide +kernel
theorem dL_law_32 : decode cL_law 32 = .ok (.aload_n 0, 1) := by decide +kernel
theorem dL_law_33 : decode cL_law 33 = .ok (.iconst 1, 1) := by decide +kernel
theorem dL_law_34 : decode cL_law 34 = .ok (.invokestatic 36, 3) := by decide +kernel
theorem dL_law_37 : decode cL_law 37 = .ok (.aload_n 0, 1) := by decide +kernel
theorem dL_law_38 : decode cL_law 38 = .ok (.iconst 2, 1) := by decide +kernel
theorem dL_law_39 : decode cL_law 39 = .ok (.invokestatic 36, 3) := by decide +kernel
theorem dL_law_42 : decode cL_law 42 = .ok (.invokespecial 47, 3) := by decide +kernel
theorem dL_law_45 : decode cL_law 45 = .ok (.astore_n 2, 1) := by decide +kernel
theorem dL_law_46 : decode cL_law 46 = .ok (.iconst 1, 1) := by decide +kernel
theorem dL_law_47 : decode cL_law 47 = .ok (.newarray .long, 2) := by decide +kernel
theorem dL_law_49 : decode cL_law 49 = .ok (.astore_n 3, 1) := by decide +kernel
theorem dL_law_50 : decode cL_law 50 = .ok (.iconst 3, 1) := by decide +kernel
theorem dL_law_51 : decode cL_law 51 = .ok (.istore 4, 2) := by decide +kernel
theorem dL_law_53 : decode cL_law 53 = .ok (.iload 4, 2) := by decide +kernel
theorem dL_law_55 : decode cL_law 55 = .ok (.aload_n 0, 1) := by decide +kernel
theorem dL_law_56 : decode cL_law 56 = .ok (.arraylength, 1) := by decide +kernel
theorem dL_law_57 : decode cL_law 57 = .ok (.iconst 4, 1) := by decide +kernel
theorem dL_law_58 : decode cL_law 58 = .ok (.isub, 1) := by decide +kernel
theorem dL_law_59 : decode cL_law 59 = .ok (.if_icmp .gt 911, 3) := by decide +kernel
theorem dL_law_62 : decode cL_law 62 = .ok (.aload_n 0, 1) := by decide +kernel
theorem dL_law_63 : decode cL_law 63 = .ok (.iload 4, 2) := by decide +kernel
theorem dL_law_65 : decode cL_law 65 = .ok (.iaload, 1) := by decide +kernel
theorem dL_law_66 : decode cL_law 66 = .ok (.bipush 31, 2) := by decide +kernel
theorem dL_law_68 : decode cL_law 68 = .ok (.iand, 1) := by decide +kernel
theorem dL_law_69 : decode cL_law 69 = .ok (.tableswitch 895 0 18 #[91, 140, 153, 178, 203, 252, 265, 278, 291, 340, 420, 500, 579, 604, 617, 642, 710, 790, 870], 91) := by decide +kernel
theorem dL_law_160 : decode cL_law 160 = .ok (.aload_n 1, 1) := by decide +kernel
theorem dL_law_161 : decode cL_law 161 = .ok (.aload_n 0, 1) := by decide +kernel
theorem dL_law_162 : decode cL_law 162 = .ok (.iload 4, 2) := by decide +kernel
theorem dL_law_164 : decode cL_law 164 = .ok (.iconst 1, 1) := by decide +kernel
theorem dL_law_165 : decode cL_law 165 = .ok (.iadd, 1) := by decide +kernel
theorem dL_law_166 : decode cL_law 166 = .ok (.iaload, 1) := by decide +kernel
theorem dL_law_167 : decode cL_law 167 = .ok (.aload_n 0, 1) := by decide +kernel
theorem dL_law_168 : decode cL_law 168 = .ok (.iload 4, 2) := by decide +kernel
theorem dL_law_170 : decode cL_law 170 = .ok (.iconst 2, 1) := by decide +kernel
theorem dL_law_171 : decode cL_law 171 = .ok (.iadd, 1) := by decide +kernel
theorem dL_law_172 : decode cL_law 172 = .ok (.iaload, 1) := by decide +kernel
theorem dL_law_173 : decode cL_law 173 = .ok (.aload_n 0, 1) := by decide +kernel
theorem dL_law_174 : decode cL_law 174 = .ok (.iload 4, 2) := by decide +kernel
theorem dL_law_176 : decode cL_law 176 = .ok (.iconst 3, 1) := by decide +kernel
theorem dL_law_177 : decode cL_law 177 = .ok (.iadd, 1) := by decide +kernel
theorem dL_law_178 : decode cL_law 178 = .ok (.iaload, 1) := by decide +kernel
theorem dL_law_179 : decode cL_law 179 = .ok (.invokevirtual 48, 3) := by decide +kernel
theorem dL_law_182 : decode cL_law 182 = .ok (.aload_n 2, 1) := by decide +kernel
theorem dL_law_183 : decode cL_law 183 = .ok (.aload_n 0, 1) := by decide +kernel
theorem dL_law_184 : decode cL_law 184 = .ok (.iload 4, 2) := by decide +kernel
theorem dL_law_186 : decode cL_law 186 = .ok (.iconst 1, 1) := by decide +kernel
theorem dL_law_187 : decode cL_law 187 = .ok (.iadd, 1) := by decide +kernel
theorem dL_law_188 : decode cL_law 188 = .ok (.iaload, 1) := by decide +kernel
theorem dL_law_189 : decode cL_law 189 = .ok (.aload_n 0, 1) := by decide +kernel
theorem dL_law_190 : decode cL_law 190 = .ok (.iload 4, 2) := by decide +kernel
theorem dL_law_192 : decode cL_law 192 = .ok (.iconst 2, 1) := by decide +kernel
theorem dL_law_193 : decode cL_law 193 = .ok (.iadd, 1) := by decide +kernel
theorem dL_law_194 : decode cL_law 194 = .ok (.iaload, 1) := by decide +kernel
theorem dL_law_195 : decode cL_law 195 = .ok (.aload_n 0, 1) := by decide +kernel
theorem dL_law_196 : decode cL_law 196 = .ok (.iload 4, 2) := by decide +kernel
theorem dL_law_198 : decode cL_law 198 = .ok (.iconst 3, 1) := by decide +kernel
theorem dL_law_199 : decode cL_law 199 = .ok (.iadd, 1) := by decide +kernel
theorem dL_law_200 : decode cL_law 200 = .ok (.iaload, 1) := by decide +kernel
theorem dL_law_201 : decode cL_law 201 = .ok (.invokevirtual 51, 3) := by decide +kernel
theorem dL_law_204 : decode cL_law 204 = .ok (.if_icmp .eq 760, 3) := by decide +kernel
theorem dL_law_207 : decode cL_law 207 = .ok (.iconst 0, 1) := by decide +kernel
theorem dL_law_208 : decode cL_law 208 = .ok (.ireturn, 1) := by decide +kernel
theorem dL_law_209 : decode cL_law 209 = .ok (.aload_n 1, 1) := by decide +kernel
theorem dL_law_210 : decode cL_law 210 = .ok (.invokevirtual 52, 3) := by decide +kernel
theorem dL_law_213 : decode cL_law 213 = .ok (.aload_n 2, 1) := by decide +kernel
theorem dL_law_214 : decode cL_law 214 = .ok (.invokevirtual 56, 3) := by decide +kernel
theorem dL_law_217 : decode cL_law 217 = .ok (.if_icmp .eq 747, 3) := by decide +kernel
theorem dL_law_220 : decode cL_law 220 = .ok (.iconst 0, 1) := by decide +kernel
theorem dL_law_221 : decode cL_law 221 = .ok (.ireturn, 1) := by decide +kernel
theorem dL_law_222 : decode cL_law 222 = .ok (.aload_n 1, 1) := by decide +kernel
theorem dL_law_223 : decode cL_law 223 = .ok (.aload_n 0, 1) := by decide +kernel
theorem dL_law_224 : decode cL_law 224 = .ok (.iload 4, 2) := by decide +kernel
theorem dL_law_226 : decode cL_law 226 = .ok (.iconst 1, 1) := by decide +kernel
theorem dL_law_227 : decode cL_law 227 = .ok (.iadd, 1) := by decide +kernel
theorem dL_law_228 : decode cL_law 228 = .ok (.iaload, 1) := by decide +kernel
theorem dL_law_229 : decode cL_law 229 = .ok (.invokevirtual 57, 3) := by decide +kernel
theorem dL_law_232 : decode cL_law 232 = .ok (.aload_n 2, 1) := by decide +kernel
theorem dL_law_233 : decode cL_law 233 = .ok (.aload_n 0, 1) := by decide +kernel
theorem dL_law_234 : decode cL_law 234 = .ok (.iload 4, 2) := by decide +kernel
theorem dL_law_236 : decode cL_law 236 = .ok (.iconst 1, 1) := by decide +kernel
theorem dL_law_237 : decode cL_law 237 = .ok (.iadd, 1) := by decide +kernel
theorem dL_law_238 : decode cL_law 238 = .ok (.iaload, 1) := by decide +kernel
theorem dL_law_239 : decode cL_law 239 = .ok (.invokevirtual 61, 3) := by decide +kernel
theorem dL_law_242 : decode cL_law 242 = .ok (.if_icmp .eq 722, 3) := by decide +kernel
theorem dL_law_245 : decode cL_law 245 = .ok (.iconst 0, 1) := by decide +kernel
theorem dL_law_246 : decode cL_law 246 = .ok (.ireturn, 1) := by decide +kernel
theorem dL_law_247 : decode cL_law 247 = .ok (.aload_n 1, 1) := by decide +kernel
theorem dL_law_248 : decode cL_law 248 = .ok (.aload_n 0, 1) := by decide +kernel
theorem dL_law_249 : decode cL_law 249 = .ok (.iload 4, 2) := by decide +kernel
theorem dL_law_251 : decode cL_law 251 = .ok (.iconst 1, 1) := by decide +kernel
theorem dL_law_252 : decode cL_law 252 = .ok (.iadd, 1) := by decide +kernel
theorem dL_law_253 : decode cL_law 253 = .ok (.iaload, 1) := by decide +kernel
theorem dL_law_254 : decode cL_law 254 = .ok (.invokevirtual 62, 3) := by decide +kernel
theorem dL_law_257 : decode cL_law 257 = .ok (.aload_n 2, 1) := by decide +kernel
theorem dL_law_258 : decode cL_law 258 = .ok (.aload_n 0, 1) := by decide +kernel
theorem dL_law_259 : decode cL_law 259 = .ok (.iload 4, 2) := by decide +kernel
theorem dL_law_261 : decode cL_law 261 = .ok (.iconst 1, 1) := by decide +kernel
theorem dL_law_262 : decode cL_law 262 = .ok (.iadd, 1) := by decide +kernel
theorem dL_law_263 : decode cL_law 263 = .ok (.iaload, 1) := by decide +kernel
theorem dL_law_264 : decode cL_law 264 = .ok (.invokevirtual 65, 3) := by decide +kernel
theorem dL_law_267 : decode cL_law 267 = .ok (.if_icmp .eq 697, 3) := by decide +kernel
theorem dL_law_270 : decode cL_law 270 = .ok (.iconst 0, 1) := by decide +kernel
theorem dL_law_271 : decode cL_law 271 = .ok (.ireturn, 1) := by decide +kernel
theorem dL_law_272 : decode cL_law 272 = .ok (.aload_n 1, 1) := by decide +kernel
theorem dL_law_273 : decode cL_law 273 = .ok (.aload_n 0, 1) := by decide +kernel
theorem dL_law_274 : decode cL_law 274 = .ok (.iload 4, 2) := by decide +kernel
theorem dL_law_276 : decode cL_law 276 = .ok (.iconst 1, 1) := by decide +kernel
theorem dL_law_277 : decode cL_law 277 = .ok (.iadd, 1) := by decide +kernel
theorem dL_law_278 : decode cL_law 278 = .ok (.iaload, 1) := by decide +kernel
theorem dL_law_279 : decode cL_law 279 = .ok (.aload_n 0, 1) := by decide +kernel
theorem dL_law_280 : decode cL_law 280 = .ok (.iload 4, 2) := by decide +kernel
theorem dL_law_282 : decode cL_law 282 = .ok (.iconst 2, 1) := by decide +kernel
theorem dL_law_283 : decode cL_law 283 = .ok (.iadd, 1) := by decide +kernel
theorem dL_law_284 : decode cL_law 284 = .ok (.iaload, 1) := by decide +kernel
theorem dL_law_285 : decode cL_law 285 = .ok (.aload_n 0, 1) := by decide +kernel
theorem dL_law_286 : decode cL_law 286 = .ok (.iload 4, 2) := by decide +kernel
theorem dL_law_288 : decode cL_law 288 = .ok (.iconst 3, 1) := by decide +kernel
theorem dL_law_289 : decode cL_law 289 = .ok (.iadd, 1) := by decide +kernel
theorem dL_law_290 : decode cL_law 290 = .ok (.iaload, 1) := by decide +kernel
theorem dL_law_291 : decode cL_law 291 = .ok (.invokevirtual 66, 3) := by decide +kernel
theorem dL_law_294 : decode cL_law 294 = .ok (.aload_n 2, 1) := by decide +kernel
theorem dL_law_295 : decode cL_law 295 = .ok (.aload_n 0, 1) := by decide +kernel
theorem dL_law_296 : decode cL_law 296 = .ok (.iload 4, 2) := by decide +kernel
theorem dL_law_298 : decode cL_law 298 = .ok (.iconst 1, 1) := by decide +kernel
theorem dL_law_299 : decode cL_law 299 = .ok (.iadd, 1) := by decide +kernel
theorem dL_law_300 : decode cL_law 300 = .ok (.iaload, 1) := by decide +kernel
theorem dL_law_301 : decode cL_law 301 = .ok (.aload_n 0, 1) := by decide +kernel
theorem dL_law_302 : decode cL_law 302 = .ok (.iload 4, 2) := by decide +kernel
theorem dL_law_304 : decode cL_law 304 = .ok (.iconst 2, 1) := by decide +kernel
theorem dL_law_305 : decode cL_law 305 = .ok (.iadd, 1) := by decide +kernel
theorem dL_law_306 : decode cL_law 306 = .ok (.iaload, 1) := by decide +kernel
theorem dL_law_307 : decode cL_law 307 = .ok (.aload_n 0, 1) := by decide +kernel
theorem dL_law_308 : decode cL_law 308 = .ok (.iload 4, 2) := by decide +kernel
theorem dL_law_310 : decode cL_law 310 = .ok (.iconst 3, 1) := by decide +kernel
theorem dL_law_311 : decode cL_law 311 = .ok (.iadd, 1) := by decide +kernel
theorem dL_law_312 : decode cL_law 312 = .ok (.iaload, 1) := by decide +kernel
theorem dL_law_313 : decode cL_law 313 = .ok (.invokevirtual 69, 3) := by decide +kernel
theorem dL_law_316 : decode cL_law 316 = .ok (.if_icmp .eq 648, 3) := by decide +kernel
theorem dL_law_319 : decode cL_law 319 = .ok (.iconst 0, 1) := by decide +kernel
theorem dL_law_320 : decode cL_law 320 = .ok (.ireturn, 1) := by decide +kernel
theorem dL_law_321 : decode cL_law 321 = .ok (.aload_n 1, 1) := by decide +kernel
theorem dL_law_322 : decode cL_law 322 = .ok (.invokevirtual 70, 3) := by decide +kernel
theorem dL_law_325 : decode cL_law 325 = .ok (.aload_n 2, 1) := by decide +kernel
theorem dL_law_326 : decode cL_law 326 = .ok (.invokevirtual 74, 3) := by decide +kernel
theorem dL_law_329 : decode cL_law 329 = .ok (.if_icmp .eq 635, 3) := by decide +kernel
theorem dL_law_332 : decode cL_law 332 = .ok (.iconst 0, 1) := by decide +kernel
theorem dL_law_333 : decode cL_law 333 = .ok (.ireturn, 1) := by decide +kernel
theorem dL_law_334 : decode cL_law 334 = .ok (.aload_n 1, 1) := by decide +kernel
theorem dL_law_335 : decode cL_law 335 = .ok (.invokevirtual 75, 3) := by decide +kernel
theorem dL_law_338 : decode cL_law 338 = .ok (.aload_n 2, 1) := by decide +kernel
theorem dL_law_339 : decode cL_law 339 = .ok (.invokevirtual 78, 3) := by decide +kernel
theorem dL_law_342 : decode cL_law 342 = .ok (.if_icmp .eq 622, 3) := by decide +kernel
theorem dL_law_345 : decode cL_law 345 = .ok (.iconst 0, 1) := by decide +kernel
theorem dL_law_346 : decode cL_law 346 = .ok (.ireturn, 1) := by decide +kernel
theorem dL_law_347 : decode cL_law 347 = .ok (.aload_n 1, 1) := by decide +kernel
theorem dL_law_348 : decode cL_law 348 = .ok (.invokevirtual 79, 3) := by decide +kernel
theorem dL_law_351 : decode cL_law 351 = .ok (.aload_n 2, 1) := by decide +kernel
theorem dL_law_352 : decode cL_law 352 = .ok (.invokevirtual 82, 3) := by decide +kernel
theorem dL_law_355 : decode cL_law 355 = .ok (.if_icmp .eq 609, 3) := by decide +kernel
theorem dL_law_358 : decode cL_law 358 = .ok (.iconst 0, 1) := by decide +kernel
theorem dL_law_359 : decode cL_law 359 = .ok (.ireturn, 1) := by decide +kernel
theorem dL_law_360 : decode cL_law 360 = .ok (.aload_n 1, 1) := by decide +kernel
theorem dL_law_361 : decode cL_law 361 = .ok (.aload_n 0, 1) := by decide +kernel
theorem dL_law_362 : decode cL_law 362 = .ok (.iload 4, 2) := by decide +kernel
theorem dL_law_364 : decode cL_law 364 = .ok (.iconst 1, 1) := by decide +kernel
theorem dL_law_365 : decode cL_law 365 = .ok (.iadd, 1) := by decide +kernel
theorem dL_law_366 : decode cL_law 366 = .ok (.iaload, 1) := by decide +kernel
theorem dL_law_367 : decode cL_law 367 = .ok (.aload_n 0, 1) := by decide +kernel
theorem dL_law_368 : decode cL_law 368 = .ok (.iload 4, 2) := by decide +kernel
theorem dL_law_370 : decode cL_law 370 = .ok (.iconst 2, 1) := by decide +kernel
theorem dL_law_371 : decode cL_law 371 = .ok (.iadd, 1) := by decide +kernel
theorem dL_law_372 : decode cL_law 372 = .ok (.iaload, 1) := by decide +kernel
theorem dL_law_373 : decode cL_law 373 = .ok (.aload_n 0, 1) := by decide +kernel
theorem dL_law_374 : decode cL_law 374 = .ok (.iload 4, 2) := by decide +kernel
theorem dL_law_376 : decode cL_law 376 = .ok (.iconst 3, 1) := by decide +kernel
theorem dL_law_377 : decode cL_law 377 = .ok (.iadd, 1) := by decide +kernel
theorem dL_law_378 : decode cL_law 378 = .ok (.iaload, 1) := by decide +kernel
theorem dL_law_379 : decode cL_law 379 = .ok (.invokevirtual 83, 3) := by decide +kernel
theorem dL_law_382 : decode cL_law 382 = .ok (.aload_n 2, 1) := by decide +kernel
theorem dL_law_383 : decode cL_law 383 = .ok (.aload_n 0, 1) := by decide +kernel
theorem dL_law_384 : decode cL_law 384 = .ok (.iload 4, 2) := by decide +kernel
theorem dL_law_386 : decode cL_law 386 = .ok (.iconst 1, 1) := by decide +kernel
theorem dL_law_387 : decode cL_law 387 = .ok (.iadd, 1) := by decide +kernel
theorem dL_law_388 : decode cL_law 388 = .ok (.iaload, 1) := by decide +kernel
theorem dL_law_389 : decode cL_law 389 = .ok (.aload_n 0, 1) := by decide +kernel
theorem dL_law_390 : decode cL_law 390 = .ok (.iload 4, 2) := by decide +kernel
theorem dL_law_392 : decode cL_law 392 = .ok (.iconst 2, 1) := by decide +kernel
theorem dL_law_393 : decode cL_law 393 = .ok (.iadd, 1) := by decide +kernel
theorem dL_law_394 : decode cL_law 394 = .ok (.iaload, 1) := by decide +kernel
theorem dL_law_395 : decode cL_law 395 = .ok (.aload_n 0, 1) := by decide +kernel
theorem dL_law_396 : decode cL_law 396 = .ok (.iload 4, 2) := by decide +kernel
theorem dL_law_398 : decode cL_law 398 = .ok (.iconst 3, 1) := by decide +kernel
theorem dL_law_399 : decode cL_law 399 = .ok (.iadd, 1) := by decide +kernel
theorem dL_law_400 : decode cL_law 400 = .ok (.iaload, 1) := by decide +kernel
theorem dL_law_401 : decode cL_law 401 = .ok (.invokevirtual 86, 3) := by decide +kernel
theorem dL_law_404 : decode cL_law 404 = .ok (.if_icmp .eq 560, 3) := by decide +kernel
theorem dL_law_407 : decode cL_law 407 = .ok (.iconst 0, 1) := by decide +kernel
theorem dL_law_408 : decode cL_law 408 = .ok (.ireturn, 1) := by decide +kernel
theorem dL_law_409 : decode cL_law 409 = .ok (.aload_n 1, 1) := by decide +kernel
theorem dL_law_410 : decode cL_law 410 = .ok (.aload_n 0, 1) := by decide +kernel
theorem dL_law_411 : decode cL_law 411 = .ok (.iload 4, 2) := by decide +kernel
theorem dL_law_413 : decode cL_law 413 = .ok (.iconst 1, 1) := by decide +kernel
theorem dL_law_414 : decode cL_law 414 = .ok (.iadd, 1) := by decide +kernel
theorem dL_law_415 : decode cL_law 415 = .ok (.iaload, 1) := by decide +kernel
theorem dL_law_416 : decode cL_law 416 = .ok (.aload_n 0, 1) := by decide +kernel
theorem dL_law_417 : decode cL_law 417 = .ok (.iload 4, 2) := by decide +kernel
theorem dL_law_419 : decode cL_law 419 = .ok (.iconst 2, 1) := by decide +kernel
theorem dL_law_420 : decode cL_law 420 = .ok (.iadd, 1) := by decide +kernel
theorem dL_law_421 : decode cL_law 421 = .ok (.iaload, 1) := by decide +kernel
theorem dL_law_422 : decode cL_law 422 = .ok (.aload_n 0, 1) := by decide +kernel
theorem dL_law_423 : decode cL_law 423 = .ok (.iload 4, 2) := by decide +kernel
theorem dL_law_425 : decode cL_law 425 = .ok (.iconst 3, 1) := by decide +kernel
theorem dL_law_426 : decode cL_law 426 = .ok (.iadd, 1) := by decide +kernel
theorem dL_law_427 : decode cL_law 427 = .ok (.iaload, 1) := by decide +kernel
theorem dL_law_428 : decode cL_law 428 = .ok (.aload_n 3, 1) := by decide +kernel
theorem dL_law_429 : decode cL_law 429 = .ok (.invokestatic 87, 3) := by decide +kernel
theorem dL_law_432 : decode cL_law 432 = .ok (.istore 5, 2) := by decide +kernel
theorem dL_law_434 : decode cL_law 434 = .ok (.aload_n 2, 1) := by decide +kernel
theorem dL_law_435 : decode cL_law 435 = .ok (.aload_n 0, 1) := by decide +kernel
theorem dL_law_436 : decode cL_law 436 = .ok (.iload 4, 2) := by decide +kernel
theorem dL_law_438 : decode cL_law 438 = .ok (.iconst 1, 1) := by decide +kernel
theorem dL_law_439 : decode cL_law 439 = .ok (.iadd, 1) := by decide +kernel
theorem dL_law_440 : decode cL_law 440 = .ok (.iaload, 1) := by decide +kernel
theorem dL_law_441 : decode cL_law 441 = .ok (.aload_n 0, 1) := by decide +kernel
theorem dL_law_442 : decode cL_law 442 = .ok (.iload 4, 2) := by decide +kernel
theorem dL_law_444 : decode cL_law 444 = .ok (.iconst 2, 1) := by decide +kernel
theorem dL_law_445 : decode cL_law 445 = .ok (.iadd, 1) := by decide +kernel
theorem dL_law_446 : decode cL_law 446 = .ok (.iaload, 1) := by decide +kernel
theorem dL_law_447 : decode cL_law 447 = .ok (.aload_n 0, 1) := by decide +kernel
theorem dL_law_448 : decode cL_law 448 = .ok (.iload 4, 2) := by decide +kernel
theorem dL_law_450 : decode cL_law 450 = .ok (.iconst 3, 1) := by decide +kernel
theorem dL_law_451 : decode cL_law 451 = .ok (.iadd, 1) := by decide +kernel
theorem dL_law_452 : decode cL_law 452 = .ok (.iaload, 1) := by decide +kernel
theorem dL_law_453 : decode cL_law 453 = .ok (.invokevirtual 90, 3) := by decide +kernel
theorem dL_law_456 : decode cL_law 456 = .ok (.istore 6, 2) := by decide +kernel
theorem dL_law_458 : decode cL_law 458 = .ok (.aload_n 2, 1) := by decide +kernel
theorem dL_law_459 : decode cL_law 459 = .ok (.invokevirtual 91, 3) := by decide +kernel
theorem dL_law_462 : decode cL_law 462 = .ok (.iload 5, 2) := by decide +kernel
theorem dL_law_464 : decode cL_law 464 = .ok (.if_icmp .eq 5, 3) := by decide +kernel
theorem dL_law_467 : decode cL_law 467 = .ok (.iconst 0, 1) := by decide +kernel
theorem dL_law_468 : decode cL_law 468 = .ok (.ireturn, 1) := by decide +kernel
theorem dL_law_469 : decode cL_law 469 = .ok (.iload 5, 2) := by decide +kernel
theorem dL_law_471 : decode cL_law 471 = .ok (.ifCond .ne 15, 3) := by decide +kernel
theorem dL_law_474 : decode cL_law 474 = .ok (.aload_n 3, 1) := by decide +kernel
theorem dL_law_475 : decode cL_law 475 = .ok (.iconst 0, 1) := by decide +kernel
theorem dL_law_476 : decode cL_law 476 = .ok (.laload, 1) := by decide +kernel
theorem dL_law_477 : decode cL_law 477 = .ok (.iload 6, 2) := by decide +kernel
theorem dL_law_479 : decode cL_law 479 = .ok (.i2l, 1) := by decide +kernel
theorem dL_law_480 : decode cL_law 480 = .ok (.lcmp, 1) := by decide +kernel
theorem dL_law_481 : decode cL_law 481 = .ok (.ifCond .eq 5, 3) := by decide +kernel
theorem dL_law_484 : decode cL_law 484 = .ok (.iconst 0, 1) := by decide +kernel
theorem dL_law_485 : decode cL_law 485 = .ok (.ireturn, 1) := by decide +kernel
theorem dL_law_486 : decode cL_law 486 = .ok (.goto 478, 3) := by decide +kernel
theorem dL_law_489 : decode cL_law 489 = .ok (.aload_n 1, 1) := by decide +kernel
theorem dL_law_490 : decode cL_law 490 = .ok (.aload_n 0, 1) := by decide +kernel
theorem dL_law_491 : decode cL_law 491 = .ok (.iload 4, 2) := by decide +kernel
theorem dL_law_493 : decode cL_law 493 = .ok (.iconst 1, 1) := by decide +kernel
theorem dL_law_494 : decode cL_law 494 = .ok (.iadd, 1) := by decide +kernel
theorem dL_law_495 : decode cL_law 495 = .ok (.iaload, 1) := by decide +kernel
theorem dL_law_496 : decode cL_law 496 = .ok (.aload_n 0, 1) := by decide +kernel
theorem dL_law_497 : decode cL_law 497 = .ok (.iload 4, 2) := by decide +kernel
theorem dL_law_499 : decode cL_law 499 = .ok (.iconst 2, 1) := by decide +kernel
theorem dL_law_500 : decode cL_law 500 = .ok (.iadd, 1) := by decide +kernel
theorem dL_law_501 : decode cL_law 501 = .ok (.iaload, 1) := by decide +kernel
theorem dL_law_502 : decode cL_law 502 = .ok (.aload_n 0, 1) := by decide +kernel
theorem dL_law_503 : decode cL_law 503 = .ok (.iload 4, 2) := by decide +kernel
theorem dL_law_505 : decode cL_law 505 = .ok (.iconst 3, 1) := by decide +kernel
theorem dL_law_506 : decode cL_law 506 = .ok (.iadd, 1) := by decide +kernel
theorem dL_law_507 : decode cL_law 507 = .ok (.iaload, 1) := by decide +kernel
theorem dL_law_508 : decode cL_law 508 = .ok (.aload_n 3, 1) := by decide +kernel
theorem dL_law_509 : decode cL_law 509 = .ok (.invokestatic 94, 3) := by decide +kernel
theorem dL_law_512 : decode cL_law 512 = .ok (.istore 5, 2) := by decide +kernel
theorem dL_law_514 : decode cL_law 514 = .ok (.aload_n 2, 1) := by decide +kernel
theorem dL_law_515 : decode cL_law 515 = .ok (.aload_n 0, 1) := by decide +kernel
theorem dL_law_516 : decode cL_law 516 = .ok (.iload 4, 2) := by decide +kernel
theorem dL_law_518 : decode cL_law 518 = .ok (.iconst 1, 1) := by decide +kernel
theorem dL_law_519 : decode cL_law 519 = .ok (.iadd, 1) := by decide +kernel
theorem dL_law_520 : decode cL_law 520 = .ok (.iaload, 1) := by decide +kernel
theorem dL_law_521 : decode cL_law 521 = .ok (.aload_n 0, 1) := by decide +kernel
theorem dL_law_522 : decode cL_law 522 = .ok (.iload 4, 2) := by decide +kernel
theorem dL_law_524 : decode cL_law 524 = .ok (.iconst 2, 1) := by decide +kernel
theorem dL_law_525 : decode cL_law 525 = .ok (.iadd, 1) := by decide +kernel
theorem dL_law_526 : decode cL_law 526 = .ok (.iaload, 1) := by decide +kernel
theorem dL_law_527 : decode cL_law 527 = .ok (.aload_n 0, 1) := by decide +kernel
theorem dL_law_528 : decode cL_law 528 = .ok (.iload 4, 2) := by decide +kernel
theorem dL_law_530 : decode cL_law 530 = .ok (.iconst 3, 1) := by decide +kernel
theorem dL_law_531 : decode cL_law 531 = .ok (.iadd, 1) := by decide +kernel
theorem dL_law_532 : decode cL_law 532 = .ok (.iaload, 1) := by decide +kernel
theorem dL_law_533 : decode cL_law 533 = .ok (.invokevirtual 96, 3) := by decide +kernel
theorem dL_law_536 : decode cL_law 536 = .ok (.istore 6, 2) := by decide +kernel
theorem dL_law_538 : decode cL_law 538 = .ok (.aload_n 2, 1) := by decide +kernel
theorem dL_law_539 : decode cL_law 539 = .ok (.invokevirtual 91, 3) := by decide +kernel
theorem dL_law_542 : decode cL_law 542 = .ok (.iload 5, 2) := by decide +kernel
theorem dL_law_544 : decode cL_law 544 = .ok (.if_icmp .eq 5, 3) := by decide +kernel
theorem dL_law_547 : decode cL_law 547 = .ok (.iconst 0, 1) := by decide +kernel
theorem dL_law_548 : decode cL_law 548 = .ok (.ireturn, 1) := by decide +kernel
theorem dL_law_549 : decode cL_law 549 = .ok (.iload 5, 2) := by decide +kernel
theorem dL_law_551 : decode cL_law 551 = .ok (.ifCond .ne 15, 3) := by decide +kernel
theorem dL_law_554 : decode cL_law 554 = .ok (.aload_n 3, 1) := by decide +kernel
theorem dL_law_555 : decode cL_law 555 = .ok (.iconst 0, 1) := by decide +kernel
theorem dL_law_556 : decode cL_law 556 = .ok (.laload, 1) := by decide +kernel
theorem dL_law_557 : decode cL_law 557 = .ok (.iload 6, 2) := by decide +kernel
theorem dL_law_559 : decode cL_law 559 = .ok (.i2l, 1) := by decide +kernel
theorem dL_law_560 : decode cL_law 560 = .ok (.lcmp, 1) := by decide +kernel
theorem dL_law_561 : decode cL_law 561 = .ok (.ifCond .eq 5, 3) := by decide +kernel
theorem dL_law_564 : decode cL_law 564 = .ok (.iconst 0, 1) := by decide +kernel
theorem dL_law_565 : decode cL_law 565 = .ok (.ireturn, 1) := by decide +kernel
theorem dL_law_566 : decode cL_law 566 = .ok (.goto 398, 3) := by decide +kernel
theorem dL_law_569 : decode cL_law 569 = .ok (.aload_n 1, 1) := by decide +kernel
theorem dL_law_570 : decode cL_law 570 = .ok (.aload_n 0, 1) := by decide +kernel
theorem dL_law_571 : decode cL_law 571 = .ok (.iload 4, 2) := by decide +kernel
theorem dL_law_573 : decode cL_law 573 = .ok (.iconst 1, 1) := by decide +kernel
theorem dL_law_574 : decode cL_law 574 = .ok (.iadd, 1) := by decide +kernel
theorem dL_law_575 : decode cL_law 575 = .ok (.iaload, 1) := by decide +kernel
theorem dL_law_576 : decode cL_law 576 = .ok (.aload_n 0, 1) := by decide +kernel
theorem dL_law_577 : decode cL_law 577 = .ok (.iload 4, 2) := by decide +kernel
theorem dL_law_579 : decode cL_law 579 = .ok (.iconst 2, 1) := by decide +kernel
theorem dL_law_580 : decode cL_law 580 = .ok (.iadd, 1) := by decide +kernel
theorem dL_law_581 : decode cL_law 581 = .ok (.iaload, 1) := by decide +kernel
theorem dL_law_582 : decode cL_law 582 = .ok (.aload_n 0, 1) := by decide +kernel
theorem dL_law_583 : decode cL_law 583 = .ok (.iload 4, 2) := by decide +kernel
theorem dL_law_585 : decode cL_law 585 = .ok (.iconst 3, 1) := by decide +kernel
theorem dL_law_586 : decode cL_law 586 = .ok (.iadd, 1) := by decide +kernel
theorem dL_law_587 : decode cL_law 587 = .ok (.iaload, 1) := by decide +kernel
theorem dL_law_588 : decode cL_law 588 = .ok (.aload_n 3, 1) := by decide +kernel
theorem dL_law_589 : decode cL_law 589 = .ok (.invokestatic 97, 3) := by decide +kernel
theorem dL_law_592 : decode cL_law 592 = .ok (.istore 5, 2) := by decide +kernel
theorem dL_law_594 : decode cL_law 594 = .ok (.aload_n 2, 1) := by decide +kernel
theorem dL_law_595 : decode cL_law 595 = .ok (.aload_n 0, 1) := by decide +kernel
theorem dL_law_596 : decode cL_law 596 = .ok (.iload 4, 2) := by decide +kernel
theorem dL_law_598 : decode cL_law 598 = .ok (.iconst 1, 1) := by decide +kernel
theorem dL_law_599 : decode cL_law 599 = .ok (.iadd, 1) := by decide +kernel
theorem dL_law_600 : decode cL_law 600 = .ok (.iaload, 1) := by decide +kernel
theorem dL_law_601 : decode cL_law 601 = .ok (.aload_n 0, 1) := by decide +kernel
theorem dL_law_602 : decode cL_law 602 = .ok (.iload 4, 2) := by decide +kernel
theorem dL_law_604 : decode cL_law 604 = .ok (.iconst 2, 1) := by decide +kernel
theorem dL_law_605 : decode cL_law 605 = .ok (.iadd, 1) := by decide +kernel
theorem dL_law_606 : decode cL_law 606 = .ok (.iaload, 1) := by decide +kernel
theorem dL_law_607 : decode cL_law 607 = .ok (.aload_n 0, 1) := by decide +kernel
theorem dL_law_608 : decode cL_law 608 = .ok (.iload 4, 2) := by decide +kernel
theorem dL_law_610 : decode cL_law 610 = .ok (.iconst 3, 1) := by decide +kernel
theorem dL_law_611 : decode cL_law 611 = .ok (.iadd, 1) := by decide +kernel
theorem dL_law_612 : decode cL_law 612 = .ok (.iaload, 1) := by decide +kernel
theorem dL_law_613 : decode cL_law 613 = .ok (.invokevirtual 99, 3) := by decide +kernel
theorem dL_law_616 : decode cL_law 616 = .ok (.lstore 6, 2) := by decide +kernel
theorem dL_law_618 : decode cL_law 618 = .ok (.aload_n 2, 1) := by decide +kernel
theorem dL_law_619 : decode cL_law 619 = .ok (.invokevirtual 91, 3) := by decide +kernel
theorem dL_law_622 : decode cL_law 622 = .ok (.iload 5, 2) := by decide +kernel
theorem dL_law_624 : decode cL_law 624 = .ok (.if_icmp .eq 5, 3) := by decide +kernel
theorem dL_law_627 : decode cL_law 627 = .ok (.iconst 0, 1) := by decide +kernel
theorem dL_law_628 : decode cL_law 628 = .ok (.ireturn, 1) := by decide +kernel
theorem dL_law_629 : decode cL_law 629 = .ok (.iload 5, 2) := by decide +kernel
theorem dL_law_631 : decode cL_law 631 = .ok (.ifCond .ne 14, 3) := by decide +kernel
theorem dL_law_634 : decode cL_law 634 = .ok (.aload_n 3, 1) := by decide +kernel
theorem dL_law_635 : decode cL_law 635 = .ok (.iconst 0, 1) := by decide +kernel
theorem dL_law_636 : decode cL_law 636 = .ok (.laload, 1) := by decide +kernel
theorem dL_law_637 : decode cL_law 637 = .ok (.lload 6, 2) := by decide +kernel
theorem dL_law_639 : decode cL_law 639 = .ok (.lcmp, 1) := by decide +kernel
theorem dL_law_640 : decode cL_law 640 = .ok (.ifCond .eq 5, 3) := by decide +kernel
theorem dL_law_643 : decode cL_law 643 = .ok (.iconst 0, 1) := by decide +kernel
theorem dL_law_644 : decode cL_law 644 = .ok (.ireturn, 1) := by decide +kernel
theorem dL_law_645 : decode cL_law 645 = .ok (.goto 319, 3) := by decide +kernel
theorem dL_law_648 : decode cL_law 648 = .ok (.aload_n 1, 1) := by decide +kernel
theorem dL_law_649 : decode cL_law 649 = .ok (.aload_n 0, 1) := by decide +kernel
theorem dL_law_650 : decode cL_law 650 = .ok (.iload 4, 2) := by decide +kernel
theorem dL_law_652 : decode cL_law 652 = .ok (.iconst 1, 1) := by decide +kernel
theorem dL_law_653 : decode cL_law 653 = .ok (.iadd, 1) := by decide +kernel
theorem dL_law_654 : decode cL_law 654 = .ok (.iaload, 1) := by decide +kernel
theorem dL_law_655 : decode cL_law 655 = .ok (.invokevirtual 100, 3) := by decide +kernel
theorem dL_law_658 : decode cL_law 658 = .ok (.aload_n 2, 1) := by decide +kernel
theorem dL_law_659 : decode cL_law 659 = .ok (.aload_n 0, 1) := by decide +kernel
theorem dL_law_660 : decode cL_law 660 = .ok (.iload 4, 2) := by decide +kernel
theorem dL_law_662 : decode cL_law 662 = .ok (.iconst 1, 1) := by decide +kernel
theorem dL_law_663 : decode cL_law 663 = .ok (.iadd, 1) := by decide +kernel
theorem dL_law_664 : decode cL_law 664 = .ok (.iaload, 1) := by decide +kernel
theorem dL_law_665 : decode cL_law 665 = .ok (.invokevirtual 104, 3) := by decide +kernel
theorem dL_law_668 : decode cL_law 668 = .ok (.if_icmp .eq 296, 3) := by decide +kernel
theorem dL_law_671 : decode cL_law 671 = .ok (.iconst 0, 1) := by decide +kernel
theorem dL_law_672 : decode cL_law 672 = .ok (.ireturn, 1) := by decide +kernel
theorem dL_law_673 : decode cL_law 673 = .ok (.aload_n 1, 1) := by decide +kernel
theorem dL_law_674 : decode cL_law 674 = .ok (.invokevirtual 105, 3) := by decide +kernel
theorem dL_law_677 : decode cL_law 677 = .ok (.aload_n 2, 1) := by decide +kernel
theorem dL_law_678 : decode cL_law 678 = .ok (.invokevirtual 108, 3) := by decide +kernel
theorem dL_law_681 : decode cL_law 681 = .ok (.if_icmp .eq 283, 3) := by decide +kernel
theorem dL_law_684 : decode cL_law 684 = .ok (.iconst 0, 1) := by decide +kernel
theorem dL_law_685 : decode cL_law 685 = .ok (.ireturn, 1) := by decide +kernel
theorem dL_law_686 : decode cL_law 686 = .ok (.aload_n 1, 1) := by decide +kernel
theorem dL_law_687 : decode cL_law 687 = .ok (.aload_n 0, 1) := by decide +kernel
theorem dL_law_688 : decode cL_law 688 = .ok (.iload 4, 2) := by decide +kernel
theorem dL_law_690 : decode cL_law 690 = .ok (.iconst 1, 1) := by decide +kernel
theorem dL_law_691 : decode cL_law 691 = .ok (.iadd, 1) := by decide +kernel
theorem dL_law_692 : decode cL_law 692 = .ok (.iaload, 1) := by decide +kernel
theorem dL_law_693 : decode cL_law 693 = .ok (.invokevirtual 109, 3) := by decide +kernel
theorem dL_law_696 : decode cL_law 696 = .ok (.aload_n 2, 1) := by decide +kernel
theorem dL_law_697 : decode cL_law 697 = .ok (.aload_n 0, 1) := by decide +kernel
theorem dL_law_698 : decode cL_law 698 = .ok (.iload 4, 2) := by decide +kernel
theorem dL_law_700 : decode cL_law 700 = .ok (.iconst 1, 1) := by decide +kernel
theorem dL_law_701 : decode cL_law 701 = .ok (.iadd, 1) := by decide +kernel
theorem dL_law_702 : decode cL_law 702 = .ok (.iaload, 1) := by decide +kernel
theorem dL_law_703 : decode cL_law 703 = .ok (.invokevirtual 111, 3) := by decide +kernel
theorem dL_law_706 : decode cL_law 706 = .ok (.if_icmp .eq 258, 3) := by decide +kernel
theorem dL_law_709 : decode cL_law 709 = .ok (.iconst 0, 1) := by decide +kernel
theorem dL_law_710 : decode cL_law 710 = .ok (.ireturn, 1) := by decide +kernel
theorem dL_law_711 : decode cL_law 711 = .ok (.aload_n 1, 1) := by decide +kernel
theorem dL_law_712 : decode cL_law 712 = .ok (.aload_n 0, 1) := by decide +kernel
theorem dL_law_713 : decode cL_law 713 = .ok (.iload 4, 2) := by decide +kernel
theorem dL_law_715 : decode cL_law 715 = .ok (.iconst 1, 1) := by decide +kernel
theorem dL_law_716 : decode cL_law 716 = .ok (.iadd, 1) := by decide +kernel
theorem dL_law_717 : decode cL_law 717 = .ok (.iaload, 1) := by decide +kernel
theorem dL_law_718 : decode cL_law 718 = .ok (.aload_n 0, 1) := by decide +kernel
theorem dL_law_719 : decode cL_law 719 = .ok (.iload 4, 2) := by decide +kernel
theorem dL_law_721 : decode cL_law 721 = .ok (.iconst 2, 1) := by decide +kernel
theorem dL_law_722 : decode cL_law 722 = .ok (.iadd, 1) := by decide +kernel
theorem dL_law_723 : decode cL_law 723 = .ok (.iaload, 1) := by decide +kernel
theorem dL_law_724 : decode cL_law 724 = .ok (.aload_n 3, 1) := by decide +kernel
theorem dL_law_725 : decode cL_law 725 = .ok (.invokestatic 112, 3) := by decide +kernel
theorem dL_law_728 : decode cL_law 728 = .ok (.istore 5, 2) := by decide +kernel
theorem dL_law_730 : decode cL_law 730 = .ok (.aload_n 2, 1) := by decide +kernel
theorem dL_law_731 : decode cL_law 731 = .ok (.aload_n 0, 1) := by decide +kernel
theorem dL_law_732 : decode cL_law 732 = .ok (.iload 4, 2) := by decide +kernel
theorem dL_law_734 : decode cL_law 734 = .ok (.iconst 1, 1) := by decide +kernel
theorem dL_law_735 : decode cL_law 735 = .ok (.iadd, 1) := by decide +kernel
theorem dL_law_736 : decode cL_law 736 = .ok (.iaload, 1) := by decide +kernel
theorem dL_law_737 : decode cL_law 737 = .ok (.aload_n 0, 1) := by decide +kernel
theorem dL_law_738 : decode cL_law 738 = .ok (.iload 4, 2) := by decide +kernel
theorem dL_law_740 : decode cL_law 740 = .ok (.iconst 2, 1) := by decide +kernel
theorem dL_law_741 : decode cL_law 741 = .ok (.iadd, 1) := by decide +kernel
theorem dL_law_742 : decode cL_law 742 = .ok (.iaload, 1) := by decide +kernel
theorem dL_law_743 : decode cL_law 743 = .ok (.invokevirtual 115, 3) := by decide +kernel
theorem dL_law_746 : decode cL_law 746 = .ok (.istore 6, 2) := by decide +kernel
theorem dL_law_748 : decode cL_law 748 = .ok (.aload_n 2, 1) := by decide +kernel
theorem dL_law_749 : decode cL_law 749 = .ok (.invokevirtual 91, 3) := by decide +kernel
theorem dL_law_752 : decode cL_law 752 = .ok (.iload 5, 2) := by decide +kernel
theorem dL_law_754 : decode cL_law 754 = .ok (.if_icmp .eq 5, 3) := by decide +kernel
theorem dL_law_757 : decode cL_law 757 = .ok (.iconst 0, 1) := by decide +kernel
theorem dL_law_758 : decode cL_law 758 = .ok (.ireturn, 1) := by decide +kernel
theorem dL_law_759 : decode cL_law 759 = .ok (.iload 5, 2) := by decide +kernel
theorem dL_law_761 : decode cL_law 761 = .ok (.ifCond .ne 15, 3) := by decide +kernel
theorem dL_law_764 : decode cL_law 764 = .ok (.aload_n 3, 1) := by decide +kernel
theorem dL_law_765 : decode cL_law 765 = .ok (.iconst 0, 1) := by decide +kernel
theorem dL_law_766 : decode cL_law 766 = .ok (.laload, 1) := by decide +kernel
theorem dL_law_767 : decode cL_law 767 = .ok (.iload 6, 2) := by decide +kernel
theorem dL_law_769 : decode cL_law 769 = .ok (.i2l, 1) := by decide +kernel
theorem dL_law_770 : decode cL_law 770 = .ok (.lcmp, 1) := by decide +kernel
theorem dL_law_771 : decode cL_law 771 = .ok (.ifCond .eq 5, 3) := by decide +kernel
theorem dL_law_774 : decode cL_law 774 = .ok (.iconst 0, 1) := by decide +kernel
theorem dL_law_775 : decode cL_law 775 = .ok (.ireturn, 1) := by decide +kernel
theorem dL_law_776 : decode cL_law 776 = .ok (.goto 188, 3) := by decide +kernel
theorem dL_law_779 : decode cL_law 779 = .ok (.aload_n 1, 1) := by decide +kernel
theorem dL_law_780 : decode cL_law 780 = .ok (.aload_n 0, 1) := by decide +kernel
theorem dL_law_781 : decode cL_law 781 = .ok (.iload 4, 2) := by decide +kernel
theorem dL_law_783 : decode cL_law 783 = .ok (.iconst 1, 1) := by decide +kernel
theorem dL_law_784 : decode cL_law 784 = .ok (.iadd, 1) := by decide +kernel
theorem dL_law_785 : decode cL_law 785 = .ok (.iaload, 1) := by decide +kernel
theorem dL_law_786 : decode cL_law 786 = .ok (.aload_n 0, 1) := by decide +kernel
theorem dL_law_787 : decode cL_law 787 = .ok (.iload 4, 2) := by decide +kernel
theorem dL_law_789 : decode cL_law 789 = .ok (.iconst 2, 1) := by decide +kernel
theorem dL_law_790 : decode cL_law 790 = .ok (.iadd, 1) := by decide +kernel
theorem dL_law_791 : decode cL_law 791 = .ok (.iaload, 1) := by decide +kernel
theorem dL_law_792 : decode cL_law 792 = .ok (.aload_n 0, 1) := by decide +kernel
theorem dL_law_793 : decode cL_law 793 = .ok (.iload 4, 2) := by decide +kernel
theorem dL_law_795 : decode cL_law 795 = .ok (.iconst 3, 1) := by decide +kernel
theorem dL_law_796 : decode cL_law 796 = .ok (.iadd, 1) := by decide +kernel
theorem dL_law_797 : decode cL_law 797 = .ok (.iaload, 1) := by decide +kernel
theorem dL_law_798 : decode cL_law 798 = .ok (.aload_n 3, 1) := by decide +kernel
theorem dL_law_799 : decode cL_law 799 = .ok (.invokestatic 116, 3) := by decide +kernel
theorem dL_law_802 : decode cL_law 802 = .ok (.istore 5, 2) := by decide +kernel
theorem dL_law_804 : decode cL_law 804 = .ok (.aload_n 2, 1) := by decide +kernel
theorem dL_law_805 : decode cL_law 805 = .ok (.aload_n 0, 1) := by decide +kernel
theorem dL_law_806 : decode cL_law 806 = .ok (.iload 4, 2) := by decide +kernel
theorem dL_law_808 : decode cL_law 808 = .ok (.iconst 1, 1) := by decide +kernel
theorem dL_law_809 : decode cL_law 809 = .ok (.iadd, 1) := by decide +kernel
theorem dL_law_810 : decode cL_law 810 = .ok (.iaload, 1) := by decide +kernel
theorem dL_law_811 : decode cL_law 811 = .ok (.aload_n 0, 1) := by decide +kernel
theorem dL_law_812 : decode cL_law 812 = .ok (.iload 4, 2) := by decide +kernel
theorem dL_law_814 : decode cL_law 814 = .ok (.iconst 2, 1) := by decide +kernel
theorem dL_law_815 : decode cL_law 815 = .ok (.iadd, 1) := by decide +kernel
theorem dL_law_816 : decode cL_law 816 = .ok (.iaload, 1) := by decide +kernel
theorem dL_law_817 : decode cL_law 817 = .ok (.aload_n 0, 1) := by decide +kernel
theorem dL_law_818 : decode cL_law 818 = .ok (.iload 4, 2) := by decide +kernel
theorem dL_law_820 : decode cL_law 820 = .ok (.iconst 3, 1) := by decide +kernel
theorem dL_law_821 : decode cL_law 821 = .ok (.iadd, 1) := by decide +kernel
theorem dL_law_822 : decode cL_law 822 = .ok (.iaload, 1) := by decide +kernel
theorem dL_law_823 : decode cL_law 823 = .ok (.invokevirtual 118, 3) := by decide +kernel
theorem dL_law_826 : decode cL_law 826 = .ok (.istore 6, 2) := by decide +kernel
theorem dL_law_828 : decode cL_law 828 = .ok (.aload_n 2, 1) := by decide +kernel
theorem dL_law_829 : decode cL_law 829 = .ok (.invokevirtual 91, 3) := by decide +kernel
theorem dL_law_832 : decode cL_law 832 = .ok (.iload 5, 2) := by decide +kernel
theorem dL_law_834 : decode cL_law 834 = .ok (.if_icmp .eq 5, 3) := by decide +kernel
theorem dL_law_837 : decode cL_law 837 = .ok (.iconst 0, 1) := by decide +kernel
theorem dL_law_838 : decode cL_law 838 = .ok (.ireturn, 1) := by decide +kernel
theorem dL_law_839 : decode cL_law 839 = .ok (.iload 5, 2) := by decide +kernel
theorem dL_law_841 : decode cL_law 841 = .ok (.ifCond .ne 15, 3) := by decide +kernel
theorem dL_law_844 : decode cL_law 844 = .ok (.aload_n 3, 1) := by decide +kernel
theorem dL_law_845 : decode cL_law 845 = .ok (.iconst 0, 1) := by decide +kernel
theorem dL_law_846 : decode cL_law 846 = .ok (.laload, 1) := by decide +kernel
theorem dL_law_847 : decode cL_law 847 = .ok (.iload 6, 2) := by decide +kernel
theorem dL_law_849 : decode cL_law 849 = .ok (.i2l, 1) := by decide +kernel
theorem dL_law_850 : decode cL_law 850 = .ok (.lcmp, 1) := by decide +kernel
theorem dL_law_851 : decode cL_law 851 = .ok (.ifCond .eq 5, 3) := by decide +kernel
theorem dL_law_854 : decode cL_law 854 = .ok (.iconst 0, 1) := by decide +kernel
theorem dL_law_855 : decode cL_law 855 = .ok (.ireturn, 1) := by decide +kernel
theorem dL_law_856 : decode cL_law 856 = .ok (.goto 108, 3) := by decide +kernel
theorem dL_law_859 : decode cL_law 859 = .ok (.aload_n 1, 1) := by decide +kernel
theorem dL_law_860 : decode cL_law 860 = .ok (.aload_n 0, 1) := by decide +kernel
theorem dL_law_861 : decode cL_law 861 = .ok (.iload 4, 2) := by decide +kernel
theorem dL_law_863 : decode cL_law 863 = .ok (.iconst 1, 1) := by decide +kernel
theorem dL_law_864 : decode cL_law 864 = .ok (.iadd, 1) := by decide +kernel
theorem dL_law_865 : decode cL_law 865 = .ok (.iaload, 1) := by decide +kernel
theorem dL_law_866 : decode cL_law 866 = .ok (.aload_n 0, 1) := by decide +kernel
theorem dL_law_867 : decode cL_law 867 = .ok (.iload 4, 2) := by decide +kernel
theorem dL_law_869 : decode cL_law 869 = .ok (.iconst 2, 1) := by decide +kernel
theorem dL_law_870 : decode cL_law 870 = .ok (.iadd, 1) := by decide +kernel
theorem dL_law_871 : decode cL_law 871 = .ok (.iaload, 1) := by decide +kernel
theorem dL_law_872 : decode cL_law 872 = .ok (.aload_n 0, 1) := by decide +kernel
theorem dL_law_873 : decode cL_law 873 = .ok (.iload 4, 2) := by decide +kernel
theorem dL_law_875 : decode cL_law 875 = .ok (.iconst 3, 1) := by decide +kernel
theorem dL_law_876 : decode cL_law 876 = .ok (.iadd, 1) := by decide +kernel
theorem dL_law_877 : decode cL_law 877 = .ok (.iaload, 1) := by decide +kernel
theorem dL_law_878 : decode cL_law 878 = .ok (.aload_n 3, 1) := by decide +kernel
theorem dL_law_879 : decode cL_law 879 = .ok (.invokestatic 119, 3) := by decide +kernel
theorem dL_law_882 : decode cL_law 882 = .ok (.istore 5, 2) := by decide +kernel
theorem dL_law_884 : decode cL_law 884 = .ok (.aload_n 2, 1) := by decide +kernel
theorem dL_law_885 : decode cL_law 885 = .ok (.aload_n 0, 1) := by decide +kernel
theorem dL_law_886 : decode cL_law 886 = .ok (.iload 4, 2) := by decide +kernel
theorem dL_law_888 : decode cL_law 888 = .ok (.iconst 1, 1) := by decide +kernel
theorem dL_law_889 : decode cL_law 889 = .ok (.iadd, 1) := by decide +kernel
theorem dL_law_890 : decode cL_law 890 = .ok (.iaload, 1) := by decide +kernel
theorem dL_law_891 : decode cL_law 891 = .ok (.aload_n 0, 1) := by decide +kernel
theorem dL_law_892 : decode cL_law 892 = .ok (.iload 4, 2) := by decide +kernel
theorem dL_law_894 : decode cL_law 894 = .ok (.iconst 2, 1) := by decide +kernel
theorem dL_law_895 : decode cL_law 895 = .ok (.iadd, 1) := by decide +kernel
theorem dL_law_896 : decode cL_law 896 = .ok (.iaload, 1) := by decide +kernel
theorem dL_law_897 : decode cL_law 897 = .ok (.aload_n 0, 1) := by decide +kernel
theorem dL_law_898 : decode cL_law 898 = .ok (.iload 4, 2) := by decide +kernel
theorem dL_law_900 : decode cL_law 900 = .ok (.iconst 3, 1) := by decide +kernel
theorem dL_law_901 : decode cL_law 901 = .ok (.iadd, 1) := by decide +kernel
theorem dL_law_902 : decode cL_law 902 = .ok (.iaload, 1) := by decide +kernel
theorem dL_law_903 : decode cL_law 903 = .ok (.invokevirtual 121, 3) := by decide +kernel
theorem dL_law_906 : decode cL_law 906 = .ok (.istore 6, 2) := by decide +kernel
theorem dL_law_908 : decode cL_law 908 = .ok (.aload_n 2, 1) := by decide +kernel
theorem dL_law_909 : decode cL_law 909 = .ok (.invokevirtual 91, 3) := by decide +kernel
theorem dL_law_912 : decode cL_law 912 = .ok (.iload 5, 2) := by decide +kernel
theorem dL_law_914 : decode cL_law 914 = .ok (.if_icmp .eq 5, 3) := by decide +kernel
theorem dL_law_917 : decode cL_law 917 = .ok (.iconst 0, 1) := by decide +kernel
theorem dL_law_918 : decode cL_law 918 = .ok (.ireturn, 1) := by decide +kernel
theorem dL_law_919 : decode cL_law 919 = .ok (.iload 5, 2) := by decide +kernel
theorem dL_law_921 : decode cL_law 921 = .ok (.ifCond .ne 15, 3) := by decide +kernel
theorem dL_law_924 : decode cL_law 924 = .ok (.aload_n 3, 1) := by decide +kernel
theorem dL_law_925 : decode cL_law 925 = .ok (.iconst 0, 1) := by decide +kernel
theorem dL_law_926 : decode cL_law 926 = .ok (.laload, 1) := by decide +kernel
theorem dL_law_927 : decode cL_law 927 = .ok (.iload 6, 2) := by decide +kernel
theorem dL_law_929 : decode cL_law 929 = .ok (.i2l, 1) := by decide +kernel
theorem dL_law_930 : decode cL_law 930 = .ok (.lcmp, 1) := by decide +kernel
theorem dL_law_931 : decode cL_law 931 = .ok (.ifCond .eq 5, 3) := by decide +kernel
theorem dL_law_934 : decode cL_law 934 = .ok (.iconst 0, 1) := by decide +kernel
theorem dL_law_935 : decode cL_law 935 = .ok (.ireturn, 1) := by decide +kernel
theorem dL_law_936 : decode cL_law 936 = .ok (.goto 28, 3) := by decide +kernel
theorem dL_law_939 : decode cL_law 939 = .ok (.aload_n 1, 1) := by decide +kernel
theorem dL_law_940 : decode cL_law 940 = .ok (.aload_n 0, 1) := by decide +kernel
theorem dL_law_941 : decode cL_law 941 = .ok (.iload 4, 2) := by decide +kernel
theorem dL_law_943 : decode cL_law 943 = .ok (.iconst 1, 1) := by decide +kernel
theorem dL_law_944 : decode cL_law 944 = .ok (.iadd, 1) := by decide +kernel
theorem dL_law_945 : decode cL_law 945 = .ok (.iaload, 1) := by decide +kernel
theorem dL_law_946 : decode cL_law 946 = .ok (.invokevirtual 122, 3) := by decide +kernel
theorem dL_law_949 : decode cL_law 949 = .ok (.aload_n 2, 1) := by decide +kernel
theorem dL_law_950 : decode cL_law 950 = .ok (.aload_n 0, 1) := by decide +kernel
theorem dL_law_951 : decode cL_law 951 = .ok (.iload 4, 2) := by decide +kernel
theorem dL_law_953 : decode cL_law 953 = .ok (.iconst 1, 1) := by decide +kernel
theorem dL_law_954 : decode cL_law 954 = .ok (.iadd, 1) := by decide +kernel
theorem dL_law_955 : decode cL_law 955 = .ok (.iaload, 1) := by decide +kernel
theorem dL_law_956 : decode cL_law 956 = .ok (.invokevirtual 125, 3) := by decide +kernel
theorem dL_law_959 : decode cL_law 959 = .ok (.if_icmp .eq 5, 3) := by decide +kernel
theorem dL_law_962 : decode cL_law 962 = .ok (.iconst 0, 1) := by decide +kernel
theorem dL_law_963 : decode cL_law 963 = .ok (.ireturn, 1) := by decide +kernel
theorem dL_law_964 : decode cL_law 964 = .ok (.iinc 4 4, 3) := by decide +kernel
theorem dL_law_967 : decode cL_law 967 = .ok (.goto (-914), 3) := by decide +kernel
theorem dL_law_970 : decode cL_law 970 = .ok (.iconst 1, 1) := by decide +kernel
theorem dL_law_971 : decode cL_law 971 = .ok (.ireturn, 1) := by decide +kernel
