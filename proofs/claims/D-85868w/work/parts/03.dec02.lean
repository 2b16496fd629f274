set_option maxRecDepth 100000
theorem dX1_reads_147 : decode cX1_reads 147 = .ok (.bipush 6, 2) := by decide +kernel
theorem dX1_reads_149 : decode cX1_reads 149 = .ok (.iadd, 1) := by decide +kernel
theorem dX1_reads_150 : decode cX1_reads 150 = .ok (.iaload, 1) := by decide +kernel
theorem dX1_reads_151 : decode cX1_reads 151 = .ok (.i2l, 1) := by decide +kernel
theorem dX1_reads_152 : decode cX1_reads 152 = .ok (.bipush 32, 2) := by decide +kernel
theorem dX1_reads_154 : decode cX1_reads 154 = .ok (.lshl, 1) := by decide +kernel
theorem dX1_reads_155 : decode cX1_reads 155 = .ok (.aload_n 2, 1) := by decide +kernel
theorem dX1_reads_156 : decode cX1_reads 156 = .ok (.iload 4, 2) := by decide +kernel
theorem dX1_reads_158 : decode cX1_reads 158 = .ok (.bipush 7, 2) := by decide +kernel
theorem dX1_reads_160 : decode cX1_reads 160 = .ok (.iadd, 1) := by decide +kernel
theorem dX1_reads_161 : decode cX1_reads 161 = .ok (.iaload, 1) := by decide +kernel
theorem dX1_reads_162 : decode cX1_reads 162 = .ok (.i2l, 1) := by decide +kernel
theorem dX1_reads_163 : decode cX1_reads 163 = .ok (.ldc2_w 338, 3) := by decide +kernel
theorem dX1_reads_166 : decode cX1_reads 166 = .ok (.land, 1) := by decide +kernel
theorem dX1_reads_167 : decode cX1_reads 167 = .ok (.lor, 1) := by decide +kernel
theorem dX1_reads_168 : decode cX1_reads 168 = .ok (.lastore, 1) := by decide +kernel
theorem dX1_reads_169 : decode cX1_reads 169 = .ok (.aload_n 0, 1) := by decide +kernel
theorem dX1_reads_170 : decode cX1_reads 170 = .ok (.getfield 39, 3) := by decide +kernel
theorem dX1_reads_173 : decode cX1_reads 173 = .ok (.getfield 197, 3) := by decide +kernel
theorem dX1_reads_176 : decode cX1_reads 176 = .ok (.iload_n 3, 1) := by decide +kernel
theorem dX1_reads_177 : decode cX1_reads 177 = .ok (.aload_n 2, 1) := by decide +kernel
theorem dX1_reads_178 : decode cX1_reads 178 = .ok (.iload 4, 2) := by decide +kernel
theorem dX1_reads_180 : decode cX1_reads 180 = .ok (.bipush 8, 2) := by decide +kernel
theorem dX1_reads_182 : decode cX1_reads 182 = .ok (.iadd, 1) := by decide +kernel
theorem dX1_reads_183 : decode cX1_reads 183 = .ok (.iaload, 1) := by decide +kernel
theorem dX1_reads_184 : decode cX1_reads 184 = .ok (.i2c, 1) := by decide +kernel
theorem dX1_reads_185 : decode cX1_reads 185 = .ok (.castore, 1) := by decide +kernel
theorem dX1_reads_186 : decode cX1_reads 186 = .ok (.aload_n 0, 1) := by decide +kernel
theorem dX1_reads_187 : decode cX1_reads 187 = .ok (.getfield 39, 3) := by decide +kernel
theorem dX1_reads_190 : decode cX1_reads 190 = .ok (.getfield 189, 3) := by decide +kernel
theorem dX1_reads_193 : decode cX1_reads 193 = .ok (.iload_n 3, 1) := by decide +kernel
theorem dX1_reads_194 : decode cX1_reads 194 = .ok (.aload_n 2, 1) := by decide +kernel
theorem dX1_reads_195 : decode cX1_reads 195 = .ok (.iload 4, 2) := by decide +kernel
theorem dX1_reads_197 : decode cX1_reads 197 = .ok (.bipush 9, 2) := by decide +kernel
theorem dX1_reads_199 : decode cX1_reads 199 = .ok (.iadd, 1) := by decide +kernel
theorem dX1_reads_200 : decode cX1_reads 200 = .ok (.iaload, 1) := by decide +kernel
theorem dX1_reads_201 : decode cX1_reads 201 = .ok (.i2s, 1) := by decide +kernel
theorem dX1_reads_202 : decode cX1_reads 202 = .ok (.sastore, 1) := by decide +kernel
theorem dX1_reads_203 : decode cX1_reads 203 = .ok (.iinc 3 1, 3) := by decide +kernel
theorem dX1_reads_206 : decode cX1_reads 206 = .ok (.goto (-177), 3) := by decide +kernel
theorem dX1_reads_209 : decode cX1_reads 209 = .ok (.aload_n 0, 1) := by decide +kernel
theorem dX1_reads_210 : decode cX1_reads 210 = .ok (.getfield 39, 3) := by decide +kernel
theorem dX1_reads_213 : decode cX1_reads 213 = .ok (.invokevirtual 104, 3) := by decide +kernel
theorem dX1_reads_216 : decode cX1_reads 216 = .ok (.aload_n 0, 1) := by decide +kernel
theorem dX1_reads_217 : decode cX1_reads 217 = .ok (.invokevirtual 107, 3) := by decide +kernel
theorem dX1_reads_220 : decode cX1_reads 220 = .ok (.return_, 1) := by decide +kernel
theorem dX1_cell_0 : decode cX1_cell 0 = .ok (.aload_n 0, 1) := by decide +kernel
theorem dX1_cell_1 : decode cX1_cell 1 = .ok (.getfield 12, 3) := by decide +kernel
theorem dX1_cell_4 : decode cX1_cell 4 = .ok (.getfield 25, 3) := by decide +kernel
theorem dX1_cell_7 : decode cX1_cell 7 = .ok (.iload_n 1, 1) := by decide +kernel
theorem dX1_cell_8 : decode cX1_cell 8 = .ok (.iaload, 1) := by decide +kernel
theorem dX1_cell_9 : decode cX1_cell 9 = .ok (.ireturn, 1) := by decide +kernel
theorem dX1_cell_10 : decode cX1_cell 10 = .ok (.astore_n 2, 1) := by decide +kernel
theorem dX1_cell_11 : decode cX1_cell 11 = .ok (.iconst 0, 1) := by decide +kernel
theorem dX1_cell_12 : decode cX1_cell 12 = .ok (.ireturn, 1) := by decide +kernel
theorem dX1_look_0 : decode cX1_look 0 = .ok (.iload_n 1, 1) := by decide +kernel
theorem dX1_look_1 : decode cX1_look 1 = .ok (.tableswitch 116 0 8 #[51, 59, 64, 72, 77, 82, 87, 103, 111], 51) := by decide +kernel
theorem dX1_look_52 : decode cX1_look 52 = .ok (.aload_n 0, 1) := by decide +kernel
theorem dX1_look_53 : decode cX1_look 53 = .ok (.getfield 12, 3) := by decide +kernel
theorem dX1_look_56 : decode cX1_look 56 = .ok (.getfield 355, 3) := by decide +kernel
theorem dX1_look_59 : decode cX1_look 59 = .ok (.ireturn, 1) := by decide +kernel
theorem dX1_look_60 : decode cX1_look 60 = .ok (.aload_n 0, 1) := by decide +kernel
theorem dX1_look_61 : decode cX1_look 61 = .ok (.getfield 153, 3) := by decide +kernel
theorem dX1_look_64 : decode cX1_look 64 = .ok (.ireturn, 1) := by decide +kernel
theorem dX1_look_65 : decode cX1_look 65 = .ok (.aload_n 0, 1) := by decide +kernel
theorem dX1_look_66 : decode cX1_look 66 = .ok (.getfield 39, 3) := by decide +kernel
theorem dX1_look_69 : decode cX1_look 69 = .ok (.getfield 168, 3) := by decide +kernel
theorem dX1_look_72 : decode cX1_look 72 = .ok (.ireturn, 1) := by decide +kernel
theorem dX1_look_73 : decode cX1_look 73 = .ok (.aload_n 0, 1) := by decide +kernel
theorem dX1_look_74 : decode cX1_look 74 = .ok (.invokevirtual 358, 3) := by decide +kernel
theorem dX1_look_77 : decode cX1_look 77 = .ok (.ireturn, 1) := by decide +kernel
theorem dX1_look_78 : decode cX1_look 78 = .ok (.aload_n 0, 1) := by decide +kernel
theorem dX1_look_79 : decode cX1_look 79 = .ok (.getfield 280, 3) := by decide +kernel
theorem dX1_look_82 : decode cX1_look 82 = .ok (.ireturn, 1) := by decide +kernel
theorem dX1_look_83 : decode cX1_look 83 = .ok (.aload_n 0, 1) := by decide +kernel
theorem dX1_look_84 : decode cX1_look 84 = .ok (.getfield 283, 3) := by decide +kernel
theorem dX1_look_87 : decode cX1_look 87 = .ok (.ireturn, 1) := by decide +kernel
theorem dX1_look_88 : decode cX1_look 88 = .ok (.aload_n 0, 1) := by decide +kernel
theorem dX1_look_89 : decode cX1_look 89 = .ok (.getfield 12, 3) := by decide +kernel
theorem dX1_look_92 : decode cX1_look 92 = .ok (.getfield 141, 3) := by decide +kernel
theorem dX1_look_95 : decode cX1_look 95 = .ok (.ifCond .eq 7, 3) := by decide +kernel
theorem dX1_look_98 : decode cX1_look 98 = .ok (.iconst 1, 1) := by decide +kernel
theorem dX1_look_99 : decode cX1_look 99 = .ok (.goto 4, 3) := by decide +kernel
theorem dX1_look_102 : decode cX1_look 102 = .ok (.iconst 0, 1) := by decide +kernel
theorem dX1_look_103 : decode cX1_look 103 = .ok (.ireturn, 1) := by decide +kernel
theorem dX1_look_104 : decode cX1_look 104 = .ok (.aload_n 0, 1) := by decide +kernel
theorem dX1_look_105 : decode cX1_look 105 = .ok (.getfield 12, 3) := by decide +kernel
theorem dX1_look_108 : decode cX1_look 108 = .ok (.getfield 335, 3) := by decide +kernel
theorem dX1_look_111 : decode cX1_look 111 = .ok (.ireturn, 1) := by decide +kernel
theorem dX1_look_112 : decode cX1_look 112 = .ok (.aload_n 0, 1) := by decide +kernel
theorem dX1_look_113 : decode cX1_look 113 = .ok (.getfield 340, 3) := by decide +kernel
theorem dX1_look_116 : decode cX1_look 116 = .ok (.ireturn, 1) := by decide +kernel
theorem dX1_look_117 : decode cX1_look 117 = .ok (.iconst (-1), 1) := by decide +kernel
theorem dX1_look_118 : decode cX1_look 118 = .ok (.ireturn, 1) := by decide +kernel
theorem dX1_areaTaken_0 : decode cX1_areaTaken 0 = .ok (.iconst 0, 1) := by decide +kernel
theorem dX1_areaTaken_1 : decode cX1_areaTaken 1 = .ok (.istore_n 1, 1) := by decide +kernel
theorem dX1_areaTaken_2 : decode cX1_areaTaken 2 = .ok (.iconst 0, 1) := by decide +kernel
theorem dX1_areaTaken_3 : decode cX1_areaTaken 3 = .ok (.istore_n 2, 1) := by decide +kernel
theorem dX1_areaTaken_4 : decode cX1_areaTaken 4 = .ok (.iload_n 2, 1) := by decide +kernel
theorem dX1_areaTaken_5 : decode cX1_areaTaken 5 = .ok (.aload_n 0, 1) := by decide +kernel
theorem dX1_areaTaken_6 : decode cX1_areaTaken 6 = .ok (.getfield 39, 3) := by decide +kernel
theorem dX1_areaTaken_9 : decode cX1_areaTaken 9 = .ok (.getfield 168, 3) := by decide +kernel
theorem dX1_areaTaken_12 : decode cX1_areaTaken 12 = .ok (.if_icmp .ge 21, 3) := by decide +kernel
theorem dX1_areaTaken_15 : decode cX1_areaTaken 15 = .ok (.iload_n 1, 1) := by decide +kernel
theorem dX1_areaTaken_16 : decode cX1_areaTaken 16 = .ok (.aload_n 0, 1) := by decide +kernel
theorem dX1_areaTaken_17 : decode cX1_areaTaken 17 = .ok (.getfield 39, 3) := by decide +kernel
theorem dX1_areaTaken_20 : decode cX1_areaTaken 20 = .ok (.getfield 189, 3) := by decide +kernel
theorem dX1_areaTaken_23 : decode cX1_areaTaken 23 = .ok (.iload_n 2, 1) := by decide +kernel
theorem dX1_areaTaken_24 : decode cX1_areaTaken 24 = .ok (.saload, 1) := by decide +kernel
theorem dX1_areaTaken_25 : decode cX1_areaTaken 25 = .ok (.iadd, 1) := by decide +kernel
theorem dX1_areaTaken_26 : decode cX1_areaTaken 26 = .ok (.istore_n 1, 1) := by decide +kernel
theorem dX1_areaTaken_27 : decode cX1_areaTaken 27 = .ok (.iinc 2 1, 3) := by decide +kernel
theorem dX1_areaTaken_30 : decode cX1_areaTaken 30 = .ok (.goto (-26), 3) := by decide +kernel
theorem dX1_areaTaken_33 : decode cX1_areaTaken 33 = .ok (.iload_n 1, 1) := by decide +kernel
theorem dX1_areaTaken_34 : decode cX1_areaTaken 34 = .ok (.ireturn, 1) := by decide +kernel
theorem dX1_aggMin_0 : decode cX1_aggMin 0 = .ok (.aload_n 0, 1) := by decide +kernel
theorem dX1_aggMin_1 : decode cX1_aggMin 1 = .ok (.iload_n 1, 1) := by decide +kernel
theorem dX1_aggMin_2 : decode cX1_aggMin 2 = .ok (.invokevirtual 311, 3) := by decide +kernel
theorem dX1_aggMin_5 : decode cX1_aggMin 5 = .ok (.aload_n 0, 1) := by decide +kernel
theorem dX1_aggMin_6 : decode cX1_aggMin 6 = .ok (.iload_n 1, 1) := by decide +kernel
theorem dX1_aggMin_7 : decode cX1_aggMin 7 = .ok (.iload_n 2, 1) := by decide +kernel
theorem dX1_aggMin_8 : decode cX1_aggMin 8 = .ok (.iload_n 3, 1) := by decide +kernel
theorem dX1_aggMin_9 : decode cX1_aggMin 9 = .ok (.invokevirtual 301, 3) := by decide +kernel
theorem dX1_aggMin_12 : decode cX1_aggMin 12 = .ok (.aload_n 0, 1) := by decide +kernel
theorem dX1_aggMin_13 : decode cX1_aggMin 13 = .ok (.getfield 74, 3) := by decide +kernel
theorem dX1_aggMin_16 : decode cX1_aggMin 16 = .ok (.getfield 314, 3) := by decide +kernel
theorem dX1_aggMin_19 : decode cX1_aggMin 19 = .ok (.ireturn, 1) := by decide +kernel
theorem dX1_need_0 : decode cX1_need 0 = .ok (.aload_n 0, 1) := by decide +kernel
theorem dX1_need_1 : decode cX1_need 1 = .ok (.getfield 12, 3) := by decide +kernel
theorem dX1_need_4 : decode cX1_need 4 = .ok (.getfield 141, 3) := by decide +kernel
theorem dX1_need_7 : decode cX1_need 7 = .ok (.ifCond .eq 11, 3) := by decide +kernel
theorem dX1_need_10 : decode cX1_need 10 = .ok (.new 305, 3) := by decide +kernel
theorem dX1_need_13 : decode cX1_need 13 = .ok (.dup, 1) := by decide +kernel
theorem dX1_need_14 : decode cX1_need 14 = .ok (.invokespecial 307, 3) := by decide +kernel
theorem dX1_need_17 : decode cX1_need 17 = .ok (.athrow, 1) := by decide +kernel
theorem dX1_need_18 : decode cX1_need 18 = .ok (.aload_n 0, 1) := by decide +kernel
theorem dX1_need_19 : decode cX1_need 19 = .ok (.iload_n 1, 1) := by decide +kernel
theorem dX1_need_20 : decode cX1_need 20 = .ok (.invokevirtual 145, 3) := by decide +kernel
theorem dX1_need_23 : decode cX1_need 23 = .ok (.ifCond .ne 11, 3) := by decide +kernel
theorem dX1_need_26 : decode cX1_need 26 = .ok (.new 308, 3) := by decide +kernel
theorem dX1_need_29 : decode cX1_need 29 = .ok (.dup, 1) := by decide +kernel
theorem dX1_need_30 : decode cX1_need 30 = .ok (.invokespecial 310, 3) := by decide +kernel
theorem dX1_need_33 : decode cX1_need 33 = .ok (.athrow, 1) := by decide +kernel
theorem dX1_need_34 : decode cX1_need 34 = .ok (.return_, 1) := by decide +kernel
theorem dX1_aggMax_0 : decode cX1_aggMax 0 = .ok (.aload_n 0, 1) := by decide +kernel
theorem dX1_aggMax_1 : decode cX1_aggMax 1 = .ok (.iload_n 1, 1) := by decide +kernel
theorem dX1_aggMax_2 : decode cX1_aggMax 2 = .ok (.invokevirtual 311, 3) := by decide +kernel
theorem dX1_aggMax_5 : decode cX1_aggMax 5 = .ok (.aload_n 0, 1) := by decide +kernel
theorem dX1_aggMax_6 : decode cX1_aggMax 6 = .ok (.iload_n 1, 1) := by decide +kernel
theorem dX1_aggMax_7 : decode cX1_aggMax 7 = .ok (.iload_n 2, 1) := by decide +kernel
theorem dX1_aggMax_8 : decode cX1_aggMax 8 = .ok (.iload_n 3, 1) := by decide +kernel
theorem dX1_aggMax_9 : decode cX1_aggMax 9 = .ok (.invokevirtual 301, 3) := by decide +kernel
theorem dX1_aggMax_12 : decode cX1_aggMax 12 = .ok (.aload_n 0, 1) := by decide +kernel
theorem dX1_aggMax_13 : decode cX1_aggMax 13 = .ok (.getfield 74, 3) := by decide +kernel
theorem dX1_aggMax_16 : decode cX1_aggMax 16 = .ok (.getfield 316, 3) := by decide +kernel
theorem dX1_aggMax_19 : decode cX1_aggMax 19 = .ok (.ireturn, 1) := by decide +kernel
theorem dX1_aggSum_0 : decode cX1_aggSum 0 = .ok (.aload_n 0, 1) := by decide +kernel
theorem dX1_aggSum_1 : decode cX1_aggSum 1 = .ok (.iload_n 1, 1) := by decide +kernel
theorem dX1_aggSum_2 : decode cX1_aggSum 2 = .ok (.invokevirtual 311, 3) := by decide +kernel
theorem dX1_aggSum_5 : decode cX1_aggSum 5 = .ok (.aload_n 0, 1) := by decide +kernel
theorem dX1_aggSum_6 : decode cX1_aggSum 6 = .ok (.iload_n 1, 1) := by decide +kernel
theorem dX1_aggSum_7 : decode cX1_aggSum 7 = .ok (.iload_n 2, 1) := by decide +kernel
theorem dX1_aggSum_8 : decode cX1_aggSum 8 = .ok (.iload_n 3, 1) := by decide +kernel
theorem dX1_aggSum_9 : decode cX1_aggSum 9 = .ok (.invokevirtual 301, 3) := by decide +kernel
theorem dX1_aggSum_12 : decode cX1_aggSum 12 = .ok (.aload_n 0, 1) := by decide +kernel
theorem dX1_aggSum_13 : decode cX1_aggSum 13 = .ok (.getfield 74, 3) := by decide +kernel
theorem dX1_aggSum_16 : decode cX1_aggSum 16 = .ok (.getfield 318, 3) := by decide +kernel
theorem dX1_aggSum_19 : decode cX1_aggSum 19 = .ok (.lreturn, 1) := by decide +kernel
theorem dX1_sizes_0 : decode cX1_sizes 0 = .ok (.aload_n 0, 1) := by decide +kernel
theorem dX1_sizes_1 : decode cX1_sizes 1 = .ok (.iload_n 1, 1) := by decide +kernel
theorem dX1_sizes_2 : decode cX1_sizes 2 = .ok (.invokevirtual 311, 3) := by decide +kernel
theorem dX1_sizes_5 : decode cX1_sizes 5 = .ok (.iload_n 2, 1) := by decide +kernel
theorem dX1_sizes_6 : decode cX1_sizes 6 = .ok (.tableswitch 58 0 2 #[26, 32, 42], 26) := by decide +kernel
theorem dX1_sizes_32 : decode cX1_sizes 32 = .ok (.aload_n 0, 1) := by decide +kernel
theorem dX1_sizes_33 : decode cX1_sizes 33 = .ok (.iload_n 1, 1) := by decide +kernel
theorem dX1_sizes_34 : decode cX1_sizes 34 = .ok (.invokevirtual 346, 3) := by decide +kernel
theorem dX1_sizes_37 : decode cX1_sizes 37 = .ok (.ireturn, 1) := by decide +kernel
theorem dX1_sizes_38 : decode cX1_sizes 38 = .ok (.aload_n 0, 1) := by decide +kernel
theorem dX1_sizes_39 : decode cX1_sizes 39 = .ok (.getfield 99, 3) := by decide +kernel
theorem dX1_sizes_42 : decode cX1_sizes 42 = .ok (.iload_n 1, 1) := by decide +kernel
theorem dX1_sizes_43 : decode cX1_sizes 43 = .ok (.aaload, 1) := by decide +kernel
theorem dX1_sizes_44 : decode cX1_sizes 44 = .ok (.getfield 129, 3) := by decide +kernel
theorem dX1_sizes_47 : decode cX1_sizes 47 = .ok (.ireturn, 1) := by decide +kernel
theorem dX1_sizes_48 : decode cX1_sizes 48 = .ok (.aload_n 0, 1) := by decide +kernel
theorem dX1_sizes_49 : decode cX1_sizes 49 = .ok (.getfield 55, 3) := by decide +kernel
theorem dX1_sizes_52 : decode cX1_sizes 52 = .ok (.iload_n 1, 1) := by decide +kernel
theorem dX1_sizes_53 : decode cX1_sizes 53 = .ok (.iconst 1, 1) := by decide +kernel
theorem dX1_sizes_54 : decode cX1_sizes 54 = .ok (.iadd, 1) := by decide +kernel
theorem dX1_sizes_55 : decode cX1_sizes 55 = .ok (.iaload, 1) := by decide +kernel
theorem dX1_sizes_56 : decode cX1_sizes 56 = .ok (.aload_n 0, 1) := by decide +kernel
theorem dX1_sizes_57 : decode cX1_sizes 57 = .ok (.getfield 55, 3) := by decide +kernel
theorem dX1_sizes_60 : decode cX1_sizes 60 = .ok (.iload_n 1, 1) := by decide +kernel
theorem dX1_sizes_61 : decode cX1_sizes 61 = .ok (.iaload, 1) := by decide +kernel
theorem dX1_sizes_62 : decode cX1_sizes 62 = .ok (.isub, 1) := by decide +kernel
theorem dX1_sizes_63 : decode cX1_sizes 63 = .ok (.ireturn, 1) := by decide +kernel
theorem dX1_sizes_64 : decode cX1_sizes 64 = .ok (.new 349, 3) := by decide +kernel
theorem dX1_sizes_67 : decode cX1_sizes 67 = .ok (.dup, 1) := by decide +kernel
theorem dX1_sizes_68 : decode cX1_sizes 68 = .ok (.invokespecial 351, 3) := by decide +kernel
theorem dX1_sizes_71 : decode cX1_sizes 71 = .ok (.athrow, 1) := by decide +kernel
theorem dX1_chunks_0 : decode cX1_chunks 0 = .ok (.aload_n 0, 1) := by decide +kernel
theorem dX1_chunks_1 : decode cX1_chunks 1 = .ok (.getfield 39, 3) := by decide +kernel
theorem dX1_chunks_4 : decode cX1_chunks 4 = .ok (.getfield 116, 3) := by decide +kernel
theorem dX1_chunks_7 : decode cX1_chunks 7 = .ok (.iload_n 1, 1) := by decide +kernel
theorem dX1_chunks_8 : decode cX1_chunks 8 = .ok (.iconst 1, 1) := by decide +kernel
theorem dX1_chunks_9 : decode cX1_chunks 9 = .ok (.iadd, 1) := by decide +kernel
theorem dX1_chunks_10 : decode cX1_chunks 10 = .ok (.iaload, 1) := by decide +kernel
theorem dX1_chunks_11 : decode cX1_chunks 11 = .ok (.aload_n 0, 1) := by decide +kernel
theorem dX1_chunks_12 : decode cX1_chunks 12 = .ok (.getfield 39, 3) := by decide +kernel
theorem dX1_chunks_15 : decode cX1_chunks 15 = .ok (.getfield 116, 3) := by decide +kernel
theorem dX1_chunks_18 : decode cX1_chunks 18 = .ok (.iload_n 1, 1) := by decide +kernel
theorem dX1_chunks_19 : decode cX1_chunks 19 = .ok (.iaload, 1) := by decide +kernel
theorem dX1_chunks_20 : decode cX1_chunks 20 = .ok (.isub, 1) := by decide +kernel
theorem dX1_chunks_21 : decode cX1_chunks 21 = .ok (.ireturn, 1) := by decide +kernel
theorem dX1_chunk_0 : decode cX1_chunk 0 = .ok (.aload_n 0, 1) := by decide +kernel
theorem dX1_chunk_1 : decode cX1_chunk 1 = .ok (.iload_n 1, 1) := by decide +kernel
theorem dX1_chunk_2 : decode cX1_chunk 2 = .ok (.invokevirtual 311, 3) := by decide +kernel
theorem dX1_chunk_5 : decode cX1_chunk 5 = .ok (.iload_n 2, 1) := by decide +kernel
theorem dX1_chunk_6 : decode cX1_chunk 6 = .ok (.ifCond .lt 12, 3) := by decide +kernel
theorem dX1_chunk_9 : decode cX1_chunk 9 = .ok (.iload_n 2, 1) := by decide +kernel
theorem dX1_chunk_10 : decode cX1_chunk 10 = .ok (.aload_n 0, 1) := by decide +kernel
theorem dX1_chunk_11 : decode cX1_chunk 11 = .ok (.iload_n 1, 1) := by decide +kernel
theorem dX1_chunk_12 : decode cX1_chunk 12 = .ok (.invokevirtual 346, 3) := by decide +kernel
theorem dX1_chunk_15 : decode cX1_chunk 15 = .ok (.if_icmp .lt 11, 3) := by decide +kernel
theorem dX1_chunk_18 : decode cX1_chunk 18 = .ok (.new 349, 3) := by decide +kernel
theorem dX1_chunk_21 : decode cX1_chunk 21 = .ok (.dup, 1) := by decide +kernel
theorem dX1_chunk_22 : decode cX1_chunk 22 = .ok (.invokespecial 351, 3) := by decide +kernel
theorem dX1_chunk_25 : decode cX1_chunk 25 = .ok (.athrow, 1) := by decide +kernel
theorem dX1_chunk_26 : decode cX1_chunk 26 = .ok (.aload_n 0, 1) := by decide +kernel
theorem dX1_chunk_27 : decode cX1_chunk 27 = .ok (.getfield 39, 3) := by decide +kernel
theorem dX1_chunk_30 : decode cX1_chunk 30 = .ok (.getfield 116, 3) := by decide +kernel
theorem dX1_chunk_33 : decode cX1_chunk 33 = .ok (.iload_n 1, 1) := by decide +kernel
theorem dX1_chunk_34 : decode cX1_chunk 34 = .ok (.iaload, 1) := by decide +kernel
theorem dX1_chunk_35 : decode cX1_chunk 35 = .ok (.iload_n 2, 1) := by decide +kernel
theorem dX1_chunk_36 : decode cX1_chunk 36 = .ok (.iadd, 1) := by decide +kernel
theorem dX1_chunk_37 : decode cX1_chunk 37 = .ok (.istore 4, 2) := by decide +kernel
theorem dX1_chunk_39 : decode cX1_chunk 39 = .ok (.iload_n 3, 1) := by decide +kernel
theorem dX1_chunk_40 : decode cX1_chunk 40 = .ok (.iconst 5, 1) := by decide +kernel
theorem dX1_chunk_41 : decode cX1_chunk 41 = .ok (.if_icmp .ne 16, 3) := by decide +kernel
theorem dX1_chunk_44 : decode cX1_chunk 44 = .ok (.aload_n 0, 1) := by decide +kernel
theorem dX1_chunk_45 : decode cX1_chunk 45 = .ok (.getfield 39, 3) := by decide +kernel
theorem dX1_chunk_48 : decode cX1_chunk 48 = .ok (.getfield 197, 3) := by decide +kernel
theorem dX1_chunk_51 : decode cX1_chunk 51 = .ok (.iload 4, 2) := by decide +kernel
theorem dX1_chunk_53 : decode cX1_chunk 53 = .ok (.caload, 1) := by decide +kernel
theorem dX1_chunk_54 : decode cX1_chunk 54 = .ok (.goto 35, 3) := by decide +kernel
theorem dX1_chunk_57 : decode cX1_chunk 57 = .ok (.iload_n 3, 1) := by decide +kernel
theorem dX1_chunk_58 : decode cX1_chunk 58 = .ok (.bipush 6, 2) := by decide +kernel
theorem dX1_chunk_60 : decode cX1_chunk 60 = .ok (.if_icmp .ne 16, 3) := by decide +kernel
theorem dX1_chunk_63 : decode cX1_chunk 63 = .ok (.aload_n 0, 1) := by decide +kernel
theorem dX1_chunk_64 : decode cX1_chunk 64 = .ok (.getfield 39, 3) := by decide +kernel
theorem dX1_chunk_67 : decode cX1_chunk 67 = .ok (.getfield 189, 3) := by decide +kernel
theorem dX1_chunk_70 : decode cX1_chunk 70 = .ok (.iload 4, 2) := by decide +kernel
theorem dX1_chunk_72 : decode cX1_chunk 72 = .ok (.saload, 1) := by decide +kernel
theorem dX1_chunk_73 : decode cX1_chunk 73 = .ok (.goto 16, 3) := by decide +kernel
theorem dX1_chunk_76 : decode cX1_chunk 76 = .ok (.aload_n 0, 1) := by decide +kernel
theorem dX1_chunk_77 : decode cX1_chunk 77 = .ok (.getfield 39, 3) := by decide +kernel
theorem dX1_chunk_80 : decode cX1_chunk 80 = .ok (.getfield 122, 3) := by decide +kernel
theorem dX1_chunk_83 : decode cX1_chunk 83 = .ok (.iload 4, 2) := by decide +kernel
theorem dX1_chunk_85 : decode cX1_chunk 85 = .ok (.iload_n 3, 1) := by decide +kernel
theorem dX1_chunk_86 : decode cX1_chunk 86 = .ok (.invokevirtual 352, 3) := by decide +kernel
theorem dX1_chunk_89 : decode cX1_chunk 89 = .ok (.ireturn, 1) := by decide +kernel
theorem dX1_group_0 : decode cX1_group 0 = .ok (.aload_n 0, 1) := by decide +kernel
theorem dX1_group_1 : decode cX1_group 1 = .ok (.iload_n 1, 1) := by decide +kernel
theorem dX1_group_2 : decode cX1_group 2 = .ok (.invokevirtual 311, 3) := by decide +kernel
theorem dX1_group_5 : decode cX1_group 5 = .ok (.aload_n 0, 1) := by decide +kernel
theorem dX1_group_6 : decode cX1_group 6 = .ok (.getfield 55, 3) := by decide +kernel
theorem dX1_group_9 : decode cX1_group 9 = .ok (.iload_n 1, 1) := by decide +kernel
theorem dX1_group_10 : decode cX1_group 10 = .ok (.iconst 1, 1) := by decide +kernel
theorem dX1_group_11 : decode cX1_group 11 = .ok (.iadd, 1) := by decide +kernel
theorem dX1_group_12 : decode cX1_group 12 = .ok (.iaload, 1) := by decide +kernel
theorem dX1_group_13 : decode cX1_group 13 = .ok (.aload_n 0, 1) := by decide +kernel
theorem dX1_group_14 : decode cX1_group 14 = .ok (.getfield 55, 3) := by decide +kernel
theorem dX1_group_17 : decode cX1_group 17 = .ok (.iload_n 1, 1) := by decide +kernel
theorem dX1_group_18 : decode cX1_group 18 = .ok (.iaload, 1) := by decide +kernel
theorem dX1_group_19 : decode cX1_group 19 = .ok (.isub, 1) := by decide +kernel
theorem dX1_group_20 : decode cX1_group 20 = .ok (.istore 4, 2) := by decide +kernel
theorem dX1_group_22 : decode cX1_group 22 = .ok (.iload_n 2, 1) := by decide +kernel
theorem dX1_group_23 : decode cX1_group 23 = .ok (.ifCond .lt 9, 3) := by decide +kernel
theorem dX1_group_26 : decode cX1_group 26 = .ok (.iload_n 2, 1) := by decide +kernel
theorem dX1_group_27 : decode cX1_group 27 = .ok (.iload 4, 2) := by decide +kernel
theorem dX1_group_29 : decode cX1_group 29 = .ok (.if_icmp .lt 11, 3) := by decide +kernel
theorem dX1_group_32 : decode cX1_group 32 = .ok (.new 349, 3) := by decide +kernel
theorem dX1_group_35 : decode cX1_group 35 = .ok (.dup, 1) := by decide +kernel
theorem dX1_group_36 : decode cX1_group 36 = .ok (.invokespecial 351, 3) := by decide +kernel
theorem dX1_group_39 : decode cX1_group 39 = .ok (.athrow, 1) := by decide +kernel
theorem dX1_group_40 : decode cX1_group 40 = .ok (.iload_n 3, 1) := by decide +kernel
theorem dX1_group_41 : decode cX1_group 41 = .ok (.iconst 5, 1) := by decide +kernel
theorem dX1_group_42 : decode cX1_group 42 = .ok (.if_icmp .ne 23, 3) := by decide +kernel
theorem dX1_group_45 : decode cX1_group 45 = .ok (.aload_n 0, 1) := by decide +kernel
theorem dX1_group_46 : decode cX1_group 46 = .ok (.getfield 94, 3) := by decide +kernel
theorem dX1_group_49 : decode cX1_group 49 = .ok (.aload_n 0, 1) := by decide +kernel
theorem dX1_group_50 : decode cX1_group 50 = .ok (.iload_n 1, 1) := by decide +kernel
theorem dX1_group_51 : decode cX1_group 51 = .ok (.invokevirtual 346, 3) := by decide +kernel
theorem dX1_group_54 : decode cX1_group 54 = .ok (.iload_n 2, 1) := by decide +kernel
theorem dX1_group_55 : decode cX1_group 55 = .ok (.aload_n 0, 1) := by decide +kernel
theorem dX1_group_56 : decode cX1_group 56 = .ok (.getfield 94, 3) := by decide +kernel
theorem dX1_group_59 : decode cX1_group 59 = .ok (.imul, 1) := by decide +kernel
theorem dX1_group_60 : decode cX1_group 60 = .ok (.isub, 1) := by decide +kernel
theorem dX1_group_61 : decode cX1_group 61 = .ok (.invokestatic 84, 3) := by decide +kernel
theorem dX1_group_64 : decode cX1_group 64 = .ok (.ireturn, 1) := by decide +kernel
theorem dX1_group_65 : decode cX1_group 65 = .ok (.aload_n 0, 1) := by decide +kernel
theorem dX1_group_66 : decode cX1_group 66 = .ok (.getfield 51, 3) := by decide +kernel
theorem dX1_group_69 : decode cX1_group 69 = .ok (.aload_n 0, 1) := by decide +kernel
theorem dX1_group_70 : decode cX1_group 70 = .ok (.getfield 55, 3) := by decide +kernel
theorem dX1_group_73 : decode cX1_group 73 = .ok (.iload_n 1, 1) := by decide +kernel
theorem dX1_group_74 : decode cX1_group 74 = .ok (.iaload, 1) := by decide +kernel
theorem dX1_group_75 : decode cX1_group 75 = .ok (.iload_n 2, 1) := by decide +kernel
theorem dX1_group_76 : decode cX1_group 76 = .ok (.iadd, 1) := by decide +kernel
theorem dX1_group_77 : decode cX1_group 77 = .ok (.iload_n 3, 1) := by decide +kernel
theorem dX1_group_78 : decode cX1_group 78 = .ok (.invokevirtual 352, 3) := by decide +kernel
theorem dX1_group_81 : decode cX1_group 81 = .ok (.ireturn, 1) := by decide +kernel
theorem dX2_init_0 : decode cX2_init 0 = .ok (.aload_n 0, 1) := by decide +kernel
theorem dX2_init_1 : decode cX2_init 1 = .ok (.invokespecial 3, 3) := by decide +kernel
theorem dX2_init_4 : decode cX2_init 4 = .ok (.aload_n 0, 1) := by decide +kernel
theorem dX2_init_5 : decode cX2_init 5 = .ok (.sipush 4096, 3) := by decide +kernel
theorem dX2_init_8 : decode cX2_init 8 = .ok (.newarray .int, 2) := by decide +kernel
theorem dX2_init_10 : decode cX2_init 10 = .ok (.putfield 9, 3) := by decide +kernel
theorem dX2_init_13 : decode cX2_init 13 = .ok (.aload_n 0, 1) := by decide +kernel
theorem dX2_init_14 : decode cX2_init 14 = .ok (.new 15, 3) := by decide +kernel
theorem dX2_init_17 : decode cX2_init 17 = .ok (.dup, 1) := by decide +kernel
theorem dX2_init_18 : decode cX2_init 18 = .ok (.invokespecial 17, 3) := by decide +kernel
theorem dX2_init_21 : decode cX2_init 21 = .ok (.putfield 18, 3) := by decide +kernel
theorem dX2_init_24 : decode cX2_init 24 = .ok (.aload_n 0, 1) := by decide +kernel
theorem dX2_init_25 : decode cX2_init 25 = .ok (.iconst (-1), 1) := by decide +kernel
theorem dX2_init_26 : decode cX2_init 26 = .ok (.putfield 22, 3) := by decide +kernel
theorem dX2_init_29 : decode cX2_init 29 = .ok (.return_, 1) := by decide +kernel
theorem dX2_write_0 : decode cX2_write 0 = .ok (.aload_n 0, 1) := by decide +kernel
theorem dX2_write_1 : decode cX2_write 1 = .ok (.getfield 22, 3) := by decide +kernel
theorem dX2_write_4 : decode cX2_write 4 = .ok (.ifCond .ne 13, 3) := by decide +kernel
theorem dX2_write_7 : decode cX2_write 7 = .ok (.aload_n 0, 1) := by decide +kernel
theorem dX2_write_8 : decode cX2_write 8 = .ok (.iconst 1, 1) := by decide +kernel
theorem dX2_write_9 : decode cX2_write 9 = .ok (.putfield 26, 3) := by decide +kernel
theorem dX2_write_12 : decode cX2_write 12 = .ok (.aload_n 0, 1) := by decide +kernel
theorem dX2_write_13 : decode cX2_write 13 = .ok (.getfield 18, 3) := by decide +kernel
theorem dX2_write_16 : decode cX2_write 16 = .ok (.athrow, 1) := by decide +kernel
theorem dX2_write_17 : decode cX2_write 17 = .ok (.aload_n 0, 1) := by decide +kernel
theorem dX2_write_18 : decode cX2_write 18 = .ok (.getfield 22, 3) := by decide +kernel
theorem dX2_write_21 : decode cX2_write 21 = .ok (.ifCond .le 13, 3) := by decide +kernel
theorem dX2_write_24 : decode cX2_write 24 = .ok (.aload_n 0, 1) := by decide +kernel
theorem dX2_write_25 : decode cX2_write 25 = .ok (.dup, 1) := by decide +kernel
theorem dX2_write_26 : decode cX2_write 26 = .ok (.getfield 22, 3) := by decide +kernel
theorem dX2_write_29 : decode cX2_write 29 = .ok (.iconst 1, 1) := by decide +kernel
theorem dX2_write_30 : decode cX2_write 30 = .ok (.isub, 1) := by decide +kernel
theorem dX2_write_31 : decode cX2_write 31 = .ok (.putfield 22, 3) := by decide +kernel
theorem dX2_write_34 : decode cX2_write 34 = .ok (.aload_n 0, 1) := by decide +kernel
theorem dX2_write_35 : decode cX2_write 35 = .ok (.getfield 9, 3) := by decide +kernel
theorem dX2_write_38 : decode cX2_write 38 = .ok (.iload_n 1, 1) := by decide +kernel
theorem dX2_write_39 : decode cX2_write 39 = .ok (.iload_n 2, 1) := by decide +kernel
theorem dX2_write_40 : decode cX2_write 40 = .ok (.iastore, 1) := by decide +kernel
theorem dX2_write_41 : decode cX2_write 41 = .ok (.aload_n 0, 1) := by decide +kernel
theorem dX2_write_42 : decode cX2_write 42 = .ok (.dup, 1) := by decide +kernel
theorem dX2_write_43 : decode cX2_write 43 = .ok (.getfield 30, 3) := by decide +kernel
theorem dX2_write_46 : decode cX2_write 46 = .ok (.iconst 1, 1) := by decide +kernel
theorem dX2_write_47 : decode cX2_write 47 = .ok (.iadd, 1) := by decide +kernel
theorem dX2_write_48 : decode cX2_write 48 = .ok (.putfield 30, 3) := by decide +kernel
theorem dX2_write_51 : decode cX2_write 51 = .ok (.return_, 1) := by decide +kernel
theorem dJ0_init_0 : decode cJ0_init 0 = .ok (.aload_n 0, 1) := by decide +kernel
theorem dJ0_init_1 : decode cJ0_init 1 = .ok (.invokespecial 1, 3) := by decide +kernel
theorem dJ0_init_4 : decode cJ0_init 4 = .ok (.aload_n 0, 1) := by decide +kernel
theorem dJ0_init_5 : decode cJ0_init 5 = .ok (.aload_n 0, 1) := by decide +kernel
theorem dJ0_init_6 : decode cJ0_init 6 = .ok (.putfield 7, 3) := by decide +kernel
theorem dJ0_init_9 : decode cJ0_init 9 = .ok (.aload_n 0, 1) := by decide +kernel
theorem dJ0_init_10 : decode cJ0_init 10 = .ok (.getstatic 13, 3) := by decide +kernel
theorem dJ0_init_13 : decode cJ0_init 13 = .ok (.putfield 17, 3) := by decide +kernel
theorem dJ0_init_16 : decode cJ0_init 16 = .ok (.aload_n 0, 1) := by decide +kernel
theorem dJ0_init_17 : decode cJ0_init 17 = .ok (.getstatic 20, 3) := by decide +kernel
theorem dJ0_init_20 : decode cJ0_init 20 = .ok (.putfield 24, 3) := by decide +kernel
theorem dJ0_init_23 : decode cJ0_init 23 = .ok (.aload_n 0, 1) := by decide +kernel
theorem dJ0_init_24 : decode cJ0_init 24 = .ok (.invokevirtual 27, 3) := by decide +kernel
theorem dJ0_init_27 : decode cJ0_init 27 = .ok (.pop, 1) := by decide +kernel
theorem dJ0_init_28 : decode cJ0_init 28 = .ok (.return_, 1) := by decide +kernel
theorem dJ0_init_2_0 : decode cJ0_init_2 0 = .ok (.aload_n 0, 1) := by decide +kernel
theorem dJ0_init_2_1 : decode cJ0_init_2 1 = .ok (.invokespecial 1, 3) := by decide +kernel
theorem dJ0_init_2_4 : decode cJ0_init_2 4 = .ok (.aload_n 0, 1) := by decide +kernel
theorem dJ0_init_2_5 : decode cJ0_init_2 5 = .ok (.aload_n 0, 1) := by decide +kernel
theorem dJ0_init_2_6 : decode cJ0_init_2 6 = .ok (.putfield 7, 3) := by decide +kernel
theorem dJ0_init_2_9 : decode cJ0_init_2 9 = .ok (.aload_n 0, 1) := by decide +kernel
theorem dJ0_init_2_10 : decode cJ0_init_2 10 = .ok (.getstatic 13, 3) := by decide +kernel
theorem dJ0_init_2_13 : decode cJ0_init_2 13 = .ok (.putfield 17, 3) := by decide +kernel
theorem dJ0_init_2_16 : decode cJ0_init_2 16 = .ok (.aload_n 0, 1) := by decide +kernel
theorem dJ0_init_2_17 : decode cJ0_init_2 17 = .ok (.getstatic 20, 3) := by decide +kernel
theorem dJ0_init_2_20 : decode cJ0_init_2 20 = .ok (.putfield 24, 3) := by decide +kernel
theorem dJ0_init_2_23 : decode cJ0_init_2 23 = .ok (.iload 4, 2) := by decide +kernel
theorem dJ0_init_2_25 : decode cJ0_init_2 25 = .ok (.ifCond .eq 11, 3) := by decide +kernel
theorem dJ0_init_2_28 : decode cJ0_init_2 28 = .ok (.aload_n 0, 1) := by decide +kernel
theorem dJ0_init_2_29 : decode cJ0_init_2 29 = .ok (.invokevirtual 27, 3) := by decide +kernel
theorem dJ0_init_2_32 : decode cJ0_init_2 32 = .ok (.pop, 1) := by decide +kernel
theorem dJ0_init_2_33 : decode cJ0_init_2 33 = .ok (.goto 8, 3) := by decide +kernel
theorem dJ0_init_2_36 : decode cJ0_init_2 36 = .ok (.aload_n 0, 1) := by decide +kernel
theorem dJ0_init_2_37 : decode cJ0_init_2 37 = .ok (.aconst_null, 1) := by decide +kernel
theorem dJ0_init_2_38 : decode cJ0_init_2 38 = .ok (.putfield 17, 3) := by decide +kernel
theorem dJ0_init_2_41 : decode cJ0_init_2 41 = .ok (.aload_n 0, 1) := by decide +kernel
theorem dJ0_init_2_42 : decode cJ0_init_2 42 = .ok (.aload_n 1, 1) := by decide +kernel
theorem dJ0_init_2_43 : decode cJ0_init_2 43 = .ok (.putfield 31, 3) := by decide +kernel
theorem dJ0_init_2_46 : decode cJ0_init_2 46 = .ok (.aload_n 0, 1) := by decide +kernel
theorem dJ0_init_2_47 : decode cJ0_init_2 47 = .ok (.aload_n 2, 1) := by decide +kernel
theorem dJ0_init_2_48 : decode cJ0_init_2 48 = .ok (.putfield 7, 3) := by decide +kernel
theorem dJ0_init_2_51 : decode cJ0_init_2 51 = .ok (.iload_n 3, 1) := by decide +kernel
theorem dJ0_init_2_52 : decode cJ0_init_2 52 = .ok (.ifCond .ne 8, 3) := by decide +kernel
theorem dJ0_init_2_55 : decode cJ0_init_2 55 = .ok (.aload_n 0, 1) := by decide +kernel
theorem dJ0_init_2_56 : decode cJ0_init_2 56 = .ok (.aconst_null, 1) := by decide +kernel
theorem dJ0_init_2_57 : decode cJ0_init_2 57 = .ok (.putfield 24, 3) := by decide +kernel
theorem dJ0_init_2_60 : decode cJ0_init_2 60 = .ok (.return_, 1) := by decide +kernel
theorem dJ0_init_3_0 : decode cJ0_init_3 0 = .ok (.aload_n 0, 1) := by decide +kernel
theorem dJ0_init_3_1 : decode cJ0_init_3 1 = .ok (.invokespecial 1, 3) := by decide +kernel
theorem dJ0_init_3_4 : decode cJ0_init_3 4 = .ok (.aload_n 0, 1) := by decide +kernel
theorem dJ0_init_3_5 : decode cJ0_init_3 5 = .ok (.aload_n 0, 1) := by decide +kernel
theorem dJ0_init_3_6 : decode cJ0_init_3 6 = .ok (.putfield 7, 3) := by decide +kernel
theorem dJ0_init_3_9 : decode cJ0_init_3 9 = .ok (.aload_n 0, 1) := by decide +kernel
theorem dJ0_init_3_10 : decode cJ0_init_3 10 = .ok (.getstatic 13, 3) := by decide +kernel
theorem dJ0_init_3_13 : decode cJ0_init_3 13 = .ok (.putfield 17, 3) := by decide +kernel
theorem dJ0_init_3_16 : decode cJ0_init_3 16 = .ok (.aload_n 0, 1) := by decide +kernel
theorem dJ0_init_3_17 : decode cJ0_init_3 17 = .ok (.getstatic 20, 3) := by decide +kernel
theorem dJ0_init_3_20 : decode cJ0_init_3 20 = .ok (.putfield 24, 3) := by decide +kernel
theorem dJ0_init_3_23 : decode cJ0_init_3 23 = .ok (.aload_n 0, 1) := by decide +kernel
theorem dJ0_init_3_24 : decode cJ0_init_3 24 = .ok (.invokevirtual 27, 3) := by decide +kernel
theorem dJ0_init_3_27 : decode cJ0_init_3 27 = .ok (.pop, 1) := by decide +kernel
theorem dJ0_init_3_28 : decode cJ0_init_3 28 = .ok (.aload_n 0, 1) := by decide +kernel
theorem dJ0_init_3_29 : decode cJ0_init_3 29 = .ok (.aload_n 1, 1) := by decide +kernel
theorem dJ0_init_3_30 : decode cJ0_init_3 30 = .ok (.putfield 31, 3) := by decide +kernel
theorem dJ0_init_3_33 : decode cJ0_init_3 33 = .ok (.return_, 1) := by decide +kernel
theorem dJ1_init_0 : decode cJ1_init 0 = .ok (.aload_n 0, 1) := by decide +kernel
theorem dJ1_init_1 : decode cJ1_init 1 = .ok (.aload_n 1, 1) := by decide +kernel
theorem dJ1_init_2 : decode cJ1_init 2 = .ok (.aload_n 2, 1) := by decide +kernel
theorem dJ1_init_3 : decode cJ1_init 3 = .ok (.iload_n 3, 1) := by decide +kernel
theorem dJ1_init_4 : decode cJ1_init 4 = .ok (.iload 4, 2) := by decide +kernel
theorem dJ1_init_6 : decode cJ1_init 6 = .ok (.invokespecial 16, 3) := by decide +kernel
theorem dJ1_init_9 : decode cJ1_init 9 = .ok (.return_, 1) := by decide +kernel
theorem dJ1_init_2_0 : decode cJ1_init_2 0 = .ok (.aload_n 0, 1) := by decide +kernel
theorem dJ1_init_2_1 : decode cJ1_init_2 1 = .ok (.aload_n 1, 1) := by decide +kernel
theorem dJ1_init_2_2 : decode cJ1_init_2 2 = .ok (.invokespecial 7, 3) := by decide +kernel
theorem dJ1_init_2_5 : decode cJ1_init_2 5 = .ok (.return_, 1) := by decide +kernel
theorem dJ1_init_3_0 : decode cJ1_init_3 0 = .ok (.aload_n 0, 1) := by decide +kernel
theorem dJ1_init_3_1 : decode cJ1_init_3 1 = .ok (.invokespecial 1, 3) := by decide +kernel
theorem dJ1_init_3_4 : decode cJ1_init_3 4 = .ok (.return_, 1) := by decide +kernel
theorem dX3_init_0 : decode cX3_init 0 = .ok (.aload_n 0, 1) := by decide +kernel
theorem dX3_init_1 : decode cX3_init 1 = .ok (.aconst_null, 1) := by decide +kernel
theorem dX3_init_2 : decode cX3_init 2 = .ok (.aconst_null, 1) := by decide +kernel
theorem dX3_init_3 : decode cX3_init 3 = .ok (.iconst 0, 1) := by decide +kernel
theorem dX3_init_4 : decode cX3_init 4 = .ok (.iconst 0, 1) := by decide +kernel
theorem dX3_init_5 : decode cX3_init 5 = .ok (.invokespecial 1, 3) := by decide +kernel
theorem dX3_init_8 : decode cX3_init 8 = .ok (.return_, 1) := by decide +kernel
theorem dX4_init_0 : decode cX4_init 0 = .ok (.aload_n 0, 1) := by decide +kernel
theorem dX4_init_1 : decode cX4_init 1 = .ok (.invokespecial 1, 3) := by decide +kernel
theorem dX4_init_4 : decode cX4_init 4 = .ok (.aload_n 0, 1) := by decide +kernel
theorem dX4_init_5 : decode cX4_init 5 = .ok (.sipush 2560, 3) := by decide +kernel
theorem dX4_init_8 : decode cX4_init 8 = .ok (.newarray .int, 2) := by decide +kernel
theorem dX4_init_10 : decode cX4_init 10 = .ok (.putfield 7, 3) := by decide +kernel
theorem dX4_init_13 : decode cX4_init 13 = .ok (.return_, 1) := by decide +kernel
theorem dX4_clear_0 : decode cX4_clear 0 = .ok (.aload_n 0, 1) := by decide +kernel
theorem dX4_clear_1 : decode cX4_clear 1 = .ok (.iconst 0, 1) := by decide +kernel
theorem dX4_clear_2 : decode cX4_clear 2 = .ok (.putfield 13, 3) := by decide +kernel
theorem dX4_clear_5 : decode cX4_clear 5 = .ok (.return_, 1) := by decide +kernel
theorem dX4_begin_0 : decode cX4_begin 0 = .ok (.aload_n 0, 1) := by decide +kernel
theorem dX4_begin_1 : decode cX4_begin 1 = .ok (.aload_n 0, 1) := by decide +kernel
theorem dX4_begin_2 : decode cX4_begin 2 = .ok (.getfield 13, 3) := by decide +kernel
theorem dX4_begin_5 : decode cX4_begin 5 = .ok (.putfield 17, 3) := by decide +kernel
theorem dX4_begin_8 : decode cX4_begin 8 = .ok (.aload_n 0, 1) := by decide +kernel
theorem dX4_begin_9 : decode cX4_begin 9 = .ok (.iconst 1, 1) := by decide +kernel
theorem dX4_begin_10 : decode cX4_begin 10 = .ok (.putfield 20, 3) := by decide +kernel
theorem dX4_begin_13 : decode cX4_begin 13 = .ok (.aload_n 0, 1) := by decide +kernel
theorem dX4_begin_14 : decode cX4_begin 14 = .ok (.lconst 0, 1) := by decide +kernel
theorem dX4_begin_15 : decode cX4_begin 15 = .ok (.putfield 24, 3) := by decide +kernel
theorem dX4_begin_18 : decode cX4_begin 18 = .ok (.return_, 1) := by decide +kernel
theorem dX4_take_0 : decode cX4_take 0 = .ok (.aload_n 0, 1) := by decide +kernel
theorem dX4_take_1 : decode cX4_take 1 = .ok (.getfield 20, 3) := by decide +kernel
theorem dX4_take_4 : decode cX4_take 4 = .ok (.ifCond .eq 27, 3) := by decide +kernel
theorem dX4_take_7 : decode cX4_take 7 = .ok (.aload_n 0, 1) := by decide +kernel
theorem dX4_take_8 : decode cX4_take 8 = .ok (.iload_n 1, 1) := by decide +kernel
theorem dX4_take_9 : decode cX4_take 9 = .ok (.i2l, 1) := by decide +kernel
theorem dX4_take_10 : decode cX4_take 10 = .ok (.bipush 32, 2) := by decide +kernel
theorem dX4_take_12 : decode cX4_take 12 = .ok (.invokevirtual 28, 3) := by decide +kernel
theorem dX4_take_15 : decode cX4_take 15 = .ok (.aload_n 0, 1) := by decide +kernel
theorem dX4_take_16 : decode cX4_take 16 = .ok (.iload_n 2, 1) := by decide +kernel
theorem dX4_take_17 : decode cX4_take 17 = .ok (.i2l, 1) := by decide +kernel
theorem dX4_take_18 : decode cX4_take 18 = .ok (.bipush 32, 2) := by decide +kernel
theorem dX4_take_20 : decode cX4_take 20 = .ok (.invokevirtual 28, 3) := by decide +kernel
theorem dX4_take_23 : decode cX4_take 23 = .ok (.aload_n 0, 1) := by decide +kernel
theorem dX4_take_24 : decode cX4_take 24 = .ok (.iconst 0, 1) := by decide +kernel
theorem dX4_take_25 : decode cX4_take 25 = .ok (.putfield 20, 3) := by decide +kernel
theorem dX4_take_28 : decode cX4_take 28 = .ok (.goto 82, 3) := by decide +kernel
theorem dX4_take_31 : decode cX4_take 31 = .ok (.iload_n 1, 1) := by decide +kernel
theorem dX4_take_32 : decode cX4_take 32 = .ok (.i2l, 1) := by decide +kernel
theorem dX4_take_33 : decode cX4_take 33 = .ok (.aload_n 0, 1) := by decide +kernel
theorem dX4_take_34 : decode cX4_take 34 = .ok (.getfield 54, 3) := by decide +kernel
theorem dX4_take_37 : decode cX4_take 37 = .ok (.i2l, 1) := by decide +kernel
theorem dX4_take_38 : decode cX4_take 38 = .ok (.lsub, 1) := by decide +kernel
theorem dX4_take_39 : decode cX4_take 39 = .ok (.lstore_n 3, 1) := by decide +kernel
theorem dX4_take_40 : decode cX4_take 40 = .ok (.aload_n 0, 1) := by decide +kernel
theorem dX4_take_41 : decode cX4_take 41 = .ok (.lload_n 3, 1) := by decide +kernel
theorem dX4_take_42 : decode cX4_take 42 = .ok (.aload_n 0, 1) := by decide +kernel
theorem dX4_take_43 : decode cX4_take 43 = .ok (.getfield 24, 3) := by decide +kernel
theorem dX4_take_46 : decode cX4_take 46 = .ok (.lsub, 1) := by decide +kernel
theorem dX4_take_47 : decode cX4_take 47 = .ok (.invokevirtual 57, 3) := by decide +kernel
theorem dX4_take_50 : decode cX4_take 50 = .ok (.aload_n 0, 1) := by decide +kernel
theorem dX4_take_51 : decode cX4_take 51 = .ok (.lload_n 3, 1) := by decide +kernel
theorem dX4_take_52 : decode cX4_take 52 = .ok (.putfield 24, 3) := by decide +kernel
theorem dX4_take_55 : decode cX4_take 55 = .ok (.iload_n 2, 1) := by decide +kernel
theorem dX4_take_56 : decode cX4_take 56 = .ok (.aload_n 0, 1) := by decide +kernel
theorem dX4_take_57 : decode cX4_take 57 = .ok (.getfield 61, 3) := by decide +kernel
theorem dX4_take_60 : decode cX4_take 60 = .ok (.isub, 1) := by decide +kernel
theorem dX4_take_61 : decode cX4_take 61 = .ok (.istore 5, 2) := by decide +kernel
theorem dX4_take_63 : decode cX4_take 63 = .ok (.iload 5, 2) := by decide +kernel
theorem dX4_take_65 : decode cX4_take 65 = .ok (.iconst 1, 1) := by decide +kernel
theorem dX4_take_66 : decode cX4_take 66 = .ok (.ishl, 1) := by decide +kernel
theorem dX4_take_67 : decode cX4_take 67 = .ok (.iload 5, 2) := by decide +kernel
theorem dX4_take_69 : decode cX4_take 69 = .ok (.bipush 31, 2) := by decide +kernel
theorem dX4_take_71 : decode cX4_take 71 = .ok (.ishr, 1) := by decide +kernel
theorem dX4_take_72 : decode cX4_take 72 = .ok (.ixor, 1) := by decide +kernel
theorem dX4_take_73 : decode cX4_take 73 = .ok (.istore 6, 2) := by decide +kernel
theorem dX4_take_75 : decode cX4_take 75 = .ok (.iload 6, 2) := by decide +kernel
theorem dX4_take_77 : decode cX4_take 77 = .ok (.ifCond .eq 27, 3) := by decide +kernel
theorem dX4_take_80 : decode cX4_take 80 = .ok (.aload_n 0, 1) := by decide +kernel
theorem dX4_take_81 : decode cX4_take 81 = .ok (.ldc2_w 64, 3) := by decide +kernel
theorem dX4_take_84 : decode cX4_take 84 = .ok (.iload 6, 2) := by decide +kernel
theorem dX4_take_86 : decode cX4_take 86 = .ok (.bipush 15, 2) := by decide +kernel
theorem dX4_take_88 : decode cX4_take 88 = .ok (.iand, 1) := by decide +kernel
theorem dX4_take_89 : decode cX4_take 89 = .ok (.i2l, 1) := by decide +kernel
theorem dX4_take_90 : decode cX4_take 90 = .ok (.lor, 1) := by decide +kernel
theorem dX4_take_91 : decode cX4_take 91 = .ok (.iconst 5, 1) := by decide +kernel
theorem dX4_take_92 : decode cX4_take 92 = .ok (.invokevirtual 28, 3) := by decide +kernel
theorem dX4_take_95 : decode cX4_take 95 = .ok (.iload 6, 2) := by decide +kernel
theorem dX4_take_97 : decode cX4_take 97 = .ok (.iconst 4, 1) := by decide +kernel
theorem dX4_take_98 : decode cX4_take 98 = .ok (.iushr, 1) := by decide +kernel
theorem dX4_take_99 : decode cX4_take 99 = .ok (.istore 6, 2) := by decide +kernel
theorem dX4_take_101 : decode cX4_take 101 = .ok (.goto (-26), 3) := by decide +kernel
theorem dX4_take_104 : decode cX4_take 104 = .ok (.aload_n 0, 1) := by decide +kernel
theorem dX4_take_105 : decode cX4_take 105 = .ok (.lconst 0, 1) := by decide +kernel
theorem dX4_take_106 : decode cX4_take 106 = .ok (.iconst 1, 1) := by decide +kernel
theorem dX4_take_107 : decode cX4_take 107 = .ok (.invokevirtual 28, 3) := by decide +kernel
theorem dX4_take_110 : decode cX4_take 110 = .ok (.aload_n 0, 1) := by decide +kernel
theorem dX4_take_111 : decode cX4_take 111 = .ok (.iload_n 1, 1) := by decide +kernel
theorem dX4_take_112 : decode cX4_take 112 = .ok (.putfield 54, 3) := by decide +kernel
theorem dX4_take_115 : decode cX4_take 115 = .ok (.aload_n 0, 1) := by decide +kernel
theorem dX4_take_116 : decode cX4_take 116 = .ok (.iload_n 2, 1) := by decide +kernel
theorem dX4_take_117 : decode cX4_take 117 = .ok (.putfield 61, 3) := by decide +kernel
theorem dX4_take_120 : decode cX4_take 120 = .ok (.return_, 1) := by decide +kernel
theorem dX4_put_0 : decode cX4_put 0 = .ok (.iload_n 3, 1) := by decide +kernel
theorem dX4_put_1 : decode cX4_put 1 = .ok (.iconst 1, 1) := by decide +kernel
theorem dX4_put_2 : decode cX4_put 2 = .ok (.isub, 1) := by decide +kernel
theorem dX4_put_3 : decode cX4_put 3 = .ok (.istore 4, 2) := by decide +kernel
theorem dX4_put_5 : decode cX4_put 5 = .ok (.iload 4, 2) := by decide +kernel
theorem dX4_put_7 : decode cX4_put 7 = .ok (.ifCond .lt 73, 3) := by decide +kernel
theorem dX4_put_10 : decode cX4_put 10 = .ok (.aload_n 0, 1) := by decide +kernel
theorem dX4_put_11 : decode cX4_put 11 = .ok (.getfield 13, 3) := by decide +kernel
theorem dX4_put_14 : decode cX4_put 14 = .ok (.iconst 5, 1) := by decide +kernel
theorem dX4_put_15 : decode cX4_put 15 = .ok (.ishr, 1) := by decide +kernel
theorem dX4_put_16 : decode cX4_put 16 = .ok (.istore 5, 2) := by decide +kernel
theorem dX4_put_18 : decode cX4_put 18 = .ok (.aload_n 0, 1) := by decide +kernel
theorem dX4_put_19 : decode cX4_put 19 = .ok (.getfield 13, 3) := by decide +kernel
theorem dX4_put_22 : decode cX4_put 22 = .ok (.bipush 31, 2) := by decide +kernel
theorem dX4_put_24 : decode cX4_put 24 = .ok (.iand, 1) := by decide +kernel
theorem dX4_put_25 : decode cX4_put 25 = .ok (.ifCond .ne 11, 3) := by decide +kernel
theorem dX4_put_28 : decode cX4_put 28 = .ok (.aload_n 0, 1) := by decide +kernel
theorem dX4_put_29 : decode cX4_put 29 = .ok (.getfield 7, 3) := by decide +kernel
theorem dX4_put_32 : decode cX4_put 32 = .ok (.iload 5, 2) := by decide +kernel
theorem dX4_put_34 : decode cX4_put 34 = .ok (.iconst 0, 1) := by decide +kernel
theorem dX4_put_35 : decode cX4_put 35 = .ok (.iastore, 1) := by decide +kernel
theorem dX4_put_36 : decode cX4_put 36 = .ok (.aload_n 0, 1) := by decide +kernel
theorem dX4_put_37 : decode cX4_put 37 = .ok (.getfield 7, 3) := by decide +kernel
theorem dX4_put_40 : decode cX4_put 40 = .ok (.iload 5, 2) := by decide +kernel
theorem dX4_put_42 : decode cX4_put 42 = .ok (.dup2, 1) := by decide +kernel
theorem dX4_put_43 : decode cX4_put 43 = .ok (.iaload, 1) := by decide +kernel
theorem dX4_put_44 : decode cX4_put 44 = .ok (.lload_n 1, 1) := by decide +kernel
theorem dX4_put_45 : decode cX4_put 45 = .ok (.iload 4, 2) := by decide +kernel
theorem dX4_put_47 : decode cX4_put 47 = .ok (.lshr, 1) := by decide +kernel
theorem dX4_put_48 : decode cX4_put 48 = .ok (.lconst 1, 1) := by decide +kernel
theorem dX4_put_49 : decode cX4_put 49 = .ok (.land, 1) := by decide +kernel
theorem dX4_put_50 : decode cX4_put 50 = .ok (.l2i, 1) := by decide +kernel
theorem dX4_put_51 : decode cX4_put 51 = .ok (.bipush 31, 2) := by decide +kernel
theorem dX4_put_53 : decode cX4_put 53 = .ok (.aload_n 0, 1) := by decide +kernel
theorem dX4_put_54 : decode cX4_put 54 = .ok (.getfield 13, 3) := by decide +kernel
theorem dX4_put_57 : decode cX4_put 57 = .ok (.bipush 31, 2) := by decide +kernel
theorem dX4_put_59 : decode cX4_put 59 = .ok (.iand, 1) := by decide +kernel
theorem dX4_put_60 : decode cX4_put 60 = .ok (.isub, 1) := by decide +kernel
theorem dX4_put_61 : decode cX4_put 61 = .ok (.ishl, 1) := by decide +kernel
theorem dX4_put_62 : decode cX4_put 62 = .ok (.ior, 1) := by decide +kernel
theorem dX4_put_63 : decode cX4_put 63 = .ok (.iastore, 1) := by decide +kernel
theorem dX4_put_64 : decode cX4_put 64 = .ok (.aload_n 0, 1) := by decide +kernel
theorem dX4_put_65 : decode cX4_put 65 = .ok (.dup, 1) := by decide +kernel
theorem dX4_put_66 : decode cX4_put 66 = .ok (.getfield 13, 3) := by decide +kernel
theorem dX4_put_69 : decode cX4_put 69 = .ok (.iconst 1, 1) := by decide +kernel
theorem dX4_put_70 : decode cX4_put 70 = .ok (.iadd, 1) := by decide +kernel
theorem dX4_put_71 : decode cX4_put 71 = .ok (.putfield 13, 3) := by decide +kernel
theorem dX4_put_74 : decode cX4_put 74 = .ok (.iinc 4 (-1), 3) := by decide +kernel
theorem dX4_put_77 : decode cX4_put 77 = .ok (.goto (-72), 3) := by decide +kernel
theorem dX4_put_80 : decode cX4_put 80 = .ok (.return_, 1) := by decide +kernel
theorem dX4_change_0 : decode cX4_change 0 = .ok (.lload_n 1, 1) := by decide +kernel
theorem dX4_change_1 : decode cX4_change 1 = .ok (.lconst 0, 1) := by decide +kernel
theorem dX4_change_2 : decode cX4_change 2 = .ok (.lcmp, 1) := by decide +kernel
theorem dX4_change_3 : decode cX4_change 3 = .ok (.ifCond .ne 12, 3) := by decide +kernel
theorem dX4_change_6 : decode cX4_change 6 = .ok (.aload_n 0, 1) := by decide +kernel
theorem dX4_change_7 : decode cX4_change 7 = .ok (.lconst 0, 1) := by decide +kernel
theorem dX4_change_8 : decode cX4_change 8 = .ok (.iconst 1, 1) := by decide +kernel
theorem dX4_change_9 : decode cX4_change 9 = .ok (.invokevirtual 28, 3) := by decide +kernel
theorem dX4_change_12 : decode cX4_change 12 = .ok (.goto 136, 3) := by decide +kernel
theorem dX4_change_15 : decode cX4_change 15 = .ok (.lload_n 1, 1) := by decide +kernel
theorem dX4_change_16 : decode cX4_change 16 = .ok (.ldc2_w 32, 3) := by decide +kernel
theorem dX4_change_19 : decode cX4_change 19 = .ok (.lcmp, 1) := by decide +kernel
theorem dX4_change_20 : decode cX4_change 20 = .ok (.ifCond .lt 33, 3) := by decide +kernel
theorem dX4_change_23 : decode cX4_change 23 = .ok (.lload_n 1, 1) := by decide +kernel
theorem dX4_change_24 : decode cX4_change 24 = .ok (.ldc2_w 34, 3) := by decide +kernel
theorem dX4_change_27 : decode cX4_change 27 = .ok (.lcmp, 1) := by decide +kernel
theorem dX4_change_28 : decode cX4_change 28 = .ok (.ifCond .ge 25, 3) := by decide +kernel
theorem dX4_change_31 : decode cX4_change 31 = .ok (.aload_n 0, 1) := by decide +kernel
theorem dX4_change_32 : decode cX4_change 32 = .ok (.ldc2_w 36, 3) := by decide +kernel
theorem dX4_change_35 : decode cX4_change 35 = .ok (.iconst 2, 1) := by decide +kernel
theorem dX4_change_36 : decode cX4_change 36 = .ok (.invokevirtual 28, 3) := by decide +kernel
theorem dX4_change_39 : decode cX4_change 39 = .ok (.aload_n 0, 1) := by decide +kernel
theorem dX4_change_40 : decode cX4_change 40 = .ok (.lload_n 1, 1) := by decide +kernel
theorem dX4_change_41 : decode cX4_change 41 = .ok (.ldc2_w 34, 3) := by decide +kernel
theorem dX4_change_44 : decode cX4_change 44 = .ok (.ladd, 1) := by decide +kernel
theorem dX4_change_45 : decode cX4_change 45 = .ok (.bipush 7, 2) := by decide +kernel
theorem dX4_change_47 : decode cX4_change 47 = .ok (.invokevirtual 28, 3) := by decide +kernel
theorem dX4_change_50 : decode cX4_change 50 = .ok (.goto 98, 3) := by decide +kernel
theorem dX4_change_53 : decode cX4_change 53 = .ok (.lload_n 1, 1) := by decide +kernel
theorem dX4_change_54 : decode cX4_change 54 = .ok (.ldc2_w 38, 3) := by decide +kernel
theorem dX4_change_57 : decode cX4_change 57 = .ok (.lcmp, 1) := by decide +kernel
theorem dX4_change_58 : decode cX4_change 58 = .ok (.ifCond .lt 33, 3) := by decide +kernel
theorem dX4_change_61 : decode cX4_change 61 = .ok (.lload_n 1, 1) := by decide +kernel
theorem dX4_change_62 : decode cX4_change 62 = .ok (.ldc2_w 40, 3) := by decide +kernel
theorem dX4_change_65 : decode cX4_change 65 = .ok (.lcmp, 1) := by decide +kernel
theorem dX4_change_66 : decode cX4_change 66 = .ok (.ifCond .ge 25, 3) := by decide +kernel
theorem dX4_change_69 : decode cX4_change 69 = .ok (.aload_n 0, 1) := by decide +kernel
theorem dX4_change_70 : decode cX4_change 70 = .ok (.ldc2_w 42, 3) := by decide +kernel
theorem dX4_change_73 : decode cX4_change 73 = .ok (.iconst 3, 1) := by decide +kernel
theorem dX4_change_74 : decode cX4_change 74 = .ok (.invokevirtual 28, 3) := by decide +kernel
theorem dX4_change_77 : decode cX4_change 77 = .ok (.aload_n 0, 1) := by decide +kernel
theorem dX4_change_78 : decode cX4_change 78 = .ok (.lload_n 1, 1) := by decide +kernel
theorem dX4_change_79 : decode cX4_change 79 = .ok (.ldc2_w 40, 3) := by decide +kernel
theorem dX4_change_82 : decode cX4_change 82 = .ok (.ladd, 1) := by decide +kernel
theorem dX4_change_83 : decode cX4_change 83 = .ok (.bipush 9, 2) := by decide +kernel
theorem dX4_change_85 : decode cX4_change 85 = .ok (.invokevirtual 28, 3) := by decide +kernel
theorem dX4_change_88 : decode cX4_change 88 = .ok (.goto 60, 3) := by decide +kernel
theorem dX4_change_91 : decode cX4_change 91 = .ok (.lload_n 1, 1) := by decide +kernel
theorem dX4_change_92 : decode cX4_change 92 = .ok (.ldc2_w 44, 3) := by decide +kernel
theorem dX4_change_95 : decode cX4_change 95 = .ok (.lcmp, 1) := by decide +kernel
theorem dX4_change_96 : decode cX4_change 96 = .ok (.ifCond .lt 33, 3) := by decide +kernel
theorem dX4_change_99 : decode cX4_change 99 = .ok (.lload_n 1, 1) := by decide +kernel
theorem dX4_change_100 : decode cX4_change 100 = .ok (.ldc2_w 46, 3) := by decide +kernel
theorem dX4_change_103 : decode cX4_change 103 = .ok (.lcmp, 1) := by decide +kernel
theorem dX4_change_104 : decode cX4_change 104 = .ok (.ifCond .ge 25, 3) := by decide +kernel
theorem dX4_change_107 : decode cX4_change 107 = .ok (.aload_n 0, 1) := by decide +kernel
theorem dX4_change_108 : decode cX4_change 108 = .ok (.ldc2_w 48, 3) := by decide +kernel
theorem dX4_change_111 : decode cX4_change 111 = .ok (.iconst 4, 1) := by decide +kernel
theorem dX4_change_112 : decode cX4_change 112 = .ok (.invokevirtual 28, 3) := by decide +kernel
theorem dX4_change_115 : decode cX4_change 115 = .ok (.aload_n 0, 1) := by decide +kernel
theorem dX4_change_116 : decode cX4_change 116 = .ok (.lload_n 1, 1) := by decide +kernel
theorem dX4_change_117 : decode cX4_change 117 = .ok (.ldc2_w 46, 3) := by decide +kernel
theorem dX4_change_120 : decode cX4_change 120 = .ok (.ladd, 1) := by decide +kernel
theorem dX4_change_121 : decode cX4_change 121 = .ok (.bipush 12, 2) := by decide +kernel
theorem dX4_change_123 : decode cX4_change 123 = .ok (.invokevirtual 28, 3) := by decide +kernel
theorem dX4_change_126 : decode cX4_change 126 = .ok (.goto 22, 3) := by decide +kernel
theorem dX4_change_129 : decode cX4_change 129 = .ok (.aload_n 0, 1) := by decide +kernel
theorem dX4_change_130 : decode cX4_change 130 = .ok (.ldc2_w 50, 3) := by decide +kernel
theorem dX4_change_133 : decode cX4_change 133 = .ok (.iconst 4, 1) := by decide +kernel
theorem dX4_change_134 : decode cX4_change 134 = .ok (.invokevirtual 28, 3) := by decide +kernel
theorem dX4_change_137 : decode cX4_change 137 = .ok (.aload_n 0, 1) := by decide +kernel
theorem dX4_change_138 : decode cX4_change 138 = .ok (.lload_n 1, 1) := by decide +kernel
theorem dX4_change_139 : decode cX4_change 139 = .ok (.ldc2_w 52, 3) := by decide +kernel
theorem dX4_change_142 : decode cX4_change 142 = .ok (.ladd, 1) := by decide +kernel
theorem dX4_change_143 : decode cX4_change 143 = .ok (.bipush 34, 2) := by decide +kernel
theorem dX4_change_145 : decode cX4_change 145 = .ok (.invokevirtual 28, 3) := by decide +kernel
theorem dX4_change_148 : decode cX4_change 148 = .ok (.return_, 1) := by decide +kernel
theorem dX4_end_0 : decode cX4_end 0 = .ok (.aload_n 0, 1) := by decide +kernel
theorem dX4_end_1 : decode cX4_end 1 = .ok (.aload_n 0, 1) := by decide +kernel
theorem dX4_end_2 : decode cX4_end 2 = .ok (.getfield 13, 3) := by decide +kernel
theorem dX4_end_5 : decode cX4_end 5 = .ok (.bipush 31, 2) := by decide +kernel
theorem dX4_end_7 : decode cX4_end 7 = .ok (.iadd, 1) := by decide +kernel
theorem dX4_end_8 : decode cX4_end 8 = .ok (.bipush (-32), 2) := by decide +kernel
theorem dX4_end_10 : decode cX4_end 10 = .ok (.iand, 1) := by decide +kernel
theorem dX4_end_11 : decode cX4_end 11 = .ok (.putfield 13, 3) := by decide +kernel
theorem dX4_end_14 : decode cX4_end 14 = .ok (.aload_n 0, 1) := by decide +kernel
theorem dX4_end_15 : decode cX4_end 15 = .ok (.getfield 13, 3) := by decide +kernel
theorem dX4_end_18 : decode cX4_end 18 = .ok (.aload_n 0, 1) := by decide +kernel
theorem dX4_end_19 : decode cX4_end 19 = .ok (.getfield 17, 3) := by decide +kernel
theorem dX4_end_22 : decode cX4_end 22 = .ok (.isub, 1) := by decide +kernel
theorem dX4_end_23 : decode cX4_end 23 = .ok (.iconst 5, 1) := by decide +kernel
theorem dX4_end_24 : decode cX4_end 24 = .ok (.ishr, 1) := by decide +kernel
theorem dX4_end_25 : decode cX4_end 25 = .ok (.ireturn, 1) := by decide +kernel
theorem dX5_init_0 : decode cX5_init 0 = .ok (.aload_n 0, 1) := by decide +kernel
theorem dX5_init_1 : decode cX5_init 1 = .ok (.invokespecial 1, 3) := by decide +kernel
theorem dX5_init_4 : decode cX5_init 4 = .ok (.return_, 1) := by decide +kernel
theorem dX6_init_0 : decode cX6_init 0 = .ok (.aload_n 0, 1) := by decide +kernel
theorem dX6_init_1 : decode cX6_init 1 = .ok (.invokespecial 1, 3) := by decide +kernel
theorem dX6_init_4 : decode cX6_init 4 = .ok (.aload_n 0, 1) := by decide +kernel
theorem dX6_init_5 : decode cX6_init 5 = .ok (.aload_n 1, 1) := by decide +kernel
theorem dX6_init_6 : decode cX6_init 6 = .ok (.putfield 7, 3) := by decide +kernel
theorem dX6_init_9 : decode cX6_init 9 = .ok (.return_, 1) := by decide +kernel
theorem dX6_begin_0 : decode cX6_begin 0 = .ok (.aload_n 0, 1) := by decide +kernel
theorem dX6_begin_1 : decode cX6_begin 1 = .ok (.bipush 32, 2) := by decide +kernel
theorem dX6_begin_3 : decode cX6_begin 3 = .ok (.iload_n 1, 1) := by decide +kernel
theorem dX6_begin_4 : decode cX6_begin 4 = .ok (.imul, 1) := by decide +kernel
theorem dX6_begin_5 : decode cX6_begin 5 = .ok (.putfield 13, 3) := by decide +kernel
theorem dX6_begin_8 : decode cX6_begin 8 = .ok (.aload_n 0, 1) := by decide +kernel
theorem dX6_begin_9 : decode cX6_begin 9 = .ok (.iload_n 2, 1) := by decide +kernel
theorem dX6_begin_10 : decode cX6_begin 10 = .ok (.putfield 17, 3) := by decide +kernel
theorem dX6_begin_13 : decode cX6_begin 13 = .ok (.aload_n 0, 1) := by decide +kernel
theorem dX6_begin_14 : decode cX6_begin 14 = .ok (.iconst 1, 1) := by decide +kernel
theorem dX6_begin_15 : decode cX6_begin 15 = .ok (.putfield 20, 3) := by decide +kernel
theorem dX6_begin_18 : decode cX6_begin 18 = .ok (.aload_n 0, 1) := by decide +kernel
theorem dX6_begin_19 : decode cX6_begin 19 = .ok (.lconst 0, 1) := by decide +kernel
theorem dX6_begin_20 : decode cX6_begin 20 = .ok (.putfield 24, 3) := by decide +kernel
theorem dX6_begin_23 : decode cX6_begin 23 = .ok (.return_, 1) := by decide +kernel
theorem dX6_step_0 : decode cX6_step 0 = .ok (.aload_n 0, 1) := by decide +kernel
theorem dX6_step_1 : decode cX6_step 1 = .ok (.getfield 17, 3) := by decide +kernel
theorem dX6_step_4 : decode cX6_step 4 = .ok (.ifCond .ne 5, 3) := by decide +kernel
theorem dX6_step_7 : decode cX6_step 7 = .ok (.iconst 0, 1) := by decide +kernel
theorem dX6_step_8 : decode cX6_step 8 = .ok (.ireturn, 1) := by decide +kernel
theorem dX6_step_9 : decode cX6_step 9 = .ok (.aload_n 0, 1) := by decide +kernel
theorem dX6_step_10 : decode cX6_step 10 = .ok (.dup, 1) := by decide +kernel
theorem dX6_step_11 : decode cX6_step 11 = .ok (.getfield 17, 3) := by decide +kernel
theorem dX6_step_14 : decode cX6_step 14 = .ok (.iconst 1, 1) := by decide +kernel
theorem dX6_step_15 : decode cX6_step 15 = .ok (.isub, 1) := by decide +kernel
theorem dX6_step_16 : decode cX6_step 16 = .ok (.putfield 17, 3) := by decide +kernel
theorem dX6_step_19 : decode cX6_step 19 = .ok (.aload_n 0, 1) := by decide +kernel
theorem dX6_step_20 : decode cX6_step 20 = .ok (.getfield 20, 3) := by decide +kernel
theorem dX6_step_23 : decode cX6_step 23 = .ok (.ifCond .eq 32, 3) := by decide +kernel
theorem dX6_step_26 : decode cX6_step 26 = .ok (.aload_n 0, 1) := by decide +kernel
theorem dX6_step_27 : decode cX6_step 27 = .ok (.aload_n 0, 1) := by decide +kernel
theorem dX6_step_28 : decode cX6_step 28 = .ok (.bipush 32, 2) := by decide +kernel
theorem dX6_step_30 : decode cX6_step 30 = .ok (.invokevirtual 28, 3) := by decide +kernel
theorem dX6_step_33 : decode cX6_step 33 = .ok (.l2i, 1) := by decide +kernel
theorem dX6_step_34 : decode cX6_step 34 = .ok (.putfield 44, 3) := by decide +kernel
theorem dX6_step_37 : decode cX6_step 37 = .ok (.aload_n 0, 1) := by decide +kernel
theorem dX6_step_38 : decode cX6_step 38 = .ok (.aload_n 0, 1) := by decide +kernel
theorem dX6_step_39 : decode cX6_step 39 = .ok (.bipush 32, 2) := by decide +kernel
theorem dX6_step_41 : decode cX6_step 41 = .ok (.invokevirtual 28, 3) := by decide +kernel
theorem dX6_step_44 : decode cX6_step 44 = .ok (.l2i, 1) := by decide +kernel
theorem dX6_step_45 : decode cX6_step 45 = .ok (.putfield 47, 3) := by decide +kernel
theorem dX6_step_48 : decode cX6_step 48 = .ok (.aload_n 0, 1) := by decide +kernel
theorem dX6_step_49 : decode cX6_step 49 = .ok (.iconst 0, 1) := by decide +kernel
theorem dX6_step_50 : decode cX6_step 50 = .ok (.putfield 20, 3) := by decide +kernel
theorem dX6_step_53 : decode cX6_step 53 = .ok (.iconst 1, 1) := by decide +kernel
theorem dX6_step_54 : decode cX6_step 54 = .ok (.ireturn, 1) := by decide +kernel
theorem dX6_step_55 : decode cX6_step 55 = .ok (.aload_n 0, 1) := by decide +kernel
theorem dX6_step_56 : decode cX6_step 56 = .ok (.dup, 1) := by decide +kernel
theorem dX6_step_57 : decode cX6_step 57 = .ok (.getfield 24, 3) := by decide +kernel
theorem dX6_step_60 : decode cX6_step 60 = .ok (.aload_n 0, 1) := by decide +kernel
theorem dX6_step_61 : decode cX6_step 61 = .ok (.invokevirtual 50, 3) := by decide +kernel
theorem dX6_step_64 : decode cX6_step 64 = .ok (.ladd, 1) := by decide +kernel
theorem dX6_step_65 : decode cX6_step 65 = .ok (.putfield 24, 3) := by decide +kernel
theorem dX6_step_68 : decode cX6_step 68 = .ok (.aload_n 0, 1) := by decide +kernel
theorem dX6_step_69 : decode cX6_step 69 = .ok (.aload_n 0, 1) := by decide +kernel
theorem dX6_step_70 : decode cX6_step 70 = .ok (.getfield 44, 3) := by decide +kernel
theorem dX6_step_73 : decode cX6_step 73 = .ok (.i2l, 1) := by decide +kernel
theorem dX6_step_74 : decode cX6_step 74 = .ok (.aload_n 0, 1) := by decide +kernel
theorem dX6_step_75 : decode cX6_step 75 = .ok (.getfield 24, 3) := by decide +kernel
theorem dX6_step_78 : decode cX6_step 78 = .ok (.ladd, 1) := by decide +kernel
theorem dX6_step_79 : decode cX6_step 79 = .ok (.l2i, 1) := by decide +kernel
theorem dX6_step_80 : decode cX6_step 80 = .ok (.putfield 44, 3) := by decide +kernel
theorem dX6_step_83 : decode cX6_step 83 = .ok (.aload_n 0, 1) := by decide +kernel
theorem dX6_step_84 : decode cX6_step 84 = .ok (.dup, 1) := by decide +kernel
theorem dX6_step_85 : decode cX6_step 85 = .ok (.getfield 47, 3) := by decide +kernel
theorem dX6_step_88 : decode cX6_step 88 = .ok (.aload_n 0, 1) := by decide +kernel
theorem dX6_step_89 : decode cX6_step 89 = .ok (.invokevirtual 54, 3) := by decide +kernel
theorem dX6_step_92 : decode cX6_step 92 = .ok (.iadd, 1) := by decide +kernel
theorem dX6_step_93 : decode cX6_step 93 = .ok (.putfield 47, 3) := by decide +kernel
theorem dX6_step_96 : decode cX6_step 96 = .ok (.iconst 1, 1) := by decide +kernel
theorem dX6_step_97 : decode cX6_step 97 = .ok (.ireturn, 1) := by decide +kernel
theorem dX6_bits_0 : decode cX6_bits 0 = .ok (.lconst 0, 1) := by decide +kernel
theorem dX6_bits_1 : decode cX6_bits 1 = .ok (.lstore_n 2, 1) := by decide +kernel
theorem dX6_bits_2 : decode cX6_bits 2 = .ok (.iconst 0, 1) := by decide +kernel
theorem dX6_bits_3 : decode cX6_bits 3 = .ok (.istore 4, 2) := by decide +kernel
theorem dX6_bits_5 : decode cX6_bits 5 = .ok (.iload 4, 2) := by decide +kernel
theorem dX6_bits_7 : decode cX6_bits 7 = .ok (.iload_n 1, 1) := by decide +kernel
theorem dX6_bits_8 : decode cX6_bits 8 = .ok (.if_icmp .ge 49, 3) := by decide +kernel
theorem dX6_bits_11 : decode cX6_bits 11 = .ok (.lload_n 2, 1) := by decide +kernel
theorem dX6_bits_12 : decode cX6_bits 12 = .ok (.iconst 1, 1) := by decide +kernel
theorem dX6_bits_13 : decode cX6_bits 13 = .ok (.lshl, 1) := by decide +kernel
theorem dX6_bits_14 : decode cX6_bits 14 = .ok (.aload_n 0, 1) := by decide +kernel
theorem dX6_bits_15 : decode cX6_bits 15 = .ok (.getfield 7, 3) := by decide +kernel
theorem dX6_bits_18 : decode cX6_bits 18 = .ok (.aload_n 0, 1) := by decide +kernel
theorem dX6_bits_19 : decode cX6_bits 19 = .ok (.getfield 13, 3) := by decide +kernel
theorem dX6_bits_22 : decode cX6_bits 22 = .ok (.iconst 5, 1) := by decide +kernel
theorem dX6_bits_23 : decode cX6_bits 23 = .ok (.ishr, 1) := by decide +kernel
theorem dX6_bits_24 : decode cX6_bits 24 = .ok (.iaload, 1) := by decide +kernel
theorem dX6_bits_25 : decode cX6_bits 25 = .ok (.bipush 31, 2) := by decide +kernel
theorem dX6_bits_27 : decode cX6_bits 27 = .ok (.aload_n 0, 1) := by decide +kernel
theorem dX6_bits_28 : decode cX6_bits 28 = .ok (.getfield 13, 3) := by decide +kernel
theorem dX6_bits_31 : decode cX6_bits 31 = .ok (.bipush 31, 2) := by decide +kernel
theorem dX6_bits_33 : decode cX6_bits 33 = .ok (.iand, 1) := by decide +kernel
theorem dX6_bits_34 : decode cX6_bits 34 = .ok (.isub, 1) := by decide +kernel
theorem dX6_bits_35 : decode cX6_bits 35 = .ok (.iushr, 1) := by decide +kernel
theorem dX6_bits_36 : decode cX6_bits 36 = .ok (.iconst 1, 1) := by decide +kernel
theorem dX6_bits_37 : decode cX6_bits 37 = .ok (.iand, 1) := by decide +kernel
theorem dX6_bits_38 : decode cX6_bits 38 = .ok (.i2l, 1) := by decide +kernel
theorem dX6_bits_39 : decode cX6_bits 39 = .ok (.lor, 1) := by decide +kernel
theorem dX6_bits_40 : decode cX6_bits 40 = .ok (.lstore_n 2, 1) := by decide +kernel
theorem dX6_bits_41 : decode cX6_bits 41 = .ok (.aload_n 0, 1) := by decide +kernel
theorem dX6_bits_42 : decode cX6_bits 42 = .ok (.dup, 1) := by decide +kernel
theorem dX6_bits_43 : decode cX6_bits 43 = .ok (.getfield 13, 3) := by decide +kernel
theorem dX6_bits_46 : decode cX6_bits 46 = .ok (.iconst 1, 1) := by decide +kernel
theorem dX6_bits_47 : decode cX6_bits 47 = .ok (.iadd, 1) := by decide +kernel
theorem dX6_bits_48 : decode cX6_bits 48 = .ok (.putfield 13, 3) := by decide +kernel
theorem dX6_bits_51 : decode cX6_bits 51 = .ok (.iinc 4 1, 3) := by decide +kernel
theorem dX6_bits_54 : decode cX6_bits 54 = .ok (.goto (-49), 3) := by decide +kernel
theorem dX6_bits_57 : decode cX6_bits 57 = .ok (.lload_n 2, 1) := by decide +kernel
theorem dX6_bits_58 : decode cX6_bits 58 = .ok (.lreturn, 1) := by decide +kernel
theorem dX6_change_0 : decode cX6_change 0 = .ok (.aload_n 0, 1) := by decide +kernel
theorem dX6_change_1 : decode cX6_change 1 = .ok (.invokevirtual 32, 3) := by decide +kernel
theorem dX6_change_4 : decode cX6_change 4 = .ok (.ifCond .ne 5, 3) := by decide +kernel
theorem dX6_change_7 : decode cX6_change 7 = .ok (.lconst 0, 1) := by decide +kernel
theorem dX6_change_8 : decode cX6_change 8 = .ok (.lreturn, 1) := by decide +kernel
theorem dX6_change_9 : decode cX6_change 9 = .ok (.aload_n 0, 1) := by decide +kernel
theorem dX6_change_10 : decode cX6_change 10 = .ok (.invokevirtual 32, 3) := by decide +kernel
theorem dX6_change_13 : decode cX6_change 13 = .ok (.ifCond .ne 14, 3) := by decide +kernel
theorem dX6_change_16 : decode cX6_change 16 = .ok (.aload_n 0, 1) := by decide +kernel
theorem dX6_change_17 : decode cX6_change 17 = .ok (.bipush 7, 2) := by decide +kernel
theorem dX6_change_19 : decode cX6_change 19 = .ok (.invokevirtual 28, 3) := by decide +kernel
theorem dX6_change_22 : decode cX6_change 22 = .ok (.ldc2_w 36, 3) := by decide +kernel
theorem dX6_change_25 : decode cX6_change 25 = .ok (.lsub, 1) := by decide +kernel
theorem dX6_change_26 : decode cX6_change 26 = .ok (.lreturn, 1) := by decide +kernel
theorem dX6_change_27 : decode cX6_change 27 = .ok (.aload_n 0, 1) := by decide +kernel
theorem dX6_change_28 : decode cX6_change 28 = .ok (.invokevirtual 32, 3) := by decide +kernel
theorem dX6_change_31 : decode cX6_change 31 = .ok (.ifCond .ne 14, 3) := by decide +kernel
theorem dX6_change_34 : decode cX6_change 34 = .ok (.aload_n 0, 1) := by decide +kernel
theorem dX6_change_35 : decode cX6_change 35 = .ok (.bipush 9, 2) := by decide +kernel
theorem dX6_change_37 : decode cX6_change 37 = .ok (.invokevirtual 28, 3) := by decide +kernel
theorem dX6_change_40 : decode cX6_change 40 = .ok (.ldc2_w 38, 3) := by decide +kernel
theorem dX6_change_43 : decode cX6_change 43 = .ok (.lsub, 1) := by decide +kernel
theorem dX6_change_44 : decode cX6_change 44 = .ok (.lreturn, 1) := by decide +kernel
theorem dX6_change_45 : decode cX6_change 45 = .ok (.aload_n 0, 1) := by decide +kernel
theorem dX6_change_46 : decode cX6_change 46 = .ok (.invokevirtual 32, 3) := by decide +kernel
theorem dX6_change_49 : decode cX6_change 49 = .ok (.ifCond .eq 16, 3) := by decide +kernel
theorem dX6_change_52 : decode cX6_change 52 = .ok (.aload_n 0, 1) := by decide +kernel
theorem dX6_change_53 : decode cX6_change 53 = .ok (.bipush 34, 2) := by decide +kernel
theorem dX6_change_55 : decode cX6_change 55 = .ok (.invokevirtual 28, 3) := by decide +kernel
theorem dX6_change_58 : decode cX6_change 58 = .ok (.ldc2_w 40, 3) := by decide +kernel
theorem dX6_change_61 : decode cX6_change 61 = .ok (.lsub, 1) := by decide +kernel
theorem dX6_change_62 : decode cX6_change 62 = .ok (.goto 13, 3) := by decide +kernel
theorem dX6_change_65 : decode cX6_change 65 = .ok (.aload_n 0, 1) := by decide +kernel
theorem dX6_change_66 : decode cX6_change 66 = .ok (.bipush 12, 2) := by decide +kernel
theorem dX6_change_68 : decode cX6_change 68 = .ok (.invokevirtual 28, 3) := by decide +kernel
theorem dX6_change_71 : decode cX6_change 71 = .ok (.ldc2_w 42, 3) := by decide +kernel
theorem dX6_change_74 : decode cX6_change 74 = .ok (.lsub, 1) := by decide +kernel
theorem dX6_change_75 : decode cX6_change 75 = .ok (.lreturn, 1) := by decide +kernel
theorem dX6_bit_0 : decode cX6_bit 0 = .ok (.aload_n 0, 1) := by decide +kernel
theorem dX6_bit_1 : decode cX6_bit 1 = .ok (.iconst 1, 1) := by decide +kernel
theorem dX6_bit_2 : decode cX6_bit 2 = .ok (.invokevirtual 28, 3) := by decide +kernel
theorem dX6_bit_5 : decode cX6_bit 5 = .ok (.lconst 1, 1) := by decide +kernel
theorem dX6_bit_6 : decode cX6_bit 6 = .ok (.lcmp, 1) := by decide +kernel
theorem dX6_bit_7 : decode cX6_bit 7 = .ok (.ifCond .ne 7, 3) := by decide +kernel
theorem dX6_bit_10 : decode cX6_bit 10 = .ok (.iconst 1, 1) := by decide +kernel
theorem dX6_bit_11 : decode cX6_bit 11 = .ok (.goto 4, 3) := by decide +kernel
theorem dX6_bit_14 : decode cX6_bit 14 = .ok (.iconst 0, 1) := by decide +kernel
theorem dX6_bit_15 : decode cX6_bit 15 = .ok (.ireturn, 1) := by decide +kernel
theorem dX6_difference_0 : decode cX6_difference 0 = .ok (.iconst 0, 1) := by decide +kernel
theorem dX6_difference_1 : decode cX6_difference 1 = .ok (.istore_n 1, 1) := by decide +kernel
theorem dX6_difference_2 : decode cX6_difference 2 = .ok (.iconst 0, 1) := by decide +kernel
theorem dX6_difference_3 : decode cX6_difference 3 = .ok (.istore_n 2, 1) := by decide +kernel
theorem dX6_difference_4 : decode cX6_difference 4 = .ok (.aload_n 0, 1) := by decide +kernel
theorem dX6_difference_5 : decode cX6_difference 5 = .ok (.invokevirtual 32, 3) := by decide +kernel
theorem dX6_difference_8 : decode cX6_difference 8 = .ok (.ifCond .eq 20, 3) := by decide +kernel
theorem dX6_difference_11 : decode cX6_difference 11 = .ok (.iload_n 1, 1) := by decide +kernel
theorem dX6_difference_12 : decode cX6_difference 12 = .ok (.aload_n 0, 1) := by decide +kernel
theorem dX6_difference_13 : decode cX6_difference 13 = .ok (.iconst 4, 1) := by decide +kernel
theorem dX6_difference_14 : decode cX6_difference 14 = .ok (.invokevirtual 28, 3) := by decide +kernel
theorem dX6_difference_17 : decode cX6_difference 17 = .ok (.l2i, 1) := by decide +kernel
theorem dX6_difference_18 : decode cX6_difference 18 = .ok (.iload_n 2, 1) := by decide +kernel
theorem dX6_difference_19 : decode cX6_difference 19 = .ok (.ishl, 1) := by decide +kernel
theorem dX6_difference_20 : decode cX6_difference 20 = .ok (.ior, 1) := by decide +kernel
theorem dX6_difference_21 : decode cX6_difference 21 = .ok (.istore_n 1, 1) := by decide +kernel
theorem dX6_difference_22 : decode cX6_difference 22 = .ok (.iinc 2 4, 3) := by decide +kernel
theorem dX6_difference_25 : decode cX6_difference 25 = .ok (.goto (-21), 3) := by decide +kernel
theorem dX6_difference_28 : decode cX6_difference 28 = .ok (.iload_n 1, 1) := by decide +kernel
theorem dX6_difference_29 : decode cX6_difference 29 = .ok (.iconst 1, 1) := by decide +kernel
theorem dX6_difference_30 : decode cX6_difference 30 = .ok (.iushr, 1) := by decide +kernel
theorem dX6_difference_31 : decode cX6_difference 31 = .ok (.iload_n 1, 1) := by decide +kernel
theorem dX6_difference_32 : decode cX6_difference 32 = .ok (.iconst 1, 1) := by decide +kernel
theorem dX6_difference_33 : decode cX6_difference 33 = .ok (.iand, 1) := by decide +kernel
theorem dX6_difference_34 : decode cX6_difference 34 = .ok (.ineg, 1) := by decide +kernel
theorem dX6_difference_35 : decode cX6_difference 35 = .ok (.ixor, 1) := by decide +kernel
theorem dX6_difference_36 : decode cX6_difference 36 = .ok (.ireturn, 1) := by decide +kernel
theorem dX7_init_0 : decode cX7_init 0 = .ok (.aload_n 0, 1) := by decide +kernel
theorem dX7_init_1 : decode cX7_init 1 = .ok (.invokespecial 3, 3) := by decide +kernel
theorem dX7_init_4 : decode cX7_init 4 = .ok (.aload_n 0, 1) := by decide +kernel
theorem dX7_init_5 : decode cX7_init 5 = .ok (.new 9, 3) := by decide +kernel
theorem dX7_init_8 : decode cX7_init 8 = .ok (.dup, 1) := by decide +kernel
theorem dX7_init_9 : decode cX7_init 9 = .ok (.bipush 96, 2) := by decide +kernel
theorem dX7_init_11 : decode cX7_init 11 = .ok (.invokespecial 11, 3) := by decide +kernel
theorem dX7_init_14 : decode cX7_init 14 = .ok (.putfield 14, 3) := by decide +kernel
theorem dX7_init_17 : decode cX7_init 17 = .ok (.aload_n 0, 1) := by decide +kernel
theorem dX7_init_18 : decode cX7_init 18 = .ok (.bipush 96, 2) := by decide +kernel
theorem dX7_init_20 : decode cX7_init 20 = .ok (.newarray .byte, 2) := by decide +kernel
theorem dX7_init_22 : decode cX7_init 22 = .ok (.putfield 20, 3) := by decide +kernel
theorem dX7_init_25 : decode cX7_init 25 = .ok (.aload_n 0, 1) := by decide +kernel
theorem dX7_init_26 : decode cX7_init 26 = .ok (.bipush 96, 2) := by decide +kernel
theorem dX7_init_28 : decode cX7_init 28 = .ok (.newarray .char, 2) := by decide +kernel
theorem dX7_init_30 : decode cX7_init 30 = .ok (.putfield 24, 3) := by decide +kernel
theorem dX7_init_33 : decode cX7_init 33 = .ok (.aload_n 0, 1) := by decide +kernel
theorem dX7_init_34 : decode cX7_init 34 = .ok (.bipush 96, 2) := by decide +kernel
theorem dX7_init_36 : decode cX7_init 36 = .ok (.newarray .short, 2) := by decide +kernel
theorem dX7_init_38 : decode cX7_init 38 = .ok (.putfield 28, 3) := by decide +kernel
theorem dX7_init_41 : decode cX7_init 41 = .ok (.aload_n 0, 1) := by decide +kernel
theorem dX7_init_42 : decode cX7_init 42 = .ok (.bipush 96, 2) := by decide +kernel
theorem dX7_init_44 : decode cX7_init 44 = .ok (.newarray .int, 2) := by decide +kernel
theorem dX7_init_46 : decode cX7_init 46 = .ok (.putfield 32, 3) := by decide +kernel
theorem dX7_init_49 : decode cX7_init 49 = .ok (.aload_n 0, 1) := by decide +kernel
theorem dX7_init_50 : decode cX7_init 50 = .ok (.bipush 9, 2) := by decide +kernel
theorem dX7_init_52 : decode cX7_init 52 = .ok (.newarray .int, 2) := by decide +kernel
