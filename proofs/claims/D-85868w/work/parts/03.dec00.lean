set_option maxRecDepth 100000
theorem dX0_cell_0 : decode cX0_cell 0 = .ok (.iload_n 1, 1) := by decide +kernel
theorem dX0_cell_1 : decode cX0_cell 1 = .ok (.aload_n 0, 1) := by decide +kernel
theorem dX0_cell_2 : decode cX0_cell 2 = .ok (.arraylength, 1) := by decide +kernel
theorem dX0_cell_3 : decode cX0_cell 3 = .ok (.if_icmp .ge 9, 3) := by decide +kernel
theorem dX0_cell_6 : decode cX0_cell 6 = .ok (.aload_n 0, 1) := by decide +kernel
theorem dX0_cell_7 : decode cX0_cell 7 = .ok (.iload_n 1, 1) := by decide +kernel
theorem dX0_cell_8 : decode cX0_cell 8 = .ok (.iaload, 1) := by decide +kernel
theorem dX0_cell_9 : decode cX0_cell 9 = .ok (.goto 4, 3) := by decide +kernel
theorem dX0_cell_12 : decode cX0_cell 12 = .ok (.iconst 0, 1) := by decide +kernel
theorem dX0_cell_13 : decode cX0_cell 13 = .ok (.ireturn, 1) := by decide +kernel
theorem dX0_aggMin_0 : decode cX0_aggMin 0 = .ok (.aload 4, 2) := by decide +kernel
theorem dX0_aggMin_2 : decode cX0_aggMin 2 = .ok (.iconst 0, 1) := by decide +kernel
theorem dX0_aggMin_3 : decode cX0_aggMin 3 = .ok (.aload_n 0, 1) := by decide +kernel
theorem dX0_aggMin_4 : decode cX0_aggMin 4 = .ok (.iload_n 1, 1) := by decide +kernel
theorem dX0_aggMin_5 : decode cX0_aggMin 5 = .ok (.iload_n 2, 1) := by decide +kernel
theorem dX0_aggMin_6 : decode cX0_aggMin 6 = .ok (.iload_n 3, 1) := by decide +kernel
theorem dX0_aggMin_7 : decode cX0_aggMin 7 = .ok (.invokevirtual 7, 3) := by decide +kernel
theorem dX0_aggMin_10 : decode cX0_aggMin 10 = .ok (.i2l, 1) := by decide +kernel
theorem dX0_aggMin_11 : decode cX0_aggMin 11 = .ok (.lastore, 1) := by decide +kernel
theorem dX0_aggMin_12 : decode cX0_aggMin 12 = .ok (.goto 11, 3) := by decide +kernel
theorem dX0_aggMin_15 : decode cX0_aggMin 15 = .ok (.astore 5, 2) := by decide +kernel
theorem dX0_aggMin_17 : decode cX0_aggMin 17 = .ok (.iconst 1, 1) := by decide +kernel
theorem dX0_aggMin_18 : decode cX0_aggMin 18 = .ok (.ireturn, 1) := by decide +kernel
theorem dX0_aggMin_19 : decode cX0_aggMin 19 = .ok (.astore 5, 2) := by decide +kernel
theorem dX0_aggMin_21 : decode cX0_aggMin 21 = .ok (.iconst 2, 1) := by decide +kernel
theorem dX0_aggMin_22 : decode cX0_aggMin 22 = .ok (.ireturn, 1) := by decide +kernel
theorem dX0_aggMin_23 : decode cX0_aggMin 23 = .ok (.iconst 0, 1) := by decide +kernel
theorem dX0_aggMin_24 : decode cX0_aggMin 24 = .ok (.ireturn, 1) := by decide +kernel
theorem dX0_aggMax_0 : decode cX0_aggMax 0 = .ok (.aload 4, 2) := by decide +kernel
theorem dX0_aggMax_2 : decode cX0_aggMax 2 = .ok (.iconst 0, 1) := by decide +kernel
theorem dX0_aggMax_3 : decode cX0_aggMax 3 = .ok (.aload_n 0, 1) := by decide +kernel
theorem dX0_aggMax_4 : decode cX0_aggMax 4 = .ok (.iload_n 1, 1) := by decide +kernel
theorem dX0_aggMax_5 : decode cX0_aggMax 5 = .ok (.iload_n 2, 1) := by decide +kernel
theorem dX0_aggMax_6 : decode cX0_aggMax 6 = .ok (.iload_n 3, 1) := by decide +kernel
theorem dX0_aggMax_7 : decode cX0_aggMax 7 = .ok (.invokevirtual 17, 3) := by decide +kernel
theorem dX0_aggMax_10 : decode cX0_aggMax 10 = .ok (.i2l, 1) := by decide +kernel
theorem dX0_aggMax_11 : decode cX0_aggMax 11 = .ok (.lastore, 1) := by decide +kernel
theorem dX0_aggMax_12 : decode cX0_aggMax 12 = .ok (.goto 11, 3) := by decide +kernel
theorem dX0_aggMax_15 : decode cX0_aggMax 15 = .ok (.astore 5, 2) := by decide +kernel
theorem dX0_aggMax_17 : decode cX0_aggMax 17 = .ok (.iconst 1, 1) := by decide +kernel
theorem dX0_aggMax_18 : decode cX0_aggMax 18 = .ok (.ireturn, 1) := by decide +kernel
theorem dX0_aggMax_19 : decode cX0_aggMax 19 = .ok (.astore 5, 2) := by decide +kernel
theorem dX0_aggMax_21 : decode cX0_aggMax 21 = .ok (.iconst 2, 1) := by decide +kernel
theorem dX0_aggMax_22 : decode cX0_aggMax 22 = .ok (.ireturn, 1) := by decide +kernel
theorem dX0_aggMax_23 : decode cX0_aggMax 23 = .ok (.iconst 0, 1) := by decide +kernel
theorem dX0_aggMax_24 : decode cX0_aggMax 24 = .ok (.ireturn, 1) := by decide +kernel
theorem dX0_aggSum_0 : decode cX0_aggSum 0 = .ok (.aload 4, 2) := by decide +kernel
theorem dX0_aggSum_2 : decode cX0_aggSum 2 = .ok (.iconst 0, 1) := by decide +kernel
theorem dX0_aggSum_3 : decode cX0_aggSum 3 = .ok (.aload_n 0, 1) := by decide +kernel
theorem dX0_aggSum_4 : decode cX0_aggSum 4 = .ok (.iload_n 1, 1) := by decide +kernel
theorem dX0_aggSum_5 : decode cX0_aggSum 5 = .ok (.iload_n 2, 1) := by decide +kernel
theorem dX0_aggSum_6 : decode cX0_aggSum 6 = .ok (.iload_n 3, 1) := by decide +kernel
theorem dX0_aggSum_7 : decode cX0_aggSum 7 = .ok (.invokevirtual 20, 3) := by decide +kernel
theorem dX0_aggSum_10 : decode cX0_aggSum 10 = .ok (.lastore, 1) := by decide +kernel
theorem dX0_aggSum_11 : decode cX0_aggSum 11 = .ok (.goto 11, 3) := by decide +kernel
theorem dX0_aggSum_14 : decode cX0_aggSum 14 = .ok (.astore 5, 2) := by decide +kernel
theorem dX0_aggSum_16 : decode cX0_aggSum 16 = .ok (.iconst 1, 1) := by decide +kernel
theorem dX0_aggSum_17 : decode cX0_aggSum 17 = .ok (.ireturn, 1) := by decide +kernel
theorem dX0_aggSum_18 : decode cX0_aggSum 18 = .ok (.astore 5, 2) := by decide +kernel
theorem dX0_aggSum_20 : decode cX0_aggSum 20 = .ok (.iconst 2, 1) := by decide +kernel
theorem dX0_aggSum_21 : decode cX0_aggSum 21 = .ok (.ireturn, 1) := by decide +kernel
theorem dX0_aggSum_22 : decode cX0_aggSum 22 = .ok (.iconst 0, 1) := by decide +kernel
theorem dX0_aggSum_23 : decode cX0_aggSum 23 = .ok (.ireturn, 1) := by decide +kernel
theorem dX0_sizes_0 : decode cX0_sizes 0 = .ok (.aload_n 3, 1) := by decide +kernel
theorem dX0_sizes_1 : decode cX0_sizes 1 = .ok (.iconst 0, 1) := by decide +kernel
theorem dX0_sizes_2 : decode cX0_sizes 2 = .ok (.aload_n 0, 1) := by decide +kernel
theorem dX0_sizes_3 : decode cX0_sizes 3 = .ok (.iload_n 1, 1) := by decide +kernel
theorem dX0_sizes_4 : decode cX0_sizes 4 = .ok (.iload_n 2, 1) := by decide +kernel
theorem dX0_sizes_5 : decode cX0_sizes 5 = .ok (.invokevirtual 24, 3) := by decide +kernel
theorem dX0_sizes_8 : decode cX0_sizes 8 = .ok (.i2l, 1) := by decide +kernel
theorem dX0_sizes_9 : decode cX0_sizes 9 = .ok (.lastore, 1) := by decide +kernel
theorem dX0_sizes_10 : decode cX0_sizes 10 = .ok (.goto 15, 3) := by decide +kernel
theorem dX0_sizes_13 : decode cX0_sizes 13 = .ok (.astore 4, 2) := by decide +kernel
theorem dX0_sizes_15 : decode cX0_sizes 15 = .ok (.iconst 1, 1) := by decide +kernel
theorem dX0_sizes_16 : decode cX0_sizes 16 = .ok (.ireturn, 1) := by decide +kernel
theorem dX0_sizes_17 : decode cX0_sizes 17 = .ok (.astore 4, 2) := by decide +kernel
theorem dX0_sizes_19 : decode cX0_sizes 19 = .ok (.iconst 2, 1) := by decide +kernel
theorem dX0_sizes_20 : decode cX0_sizes 20 = .ok (.ireturn, 1) := by decide +kernel
theorem dX0_sizes_21 : decode cX0_sizes 21 = .ok (.astore 4, 2) := by decide +kernel
theorem dX0_sizes_23 : decode cX0_sizes 23 = .ok (.iconst 3, 1) := by decide +kernel
theorem dX0_sizes_24 : decode cX0_sizes 24 = .ok (.ireturn, 1) := by decide +kernel
theorem dX0_sizes_25 : decode cX0_sizes 25 = .ok (.iconst 0, 1) := by decide +kernel
theorem dX0_sizes_26 : decode cX0_sizes 26 = .ok (.ireturn, 1) := by decide +kernel
theorem dX0_chunk_0 : decode cX0_chunk 0 = .ok (.aload 4, 2) := by decide +kernel
theorem dX0_chunk_2 : decode cX0_chunk 2 = .ok (.iconst 0, 1) := by decide +kernel
theorem dX0_chunk_3 : decode cX0_chunk 3 = .ok (.aload_n 0, 1) := by decide +kernel
theorem dX0_chunk_4 : decode cX0_chunk 4 = .ok (.iload_n 1, 1) := by decide +kernel
theorem dX0_chunk_5 : decode cX0_chunk 5 = .ok (.iload_n 2, 1) := by decide +kernel
theorem dX0_chunk_6 : decode cX0_chunk 6 = .ok (.iload_n 3, 1) := by decide +kernel
theorem dX0_chunk_7 : decode cX0_chunk 7 = .ok (.invokevirtual 30, 3) := by decide +kernel
theorem dX0_chunk_10 : decode cX0_chunk 10 = .ok (.i2l, 1) := by decide +kernel
theorem dX0_chunk_11 : decode cX0_chunk 11 = .ok (.lastore, 1) := by decide +kernel
theorem dX0_chunk_12 : decode cX0_chunk 12 = .ok (.goto 15, 3) := by decide +kernel
theorem dX0_chunk_15 : decode cX0_chunk 15 = .ok (.astore 5, 2) := by decide +kernel
theorem dX0_chunk_17 : decode cX0_chunk 17 = .ok (.iconst 1, 1) := by decide +kernel
theorem dX0_chunk_18 : decode cX0_chunk 18 = .ok (.ireturn, 1) := by decide +kernel
theorem dX0_chunk_19 : decode cX0_chunk 19 = .ok (.astore 5, 2) := by decide +kernel
theorem dX0_chunk_21 : decode cX0_chunk 21 = .ok (.iconst 2, 1) := by decide +kernel
theorem dX0_chunk_22 : decode cX0_chunk 22 = .ok (.ireturn, 1) := by decide +kernel
theorem dX0_chunk_23 : decode cX0_chunk 23 = .ok (.astore 5, 2) := by decide +kernel
theorem dX0_chunk_25 : decode cX0_chunk 25 = .ok (.iconst 3, 1) := by decide +kernel
theorem dX0_chunk_26 : decode cX0_chunk 26 = .ok (.ireturn, 1) := by decide +kernel
theorem dX0_chunk_27 : decode cX0_chunk 27 = .ok (.iconst 0, 1) := by decide +kernel
theorem dX0_chunk_28 : decode cX0_chunk 28 = .ok (.ireturn, 1) := by decide +kernel
theorem dX0_group_0 : decode cX0_group 0 = .ok (.aload 4, 2) := by decide +kernel
theorem dX0_group_2 : decode cX0_group 2 = .ok (.iconst 0, 1) := by decide +kernel
theorem dX0_group_3 : decode cX0_group 3 = .ok (.aload_n 0, 1) := by decide +kernel
theorem dX0_group_4 : decode cX0_group 4 = .ok (.iload_n 1, 1) := by decide +kernel
theorem dX0_group_5 : decode cX0_group 5 = .ok (.iload_n 2, 1) := by decide +kernel
theorem dX0_group_6 : decode cX0_group 6 = .ok (.iload_n 3, 1) := by decide +kernel
theorem dX0_group_7 : decode cX0_group 7 = .ok (.invokevirtual 33, 3) := by decide +kernel
theorem dX0_group_10 : decode cX0_group 10 = .ok (.i2l, 1) := by decide +kernel
theorem dX0_group_11 : decode cX0_group 11 = .ok (.lastore, 1) := by decide +kernel
theorem dX0_group_12 : decode cX0_group 12 = .ok (.goto 15, 3) := by decide +kernel
theorem dX0_group_15 : decode cX0_group 15 = .ok (.astore 5, 2) := by decide +kernel
theorem dX0_group_17 : decode cX0_group 17 = .ok (.iconst 1, 1) := by decide +kernel
theorem dX0_group_18 : decode cX0_group 18 = .ok (.ireturn, 1) := by decide +kernel
theorem dX0_group_19 : decode cX0_group 19 = .ok (.astore 5, 2) := by decide +kernel
theorem dX0_group_21 : decode cX0_group 21 = .ok (.iconst 2, 1) := by decide +kernel
theorem dX0_group_22 : decode cX0_group 22 = .ok (.ireturn, 1) := by decide +kernel
theorem dX0_group_23 : decode cX0_group 23 = .ok (.astore 5, 2) := by decide +kernel
theorem dX0_group_25 : decode cX0_group 25 = .ok (.iconst 3, 1) := by decide +kernel
theorem dX0_group_26 : decode cX0_group 26 = .ok (.ireturn, 1) := by decide +kernel
theorem dX0_group_27 : decode cX0_group 27 = .ok (.iconst 0, 1) := by decide +kernel
theorem dX0_group_28 : decode cX0_group 28 = .ok (.ireturn, 1) := by decide +kernel
theorem dX1_init_0 : decode cX1_init 0 = .ok (.aload_n 0, 1) := by decide +kernel
theorem dX1_init_1 : decode cX1_init 1 = .ok (.invokespecial 3, 3) := by decide +kernel
theorem dX1_init_4 : decode cX1_init 4 = .ok (.aload_n 0, 1) := by decide +kernel
theorem dX1_init_5 : decode cX1_init 5 = .ok (.new 9, 3) := by decide +kernel
theorem dX1_init_8 : decode cX1_init 8 = .ok (.dup, 1) := by decide +kernel
theorem dX1_init_9 : decode cX1_init 9 = .ok (.invokespecial 11, 3) := by decide +kernel
theorem dX1_init_12 : decode cX1_init 12 = .ok (.putfield 12, 3) := by decide +kernel
theorem dX1_init_15 : decode cX1_init 15 = .ok (.aload_n 0, 1) := by decide +kernel
theorem dX1_init_16 : decode cX1_init 16 = .ok (.new 16, 3) := by decide +kernel
theorem dX1_init_19 : decode cX1_init 19 = .ok (.dup, 1) := by decide +kernel
theorem dX1_init_20 : decode cX1_init 20 = .ok (.invokespecial 18, 3) := by decide +kernel
theorem dX1_init_23 : decode cX1_init 23 = .ok (.putfield 19, 3) := by decide +kernel
theorem dX1_init_26 : decode cX1_init 26 = .ok (.aload_n 0, 1) := by decide +kernel
theorem dX1_init_27 : decode cX1_init 27 = .ok (.new 23, 3) := by decide +kernel
theorem dX1_init_30 : decode cX1_init 30 = .ok (.dup, 1) := by decide +kernel
theorem dX1_init_31 : decode cX1_init 31 = .ok (.aload_n 0, 1) := by decide +kernel
theorem dX1_init_32 : decode cX1_init 32 = .ok (.getfield 12, 3) := by decide +kernel
theorem dX1_init_35 : decode cX1_init 35 = .ok (.getfield 25, 3) := by decide +kernel
theorem dX1_init_38 : decode cX1_init 38 = .ok (.invokespecial 29, 3) := by decide +kernel
theorem dX1_init_41 : decode cX1_init 41 = .ok (.putfield 32, 3) := by decide +kernel
theorem dX1_init_44 : decode cX1_init 44 = .ok (.aload_n 0, 1) := by decide +kernel
theorem dX1_init_45 : decode cX1_init 45 = .ok (.new 36, 3) := by decide +kernel
theorem dX1_init_48 : decode cX1_init 48 = .ok (.dup, 1) := by decide +kernel
theorem dX1_init_49 : decode cX1_init 49 = .ok (.invokespecial 38, 3) := by decide +kernel
theorem dX1_init_52 : decode cX1_init 52 = .ok (.putfield 39, 3) := by decide +kernel
theorem dX1_init_55 : decode cX1_init 55 = .ok (.aload_n 0, 1) := by decide +kernel
theorem dX1_init_56 : decode cX1_init 56 = .ok (.new 36, 3) := by decide +kernel
theorem dX1_init_59 : decode cX1_init 59 = .ok (.dup, 1) := by decide +kernel
theorem dX1_init_60 : decode cX1_init 60 = .ok (.invokespecial 38, 3) := by decide +kernel
theorem dX1_init_63 : decode cX1_init 63 = .ok (.putfield 43, 3) := by decide +kernel
theorem dX1_init_66 : decode cX1_init 66 = .ok (.aload_n 0, 1) := by decide +kernel
theorem dX1_init_67 : decode cX1_init 67 = .ok (.new 46, 3) := by decide +kernel
theorem dX1_init_70 : decode cX1_init 70 = .ok (.dup, 1) := by decide +kernel
theorem dX1_init_71 : decode cX1_init 71 = .ok (.bipush 96, 2) := by decide +kernel
theorem dX1_init_73 : decode cX1_init 73 = .ok (.invokespecial 48, 3) := by decide +kernel
theorem dX1_init_76 : decode cX1_init 76 = .ok (.putfield 51, 3) := by decide +kernel
theorem dX1_init_79 : decode cX1_init 79 = .ok (.aload_n 0, 1) := by decide +kernel
theorem dX1_init_80 : decode cX1_init 80 = .ok (.bipush 9, 2) := by decide +kernel
theorem dX1_init_82 : decode cX1_init 82 = .ok (.newarray .int, 2) := by decide +kernel
theorem dX1_init_84 : decode cX1_init 84 = .ok (.putfield 55, 3) := by decide +kernel
theorem dX1_init_87 : decode cX1_init 87 = .ok (.aload_n 0, 1) := by decide +kernel
theorem dX1_init_88 : decode cX1_init 88 = .ok (.sipush 4096, 3) := by decide +kernel
theorem dX1_init_91 : decode cX1_init 91 = .ok (.newarray .boolean, 2) := by decide +kernel
theorem dX1_init_93 : decode cX1_init 93 = .ok (.putfield 58, 3) := by decide +kernel
theorem dX1_init_96 : decode cX1_init 96 = .ok (.aload_n 0, 1) := by decide +kernel
theorem dX1_init_97 : decode cX1_init 97 = .ok (.new 62, 3) := by decide +kernel
theorem dX1_init_100 : decode cX1_init 100 = .ok (.dup, 1) := by decide +kernel
theorem dX1_init_101 : decode cX1_init 101 = .ok (.aload_n 0, 1) := by decide +kernel
theorem dX1_init_102 : decode cX1_init 102 = .ok (.invokespecial 64, 3) := by decide +kernel
theorem dX1_init_105 : decode cX1_init 105 = .ok (.putfield 67, 3) := by decide +kernel
theorem dX1_init_108 : decode cX1_init 108 = .ok (.aload_n 0, 1) := by decide +kernel
theorem dX1_init_109 : decode cX1_init 109 = .ok (.new 71, 3) := by decide +kernel
theorem dX1_init_112 : decode cX1_init 112 = .ok (.dup, 1) := by decide +kernel
theorem dX1_init_113 : decode cX1_init 113 = .ok (.aload_n 0, 1) := by decide +kernel
theorem dX1_init_114 : decode cX1_init 114 = .ok (.invokespecial 73, 3) := by decide +kernel
theorem dX1_init_117 : decode cX1_init 117 = .ok (.putfield 74, 3) := by decide +kernel
theorem dX1_init_120 : decode cX1_init 120 = .ok (.aload_n 0, 1) := by decide +kernel
theorem dX1_init_121 : decode cX1_init 121 = .ok (.bipush 8, 2) := by decide +kernel
theorem dX1_init_123 : decode cX1_init 123 = .ok (.iconst 1, 1) := by decide +kernel
theorem dX1_init_124 : decode cX1_init 124 = .ok (.iload_n 1, 1) := by decide +kernel
theorem dX1_init_125 : decode cX1_init 125 = .ok (.invokestatic 78, 3) := by decide +kernel
theorem dX1_init_128 : decode cX1_init 128 = .ok (.invokestatic 84, 3) := by decide +kernel
theorem dX1_init_131 : decode cX1_init 131 = .ok (.putfield 87, 3) := by decide +kernel
theorem dX1_init_134 : decode cX1_init 134 = .ok (.aload_n 0, 1) := by decide +kernel
theorem dX1_init_135 : decode cX1_init 135 = .ok (.bipush 64, 2) := by decide +kernel
theorem dX1_init_137 : decode cX1_init 137 = .ok (.iconst 2, 1) := by decide +kernel
theorem dX1_init_138 : decode cX1_init 138 = .ok (.iload_n 2, 1) := by decide +kernel
theorem dX1_init_139 : decode cX1_init 139 = .ok (.invokestatic 78, 3) := by decide +kernel
theorem dX1_init_142 : decode cX1_init 142 = .ok (.invokestatic 84, 3) := by decide +kernel
theorem dX1_init_145 : decode cX1_init 145 = .ok (.putfield 91, 3) := by decide +kernel
theorem dX1_init_148 : decode cX1_init 148 = .ok (.aload_n 0, 1) := by decide +kernel
theorem dX1_init_149 : decode cX1_init 149 = .ok (.bipush 8, 2) := by decide +kernel
theorem dX1_init_151 : decode cX1_init 151 = .ok (.iconst 2, 1) := by decide +kernel
theorem dX1_init_152 : decode cX1_init 152 = .ok (.iload_n 3, 1) := by decide +kernel
theorem dX1_init_153 : decode cX1_init 153 = .ok (.invokestatic 78, 3) := by decide +kernel
theorem dX1_init_156 : decode cX1_init 156 = .ok (.invokestatic 84, 3) := by decide +kernel
theorem dX1_init_159 : decode cX1_init 159 = .ok (.putfield 94, 3) := by decide +kernel
theorem dX1_init_162 : decode cX1_init 162 = .ok (.aload_n 0, 1) := by decide +kernel
theorem dX1_init_163 : decode cX1_init 163 = .ok (.aload_n 0, 1) := by decide +kernel
theorem dX1_init_164 : decode cX1_init 164 = .ok (.getfield 87, 3) := by decide +kernel
theorem dX1_init_167 : decode cX1_init 167 = .ok (.anewarray 97, 3) := by decide +kernel
theorem dX1_init_170 : decode cX1_init 170 = .ok (.putfield 99, 3) := by decide +kernel
theorem dX1_init_173 : decode cX1_init 173 = .ok (.iconst 0, 1) := by decide +kernel
theorem dX1_init_174 : decode cX1_init 174 = .ok (.istore 4, 2) := by decide +kernel
theorem dX1_init_176 : decode cX1_init 176 = .ok (.iload 4, 2) := by decide +kernel
theorem dX1_init_178 : decode cX1_init 178 = .ok (.aload_n 0, 1) := by decide +kernel
theorem dX1_init_179 : decode cX1_init 179 = .ok (.getfield 87, 3) := by decide +kernel
theorem dX1_init_182 : decode cX1_init 182 = .ok (.if_icmp .ge 23, 3) := by decide +kernel
theorem dX1_init_185 : decode cX1_init 185 = .ok (.aload_n 0, 1) := by decide +kernel
theorem dX1_init_186 : decode cX1_init 186 = .ok (.getfield 99, 3) := by decide +kernel
theorem dX1_init_189 : decode cX1_init 189 = .ok (.iload 4, 2) := by decide +kernel
theorem dX1_init_191 : decode cX1_init 191 = .ok (.new 97, 3) := by decide +kernel
theorem dX1_init_194 : decode cX1_init 194 = .ok (.dup, 1) := by decide +kernel
theorem dX1_init_195 : decode cX1_init 195 = .ok (.invokespecial 103, 3) := by decide +kernel
theorem dX1_init_198 : decode cX1_init 198 = .ok (.aastore, 1) := by decide +kernel
theorem dX1_init_199 : decode cX1_init 199 = .ok (.iinc 4 1, 3) := by decide +kernel
theorem dX1_init_202 : decode cX1_init 202 = .ok (.goto (-26), 3) := by decide +kernel
theorem dX1_init_205 : decode cX1_init 205 = .ok (.aload_n 0, 1) := by decide +kernel
theorem dX1_init_206 : decode cX1_init 206 = .ok (.getfield 39, 3) := by decide +kernel
theorem dX1_init_209 : decode cX1_init 209 = .ok (.invokevirtual 104, 3) := by decide +kernel
theorem dX1_init_212 : decode cX1_init 212 = .ok (.aload_n 0, 1) := by decide +kernel
theorem dX1_init_213 : decode cX1_init 213 = .ok (.invokevirtual 107, 3) := by decide +kernel
theorem dX1_init_216 : decode cX1_init 216 = .ok (.return_, 1) := by decide +kernel
theorem dX1_gather_0 : decode cX1_gather 0 = .ok (.iconst 0, 1) := by decide +kernel
theorem dX1_gather_1 : decode cX1_gather 1 = .ok (.istore_n 1, 1) := by decide +kernel
theorem dX1_gather_2 : decode cX1_gather 2 = .ok (.iconst 0, 1) := by decide +kernel
theorem dX1_gather_3 : decode cX1_gather 3 = .ok (.istore_n 2, 1) := by decide +kernel
theorem dX1_gather_4 : decode cX1_gather 4 = .ok (.iload_n 2, 1) := by decide +kernel
theorem dX1_gather_5 : decode cX1_gather 5 = .ok (.bipush 8, 2) := by decide +kernel
theorem dX1_gather_7 : decode cX1_gather 7 = .ok (.if_icmp .ge 107, 3) := by decide +kernel
theorem dX1_gather_10 : decode cX1_gather 10 = .ok (.aload_n 0, 1) := by decide +kernel
theorem dX1_gather_11 : decode cX1_gather 11 = .ok (.getfield 55, 3) := by decide +kernel
theorem dX1_gather_14 : decode cX1_gather 14 = .ok (.iload_n 2, 1) := by decide +kernel
theorem dX1_gather_15 : decode cX1_gather 15 = .ok (.iload_n 1, 1) := by decide +kernel
theorem dX1_gather_16 : decode cX1_gather 16 = .ok (.iastore, 1) := by decide +kernel
theorem dX1_gather_17 : decode cX1_gather 17 = .ok (.aload_n 0, 1) := by decide +kernel
theorem dX1_gather_18 : decode cX1_gather 18 = .ok (.getfield 39, 3) := by decide +kernel
theorem dX1_gather_21 : decode cX1_gather 21 = .ok (.getfield 116, 3) := by decide +kernel
theorem dX1_gather_24 : decode cX1_gather 24 = .ok (.iload_n 2, 1) := by decide +kernel
theorem dX1_gather_25 : decode cX1_gather 25 = .ok (.iaload, 1) := by decide +kernel
theorem dX1_gather_26 : decode cX1_gather 26 = .ok (.istore_n 3, 1) := by decide +kernel
theorem dX1_gather_27 : decode cX1_gather 27 = .ok (.iload_n 3, 1) := by decide +kernel
theorem dX1_gather_28 : decode cX1_gather 28 = .ok (.aload_n 0, 1) := by decide +kernel
theorem dX1_gather_29 : decode cX1_gather 29 = .ok (.getfield 39, 3) := by decide +kernel
theorem dX1_gather_32 : decode cX1_gather 32 = .ok (.getfield 116, 3) := by decide +kernel
theorem dX1_gather_35 : decode cX1_gather 35 = .ok (.iload_n 2, 1) := by decide +kernel
theorem dX1_gather_36 : decode cX1_gather 36 = .ok (.iconst 1, 1) := by decide +kernel
theorem dX1_gather_37 : decode cX1_gather 37 = .ok (.iadd, 1) := by decide +kernel
theorem dX1_gather_38 : decode cX1_gather 38 = .ok (.iaload, 1) := by decide +kernel
theorem dX1_gather_39 : decode cX1_gather 39 = .ok (.if_icmp .ge 69, 3) := by decide +kernel
theorem dX1_gather_42 : decode cX1_gather 42 = .ok (.iload_n 3, 1) := by decide +kernel
theorem dX1_gather_43 : decode cX1_gather 43 = .ok (.aload_n 0, 1) := by decide +kernel
theorem dX1_gather_44 : decode cX1_gather 44 = .ok (.getfield 39, 3) := by decide +kernel
theorem dX1_gather_47 : decode cX1_gather 47 = .ok (.getfield 116, 3) := by decide +kernel
theorem dX1_gather_50 : decode cX1_gather 50 = .ok (.iload_n 2, 1) := by decide +kernel
theorem dX1_gather_51 : decode cX1_gather 51 = .ok (.iaload, 1) := by decide +kernel
theorem dX1_gather_52 : decode cX1_gather 52 = .ok (.isub, 1) := by decide +kernel
theorem dX1_gather_53 : decode cX1_gather 53 = .ok (.aload_n 0, 1) := by decide +kernel
theorem dX1_gather_54 : decode cX1_gather 54 = .ok (.getfield 94, 3) := by decide +kernel
theorem dX1_gather_57 : decode cX1_gather 57 = .ok (.irem, 1) := by decide +kernel
theorem dX1_gather_58 : decode cX1_gather 58 = .ok (.ifCond .ne 7, 3) := by decide +kernel
theorem dX1_gather_61 : decode cX1_gather 61 = .ok (.iconst 1, 1) := by decide +kernel
theorem dX1_gather_62 : decode cX1_gather 62 = .ok (.goto 4, 3) := by decide +kernel
theorem dX1_gather_65 : decode cX1_gather 65 = .ok (.iconst 0, 1) := by decide +kernel
theorem dX1_gather_66 : decode cX1_gather 66 = .ok (.istore 4, 2) := by decide +kernel
theorem dX1_gather_68 : decode cX1_gather 68 = .ok (.iload 4, 2) := by decide +kernel
theorem dX1_gather_70 : decode cX1_gather 70 = .ok (.ifCond .eq 14, 3) := by decide +kernel
theorem dX1_gather_73 : decode cX1_gather 73 = .ok (.aload_n 0, 1) := by decide +kernel
theorem dX1_gather_74 : decode cX1_gather 74 = .ok (.getfield 51, 3) := by decide +kernel
theorem dX1_gather_77 : decode cX1_gather 77 = .ok (.iload_n 1, 1) := by decide +kernel
theorem dX1_gather_78 : decode cX1_gather 78 = .ok (.invokevirtual 119, 3) := by decide +kernel
theorem dX1_gather_81 : decode cX1_gather 81 = .ok (.iinc 1 1, 3) := by decide +kernel
theorem dX1_gather_84 : decode cX1_gather 84 = .ok (.aload_n 0, 1) := by decide +kernel
theorem dX1_gather_85 : decode cX1_gather 85 = .ok (.getfield 51, 3) := by decide +kernel
theorem dX1_gather_88 : decode cX1_gather 88 = .ok (.iload_n 1, 1) := by decide +kernel
theorem dX1_gather_89 : decode cX1_gather 89 = .ok (.iconst 1, 1) := by decide +kernel
theorem dX1_gather_90 : decode cX1_gather 90 = .ok (.isub, 1) := by decide +kernel
theorem dX1_gather_91 : decode cX1_gather 91 = .ok (.aload_n 0, 1) := by decide +kernel
theorem dX1_gather_92 : decode cX1_gather 92 = .ok (.getfield 39, 3) := by decide +kernel
theorem dX1_gather_95 : decode cX1_gather 95 = .ok (.getfield 122, 3) := by decide +kernel
theorem dX1_gather_98 : decode cX1_gather 98 = .ok (.iload_n 3, 1) := by decide +kernel
theorem dX1_gather_99 : decode cX1_gather 99 = .ok (.invokevirtual 125, 3) := by decide +kernel
theorem dX1_gather_102 : decode cX1_gather 102 = .ok (.iinc 3 1, 3) := by decide +kernel
theorem dX1_gather_105 : decode cX1_gather 105 = .ok (.goto (-78), 3) := by decide +kernel
theorem dX1_gather_108 : decode cX1_gather 108 = .ok (.iinc 2 1, 3) := by decide +kernel
theorem dX1_gather_111 : decode cX1_gather 111 = .ok (.goto (-107), 3) := by decide +kernel
theorem dX1_gather_114 : decode cX1_gather 114 = .ok (.aload_n 0, 1) := by decide +kernel
theorem dX1_gather_115 : decode cX1_gather 115 = .ok (.getfield 55, 3) := by decide +kernel
theorem dX1_gather_118 : decode cX1_gather 118 = .ok (.bipush 8, 2) := by decide +kernel
theorem dX1_gather_120 : decode cX1_gather 120 = .ok (.iload_n 1, 1) := by decide +kernel
theorem dX1_gather_121 : decode cX1_gather 121 = .ok (.iastore, 1) := by decide +kernel
theorem dX1_gather_122 : decode cX1_gather 122 = .ok (.return_, 1) := by decide +kernel
theorem dX1_append_0 : decode cX1_append 0 = .ok (.aload_n 0, 1) := by decide +kernel
theorem dX1_append_1 : decode cX1_append 1 = .ok (.aconst_null, 1) := by decide +kernel
theorem dX1_append_2 : decode cX1_append 2 = .ok (.putfield 138, 3) := by decide +kernel
theorem dX1_append_5 : decode cX1_append 5 = .ok (.aload_n 0, 1) := by decide +kernel
theorem dX1_append_6 : decode cX1_append 6 = .ok (.getfield 12, 3) := by decide +kernel
theorem dX1_append_9 : decode cX1_append 9 = .ok (.getfield 141, 3) := by decide +kernel
theorem dX1_append_12 : decode cX1_append 12 = .ok (.ifCond .eq 6, 3) := by decide +kernel
theorem dX1_append_15 : decode cX1_append 15 = .ok (.bipush (-9), 2) := by decide +kernel
theorem dX1_append_17 : decode cX1_append 17 = .ok (.ireturn, 1) := by decide +kernel
theorem dX1_append_18 : decode cX1_append 18 = .ok (.aload_n 0, 1) := by decide +kernel
theorem dX1_append_19 : decode cX1_append 19 = .ok (.iload_n 1, 1) := by decide +kernel
theorem dX1_append_20 : decode cX1_append 20 = .ok (.invokevirtual 145, 3) := by decide +kernel
theorem dX1_append_23 : decode cX1_append 23 = .ok (.ifCond .ne 6, 3) := by decide +kernel
theorem dX1_append_26 : decode cX1_append 26 = .ok (.bipush (-2), 2) := by decide +kernel
theorem dX1_append_28 : decode cX1_append 28 = .ok (.ireturn, 1) := by decide +kernel
theorem dX1_append_29 : decode cX1_append 29 = .ok (.aload_n 0, 1) := by decide +kernel
theorem dX1_append_30 : decode cX1_append 30 = .ok (.iload_n 1, 1) := by decide +kernel
theorem dX1_append_31 : decode cX1_append 31 = .ok (.iload_n 2, 1) := by decide +kernel
theorem dX1_append_32 : decode cX1_append 32 = .ok (.invokevirtual 149, 3) := by decide +kernel
theorem dX1_append_35 : decode cX1_append 35 = .ok (.ifCond .ne 5, 3) := by decide +kernel
theorem dX1_append_38 : decode cX1_append 38 = .ok (.iconst (-1), 1) := by decide +kernel
theorem dX1_append_39 : decode cX1_append 39 = .ok (.ireturn, 1) := by decide +kernel
theorem dX1_append_40 : decode cX1_append 40 = .ok (.aload_n 0, 1) := by decide +kernel
theorem dX1_append_41 : decode cX1_append 41 = .ok (.getfield 153, 3) := by decide +kernel
theorem dX1_append_44 : decode cX1_append 44 = .ok (.sipush 128, 3) := by decide +kernel
theorem dX1_append_47 : decode cX1_append 47 = .ok (.if_icmp .ne 6, 3) := by decide +kernel
theorem dX1_append_50 : decode cX1_append 50 = .ok (.bipush (-3), 2) := by decide +kernel
theorem dX1_append_52 : decode cX1_append 52 = .ok (.ireturn, 1) := by decide +kernel
theorem dX1_append_53 : decode cX1_append 53 = .ok (.sipush 1923, 3) := by decide +kernel
theorem dX1_append_56 : decode cX1_append 56 = .ok (.iconst 4, 1) := by decide +kernel
theorem dX1_append_57 : decode cX1_append 57 = .ok (.aload_n 0, 1) := by decide +kernel
theorem dX1_append_58 : decode cX1_append 58 = .ok (.getfield 153, 3) := by decide +kernel
theorem dX1_append_61 : decode cX1_append 61 = .ok (.imul, 1) := by decide +kernel
theorem dX1_append_62 : decode cX1_append 62 = .ok (.iadd, 1) := by decide +kernel
theorem dX1_append_63 : decode cX1_append 63 = .ok (.istore 4, 2) := by decide +kernel
theorem dX1_append_65 : decode cX1_append 65 = .ok (.aload_n 0, 1) := by decide +kernel
theorem dX1_append_66 : decode cX1_append 66 = .ok (.getfield 12, 3) := by decide +kernel
theorem dX1_append_69 : decode cX1_append 69 = .ok (.iload 4, 2) := by decide +kernel
theorem dX1_append_71 : decode cX1_append 71 = .ok (.iload_n 1, 1) := by decide +kernel
theorem dX1_append_72 : decode cX1_append 72 = .ok (.invokevirtual 156, 3) := by decide +kernel
theorem dX1_append_75 : decode cX1_append 75 = .ok (.aload_n 0, 1) := by decide +kernel
theorem dX1_append_76 : decode cX1_append 76 = .ok (.getfield 12, 3) := by decide +kernel
theorem dX1_append_79 : decode cX1_append 79 = .ok (.iload 4, 2) := by decide +kernel
theorem dX1_append_81 : decode cX1_append 81 = .ok (.iconst 1, 1) := by decide +kernel
theorem dX1_append_82 : decode cX1_append 82 = .ok (.iadd, 1) := by decide +kernel
theorem dX1_append_83 : decode cX1_append 83 = .ok (.iload_n 2, 1) := by decide +kernel
theorem dX1_append_84 : decode cX1_append 84 = .ok (.invokevirtual 156, 3) := by decide +kernel
theorem dX1_append_87 : decode cX1_append 87 = .ok (.aload_n 0, 1) := by decide +kernel
theorem dX1_append_88 : decode cX1_append 88 = .ok (.getfield 12, 3) := by decide +kernel
theorem dX1_append_91 : decode cX1_append 91 = .ok (.iload 4, 2) := by decide +kernel
theorem dX1_append_93 : decode cX1_append 93 = .ok (.iconst 2, 1) := by decide +kernel
theorem dX1_append_94 : decode cX1_append 94 = .ok (.iadd, 1) := by decide +kernel
theorem dX1_append_95 : decode cX1_append 95 = .ok (.iload_n 3, 1) := by decide +kernel
theorem dX1_append_96 : decode cX1_append 96 = .ok (.invokevirtual 156, 3) := by decide +kernel
theorem dX1_append_99 : decode cX1_append 99 = .ok (.aload_n 0, 1) := by decide +kernel
theorem dX1_append_100 : decode cX1_append 100 = .ok (.getfield 12, 3) := by decide +kernel
theorem dX1_append_103 : decode cX1_append 103 = .ok (.iload 4, 2) := by decide +kernel
theorem dX1_append_105 : decode cX1_append 105 = .ok (.iconst 3, 1) := by decide +kernel
theorem dX1_append_106 : decode cX1_append 106 = .ok (.iadd, 1) := by decide +kernel
theorem dX1_append_107 : decode cX1_append 107 = .ok (.aload_n 0, 1) := by decide +kernel
theorem dX1_append_108 : decode cX1_append 108 = .ok (.getfield 160, 3) := by decide +kernel
theorem dX1_append_111 : decode cX1_append 111 = .ok (.iconst 1, 1) := by decide +kernel
theorem dX1_append_112 : decode cX1_append 112 = .ok (.iadd, 1) := by decide +kernel
theorem dX1_append_113 : decode cX1_append 113 = .ok (.invokevirtual 156, 3) := by decide +kernel
theorem dX1_append_116 : decode cX1_append 116 = .ok (.goto 8, 3) := by decide +kernel
theorem dX1_append_119 : decode cX1_append 119 = .ok (.astore 5, 2) := by decide +kernel
theorem dX1_append_121 : decode cX1_append 121 = .ok (.bipush (-9), 2) := by decide +kernel
theorem dX1_append_123 : decode cX1_append 123 = .ok (.ireturn, 1) := by decide +kernel
theorem dX1_append_124 : decode cX1_append 124 = .ok (.aload_n 0, 1) := by decide +kernel
theorem dX1_append_125 : decode cX1_append 125 = .ok (.dup, 1) := by decide +kernel
theorem dX1_append_126 : decode cX1_append 126 = .ok (.getfield 153, 3) := by decide +kernel
theorem dX1_append_129 : decode cX1_append 129 = .ok (.iconst 1, 1) := by decide +kernel
theorem dX1_append_130 : decode cX1_append 130 = .ok (.iadd, 1) := by decide +kernel
theorem dX1_append_131 : decode cX1_append 131 = .ok (.putfield 153, 3) := by decide +kernel
theorem dX1_append_134 : decode cX1_append 134 = .ok (.aload_n 0, 1) := by decide +kernel
theorem dX1_append_135 : decode cX1_append 135 = .ok (.getfield 99, 3) := by decide +kernel
theorem dX1_append_138 : decode cX1_append 138 = .ok (.iload_n 1, 1) := by decide +kernel
theorem dX1_append_139 : decode cX1_append 139 = .ok (.aaload, 1) := by decide +kernel
theorem dX1_append_140 : decode cX1_append 140 = .ok (.iload_n 2, 1) := by decide +kernel
theorem dX1_append_141 : decode cX1_append 141 = .ok (.iload_n 3, 1) := by decide +kernel
theorem dX1_append_142 : decode cX1_append 142 = .ok (.invokevirtual 165, 3) := by decide +kernel
theorem dX1_append_145 : decode cX1_append 145 = .ok (.iconst 0, 1) := by decide +kernel
theorem dX1_append_146 : decode cX1_append 146 = .ok (.ireturn, 1) := by decide +kernel
theorem dX1_isSeries_0 : decode cX1_isSeries 0 = .ok (.aload_n 0, 1) := by decide +kernel
theorem dX1_isSeries_1 : decode cX1_isSeries 1 = .ok (.iload_n 1, 1) := by decide +kernel
theorem dX1_isSeries_2 : decode cX1_isSeries 2 = .ok (.invokevirtual 112, 3) := by decide +kernel
theorem dX1_isSeries_5 : decode cX1_isSeries 5 = .ok (.ifnull 7, 3) := by decide +kernel
theorem dX1_isSeries_8 : decode cX1_isSeries 8 = .ok (.iconst 1, 1) := by decide +kernel
theorem dX1_isSeries_9 : decode cX1_isSeries 9 = .ok (.goto 4, 3) := by decide +kernel
theorem dX1_isSeries_12 : decode cX1_isSeries 12 = .ok (.iconst 0, 1) := by decide +kernel
theorem dX1_isSeries_13 : decode cX1_isSeries 13 = .ok (.ireturn, 1) := by decide +kernel
theorem dX1_head_0 : decode cX1_head 0 = .ok (.aload_n 0, 1) := by decide +kernel
theorem dX1_head_1 : decode cX1_head 1 = .ok (.getfield 99, 3) := by decide +kernel
theorem dX1_head_4 : decode cX1_head 4 = .ok (.iload_n 1, 1) := by decide +kernel
theorem dX1_head_5 : decode cX1_head 5 = .ok (.aaload, 1) := by decide +kernel
theorem dX1_head_6 : decode cX1_head 6 = .ok (.areturn, 1) := by decide +kernel
theorem dX1_head_7 : decode cX1_head 7 = .ok (.astore_n 2, 1) := by decide +kernel
theorem dX1_head_8 : decode cX1_head 8 = .ok (.aconst_null, 1) := by decide +kernel
theorem dX1_head_9 : decode cX1_head 9 = .ok (.areturn, 1) := by decide +kernel
theorem dX1_isRising_0 : decode cX1_isRising 0 = .ok (.aload_n 0, 1) := by decide +kernel
theorem dX1_isRising_1 : decode cX1_isRising 1 = .ok (.getfield 99, 3) := by decide +kernel
theorem dX1_isRising_4 : decode cX1_isRising 4 = .ok (.iload_n 1, 1) := by decide +kernel
theorem dX1_isRising_5 : decode cX1_isRising 5 = .ok (.aaload, 1) := by decide +kernel
theorem dX1_isRising_6 : decode cX1_isRising 6 = .ok (.astore_n 3, 1) := by decide +kernel
theorem dX1_isRising_7 : decode cX1_isRising 7 = .ok (.aload_n 3, 1) := by decide +kernel
theorem dX1_isRising_8 : decode cX1_isRising 8 = .ok (.getfield 129, 3) := by decide +kernel
theorem dX1_isRising_11 : decode cX1_isRising 11 = .ok (.ifCond .le 24, 3) := by decide +kernel
theorem dX1_isRising_14 : decode cX1_isRising 14 = .ok (.iload_n 2, 1) := by decide +kernel
theorem dX1_isRising_15 : decode cX1_isRising 15 = .ok (.aload_n 3, 1) := by decide +kernel
theorem dX1_isRising_16 : decode cX1_isRising 16 = .ok (.getfield 132, 3) := by decide +kernel
theorem dX1_isRising_19 : decode cX1_isRising 19 = .ok (.aload_n 3, 1) := by decide +kernel
theorem dX1_isRising_20 : decode cX1_isRising 20 = .ok (.getfield 129, 3) := by decide +kernel
theorem dX1_isRising_23 : decode cX1_isRising 23 = .ok (.iconst 1, 1) := by decide +kernel
theorem dX1_isRising_24 : decode cX1_isRising 24 = .ok (.isub, 1) := by decide +kernel
theorem dX1_isRising_25 : decode cX1_isRising 25 = .ok (.iaload, 1) := by decide +kernel
theorem dX1_isRising_26 : decode cX1_isRising 26 = .ok (.if_icmp .le 7, 3) := by decide +kernel
theorem dX1_isRising_29 : decode cX1_isRising 29 = .ok (.iconst 1, 1) := by decide +kernel
theorem dX1_isRising_30 : decode cX1_isRising 30 = .ok (.goto 4, 3) := by decide +kernel
theorem dX1_isRising_33 : decode cX1_isRising 33 = .ok (.iconst 0, 1) := by decide +kernel
theorem dX1_isRising_34 : decode cX1_isRising 34 = .ok (.ireturn, 1) := by decide +kernel
theorem dX1_isRising_35 : decode cX1_isRising 35 = .ok (.aload_n 0, 1) := by decide +kernel
theorem dX1_isRising_36 : decode cX1_isRising 36 = .ok (.getfield 39, 3) := by decide +kernel
theorem dX1_isRising_39 : decode cX1_isRising 39 = .ok (.getfield 116, 3) := by decide +kernel
theorem dX1_isRising_42 : decode cX1_isRising 42 = .ok (.iload_n 1, 1) := by decide +kernel
theorem dX1_isRising_43 : decode cX1_isRising 43 = .ok (.iconst 1, 1) := by decide +kernel
theorem dX1_isRising_44 : decode cX1_isRising 44 = .ok (.iadd, 1) := by decide +kernel
theorem dX1_isRising_45 : decode cX1_isRising 45 = .ok (.iaload, 1) := by decide +kernel
theorem dX1_isRising_46 : decode cX1_isRising 46 = .ok (.istore 4, 2) := by decide +kernel
theorem dX1_isRising_48 : decode cX1_isRising 48 = .ok (.iload 4, 2) := by decide +kernel
theorem dX1_isRising_50 : decode cX1_isRising 50 = .ok (.aload_n 0, 1) := by decide +kernel
theorem dX1_isRising_51 : decode cX1_isRising 51 = .ok (.getfield 39, 3) := by decide +kernel
theorem dX1_isRising_54 : decode cX1_isRising 54 = .ok (.getfield 116, 3) := by decide +kernel
theorem dX1_isRising_57 : decode cX1_isRising 57 = .ok (.iload_n 1, 1) := by decide +kernel
theorem dX1_isRising_58 : decode cX1_isRising 58 = .ok (.iaload, 1) := by decide +kernel
theorem dX1_isRising_59 : decode cX1_isRising 59 = .ok (.if_icmp .eq 22, 3) := by decide +kernel
theorem dX1_isRising_62 : decode cX1_isRising 62 = .ok (.iload_n 2, 1) := by decide +kernel
theorem dX1_isRising_63 : decode cX1_isRising 63 = .ok (.aload_n 0, 1) := by decide +kernel
theorem dX1_isRising_64 : decode cX1_isRising 64 = .ok (.getfield 39, 3) := by decide +kernel
theorem dX1_isRising_67 : decode cX1_isRising 67 = .ok (.getfield 122, 3) := by decide +kernel
theorem dX1_isRising_70 : decode cX1_isRising 70 = .ok (.getfield 135, 3) := by decide +kernel
theorem dX1_isRising_73 : decode cX1_isRising 73 = .ok (.iload 4, 2) := by decide +kernel
theorem dX1_isRising_75 : decode cX1_isRising 75 = .ok (.iconst 1, 1) := by decide +kernel
theorem dX1_isRising_76 : decode cX1_isRising 76 = .ok (.isub, 1) := by decide +kernel
theorem dX1_isRising_77 : decode cX1_isRising 77 = .ok (.iaload, 1) := by decide +kernel
theorem dX1_isRising_78 : decode cX1_isRising 78 = .ok (.if_icmp .le 7, 3) := by decide +kernel
theorem dX1_isRising_81 : decode cX1_isRising 81 = .ok (.iconst 1, 1) := by decide +kernel
theorem dX1_isRising_82 : decode cX1_isRising 82 = .ok (.goto 4, 3) := by decide +kernel
theorem dX1_isRising_85 : decode cX1_isRising 85 = .ok (.iconst 0, 1) := by decide +kernel
theorem dX1_isRising_86 : decode cX1_isRising 86 = .ok (.ireturn, 1) := by decide +kernel
theorem dX1_flush_0 : decode cX1_flush 0 = .ok (.aload_n 0, 1) := by decide +kernel
theorem dX1_flush_1 : decode cX1_flush 1 = .ok (.aconst_null, 1) := by decide +kernel
theorem dX1_flush_2 : decode cX1_flush 2 = .ok (.putfield 138, 3) := by decide +kernel
theorem dX1_flush_5 : decode cX1_flush 5 = .ok (.aload_n 0, 1) := by decide +kernel
theorem dX1_flush_6 : decode cX1_flush 6 = .ok (.getfield 12, 3) := by decide +kernel
theorem dX1_flush_9 : decode cX1_flush 9 = .ok (.getfield 141, 3) := by decide +kernel
theorem dX1_flush_12 : decode cX1_flush 12 = .ok (.ifCond .eq 6, 3) := by decide +kernel
theorem dX1_flush_15 : decode cX1_flush 15 = .ok (.bipush (-9), 2) := by decide +kernel
theorem dX1_flush_17 : decode cX1_flush 17 = .ok (.ireturn, 1) := by decide +kernel
theorem dX1_flush_18 : decode cX1_flush 18 = .ok (.aload_n 0, 1) := by decide +kernel
theorem dX1_flush_19 : decode cX1_flush 19 = .ok (.getfield 153, 3) := by decide +kernel
theorem dX1_flush_22 : decode cX1_flush 22 = .ok (.ifCond .ne 5, 3) := by decide +kernel
theorem dX1_flush_25 : decode cX1_flush 25 = .ok (.iconst 0, 1) := by decide +kernel
theorem dX1_flush_26 : decode cX1_flush 26 = .ok (.ireturn, 1) := by decide +kernel
theorem dX1_flush_27 : decode cX1_flush 27 = .ok (.aload_n 0, 1) := by decide +kernel
theorem dX1_flush_28 : decode cX1_flush 28 = .ok (.invokevirtual 242, 3) := by decide +kernel
theorem dX1_flush_31 : decode cX1_flush 31 = .ok (.iconst 0, 1) := by decide +kernel
theorem dX1_flush_32 : decode cX1_flush 32 = .ok (.istore_n 1, 1) := by decide +kernel
theorem dX1_flush_33 : decode cX1_flush 33 = .ok (.iconst 0, 1) := by decide +kernel
theorem dX1_flush_34 : decode cX1_flush 34 = .ok (.istore_n 2, 1) := by decide +kernel
theorem dX1_flush_35 : decode cX1_flush 35 = .ok (.iload_n 2, 1) := by decide +kernel
theorem dX1_flush_36 : decode cX1_flush 36 = .ok (.aload_n 0, 1) := by decide +kernel
theorem dX1_flush_37 : decode cX1_flush 37 = .ok (.getfield 87, 3) := by decide +kernel
theorem dX1_flush_40 : decode cX1_flush 40 = .ok (.if_icmp .ge 156, 3) := by decide +kernel
theorem dX1_flush_43 : decode cX1_flush 43 = .ok (.aload_n 0, 1) := by decide +kernel
theorem dX1_flush_44 : decode cX1_flush 44 = .ok (.getfield 39, 3) := by decide +kernel
theorem dX1_flush_47 : decode cX1_flush 47 = .ok (.getfield 116, 3) := by decide +kernel
theorem dX1_flush_50 : decode cX1_flush 50 = .ok (.iload_n 2, 1) := by decide +kernel
theorem dX1_flush_51 : decode cX1_flush 51 = .ok (.iaload, 1) := by decide +kernel
theorem dX1_flush_52 : decode cX1_flush 52 = .ok (.istore_n 3, 1) := by decide +kernel
theorem dX1_flush_53 : decode cX1_flush 53 = .ok (.iload_n 3, 1) := by decide +kernel
theorem dX1_flush_54 : decode cX1_flush 54 = .ok (.aload_n 0, 1) := by decide +kernel
theorem dX1_flush_55 : decode cX1_flush 55 = .ok (.getfield 39, 3) := by decide +kernel
theorem dX1_flush_58 : decode cX1_flush 58 = .ok (.getfield 116, 3) := by decide +kernel
theorem dX1_flush_61 : decode cX1_flush 61 = .ok (.iload_n 2, 1) := by decide +kernel
theorem dX1_flush_62 : decode cX1_flush 62 = .ok (.iconst 1, 1) := by decide +kernel
theorem dX1_flush_63 : decode cX1_flush 63 = .ok (.iadd, 1) := by decide +kernel
theorem dX1_flush_64 : decode cX1_flush 64 = .ok (.iaload, 1) := by decide +kernel
theorem dX1_flush_65 : decode cX1_flush 65 = .ok (.if_icmp .ge 27, 3) := by decide +kernel
theorem dX1_flush_68 : decode cX1_flush 68 = .ok (.aload_n 0, 1) := by decide +kernel
theorem dX1_flush_69 : decode cX1_flush 69 = .ok (.getfield 43, 3) := by decide +kernel
theorem dX1_flush_72 : decode cX1_flush 72 = .ok (.aload_n 0, 1) := by decide +kernel
theorem dX1_flush_73 : decode cX1_flush 73 = .ok (.getfield 39, 3) := by decide +kernel
theorem dX1_flush_76 : decode cX1_flush 76 = .ok (.iload_n 3, 1) := by decide +kernel
theorem dX1_flush_77 : decode cX1_flush 77 = .ok (.invokevirtual 245, 3) := by decide +kernel
theorem dX1_flush_80 : decode cX1_flush 80 = .ok (.ifCond .ne 6, 3) := by decide +kernel
theorem dX1_flush_83 : decode cX1_flush 83 = .ok (.bipush (-3), 2) := by decide +kernel
theorem dX1_flush_85 : decode cX1_flush 85 = .ok (.ireturn, 1) := by decide +kernel
theorem dX1_flush_86 : decode cX1_flush 86 = .ok (.iinc 3 1, 3) := by decide +kernel
theorem dX1_flush_89 : decode cX1_flush 89 = .ok (.goto (-36), 3) := by decide +kernel
theorem dX1_flush_92 : decode cX1_flush 92 = .ok (.aload_n 0, 1) := by decide +kernel
theorem dX1_flush_93 : decode cX1_flush 93 = .ok (.getfield 99, 3) := by decide +kernel
theorem dX1_flush_96 : decode cX1_flush 96 = .ok (.iload_n 2, 1) := by decide +kernel
theorem dX1_flush_97 : decode cX1_flush 97 = .ok (.aaload, 1) := by decide +kernel
theorem dX1_flush_98 : decode cX1_flush 98 = .ok (.astore_n 3, 1) := by decide +kernel
theorem dX1_flush_99 : decode cX1_flush 99 = .ok (.iconst 0, 1) := by decide +kernel
theorem dX1_flush_100 : decode cX1_flush 100 = .ok (.istore 4, 2) := by decide +kernel
theorem dX1_flush_102 : decode cX1_flush 102 = .ok (.iload 4, 2) := by decide +kernel
theorem dX1_flush_104 : decode cX1_flush 104 = .ok (.aload_n 3, 1) := by decide +kernel
theorem dX1_flush_105 : decode cX1_flush 105 = .ok (.getfield 129, 3) := by decide +kernel
theorem dX1_flush_108 : decode cX1_flush 108 = .ok (.if_icmp .ge 82, 3) := by decide +kernel
theorem dX1_flush_111 : decode cX1_flush 111 = .ok (.aload_n 0, 1) := by decide +kernel
theorem dX1_flush_112 : decode cX1_flush 112 = .ok (.iload_n 2, 1) := by decide +kernel
theorem dX1_flush_113 : decode cX1_flush 113 = .ok (.invokevirtual 249, 3) := by decide +kernel
theorem dX1_flush_116 : decode cX1_flush 116 = .ok (.ifCond .ne 6, 3) := by decide +kernel
theorem dX1_flush_119 : decode cX1_flush 119 = .ok (.bipush (-3), 2) := by decide +kernel
theorem dX1_flush_121 : decode cX1_flush 121 = .ok (.ireturn, 1) := by decide +kernel
theorem dX1_flush_122 : decode cX1_flush 122 = .ok (.iload 4, 2) := by decide +kernel
theorem dX1_flush_124 : decode cX1_flush 124 = .ok (.istore 5, 2) := by decide +kernel
theorem dX1_flush_126 : decode cX1_flush 126 = .ok (.iload 5, 2) := by decide +kernel
theorem dX1_flush_128 : decode cX1_flush 128 = .ok (.aload_n 3, 1) := by decide +kernel
theorem dX1_flush_129 : decode cX1_flush 129 = .ok (.getfield 129, 3) := by decide +kernel
theorem dX1_flush_132 : decode cX1_flush 132 = .ok (.if_icmp .ge 39, 3) := by decide +kernel
theorem dX1_flush_135 : decode cX1_flush 135 = .ok (.iload 5, 2) := by decide +kernel
theorem dX1_flush_137 : decode cX1_flush 137 = .ok (.iload 4, 2) := by decide +kernel
theorem dX1_flush_139 : decode cX1_flush 139 = .ok (.aload_n 0, 1) := by decide +kernel
theorem dX1_flush_140 : decode cX1_flush 140 = .ok (.getfield 91, 3) := by decide +kernel
theorem dX1_flush_143 : decode cX1_flush 143 = .ok (.iadd, 1) := by decide +kernel
theorem dX1_flush_144 : decode cX1_flush 144 = .ok (.if_icmp .ge 27, 3) := by decide +kernel
theorem dX1_flush_147 : decode cX1_flush 147 = .ok (.aload_n 0, 1) := by decide +kernel
theorem dX1_flush_148 : decode cX1_flush 148 = .ok (.aload_n 3, 1) := by decide +kernel
theorem dX1_flush_149 : decode cX1_flush 149 = .ok (.getfield 132, 3) := by decide +kernel
theorem dX1_flush_152 : decode cX1_flush 152 = .ok (.iload 5, 2) := by decide +kernel
theorem dX1_flush_154 : decode cX1_flush 154 = .ok (.iaload, 1) := by decide +kernel
theorem dX1_flush_155 : decode cX1_flush 155 = .ok (.aload_n 3, 1) := by decide +kernel
theorem dX1_flush_156 : decode cX1_flush 156 = .ok (.getfield 250, 3) := by decide +kernel
theorem dX1_flush_159 : decode cX1_flush 159 = .ok (.iload 5, 2) := by decide +kernel
theorem dX1_flush_161 : decode cX1_flush 161 = .ok (.iaload, 1) := by decide +kernel
theorem dX1_flush_162 : decode cX1_flush 162 = .ok (.invokevirtual 253, 3) := by decide +kernel
theorem dX1_flush_165 : decode cX1_flush 165 = .ok (.iinc 5 1, 3) := by decide +kernel
theorem dX1_flush_168 : decode cX1_flush 168 = .ok (.goto (-42), 3) := by decide +kernel
theorem dX1_flush_171 : decode cX1_flush 171 = .ok (.aload_n 0, 1) := by decide +kernel
theorem dX1_flush_172 : decode cX1_flush 172 = .ok (.invokevirtual 256, 3) := by decide +kernel
theorem dX1_flush_175 : decode cX1_flush 175 = .ok (.iinc 1 1, 3) := by decide +kernel
theorem dX1_flush_178 : decode cX1_flush 178 = .ok (.iload 4, 2) := by decide +kernel
theorem dX1_flush_180 : decode cX1_flush 180 = .ok (.aload_n 0, 1) := by decide +kernel
theorem dX1_flush_181 : decode cX1_flush 181 = .ok (.getfield 91, 3) := by decide +kernel
theorem dX1_flush_184 : decode cX1_flush 184 = .ok (.iadd, 1) := by decide +kernel
theorem dX1_flush_185 : decode cX1_flush 185 = .ok (.istore 4, 2) := by decide +kernel
theorem dX1_flush_187 : decode cX1_flush 187 = .ok (.goto (-85), 3) := by decide +kernel
theorem dX1_flush_190 : decode cX1_flush 190 = .ok (.iinc 2 1, 3) := by decide +kernel
theorem dX1_flush_193 : decode cX1_flush 193 = .ok (.goto (-158), 3) := by decide +kernel
theorem dX1_flush_196 : decode cX1_flush 196 = .ok (.aload_n 0, 1) := by decide +kernel
theorem dX1_flush_197 : decode cX1_flush 197 = .ok (.aload_n 0, 1) := by decide +kernel
theorem dX1_flush_198 : decode cX1_flush 198 = .ok (.getfield 160, 3) := by decide +kernel
theorem dX1_flush_201 : decode cX1_flush 201 = .ok (.iconst 1, 1) := by decide +kernel
theorem dX1_flush_202 : decode cX1_flush 202 = .ok (.iadd, 1) := by decide +kernel
theorem dX1_flush_203 : decode cX1_flush 203 = .ok (.iload_n 1, 1) := by decide +kernel
theorem dX1_flush_204 : decode cX1_flush 204 = .ok (.invokevirtual 259, 3) := by decide +kernel
theorem dX1_flush_207 : decode cX1_flush 207 = .ok (.istore_n 2, 1) := by decide +kernel
theorem dX1_flush_208 : decode cX1_flush 208 = .ok (.iload_n 2, 1) := by decide +kernel
theorem dX1_flush_209 : decode cX1_flush 209 = .ok (.ifCond .le 45, 3) := by decide +kernel
theorem dX1_flush_212 : decode cX1_flush 212 = .ok (.aload_n 0, 1) := by decide +kernel
theorem dX1_flush_213 : decode cX1_flush 213 = .ok (.iconst 0, 1) := by decide +kernel
theorem dX1_flush_214 : decode cX1_flush 214 = .ok (.putfield 153, 3) := by decide +kernel
theorem dX1_flush_217 : decode cX1_flush 217 = .ok (.aload_n 0, 1) := by decide +kernel
theorem dX1_flush_218 : decode cX1_flush 218 = .ok (.getfield 99, 3) := by decide +kernel
theorem dX1_flush_221 : decode cX1_flush 221 = .ok (.astore_n 3, 1) := by decide +kernel
theorem dX1_flush_222 : decode cX1_flush 222 = .ok (.aload_n 3, 1) := by decide +kernel
theorem dX1_flush_223 : decode cX1_flush 223 = .ok (.arraylength, 1) := by decide +kernel
theorem dX1_flush_224 : decode cX1_flush 224 = .ok (.istore 4, 2) := by decide +kernel
theorem dX1_flush_226 : decode cX1_flush 226 = .ok (.iconst 0, 1) := by decide +kernel
theorem dX1_flush_227 : decode cX1_flush 227 = .ok (.istore 5, 2) := by decide +kernel
theorem dX1_flush_229 : decode cX1_flush 229 = .ok (.iload 5, 2) := by decide +kernel
theorem dX1_flush_231 : decode cX1_flush 231 = .ok (.iload 4, 2) := by decide +kernel
theorem dX1_flush_233 : decode cX1_flush 233 = .ok (.if_icmp .ge 21, 3) := by decide +kernel
theorem dX1_flush_236 : decode cX1_flush 236 = .ok (.aload_n 3, 1) := by decide +kernel
theorem dX1_flush_237 : decode cX1_flush 237 = .ok (.iload 5, 2) := by decide +kernel
theorem dX1_flush_239 : decode cX1_flush 239 = .ok (.aaload, 1) := by decide +kernel
theorem dX1_flush_240 : decode cX1_flush 240 = .ok (.astore 6, 2) := by decide +kernel
theorem dX1_flush_242 : decode cX1_flush 242 = .ok (.aload 6, 2) := by decide +kernel
theorem dX1_flush_244 : decode cX1_flush 244 = .ok (.iconst 0, 1) := by decide +kernel
theorem dX1_flush_245 : decode cX1_flush 245 = .ok (.putfield 129, 3) := by decide +kernel
theorem dX1_flush_248 : decode cX1_flush 248 = .ok (.iinc 5 1, 3) := by decide +kernel
theorem dX1_flush_251 : decode cX1_flush 251 = .ok (.goto (-22), 3) := by decide +kernel
theorem dX1_flush_254 : decode cX1_flush 254 = .ok (.iload_n 2, 1) := by decide +kernel
theorem dX1_flush_255 : decode cX1_flush 255 = .ok (.ireturn, 1) := by decide +kernel
theorem dX1_plans_0 : decode cX1_plans 0 = .ok (.aload_n 0, 1) := by decide +kernel
theorem dX1_plans_1 : decode cX1_plans 1 = .ok (.getfield 43, 3) := by decide +kernel
theorem dX1_plans_4 : decode cX1_plans 4 = .ok (.iconst 0, 1) := by decide +kernel
theorem dX1_plans_5 : decode cX1_plans 5 = .ok (.putfield 168, 3) := by decide +kernel
theorem dX1_plans_8 : decode cX1_plans 8 = .ok (.aload_n 0, 1) := by decide +kernel
theorem dX1_plans_9 : decode cX1_plans 9 = .ok (.getfield 19, 3) := by decide +kernel
theorem dX1_plans_12 : decode cX1_plans 12 = .ok (.invokevirtual 169, 3) := by decide +kernel
theorem dX1_plans_15 : decode cX1_plans 15 = .ok (.return_, 1) := by decide +kernel
theorem dX1_opens_0 : decode cX1_opens 0 = .ok (.aload_n 0, 1) := by decide +kernel
theorem dX1_opens_1 : decode cX1_opens 1 = .ok (.getfield 43, 3) := by decide +kernel
theorem dX1_opens_4 : decode cX1_opens 4 = .ok (.iload_n 1, 1) := by decide +kernel
theorem dX1_opens_5 : decode cX1_opens 5 = .ok (.invokevirtual 172, 3) := by decide +kernel
theorem dX1_opens_8 : decode cX1_opens 8 = .ok (.ifCond .ne 5, 3) := by decide +kernel
theorem dX1_opens_11 : decode cX1_opens 11 = .ok (.iconst 0, 1) := by decide +kernel
theorem dX1_opens_12 : decode cX1_opens 12 = .ok (.ireturn, 1) := by decide +kernel
theorem dX1_opens_13 : decode cX1_opens 13 = .ok (.aload_n 0, 1) := by decide +kernel
theorem dX1_opens_14 : decode cX1_opens 14 = .ok (.getfield 19, 3) := by decide +kernel
theorem dX1_opens_17 : decode cX1_opens 17 = .ok (.invokevirtual 175, 3) := by decide +kernel
theorem dX1_opens_20 : decode cX1_opens 20 = .ok (.aload_n 0, 1) := by decide +kernel
theorem dX1_opens_21 : decode cX1_opens 21 = .ok (.getfield 43, 3) := by decide +kernel
theorem dX1_opens_24 : decode cX1_opens 24 = .ok (.getfield 177, 3) := by decide +kernel
theorem dX1_opens_27 : decode cX1_opens 27 = .ok (.aload_n 0, 1) := by decide +kernel
theorem dX1_opens_28 : decode cX1_opens 28 = .ok (.getfield 43, 3) := by decide +kernel
theorem dX1_opens_31 : decode cX1_opens 31 = .ok (.getfield 168, 3) := by decide +kernel
theorem dX1_opens_34 : decode cX1_opens 34 = .ok (.iconst 1, 1) := by decide +kernel
theorem dX1_opens_35 : decode cX1_opens 35 = .ok (.isub, 1) := by decide +kernel
theorem dX1_opens_36 : decode cX1_opens 36 = .ok (.aload_n 0, 1) := by decide +kernel
theorem dX1_opens_37 : decode cX1_opens 37 = .ok (.getfield 19, 3) := by decide +kernel
theorem dX1_opens_40 : decode cX1_opens 40 = .ok (.getfield 180, 3) := by decide +kernel
theorem dX1_opens_43 : decode cX1_opens 43 = .ok (.iconst 5, 1) := by decide +kernel
theorem dX1_opens_44 : decode cX1_opens 44 = .ok (.ishr, 1) := by decide +kernel
theorem dX1_opens_45 : decode cX1_opens 45 = .ok (.iastore, 1) := by decide +kernel
theorem dX1_opens_46 : decode cX1_opens 46 = .ok (.iconst 1, 1) := by decide +kernel
theorem dX1_opens_47 : decode cX1_opens 47 = .ok (.ireturn, 1) := by decide +kernel
theorem dX1_adds_0 : decode cX1_adds 0 = .ok (.aload_n 0, 1) := by decide +kernel
theorem dX1_adds_1 : decode cX1_adds 1 = .ok (.getfield 43, 3) := by decide +kernel
theorem dX1_adds_4 : decode cX1_adds 4 = .ok (.getfield 122, 3) := by decide +kernel
theorem dX1_adds_7 : decode cX1_adds 7 = .ok (.aload_n 0, 1) := by decide +kernel
theorem dX1_adds_8 : decode cX1_adds 8 = .ok (.getfield 43, 3) := by decide +kernel
theorem dX1_adds_11 : decode cX1_adds 11 = .ok (.getfield 168, 3) := by decide +kernel
theorem dX1_adds_14 : decode cX1_adds 14 = .ok (.iconst 1, 1) := by decide +kernel
theorem dX1_adds_15 : decode cX1_adds 15 = .ok (.isub, 1) := by decide +kernel
theorem dX1_adds_16 : decode cX1_adds 16 = .ok (.iload_n 1, 1) := by decide +kernel
theorem dX1_adds_17 : decode cX1_adds 17 = .ok (.iload_n 2, 1) := by decide +kernel
theorem dX1_adds_18 : decode cX1_adds 18 = .ok (.invokevirtual 183, 3) := by decide +kernel
theorem dX1_adds_21 : decode cX1_adds 21 = .ok (.aload_n 0, 1) := by decide +kernel
theorem dX1_adds_22 : decode cX1_adds 22 = .ok (.getfield 19, 3) := by decide +kernel
theorem dX1_adds_25 : decode cX1_adds 25 = .ok (.iload_n 1, 1) := by decide +kernel
theorem dX1_adds_26 : decode cX1_adds 26 = .ok (.iload_n 2, 1) := by decide +kernel
theorem dX1_adds_27 : decode cX1_adds 27 = .ok (.invokevirtual 186, 3) := by decide +kernel
theorem dX1_adds_30 : decode cX1_adds 30 = .ok (.return_, 1) := by decide +kernel
theorem dX1_closes_0 : decode cX1_closes 0 = .ok (.aload_n 0, 1) := by decide +kernel
theorem dX1_closes_1 : decode cX1_closes 1 = .ok (.getfield 43, 3) := by decide +kernel
theorem dX1_closes_4 : decode cX1_closes 4 = .ok (.getfield 189, 3) := by decide +kernel
theorem dX1_closes_7 : decode cX1_closes 7 = .ok (.aload_n 0, 1) := by decide +kernel
theorem dX1_closes_8 : decode cX1_closes 8 = .ok (.getfield 43, 3) := by decide +kernel
theorem dX1_closes_11 : decode cX1_closes 11 = .ok (.getfield 168, 3) := by decide +kernel
theorem dX1_closes_14 : decode cX1_closes 14 = .ok (.iconst 1, 1) := by decide +kernel
theorem dX1_closes_15 : decode cX1_closes 15 = .ok (.isub, 1) := by decide +kernel
theorem dX1_closes_16 : decode cX1_closes 16 = .ok (.aload_n 0, 1) := by decide +kernel
theorem dX1_closes_17 : decode cX1_closes 17 = .ok (.getfield 19, 3) := by decide +kernel
theorem dX1_closes_20 : decode cX1_closes 20 = .ok (.invokevirtual 193, 3) := by decide +kernel
theorem dX1_closes_23 : decode cX1_closes 23 = .ok (.i2s, 1) := by decide +kernel
theorem dX1_closes_24 : decode cX1_closes 24 = .ok (.sastore, 1) := by decide +kernel
theorem dX1_closes_25 : decode cX1_closes 25 = .ok (.return_, 1) := by decide +kernel
theorem dX1_done_0 : decode cX1_done 0 = .ok (.aload_n 0, 1) := by decide +kernel
theorem dX1_done_1 : decode cX1_done 1 = .ok (.invokevirtual 235, 3) := by decide +kernel
theorem dX1_done_4 : decode cX1_done 4 = .ok (.ifCond .ne 6, 3) := by decide +kernel
theorem dX1_done_7 : decode cX1_done 7 = .ok (.bipush (-3), 2) := by decide +kernel
theorem dX1_done_9 : decode cX1_done 9 = .ok (.ireturn, 1) := by decide +kernel
theorem dX1_done_10 : decode cX1_done 10 = .ok (.aload_n 0, 1) := by decide +kernel
theorem dX1_done_11 : decode cX1_done 11 = .ok (.iload_n 1, 1) := by decide +kernel
theorem dX1_done_12 : decode cX1_done 12 = .ok (.invokevirtual 239, 3) := by decide +kernel
theorem dX1_done_15 : decode cX1_done 15 = .ok (.goto 7, 3) := by decide +kernel
theorem dX1_done_18 : decode cX1_done 18 = .ok (.astore_n 3, 1) := by decide +kernel
theorem dX1_done_19 : decode cX1_done 19 = .ok (.bipush (-9), 2) := by decide +kernel
theorem dX1_done_21 : decode cX1_done 21 = .ok (.ireturn, 1) := by decide +kernel
theorem dX1_done_22 : decode cX1_done 22 = .ok (.iload_n 2, 1) := by decide +kernel
theorem dX1_done_23 : decode cX1_done 23 = .ok (.ireturn, 1) := by decide +kernel
theorem dX1_places_0 : decode cX1_places 0 = .ok (.sipush 2435, 3) := by decide +kernel
theorem dX1_places_3 : decode cX1_places 3 = .ok (.istore_n 1, 1) := by decide +kernel
theorem dX1_places_4 : decode cX1_places 4 = .ok (.iload_n 1, 1) := by decide +kernel
theorem dX1_places_5 : decode cX1_places 5 = .ok (.sipush 4096, 3) := by decide +kernel
theorem dX1_places_8 : decode cX1_places 8 = .ok (.if_icmp .ge 16, 3) := by decide +kernel
theorem dX1_places_11 : decode cX1_places 11 = .ok (.aload_n 0, 1) := by decide +kernel
theorem dX1_places_12 : decode cX1_places 12 = .ok (.getfield 58, 3) := by decide +kernel
theorem dX1_places_15 : decode cX1_places 15 = .ok (.iload_n 1, 1) := by decide +kernel
theorem dX1_places_16 : decode cX1_places 16 = .ok (.iconst 0, 1) := by decide +kernel
theorem dX1_places_17 : decode cX1_places 17 = .ok (.bastore, 1) := by decide +kernel
theorem dX1_places_18 : decode cX1_places 18 = .ok (.iinc 1 1, 3) := by decide +kernel
theorem dX1_places_21 : decode cX1_places 21 = .ok (.goto (-17), 3) := by decide +kernel
theorem dX1_places_24 : decode cX1_places 24 = .ok (.iconst 0, 1) := by decide +kernel
theorem dX1_places_25 : decode cX1_places 25 = .ok (.istore_n 1, 1) := by decide +kernel
theorem dX1_places_26 : decode cX1_places 26 = .ok (.iload_n 1, 1) := by decide +kernel
theorem dX1_places_27 : decode cX1_places 27 = .ok (.aload_n 0, 1) := by decide +kernel
theorem dX1_places_28 : decode cX1_places 28 = .ok (.getfield 39, 3) := by decide +kernel
theorem dX1_places_31 : decode cX1_places 31 = .ok (.getfield 168, 3) := by decide +kernel
theorem dX1_places_34 : decode cX1_places 34 = .ok (.if_icmp .ge 31, 3) := by decide +kernel
theorem dX1_places_37 : decode cX1_places 37 = .ok (.aload_n 0, 1) := by decide +kernel
theorem dX1_places_38 : decode cX1_places 38 = .ok (.aload_n 0, 1) := by decide +kernel
theorem dX1_places_39 : decode cX1_places 39 = .ok (.getfield 39, 3) := by decide +kernel
theorem dX1_places_42 : decode cX1_places 42 = .ok (.getfield 197, 3) := by decide +kernel
theorem dX1_places_45 : decode cX1_places 45 = .ok (.iload_n 1, 1) := by decide +kernel
theorem dX1_places_46 : decode cX1_places 46 = .ok (.caload, 1) := by decide +kernel
theorem dX1_places_47 : decode cX1_places 47 = .ok (.aload_n 0, 1) := by decide +kernel
theorem dX1_places_48 : decode cX1_places 48 = .ok (.getfield 39, 3) := by decide +kernel
theorem dX1_places_51 : decode cX1_places 51 = .ok (.getfield 189, 3) := by decide +kernel
theorem dX1_places_54 : decode cX1_places 54 = .ok (.iload_n 1, 1) := by decide +kernel
theorem dX1_places_55 : decode cX1_places 55 = .ok (.saload, 1) := by decide +kernel
theorem dX1_places_56 : decode cX1_places 56 = .ok (.invokevirtual 201, 3) := by decide +kernel
theorem dX1_places_59 : decode cX1_places 59 = .ok (.iinc 1 1, 3) := by decide +kernel
theorem dX1_places_62 : decode cX1_places 62 = .ok (.goto (-36), 3) := by decide +kernel
theorem dX1_places_65 : decode cX1_places 65 = .ok (.iconst 1, 1) := by decide +kernel
theorem dX1_places_66 : decode cX1_places 66 = .ok (.istore_n 1, 1) := by decide +kernel
theorem dX1_places_67 : decode cX1_places 67 = .ok (.iconst 0, 1) := by decide +kernel
theorem dX1_places_68 : decode cX1_places 68 = .ok (.istore_n 2, 1) := by decide +kernel
theorem dX1_places_69 : decode cX1_places 69 = .ok (.iload_n 2, 1) := by decide +kernel
theorem dX1_places_70 : decode cX1_places 70 = .ok (.aload_n 0, 1) := by decide +kernel
theorem dX1_places_71 : decode cX1_places 71 = .ok (.getfield 43, 3) := by decide +kernel
theorem dX1_places_74 : decode cX1_places 74 = .ok (.getfield 168, 3) := by decide +kernel
theorem dX1_places_77 : decode cX1_places 77 = .ok (.if_icmp .ge 86, 3) := by decide +kernel
theorem dX1_places_80 : decode cX1_places 80 = .ok (.iload_n 1, 1) := by decide +kernel
theorem dX1_places_81 : decode cX1_places 81 = .ok (.ifCond .eq 82, 3) := by decide +kernel
theorem dX1_places_84 : decode cX1_places 84 = .ok (.aload_n 0, 1) := by decide +kernel
theorem dX1_places_85 : decode cX1_places 85 = .ok (.getfield 43, 3) := by decide +kernel
theorem dX1_places_88 : decode cX1_places 88 = .ok (.getfield 177, 3) := by decide +kernel
theorem dX1_places_91 : decode cX1_places 91 = .ok (.iload_n 2, 1) := by decide +kernel
theorem dX1_places_92 : decode cX1_places 92 = .ok (.iaload, 1) := by decide +kernel
theorem dX1_places_93 : decode cX1_places 93 = .ok (.iconst (-1), 1) := by decide +kernel
theorem dX1_places_94 : decode cX1_places 94 = .ok (.if_icmp .ne 6, 3) := by decide +kernel
theorem dX1_places_97 : decode cX1_places 97 = .ok (.goto 60, 3) := by decide +kernel
theorem dX1_places_100 : decode cX1_places 100 = .ok (.aload_n 0, 1) := by decide +kernel
theorem dX1_places_101 : decode cX1_places 101 = .ok (.aload_n 0, 1) := by decide +kernel
theorem dX1_places_102 : decode cX1_places 102 = .ok (.getfield 43, 3) := by decide +kernel
theorem dX1_places_105 : decode cX1_places 105 = .ok (.getfield 189, 3) := by decide +kernel
theorem dX1_places_108 : decode cX1_places 108 = .ok (.iload_n 2, 1) := by decide +kernel
theorem dX1_places_109 : decode cX1_places 109 = .ok (.saload, 1) := by decide +kernel
theorem dX1_places_110 : decode cX1_places 110 = .ok (.invokevirtual 204, 3) := by decide +kernel
theorem dX1_places_113 : decode cX1_places 113 = .ok (.istore_n 3, 1) := by decide +kernel
theorem dX1_places_114 : decode cX1_places 114 = .ok (.iload_n 3, 1) := by decide +kernel
theorem dX1_places_115 : decode cX1_places 115 = .ok (.iconst (-1), 1) := by decide +kernel
theorem dX1_places_116 : decode cX1_places 116 = .ok (.if_icmp .eq 7, 3) := by decide +kernel
theorem dX1_places_119 : decode cX1_places 119 = .ok (.iconst 1, 1) := by decide +kernel
theorem dX1_places_120 : decode cX1_places 120 = .ok (.goto 4, 3) := by decide +kernel
theorem dX1_places_123 : decode cX1_places 123 = .ok (.iconst 0, 1) := by decide +kernel
theorem dX1_places_124 : decode cX1_places 124 = .ok (.istore_n 1, 1) := by decide +kernel
theorem dX1_places_125 : decode cX1_places 125 = .ok (.iload_n 1, 1) := by decide +kernel
theorem dX1_places_126 : decode cX1_places 126 = .ok (.ifCond .ne 6, 3) := by decide +kernel
theorem dX1_places_129 : decode cX1_places 129 = .ok (.goto 28, 3) := by decide +kernel
theorem dX1_places_132 : decode cX1_places 132 = .ok (.aload_n 0, 1) := by decide +kernel
theorem dX1_places_133 : decode cX1_places 133 = .ok (.getfield 43, 3) := by decide +kernel
theorem dX1_places_136 : decode cX1_places 136 = .ok (.getfield 197, 3) := by decide +kernel
theorem dX1_places_139 : decode cX1_places 139 = .ok (.iload_n 2, 1) := by decide +kernel
theorem dX1_places_140 : decode cX1_places 140 = .ok (.iload_n 3, 1) := by decide +kernel
theorem dX1_places_141 : decode cX1_places 141 = .ok (.i2c, 1) := by decide +kernel
theorem dX1_places_142 : decode cX1_places 142 = .ok (.castore, 1) := by decide +kernel
theorem dX1_places_143 : decode cX1_places 143 = .ok (.aload_n 0, 1) := by decide +kernel
theorem dX1_places_144 : decode cX1_places 144 = .ok (.iload_n 3, 1) := by decide +kernel
theorem dX1_places_145 : decode cX1_places 145 = .ok (.aload_n 0, 1) := by decide +kernel
theorem dX1_places_146 : decode cX1_places 146 = .ok (.getfield 43, 3) := by decide +kernel
theorem dX1_places_149 : decode cX1_places 149 = .ok (.getfield 189, 3) := by decide +kernel
theorem dX1_places_152 : decode cX1_places 152 = .ok (.iload_n 2, 1) := by decide +kernel
theorem dX1_places_153 : decode cX1_places 153 = .ok (.saload, 1) := by decide +kernel
theorem dX1_places_154 : decode cX1_places 154 = .ok (.invokevirtual 201, 3) := by decide +kernel
theorem dX1_places_157 : decode cX1_places 157 = .ok (.iinc 2 1, 3) := by decide +kernel
theorem dX1_places_160 : decode cX1_places 160 = .ok (.goto (-91), 3) := by decide +kernel
theorem dX1_places_163 : decode cX1_places 163 = .ok (.iload_n 1, 1) := by decide +kernel
theorem dX1_places_164 : decode cX1_places 164 = .ok (.ireturn, 1) := by decide +kernel
theorem dX1_takes_0 : decode cX1_takes 0 = .ok (.iload_n 1, 1) := by decide +kernel
theorem dX1_takes_1 : decode cX1_takes 1 = .ok (.istore_n 3, 1) := by decide +kernel
theorem dX1_takes_2 : decode cX1_takes 2 = .ok (.iload_n 3, 1) := by decide +kernel
theorem dX1_takes_3 : decode cX1_takes 3 = .ok (.iload_n 1, 1) := by decide +kernel
theorem dX1_takes_4 : decode cX1_takes 4 = .ok (.iload_n 2, 1) := by decide +kernel
theorem dX1_takes_5 : decode cX1_takes 5 = .ok (.iadd, 1) := by decide +kernel
theorem dX1_takes_6 : decode cX1_takes 6 = .ok (.if_icmp .ge 16, 3) := by decide +kernel
theorem dX1_takes_9 : decode cX1_takes 9 = .ok (.aload_n 0, 1) := by decide +kernel
theorem dX1_takes_10 : decode cX1_takes 10 = .ok (.getfield 58, 3) := by decide +kernel
theorem dX1_takes_13 : decode cX1_takes 13 = .ok (.iload_n 3, 1) := by decide +kernel
theorem dX1_takes_14 : decode cX1_takes 14 = .ok (.iconst 1, 1) := by decide +kernel
theorem dX1_takes_15 : decode cX1_takes 15 = .ok (.bastore, 1) := by decide +kernel
theorem dX1_takes_16 : decode cX1_takes 16 = .ok (.iinc 3 1, 3) := by decide +kernel
theorem dX1_takes_19 : decode cX1_takes 19 = .ok (.goto (-17), 3) := by decide +kernel
theorem dX1_takes_22 : decode cX1_takes 22 = .ok (.return_, 1) := by decide +kernel
theorem dX1_free_0 : decode cX1_free 0 = .ok (.iconst 0, 1) := by decide +kernel
theorem dX1_free_1 : decode cX1_free 1 = .ok (.istore_n 2, 1) := by decide +kernel
theorem dX1_free_2 : decode cX1_free 2 = .ok (.sipush 2435, 3) := by decide +kernel
theorem dX1_free_5 : decode cX1_free 5 = .ok (.istore_n 3, 1) := by decide +kernel
theorem dX1_free_6 : decode cX1_free 6 = .ok (.iload_n 3, 1) := by decide +kernel
theorem dX1_free_7 : decode cX1_free 7 = .ok (.sipush 4096, 3) := by decide +kernel
theorem dX1_free_10 : decode cX1_free 10 = .ok (.if_icmp .ge 37, 3) := by decide +kernel
theorem dX1_free_13 : decode cX1_free 13 = .ok (.aload_n 0, 1) := by decide +kernel
theorem dX1_free_14 : decode cX1_free 14 = .ok (.getfield 58, 3) := by decide +kernel
theorem dX1_free_17 : decode cX1_free 17 = .ok (.iload_n 3, 1) := by decide +kernel
theorem dX1_free_18 : decode cX1_free 18 = .ok (.baload, 1) := by decide +kernel
theorem dX1_free_19 : decode cX1_free 19 = .ok (.ifCond .eq 7, 3) := by decide +kernel
theorem dX1_free_22 : decode cX1_free 22 = .ok (.iconst 0, 1) := by decide +kernel
theorem dX1_free_23 : decode cX1_free 23 = .ok (.goto 6, 3) := by decide +kernel
theorem dX1_free_26 : decode cX1_free 26 = .ok (.iload_n 2, 1) := by decide +kernel
theorem dX1_free_27 : decode cX1_free 27 = .ok (.iconst 1, 1) := by decide +kernel
theorem dX1_free_28 : decode cX1_free 28 = .ok (.iadd, 1) := by decide +kernel
theorem dX1_free_29 : decode cX1_free 29 = .ok (.istore_n 2, 1) := by decide +kernel
theorem dX1_free_30 : decode cX1_free 30 = .ok (.iload_n 2, 1) := by decide +kernel
theorem dX1_free_31 : decode cX1_free 31 = .ok (.iload_n 1, 1) := by decide +kernel
theorem dX1_free_32 : decode cX1_free 32 = .ok (.if_icmp .ne 9, 3) := by decide +kernel
theorem dX1_free_35 : decode cX1_free 35 = .ok (.iload_n 3, 1) := by decide +kernel
theorem dX1_free_36 : decode cX1_free 36 = .ok (.iload_n 1, 1) := by decide +kernel
theorem dX1_free_37 : decode cX1_free 37 = .ok (.isub, 1) := by decide +kernel
theorem dX1_free_38 : decode cX1_free 38 = .ok (.iconst 1, 1) := by decide +kernel
theorem dX1_free_39 : decode cX1_free 39 = .ok (.iadd, 1) := by decide +kernel
theorem dX1_free_40 : decode cX1_free 40 = .ok (.ireturn, 1) := by decide +kernel
theorem dX1_free_41 : decode cX1_free 41 = .ok (.iinc 3 1, 3) := by decide +kernel
theorem dX1_free_44 : decode cX1_free 44 = .ok (.goto (-38), 3) := by decide +kernel
theorem dX1_free_47 : decode cX1_free 47 = .ok (.iconst (-1), 1) := by decide +kernel
theorem dX1_free_48 : decode cX1_free 48 = .ok (.ireturn, 1) := by decide +kernel
theorem dX1_turn_0 : decode cX1_turn 0 = .ok (.iconst 0, 1) := by decide +kernel
theorem dX1_turn_1 : decode cX1_turn 1 = .ok (.istore_n 2, 1) := by decide +kernel
theorem dX1_turn_2 : decode cX1_turn 2 = .ok (.iload_n 2, 1) := by decide +kernel
theorem dX1_turn_3 : decode cX1_turn 3 = .ok (.aload_n 0, 1) := by decide +kernel
theorem dX1_turn_4 : decode cX1_turn 4 = .ok (.getfield 43, 3) := by decide +kernel
theorem dX1_turn_7 : decode cX1_turn 7 = .ok (.getfield 168, 3) := by decide +kernel
theorem dX1_turn_10 : decode cX1_turn 10 = .ok (.if_icmp .ge 78, 3) := by decide +kernel
theorem dX1_turn_13 : decode cX1_turn 13 = .ok (.aload_n 0, 1) := by decide +kernel
theorem dX1_turn_14 : decode cX1_turn 14 = .ok (.getfield 43, 3) := by decide +kernel
theorem dX1_turn_17 : decode cX1_turn 17 = .ok (.getfield 177, 3) := by decide +kernel
theorem dX1_turn_20 : decode cX1_turn 20 = .ok (.iload_n 2, 1) := by decide +kernel
theorem dX1_turn_21 : decode cX1_turn 21 = .ok (.iaload, 1) := by decide +kernel
theorem dX1_turn_22 : decode cX1_turn 22 = .ok (.istore_n 3, 1) := by decide +kernel
theorem dX1_turn_23 : decode cX1_turn 23 = .ok (.iconst 0, 1) := by decide +kernel
theorem dX1_turn_24 : decode cX1_turn 24 = .ok (.istore 4, 2) := by decide +kernel
theorem dX1_turn_26 : decode cX1_turn 26 = .ok (.iload_n 3, 1) := by decide +kernel
theorem dX1_turn_27 : decode cX1_turn 27 = .ok (.iconst (-1), 1) := by decide +kernel
theorem dX1_turn_28 : decode cX1_turn 28 = .ok (.if_icmp .eq 54, 3) := by decide +kernel
theorem dX1_turn_31 : decode cX1_turn 31 = .ok (.iload 4, 2) := by decide +kernel
theorem dX1_turn_33 : decode cX1_turn 33 = .ok (.aload_n 0, 1) := by decide +kernel
theorem dX1_turn_34 : decode cX1_turn 34 = .ok (.getfield 43, 3) := by decide +kernel
theorem dX1_turn_37 : decode cX1_turn 37 = .ok (.getfield 189, 3) := by decide +kernel
theorem dX1_turn_40 : decode cX1_turn 40 = .ok (.iload_n 2, 1) := by decide +kernel
theorem dX1_turn_41 : decode cX1_turn 41 = .ok (.saload, 1) := by decide +kernel
theorem dX1_turn_42 : decode cX1_turn 42 = .ok (.if_icmp .ge 40, 3) := by decide +kernel
theorem dX1_turn_45 : decode cX1_turn 45 = .ok (.aload_n 0, 1) := by decide +kernel
theorem dX1_turn_46 : decode cX1_turn 46 = .ok (.getfield 12, 3) := by decide +kernel
theorem dX1_turn_49 : decode cX1_turn 49 = .ok (.aload_n 0, 1) := by decide +kernel
theorem dX1_turn_50 : decode cX1_turn 50 = .ok (.getfield 43, 3) := by decide +kernel
theorem dX1_turn_53 : decode cX1_turn 53 = .ok (.getfield 197, 3) := by decide +kernel
theorem dX1_turn_56 : decode cX1_turn 56 = .ok (.iload_n 2, 1) := by decide +kernel
theorem dX1_turn_57 : decode cX1_turn 57 = .ok (.caload, 1) := by decide +kernel
theorem dX1_turn_58 : decode cX1_turn 58 = .ok (.iload 4, 2) := by decide +kernel
theorem dX1_turn_60 : decode cX1_turn 60 = .ok (.iadd, 1) := by decide +kernel
theorem dX1_turn_61 : decode cX1_turn 61 = .ok (.aload_n 0, 1) := by decide +kernel
theorem dX1_turn_62 : decode cX1_turn 62 = .ok (.getfield 19, 3) := by decide +kernel
theorem dX1_turn_65 : decode cX1_turn 65 = .ok (.getfield 208, 3) := by decide +kernel
theorem dX1_turn_68 : decode cX1_turn 68 = .ok (.iload_n 3, 1) := by decide +kernel
theorem dX1_turn_69 : decode cX1_turn 69 = .ok (.iload 4, 2) := by decide +kernel
theorem dX1_turn_71 : decode cX1_turn 71 = .ok (.iadd, 1) := by decide +kernel
theorem dX1_turn_72 : decode cX1_turn 72 = .ok (.iaload, 1) := by decide +kernel
theorem dX1_turn_73 : decode cX1_turn 73 = .ok (.invokevirtual 156, 3) := by decide +kernel
theorem dX1_turn_76 : decode cX1_turn 76 = .ok (.iinc 4 1, 3) := by decide +kernel
theorem dX1_turn_79 : decode cX1_turn 79 = .ok (.goto (-53), 3) := by decide +kernel
theorem dX1_turn_82 : decode cX1_turn 82 = .ok (.iinc 2 1, 3) := by decide +kernel
theorem dX1_turn_85 : decode cX1_turn 85 = .ok (.goto (-83), 3) := by decide +kernel
theorem dX1_turn_88 : decode cX1_turn 88 = .ok (.iconst 1, 1) := by decide +kernel
theorem dX1_turn_89 : decode cX1_turn 89 = .ok (.iconst 1, 1) := by decide +kernel
theorem dX1_turn_90 : decode cX1_turn 90 = .ok (.aload_n 0, 1) := by decide +kernel
theorem dX1_turn_91 : decode cX1_turn 91 = .ok (.getfield 209, 3) := by decide +kernel
theorem dX1_turn_94 : decode cX1_turn 94 = .ok (.isub, 1) := by decide +kernel
theorem dX1_turn_95 : decode cX1_turn 95 = .ok (.sipush 961, 3) := by decide +kernel
theorem dX1_turn_98 : decode cX1_turn 98 = .ok (.imul, 1) := by decide +kernel
theorem dX1_turn_99 : decode cX1_turn 99 = .ok (.iadd, 1) := by decide +kernel
theorem dX1_turn_100 : decode cX1_turn 100 = .ok (.istore_n 2, 1) := by decide +kernel
theorem dX1_turn_101 : decode cX1_turn 101 = .ok (.aload_n 0, 1) := by decide +kernel
theorem dX1_turn_102 : decode cX1_turn 102 = .ok (.getfield 12, 3) := by decide +kernel
theorem dX1_turn_105 : decode cX1_turn 105 = .ok (.iload_n 2, 1) := by decide +kernel
theorem dX1_turn_106 : decode cX1_turn 106 = .ok (.aload_n 0, 1) := by decide +kernel
theorem dX1_turn_107 : decode cX1_turn 107 = .ok (.getfield 43, 3) := by decide +kernel
theorem dX1_turn_110 : decode cX1_turn 110 = .ok (.getfield 168, 3) := by decide +kernel
theorem dX1_turn_113 : decode cX1_turn 113 = .ok (.invokevirtual 156, 3) := by decide +kernel
theorem dX1_turn_116 : decode cX1_turn 116 = .ok (.iconst 0, 1) := by decide +kernel
theorem dX1_turn_117 : decode cX1_turn 117 = .ok (.istore_n 3, 1) := by decide +kernel
theorem dX1_turn_118 : decode cX1_turn 118 = .ok (.iload_n 3, 1) := by decide +kernel
theorem dX1_turn_119 : decode cX1_turn 119 = .ok (.aload_n 0, 1) := by decide +kernel
theorem dX1_turn_120 : decode cX1_turn 120 = .ok (.getfield 43, 3) := by decide +kernel
theorem dX1_turn_123 : decode cX1_turn 123 = .ok (.getfield 168, 3) := by decide +kernel
theorem dX1_turn_126 : decode cX1_turn 126 = .ok (.if_icmp .ge 22, 3) := by decide +kernel
theorem dX1_turn_129 : decode cX1_turn 129 = .ok (.aload_n 0, 1) := by decide +kernel
theorem dX1_turn_130 : decode cX1_turn 130 = .ok (.iload_n 2, 1) := by decide +kernel
theorem dX1_turn_131 : decode cX1_turn 131 = .ok (.iconst 1, 1) := by decide +kernel
theorem dX1_turn_132 : decode cX1_turn 132 = .ok (.iadd, 1) := by decide +kernel
theorem dX1_turn_133 : decode cX1_turn 133 = .ok (.bipush 10, 2) := by decide +kernel
theorem dX1_turn_135 : decode cX1_turn 135 = .ok (.iload_n 3, 1) := by decide +kernel
theorem dX1_turn_136 : decode cX1_turn 136 = .ok (.imul, 1) := by decide +kernel
theorem dX1_turn_137 : decode cX1_turn 137 = .ok (.iadd, 1) := by decide +kernel
theorem dX1_turn_138 : decode cX1_turn 138 = .ok (.iload_n 3, 1) := by decide +kernel
theorem dX1_turn_139 : decode cX1_turn 139 = .ok (.invokevirtual 212, 3) := by decide +kernel
theorem dX1_turn_142 : decode cX1_turn 142 = .ok (.iinc 3 1, 3) := by decide +kernel
theorem dX1_turn_145 : decode cX1_turn 145 = .ok (.goto (-27), 3) := by decide +kernel
theorem dX1_turn_148 : decode cX1_turn 148 = .ok (.aload_n 0, 1) := by decide +kernel
theorem dX1_turn_149 : decode cX1_turn 149 = .ok (.getfield 12, 3) := by decide +kernel
theorem dX1_turn_152 : decode cX1_turn 152 = .ok (.iconst 0, 1) := by decide +kernel
theorem dX1_turn_153 : decode cX1_turn 153 = .ok (.iconst 2, 1) := by decide +kernel
theorem dX1_turn_154 : decode cX1_turn 154 = .ok (.iload_n 1, 1) := by decide +kernel
theorem dX1_turn_155 : decode cX1_turn 155 = .ok (.imul, 1) := by decide +kernel
theorem dX1_turn_156 : decode cX1_turn 156 = .ok (.iconst 1, 1) := by decide +kernel
theorem dX1_turn_157 : decode cX1_turn 157 = .ok (.iadd, 1) := by decide +kernel
theorem dX1_turn_158 : decode cX1_turn 158 = .ok (.aload_n 0, 1) := by decide +kernel
theorem dX1_turn_159 : decode cX1_turn 159 = .ok (.getfield 209, 3) := by decide +kernel
theorem dX1_turn_162 : decode cX1_turn 162 = .ok (.isub, 1) := by decide +kernel
theorem dX1_turn_163 : decode cX1_turn 163 = .ok (.invokevirtual 156, 3) := by decide +kernel
theorem dX1_turn_166 : decode cX1_turn 166 = .ok (.aload_n 0, 1) := by decide +kernel
theorem dX1_turn_167 : decode cX1_turn 167 = .ok (.iload_n 1, 1) := by decide +kernel
theorem dX1_turn_168 : decode cX1_turn 168 = .ok (.putfield 160, 3) := by decide +kernel
theorem dX1_turn_171 : decode cX1_turn 171 = .ok (.aload_n 0, 1) := by decide +kernel
theorem dX1_turn_172 : decode cX1_turn 172 = .ok (.iconst 1, 1) := by decide +kernel
theorem dX1_turn_173 : decode cX1_turn 173 = .ok (.aload_n 0, 1) := by decide +kernel
theorem dX1_turn_174 : decode cX1_turn 174 = .ok (.getfield 209, 3) := by decide +kernel
theorem dX1_turn_177 : decode cX1_turn 177 = .ok (.isub, 1) := by decide +kernel
theorem dX1_turn_178 : decode cX1_turn 178 = .ok (.putfield 209, 3) := by decide +kernel
theorem dX1_turn_181 : decode cX1_turn 181 = .ok (.aload_n 0, 1) := by decide +kernel
