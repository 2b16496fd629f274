set_option maxRecDepth 100000
theorem dX1_turn_182 : decode cX1_turn 182 = .ok (.getfield 39, 3) := by decide +kernel
theorem dX1_turn_185 : decode cX1_turn 185 = .ok (.astore_n 3, 1) := by decide +kernel
theorem dX1_turn_186 : decode cX1_turn 186 = .ok (.aload_n 0, 1) := by decide +kernel
theorem dX1_turn_187 : decode cX1_turn 187 = .ok (.aload_n 0, 1) := by decide +kernel
theorem dX1_turn_188 : decode cX1_turn 188 = .ok (.getfield 43, 3) := by decide +kernel
theorem dX1_turn_191 : decode cX1_turn 191 = .ok (.putfield 39, 3) := by decide +kernel
theorem dX1_turn_194 : decode cX1_turn 194 = .ok (.aload_n 0, 1) := by decide +kernel
theorem dX1_turn_195 : decode cX1_turn 195 = .ok (.aload_n 3, 1) := by decide +kernel
theorem dX1_turn_196 : decode cX1_turn 196 = .ok (.putfield 43, 3) := by decide +kernel
theorem dX1_turn_199 : decode cX1_turn 199 = .ok (.aload_n 0, 1) := by decide +kernel
theorem dX1_turn_200 : decode cX1_turn 200 = .ok (.getfield 39, 3) := by decide +kernel
theorem dX1_turn_203 : decode cX1_turn 203 = .ok (.invokevirtual 104, 3) := by decide +kernel
theorem dX1_turn_206 : decode cX1_turn 206 = .ok (.aload_n 0, 1) := by decide +kernel
theorem dX1_turn_207 : decode cX1_turn 207 = .ok (.invokevirtual 107, 3) := by decide +kernel
theorem dX1_turn_210 : decode cX1_turn 210 = .ok (.return_, 1) := by decide +kernel
theorem dX1_entry_0 : decode cX1_entry 0 = .ok (.aload_n 0, 1) := by decide +kernel
theorem dX1_entry_1 : decode cX1_entry 1 = .ok (.getfield 43, 3) := by decide +kernel
theorem dX1_entry_4 : decode cX1_entry 4 = .ok (.getfield 122, 3) := by decide +kernel
theorem dX1_entry_7 : decode cX1_entry 7 = .ok (.astore_n 3, 1) := by decide +kernel
theorem dX1_entry_8 : decode cX1_entry 8 = .ok (.aload_n 0, 1) := by decide +kernel
theorem dX1_entry_9 : decode cX1_entry 9 = .ok (.getfield 12, 3) := by decide +kernel
theorem dX1_entry_12 : decode cX1_entry 12 = .ok (.iload_n 1, 1) := by decide +kernel
theorem dX1_entry_13 : decode cX1_entry 13 = .ok (.aload_n 0, 1) := by decide +kernel
theorem dX1_entry_14 : decode cX1_entry 14 = .ok (.getfield 43, 3) := by decide +kernel
theorem dX1_entry_17 : decode cX1_entry 17 = .ok (.getfield 215, 3) := by decide +kernel
theorem dX1_entry_20 : decode cX1_entry 20 = .ok (.iload_n 2, 1) := by decide +kernel
theorem dX1_entry_21 : decode cX1_entry 21 = .ok (.baload, 1) := by decide +kernel
theorem dX1_entry_22 : decode cX1_entry 22 = .ok (.invokevirtual 156, 3) := by decide +kernel
theorem dX1_entry_25 : decode cX1_entry 25 = .ok (.aload_n 0, 1) := by decide +kernel
theorem dX1_entry_26 : decode cX1_entry 26 = .ok (.getfield 12, 3) := by decide +kernel
theorem dX1_entry_29 : decode cX1_entry 29 = .ok (.iload_n 1, 1) := by decide +kernel
theorem dX1_entry_30 : decode cX1_entry 30 = .ok (.iconst 1, 1) := by decide +kernel
theorem dX1_entry_31 : decode cX1_entry 31 = .ok (.iadd, 1) := by decide +kernel
theorem dX1_entry_32 : decode cX1_entry 32 = .ok (.aload_n 3, 1) := by decide +kernel
theorem dX1_entry_33 : decode cX1_entry 33 = .ok (.getfield 219, 3) := by decide +kernel
theorem dX1_entry_36 : decode cX1_entry 36 = .ok (.iload_n 2, 1) := by decide +kernel
theorem dX1_entry_37 : decode cX1_entry 37 = .ok (.iaload, 1) := by decide +kernel
theorem dX1_entry_38 : decode cX1_entry 38 = .ok (.invokevirtual 156, 3) := by decide +kernel
theorem dX1_entry_41 : decode cX1_entry 41 = .ok (.aload_n 0, 1) := by decide +kernel
theorem dX1_entry_42 : decode cX1_entry 42 = .ok (.getfield 12, 3) := by decide +kernel
theorem dX1_entry_45 : decode cX1_entry 45 = .ok (.iload_n 1, 1) := by decide +kernel
theorem dX1_entry_46 : decode cX1_entry 46 = .ok (.iconst 2, 1) := by decide +kernel
theorem dX1_entry_47 : decode cX1_entry 47 = .ok (.iadd, 1) := by decide +kernel
theorem dX1_entry_48 : decode cX1_entry 48 = .ok (.aload_n 3, 1) := by decide +kernel
theorem dX1_entry_49 : decode cX1_entry 49 = .ok (.getfield 135, 3) := by decide +kernel
theorem dX1_entry_52 : decode cX1_entry 52 = .ok (.iload_n 2, 1) := by decide +kernel
theorem dX1_entry_53 : decode cX1_entry 53 = .ok (.iaload, 1) := by decide +kernel
theorem dX1_entry_54 : decode cX1_entry 54 = .ok (.invokevirtual 156, 3) := by decide +kernel
theorem dX1_entry_57 : decode cX1_entry 57 = .ok (.aload_n 0, 1) := by decide +kernel
theorem dX1_entry_58 : decode cX1_entry 58 = .ok (.getfield 12, 3) := by decide +kernel
theorem dX1_entry_61 : decode cX1_entry 61 = .ok (.iload_n 1, 1) := by decide +kernel
theorem dX1_entry_62 : decode cX1_entry 62 = .ok (.iconst 3, 1) := by decide +kernel
theorem dX1_entry_63 : decode cX1_entry 63 = .ok (.iadd, 1) := by decide +kernel
theorem dX1_entry_64 : decode cX1_entry 64 = .ok (.aload_n 3, 1) := by decide +kernel
theorem dX1_entry_65 : decode cX1_entry 65 = .ok (.getfield 222, 3) := by decide +kernel
theorem dX1_entry_68 : decode cX1_entry 68 = .ok (.iload_n 2, 1) := by decide +kernel
theorem dX1_entry_69 : decode cX1_entry 69 = .ok (.saload, 1) := by decide +kernel
theorem dX1_entry_70 : decode cX1_entry 70 = .ok (.invokevirtual 156, 3) := by decide +kernel
theorem dX1_entry_73 : decode cX1_entry 73 = .ok (.aload_n 0, 1) := by decide +kernel
theorem dX1_entry_74 : decode cX1_entry 74 = .ok (.getfield 12, 3) := by decide +kernel
theorem dX1_entry_77 : decode cX1_entry 77 = .ok (.iload_n 1, 1) := by decide +kernel
theorem dX1_entry_78 : decode cX1_entry 78 = .ok (.iconst 4, 1) := by decide +kernel
theorem dX1_entry_79 : decode cX1_entry 79 = .ok (.iadd, 1) := by decide +kernel
theorem dX1_entry_80 : decode cX1_entry 80 = .ok (.aload_n 3, 1) := by decide +kernel
theorem dX1_entry_81 : decode cX1_entry 81 = .ok (.getfield 225, 3) := by decide +kernel
theorem dX1_entry_84 : decode cX1_entry 84 = .ok (.iload_n 2, 1) := by decide +kernel
theorem dX1_entry_85 : decode cX1_entry 85 = .ok (.iaload, 1) := by decide +kernel
theorem dX1_entry_86 : decode cX1_entry 86 = .ok (.invokevirtual 156, 3) := by decide +kernel
theorem dX1_entry_89 : decode cX1_entry 89 = .ok (.aload_n 0, 1) := by decide +kernel
theorem dX1_entry_90 : decode cX1_entry 90 = .ok (.getfield 12, 3) := by decide +kernel
theorem dX1_entry_93 : decode cX1_entry 93 = .ok (.iload_n 1, 1) := by decide +kernel
theorem dX1_entry_94 : decode cX1_entry 94 = .ok (.iconst 5, 1) := by decide +kernel
theorem dX1_entry_95 : decode cX1_entry 95 = .ok (.iadd, 1) := by decide +kernel
theorem dX1_entry_96 : decode cX1_entry 96 = .ok (.aload_n 3, 1) := by decide +kernel
theorem dX1_entry_97 : decode cX1_entry 97 = .ok (.getfield 228, 3) := by decide +kernel
theorem dX1_entry_100 : decode cX1_entry 100 = .ok (.iload_n 2, 1) := by decide +kernel
theorem dX1_entry_101 : decode cX1_entry 101 = .ok (.iaload, 1) := by decide +kernel
theorem dX1_entry_102 : decode cX1_entry 102 = .ok (.invokevirtual 156, 3) := by decide +kernel
theorem dX1_entry_105 : decode cX1_entry 105 = .ok (.aload_n 0, 1) := by decide +kernel
theorem dX1_entry_106 : decode cX1_entry 106 = .ok (.getfield 12, 3) := by decide +kernel
theorem dX1_entry_109 : decode cX1_entry 109 = .ok (.iload_n 1, 1) := by decide +kernel
theorem dX1_entry_110 : decode cX1_entry 110 = .ok (.bipush 6, 2) := by decide +kernel
theorem dX1_entry_112 : decode cX1_entry 112 = .ok (.iadd, 1) := by decide +kernel
theorem dX1_entry_113 : decode cX1_entry 113 = .ok (.aload_n 3, 1) := by decide +kernel
theorem dX1_entry_114 : decode cX1_entry 114 = .ok (.getfield 231, 3) := by decide +kernel
theorem dX1_entry_117 : decode cX1_entry 117 = .ok (.iload_n 2, 1) := by decide +kernel
theorem dX1_entry_118 : decode cX1_entry 118 = .ok (.laload, 1) := by decide +kernel
theorem dX1_entry_119 : decode cX1_entry 119 = .ok (.bipush 32, 2) := by decide +kernel
theorem dX1_entry_121 : decode cX1_entry 121 = .ok (.lshr, 1) := by decide +kernel
theorem dX1_entry_122 : decode cX1_entry 122 = .ok (.l2i, 1) := by decide +kernel
theorem dX1_entry_123 : decode cX1_entry 123 = .ok (.invokevirtual 156, 3) := by decide +kernel
theorem dX1_entry_126 : decode cX1_entry 126 = .ok (.aload_n 0, 1) := by decide +kernel
theorem dX1_entry_127 : decode cX1_entry 127 = .ok (.getfield 12, 3) := by decide +kernel
theorem dX1_entry_130 : decode cX1_entry 130 = .ok (.iload_n 1, 1) := by decide +kernel
theorem dX1_entry_131 : decode cX1_entry 131 = .ok (.bipush 7, 2) := by decide +kernel
theorem dX1_entry_133 : decode cX1_entry 133 = .ok (.iadd, 1) := by decide +kernel
theorem dX1_entry_134 : decode cX1_entry 134 = .ok (.aload_n 3, 1) := by decide +kernel
theorem dX1_entry_135 : decode cX1_entry 135 = .ok (.getfield 231, 3) := by decide +kernel
theorem dX1_entry_138 : decode cX1_entry 138 = .ok (.iload_n 2, 1) := by decide +kernel
theorem dX1_entry_139 : decode cX1_entry 139 = .ok (.laload, 1) := by decide +kernel
theorem dX1_entry_140 : decode cX1_entry 140 = .ok (.l2i, 1) := by decide +kernel
theorem dX1_entry_141 : decode cX1_entry 141 = .ok (.invokevirtual 156, 3) := by decide +kernel
theorem dX1_entry_144 : decode cX1_entry 144 = .ok (.aload_n 0, 1) := by decide +kernel
theorem dX1_entry_145 : decode cX1_entry 145 = .ok (.getfield 12, 3) := by decide +kernel
theorem dX1_entry_148 : decode cX1_entry 148 = .ok (.iload_n 1, 1) := by decide +kernel
theorem dX1_entry_149 : decode cX1_entry 149 = .ok (.bipush 8, 2) := by decide +kernel
theorem dX1_entry_151 : decode cX1_entry 151 = .ok (.iadd, 1) := by decide +kernel
theorem dX1_entry_152 : decode cX1_entry 152 = .ok (.aload_n 0, 1) := by decide +kernel
theorem dX1_entry_153 : decode cX1_entry 153 = .ok (.getfield 43, 3) := by decide +kernel
theorem dX1_entry_156 : decode cX1_entry 156 = .ok (.getfield 197, 3) := by decide +kernel
theorem dX1_entry_159 : decode cX1_entry 159 = .ok (.iload_n 2, 1) := by decide +kernel
theorem dX1_entry_160 : decode cX1_entry 160 = .ok (.caload, 1) := by decide +kernel
theorem dX1_entry_161 : decode cX1_entry 161 = .ok (.invokevirtual 156, 3) := by decide +kernel
theorem dX1_entry_164 : decode cX1_entry 164 = .ok (.aload_n 0, 1) := by decide +kernel
theorem dX1_entry_165 : decode cX1_entry 165 = .ok (.getfield 12, 3) := by decide +kernel
theorem dX1_entry_168 : decode cX1_entry 168 = .ok (.iload_n 1, 1) := by decide +kernel
theorem dX1_entry_169 : decode cX1_entry 169 = .ok (.bipush 9, 2) := by decide +kernel
theorem dX1_entry_171 : decode cX1_entry 171 = .ok (.iadd, 1) := by decide +kernel
theorem dX1_entry_172 : decode cX1_entry 172 = .ok (.aload_n 0, 1) := by decide +kernel
theorem dX1_entry_173 : decode cX1_entry 173 = .ok (.getfield 43, 3) := by decide +kernel
theorem dX1_entry_176 : decode cX1_entry 176 = .ok (.getfield 189, 3) := by decide +kernel
theorem dX1_entry_179 : decode cX1_entry 179 = .ok (.iload_n 2, 1) := by decide +kernel
theorem dX1_entry_180 : decode cX1_entry 180 = .ok (.saload, 1) := by decide +kernel
theorem dX1_entry_181 : decode cX1_entry 181 = .ok (.invokevirtual 156, 3) := by decide +kernel
theorem dX1_entry_184 : decode cX1_entry 184 = .ok (.return_, 1) := by decide +kernel
theorem dX1_compact_0 : decode cX1_compact 0 = .ok (.aload_n 0, 1) := by decide +kernel
theorem dX1_compact_1 : decode cX1_compact 1 = .ok (.aconst_null, 1) := by decide +kernel
theorem dX1_compact_2 : decode cX1_compact 2 = .ok (.putfield 138, 3) := by decide +kernel
theorem dX1_compact_5 : decode cX1_compact 5 = .ok (.aload_n 0, 1) := by decide +kernel
theorem dX1_compact_6 : decode cX1_compact 6 = .ok (.getfield 12, 3) := by decide +kernel
theorem dX1_compact_9 : decode cX1_compact 9 = .ok (.getfield 141, 3) := by decide +kernel
theorem dX1_compact_12 : decode cX1_compact 12 = .ok (.ifCond .eq 6, 3) := by decide +kernel
theorem dX1_compact_15 : decode cX1_compact 15 = .ok (.bipush (-9), 2) := by decide +kernel
theorem dX1_compact_17 : decode cX1_compact 17 = .ok (.ireturn, 1) := by decide +kernel
theorem dX1_compact_18 : decode cX1_compact 18 = .ok (.aload_n 0, 1) := by decide +kernel
theorem dX1_compact_19 : decode cX1_compact 19 = .ok (.iload_n 1, 1) := by decide +kernel
theorem dX1_compact_20 : decode cX1_compact 20 = .ok (.invokevirtual 145, 3) := by decide +kernel
theorem dX1_compact_23 : decode cX1_compact 23 = .ok (.ifCond .ne 6, 3) := by decide +kernel
theorem dX1_compact_26 : decode cX1_compact 26 = .ok (.bipush (-2), 2) := by decide +kernel
theorem dX1_compact_28 : decode cX1_compact 28 = .ok (.ireturn, 1) := by decide +kernel
theorem dX1_compact_29 : decode cX1_compact 29 = .ok (.aload_n 0, 1) := by decide +kernel
theorem dX1_compact_30 : decode cX1_compact 30 = .ok (.invokevirtual 242, 3) := by decide +kernel
theorem dX1_compact_33 : decode cX1_compact 33 = .ok (.aload_n 0, 1) := by decide +kernel
theorem dX1_compact_34 : decode cX1_compact 34 = .ok (.getfield 39, 3) := by decide +kernel
theorem dX1_compact_37 : decode cX1_compact 37 = .ok (.getfield 116, 3) := by decide +kernel
theorem dX1_compact_40 : decode cX1_compact 40 = .ok (.iload_n 1, 1) := by decide +kernel
theorem dX1_compact_41 : decode cX1_compact 41 = .ok (.iconst 1, 1) := by decide +kernel
theorem dX1_compact_42 : decode cX1_compact 42 = .ok (.iadd, 1) := by decide +kernel
theorem dX1_compact_43 : decode cX1_compact 43 = .ok (.iaload, 1) := by decide +kernel
theorem dX1_compact_44 : decode cX1_compact 44 = .ok (.istore_n 2, 1) := by decide +kernel
theorem dX1_compact_45 : decode cX1_compact 45 = .ok (.iconst 0, 1) := by decide +kernel
theorem dX1_compact_46 : decode cX1_compact 46 = .ok (.istore_n 3, 1) := by decide +kernel
theorem dX1_compact_47 : decode cX1_compact 47 = .ok (.iconst 1, 1) := by decide +kernel
theorem dX1_compact_48 : decode cX1_compact 48 = .ok (.istore 4, 2) := by decide +kernel
theorem dX1_compact_50 : decode cX1_compact 50 = .ok (.iload_n 3, 1) := by decide +kernel
theorem dX1_compact_51 : decode cX1_compact 51 = .ok (.aload_n 0, 1) := by decide +kernel
theorem dX1_compact_52 : decode cX1_compact 52 = .ok (.getfield 39, 3) := by decide +kernel
theorem dX1_compact_55 : decode cX1_compact 55 = .ok (.getfield 168, 3) := by decide +kernel
theorem dX1_compact_58 : decode cX1_compact 58 = .ok (.if_icmp .ge 80, 3) := by decide +kernel
theorem dX1_compact_61 : decode cX1_compact 61 = .ok (.iload 4, 2) := by decide +kernel
theorem dX1_compact_63 : decode cX1_compact 63 = .ok (.ifCond .eq 75, 3) := by decide +kernel
theorem dX1_compact_66 : decode cX1_compact 66 = .ok (.aload_n 0, 1) := by decide +kernel
theorem dX1_compact_67 : decode cX1_compact 67 = .ok (.getfield 39, 3) := by decide +kernel
theorem dX1_compact_70 : decode cX1_compact 70 = .ok (.getfield 215, 3) := by decide +kernel
theorem dX1_compact_73 : decode cX1_compact 73 = .ok (.iload_n 3, 1) := by decide +kernel
theorem dX1_compact_74 : decode cX1_compact 74 = .ok (.baload, 1) := by decide +kernel
theorem dX1_compact_75 : decode cX1_compact 75 = .ok (.iload_n 1, 1) := by decide +kernel
theorem dX1_compact_76 : decode cX1_compact 76 = .ok (.if_icmp .ne 12, 3) := by decide +kernel
theorem dX1_compact_79 : decode cX1_compact 79 = .ok (.aload_n 0, 1) := by decide +kernel
theorem dX1_compact_80 : decode cX1_compact 80 = .ok (.iload_n 3, 1) := by decide +kernel
theorem dX1_compact_81 : decode cX1_compact 81 = .ok (.iload_n 2, 1) := by decide +kernel
theorem dX1_compact_82 : decode cX1_compact 82 = .ok (.invokevirtual 273, 3) := by decide +kernel
theorem dX1_compact_85 : decode cX1_compact 85 = .ok (.goto 6, 3) := by decide +kernel
theorem dX1_compact_88 : decode cX1_compact 88 = .ok (.iload_n 3, 1) := by decide +kernel
theorem dX1_compact_89 : decode cX1_compact 89 = .ok (.iconst 1, 1) := by decide +kernel
theorem dX1_compact_90 : decode cX1_compact 90 = .ok (.iadd, 1) := by decide +kernel
theorem dX1_compact_91 : decode cX1_compact 91 = .ok (.istore 5, 2) := by decide +kernel
theorem dX1_compact_93 : decode cX1_compact 93 = .ok (.iload 5, 2) := by decide +kernel
theorem dX1_compact_95 : decode cX1_compact 95 = .ok (.iload_n 3, 1) := by decide +kernel
theorem dX1_compact_96 : decode cX1_compact 96 = .ok (.iconst 1, 1) := by decide +kernel
theorem dX1_compact_97 : decode cX1_compact 97 = .ok (.iadd, 1) := by decide +kernel
theorem dX1_compact_98 : decode cX1_compact 98 = .ok (.if_icmp .ne 20, 3) := by decide +kernel
theorem dX1_compact_101 : decode cX1_compact 101 = .ok (.aload_n 0, 1) := by decide +kernel
theorem dX1_compact_102 : decode cX1_compact 102 = .ok (.getfield 43, 3) := by decide +kernel
theorem dX1_compact_105 : decode cX1_compact 105 = .ok (.aload_n 0, 1) := by decide +kernel
theorem dX1_compact_106 : decode cX1_compact 106 = .ok (.getfield 39, 3) := by decide +kernel
theorem dX1_compact_109 : decode cX1_compact 109 = .ok (.iload_n 3, 1) := by decide +kernel
theorem dX1_compact_110 : decode cX1_compact 110 = .ok (.invokevirtual 245, 3) := by decide +kernel
theorem dX1_compact_113 : decode cX1_compact 113 = .ok (.istore 4, 2) := by decide +kernel
theorem dX1_compact_115 : decode cX1_compact 115 = .ok (.goto 17, 3) := by decide +kernel
theorem dX1_compact_118 : decode cX1_compact 118 = .ok (.aload_n 0, 1) := by decide +kernel
theorem dX1_compact_119 : decode cX1_compact 119 = .ok (.iload_n 1, 1) := by decide +kernel
theorem dX1_compact_120 : decode cX1_compact 120 = .ok (.invokevirtual 249, 3) := by decide +kernel
theorem dX1_compact_123 : decode cX1_compact 123 = .ok (.istore 4, 2) := by decide +kernel
theorem dX1_compact_125 : decode cX1_compact 125 = .ok (.aload_n 0, 1) := by decide +kernel
theorem dX1_compact_126 : decode cX1_compact 126 = .ok (.iload_n 3, 1) := by decide +kernel
theorem dX1_compact_127 : decode cX1_compact 127 = .ok (.iload 5, 2) := by decide +kernel
theorem dX1_compact_129 : decode cX1_compact 129 = .ok (.invokevirtual 276, 3) := by decide +kernel
theorem dX1_compact_132 : decode cX1_compact 132 = .ok (.iload 5, 2) := by decide +kernel
theorem dX1_compact_134 : decode cX1_compact 134 = .ok (.istore_n 3, 1) := by decide +kernel
theorem dX1_compact_135 : decode cX1_compact 135 = .ok (.goto (-85), 3) := by decide +kernel
theorem dX1_compact_138 : decode cX1_compact 138 = .ok (.aload_n 0, 1) := by decide +kernel
theorem dX1_compact_139 : decode cX1_compact 139 = .ok (.getfield 39, 3) := by decide +kernel
theorem dX1_compact_142 : decode cX1_compact 142 = .ok (.getfield 168, 3) := by decide +kernel
theorem dX1_compact_145 : decode cX1_compact 145 = .ok (.aload_n 0, 1) := by decide +kernel
theorem dX1_compact_146 : decode cX1_compact 146 = .ok (.getfield 43, 3) := by decide +kernel
theorem dX1_compact_149 : decode cX1_compact 149 = .ok (.getfield 168, 3) := by decide +kernel
theorem dX1_compact_152 : decode cX1_compact 152 = .ok (.isub, 1) := by decide +kernel
theorem dX1_compact_153 : decode cX1_compact 153 = .ok (.istore 5, 2) := by decide +kernel
theorem dX1_compact_155 : decode cX1_compact 155 = .ok (.iload 5, 2) := by decide +kernel
theorem dX1_compact_157 : decode cX1_compact 157 = .ok (.ifCond .ne 7, 3) := by decide +kernel
theorem dX1_compact_160 : decode cX1_compact 160 = .ok (.iconst 0, 1) := by decide +kernel
theorem dX1_compact_161 : decode cX1_compact 161 = .ok (.goto 13, 3) := by decide +kernel
theorem dX1_compact_164 : decode cX1_compact 164 = .ok (.aload_n 0, 1) := by decide +kernel
theorem dX1_compact_165 : decode cX1_compact 165 = .ok (.aload_n 0, 1) := by decide +kernel
theorem dX1_compact_166 : decode cX1_compact 166 = .ok (.getfield 160, 3) := by decide +kernel
theorem dX1_compact_169 : decode cX1_compact 169 = .ok (.iload 5, 2) := by decide +kernel
theorem dX1_compact_171 : decode cX1_compact 171 = .ok (.invokevirtual 259, 3) := by decide +kernel
theorem dX1_compact_174 : decode cX1_compact 174 = .ok (.ireturn, 1) := by decide +kernel
theorem dX1_reach_0 : decode cX1_reach 0 = .ok (.aload_n 0, 1) := by decide +kernel
theorem dX1_reach_1 : decode cX1_reach 1 = .ok (.getfield 39, 3) := by decide +kernel
theorem dX1_reach_4 : decode cX1_reach 4 = .ok (.getfield 122, 3) := by decide +kernel
theorem dX1_reach_7 : decode cX1_reach 7 = .ok (.getfield 222, 3) := by decide +kernel
theorem dX1_reach_10 : decode cX1_reach 10 = .ok (.iload_n 1, 1) := by decide +kernel
theorem dX1_reach_11 : decode cX1_reach 11 = .ok (.saload, 1) := by decide +kernel
theorem dX1_reach_12 : decode cX1_reach 12 = .ok (.istore_n 3, 1) := by decide +kernel
theorem dX1_reach_13 : decode cX1_reach 13 = .ok (.iload_n 1, 1) := by decide +kernel
theorem dX1_reach_14 : decode cX1_reach 14 = .ok (.iconst 1, 1) := by decide +kernel
theorem dX1_reach_15 : decode cX1_reach 15 = .ok (.iadd, 1) := by decide +kernel
theorem dX1_reach_16 : decode cX1_reach 16 = .ok (.istore 4, 2) := by decide +kernel
theorem dX1_reach_18 : decode cX1_reach 18 = .ok (.iload 4, 2) := by decide +kernel
theorem dX1_reach_20 : decode cX1_reach 20 = .ok (.iload_n 2, 1) := by decide +kernel
theorem dX1_reach_21 : decode cX1_reach 21 = .ok (.if_icmp .ge 47, 3) := by decide +kernel
theorem dX1_reach_24 : decode cX1_reach 24 = .ok (.iload_n 3, 1) := by decide +kernel
theorem dX1_reach_25 : decode cX1_reach 25 = .ok (.aload_n 0, 1) := by decide +kernel
theorem dX1_reach_26 : decode cX1_reach 26 = .ok (.getfield 39, 3) := by decide +kernel
theorem dX1_reach_29 : decode cX1_reach 29 = .ok (.getfield 122, 3) := by decide +kernel
theorem dX1_reach_32 : decode cX1_reach 32 = .ok (.getfield 222, 3) := by decide +kernel
theorem dX1_reach_35 : decode cX1_reach 35 = .ok (.iload 4, 2) := by decide +kernel
theorem dX1_reach_37 : decode cX1_reach 37 = .ok (.saload, 1) := by decide +kernel
theorem dX1_reach_38 : decode cX1_reach 38 = .ok (.iadd, 1) := by decide +kernel
theorem dX1_reach_39 : decode cX1_reach 39 = .ok (.aload_n 0, 1) := by decide +kernel
theorem dX1_reach_40 : decode cX1_reach 40 = .ok (.getfield 91, 3) := by decide +kernel
theorem dX1_reach_43 : decode cX1_reach 43 = .ok (.if_icmp .gt 25, 3) := by decide +kernel
theorem dX1_reach_46 : decode cX1_reach 46 = .ok (.iload_n 3, 1) := by decide +kernel
theorem dX1_reach_47 : decode cX1_reach 47 = .ok (.aload_n 0, 1) := by decide +kernel
theorem dX1_reach_48 : decode cX1_reach 48 = .ok (.getfield 39, 3) := by decide +kernel
theorem dX1_reach_51 : decode cX1_reach 51 = .ok (.getfield 122, 3) := by decide +kernel
theorem dX1_reach_54 : decode cX1_reach 54 = .ok (.getfield 222, 3) := by decide +kernel
theorem dX1_reach_57 : decode cX1_reach 57 = .ok (.iload 4, 2) := by decide +kernel
theorem dX1_reach_59 : decode cX1_reach 59 = .ok (.saload, 1) := by decide +kernel
theorem dX1_reach_60 : decode cX1_reach 60 = .ok (.iadd, 1) := by decide +kernel
theorem dX1_reach_61 : decode cX1_reach 61 = .ok (.istore_n 3, 1) := by decide +kernel
theorem dX1_reach_62 : decode cX1_reach 62 = .ok (.iinc 4 1, 3) := by decide +kernel
theorem dX1_reach_65 : decode cX1_reach 65 = .ok (.goto (-47), 3) := by decide +kernel
theorem dX1_reach_68 : decode cX1_reach 68 = .ok (.iload 4, 2) := by decide +kernel
theorem dX1_reach_70 : decode cX1_reach 70 = .ok (.ireturn, 1) := by decide +kernel
theorem dX1_merges_0 : decode cX1_merges 0 = .ok (.iload_n 1, 1) := by decide +kernel
theorem dX1_merges_1 : decode cX1_merges 1 = .ok (.istore_n 3, 1) := by decide +kernel
theorem dX1_merges_2 : decode cX1_merges 2 = .ok (.iload_n 3, 1) := by decide +kernel
theorem dX1_merges_3 : decode cX1_merges 3 = .ok (.iload_n 2, 1) := by decide +kernel
theorem dX1_merges_4 : decode cX1_merges 4 = .ok (.if_icmp .ge 68, 3) := by decide +kernel
theorem dX1_merges_7 : decode cX1_merges 7 = .ok (.aload_n 0, 1) := by decide +kernel
theorem dX1_merges_8 : decode cX1_merges 8 = .ok (.getfield 32, 3) := by decide +kernel
theorem dX1_merges_11 : decode cX1_merges 11 = .ok (.aload_n 0, 1) := by decide +kernel
theorem dX1_merges_12 : decode cX1_merges 12 = .ok (.getfield 39, 3) := by decide +kernel
theorem dX1_merges_15 : decode cX1_merges 15 = .ok (.getfield 197, 3) := by decide +kernel
theorem dX1_merges_18 : decode cX1_merges 18 = .ok (.iload_n 3, 1) := by decide +kernel
theorem dX1_merges_19 : decode cX1_merges 19 = .ok (.caload, 1) := by decide +kernel
theorem dX1_merges_20 : decode cX1_merges 20 = .ok (.aload_n 0, 1) := by decide +kernel
theorem dX1_merges_21 : decode cX1_merges 21 = .ok (.getfield 39, 3) := by decide +kernel
theorem dX1_merges_24 : decode cX1_merges 24 = .ok (.getfield 122, 3) := by decide +kernel
theorem dX1_merges_27 : decode cX1_merges 27 = .ok (.getfield 222, 3) := by decide +kernel
theorem dX1_merges_30 : decode cX1_merges 30 = .ok (.iload_n 3, 1) := by decide +kernel
theorem dX1_merges_31 : decode cX1_merges 31 = .ok (.saload, 1) := by decide +kernel
theorem dX1_merges_32 : decode cX1_merges 32 = .ok (.invokevirtual 262, 3) := by decide +kernel
theorem dX1_merges_35 : decode cX1_merges 35 = .ok (.aload_n 0, 1) := by decide +kernel
theorem dX1_merges_36 : decode cX1_merges 36 = .ok (.getfield 32, 3) := by decide +kernel
theorem dX1_merges_39 : decode cX1_merges 39 = .ok (.invokevirtual 264, 3) := by decide +kernel
theorem dX1_merges_42 : decode cX1_merges 42 = .ok (.ifCond .eq 24, 3) := by decide +kernel
theorem dX1_merges_45 : decode cX1_merges 45 = .ok (.aload_n 0, 1) := by decide +kernel
theorem dX1_merges_46 : decode cX1_merges 46 = .ok (.aload_n 0, 1) := by decide +kernel
theorem dX1_merges_47 : decode cX1_merges 47 = .ok (.getfield 32, 3) := by decide +kernel
theorem dX1_merges_50 : decode cX1_merges 50 = .ok (.getfield 267, 3) := by decide +kernel
theorem dX1_merges_53 : decode cX1_merges 53 = .ok (.aload_n 0, 1) := by decide +kernel
theorem dX1_merges_54 : decode cX1_merges 54 = .ok (.getfield 32, 3) := by decide +kernel
theorem dX1_merges_57 : decode cX1_merges 57 = .ok (.getfield 270, 3) := by decide +kernel
theorem dX1_merges_60 : decode cX1_merges 60 = .ok (.invokevirtual 253, 3) := by decide +kernel
theorem dX1_merges_63 : decode cX1_merges 63 = .ok (.goto (-28), 3) := by decide +kernel
theorem dX1_merges_66 : decode cX1_merges 66 = .ok (.iinc 3 1, 3) := by decide +kernel
theorem dX1_merges_69 : decode cX1_merges 69 = .ok (.goto (-67), 3) := by decide +kernel
theorem dX1_merges_72 : decode cX1_merges 72 = .ok (.aload_n 0, 1) := by decide +kernel
theorem dX1_merges_73 : decode cX1_merges 73 = .ok (.invokevirtual 256, 3) := by decide +kernel
theorem dX1_merges_76 : decode cX1_merges 76 = .ok (.return_, 1) := by decide +kernel
theorem dX1_expire_0 : decode cX1_expire 0 = .ok (.aload_n 0, 1) := by decide +kernel
theorem dX1_expire_1 : decode cX1_expire 1 = .ok (.aconst_null, 1) := by decide +kernel
theorem dX1_expire_2 : decode cX1_expire 2 = .ok (.putfield 138, 3) := by decide +kernel
theorem dX1_expire_5 : decode cX1_expire 5 = .ok (.aload_n 0, 1) := by decide +kernel
theorem dX1_expire_6 : decode cX1_expire 6 = .ok (.getfield 12, 3) := by decide +kernel
theorem dX1_expire_9 : decode cX1_expire 9 = .ok (.getfield 141, 3) := by decide +kernel
theorem dX1_expire_12 : decode cX1_expire 12 = .ok (.ifCond .eq 6, 3) := by decide +kernel
theorem dX1_expire_15 : decode cX1_expire 15 = .ok (.bipush (-9), 2) := by decide +kernel
theorem dX1_expire_17 : decode cX1_expire 17 = .ok (.ireturn, 1) := by decide +kernel
theorem dX1_expire_18 : decode cX1_expire 18 = .ok (.aload_n 0, 1) := by decide +kernel
theorem dX1_expire_19 : decode cX1_expire 19 = .ok (.invokevirtual 242, 3) := by decide +kernel
theorem dX1_expire_22 : decode cX1_expire 22 = .ok (.iconst 0, 1) := by decide +kernel
theorem dX1_expire_23 : decode cX1_expire 23 = .ok (.istore_n 2, 1) := by decide +kernel
theorem dX1_expire_24 : decode cX1_expire 24 = .ok (.iconst 0, 1) := by decide +kernel
theorem dX1_expire_25 : decode cX1_expire 25 = .ok (.istore_n 3, 1) := by decide +kernel
theorem dX1_expire_26 : decode cX1_expire 26 = .ok (.iload_n 3, 1) := by decide +kernel
theorem dX1_expire_27 : decode cX1_expire 27 = .ok (.aload_n 0, 1) := by decide +kernel
theorem dX1_expire_28 : decode cX1_expire 28 = .ok (.getfield 39, 3) := by decide +kernel
theorem dX1_expire_31 : decode cX1_expire 31 = .ok (.getfield 168, 3) := by decide +kernel
theorem dX1_expire_34 : decode cX1_expire 34 = .ok (.if_icmp .ge 61, 3) := by decide +kernel
theorem dX1_expire_37 : decode cX1_expire 37 = .ok (.aload_n 0, 1) := by decide +kernel
theorem dX1_expire_38 : decode cX1_expire 38 = .ok (.getfield 39, 3) := by decide +kernel
theorem dX1_expire_41 : decode cX1_expire 41 = .ok (.getfield 122, 3) := by decide +kernel
theorem dX1_expire_44 : decode cX1_expire 44 = .ok (.getfield 135, 3) := by decide +kernel
theorem dX1_expire_47 : decode cX1_expire 47 = .ok (.iload_n 3, 1) := by decide +kernel
theorem dX1_expire_48 : decode cX1_expire 48 = .ok (.iaload, 1) := by decide +kernel
theorem dX1_expire_49 : decode cX1_expire 49 = .ok (.iload_n 1, 1) := by decide +kernel
theorem dX1_expire_50 : decode cX1_expire 50 = .ok (.if_icmp .ge 21, 3) := by decide +kernel
theorem dX1_expire_53 : decode cX1_expire 53 = .ok (.iload_n 2, 1) := by decide +kernel
theorem dX1_expire_54 : decode cX1_expire 54 = .ok (.aload_n 0, 1) := by decide +kernel
theorem dX1_expire_55 : decode cX1_expire 55 = .ok (.getfield 39, 3) := by decide +kernel
theorem dX1_expire_58 : decode cX1_expire 58 = .ok (.getfield 122, 3) := by decide +kernel
theorem dX1_expire_61 : decode cX1_expire 61 = .ok (.getfield 222, 3) := by decide +kernel
theorem dX1_expire_64 : decode cX1_expire 64 = .ok (.iload_n 3, 1) := by decide +kernel
theorem dX1_expire_65 : decode cX1_expire 65 = .ok (.saload, 1) := by decide +kernel
theorem dX1_expire_66 : decode cX1_expire 66 = .ok (.iadd, 1) := by decide +kernel
theorem dX1_expire_67 : decode cX1_expire 67 = .ok (.istore_n 2, 1) := by decide +kernel
theorem dX1_expire_68 : decode cX1_expire 68 = .ok (.goto 21, 3) := by decide +kernel
theorem dX1_expire_71 : decode cX1_expire 71 = .ok (.aload_n 0, 1) := by decide +kernel
theorem dX1_expire_72 : decode cX1_expire 72 = .ok (.getfield 43, 3) := by decide +kernel
theorem dX1_expire_75 : decode cX1_expire 75 = .ok (.aload_n 0, 1) := by decide +kernel
theorem dX1_expire_76 : decode cX1_expire 76 = .ok (.getfield 39, 3) := by decide +kernel
theorem dX1_expire_79 : decode cX1_expire 79 = .ok (.iload_n 3, 1) := by decide +kernel
theorem dX1_expire_80 : decode cX1_expire 80 = .ok (.invokevirtual 245, 3) := by decide +kernel
theorem dX1_expire_83 : decode cX1_expire 83 = .ok (.ifCond .ne 6, 3) := by decide +kernel
theorem dX1_expire_86 : decode cX1_expire 86 = .ok (.bipush (-3), 2) := by decide +kernel
theorem dX1_expire_88 : decode cX1_expire 88 = .ok (.ireturn, 1) := by decide +kernel
theorem dX1_expire_89 : decode cX1_expire 89 = .ok (.iinc 3 1, 3) := by decide +kernel
theorem dX1_expire_92 : decode cX1_expire 92 = .ok (.goto (-66), 3) := by decide +kernel
theorem dX1_expire_95 : decode cX1_expire 95 = .ok (.iload_n 2, 1) := by decide +kernel
theorem dX1_expire_96 : decode cX1_expire 96 = .ok (.ifCond .ne 7, 3) := by decide +kernel
theorem dX1_expire_99 : decode cX1_expire 99 = .ok (.iconst 0, 1) := by decide +kernel
theorem dX1_expire_100 : decode cX1_expire 100 = .ok (.goto 12, 3) := by decide +kernel
theorem dX1_expire_103 : decode cX1_expire 103 = .ok (.aload_n 0, 1) := by decide +kernel
theorem dX1_expire_104 : decode cX1_expire 104 = .ok (.aload_n 0, 1) := by decide +kernel
theorem dX1_expire_105 : decode cX1_expire 105 = .ok (.getfield 160, 3) := by decide +kernel
theorem dX1_expire_108 : decode cX1_expire 108 = .ok (.iload_n 2, 1) := by decide +kernel
theorem dX1_expire_109 : decode cX1_expire 109 = .ok (.invokevirtual 259, 3) := by decide +kernel
theorem dX1_expire_112 : decode cX1_expire 112 = .ok (.ireturn, 1) := by decide +kernel
theorem dX1_aggCount_0 : decode cX1_aggCount 0 = .ok (.aload_n 0, 1) := by decide +kernel
theorem dX1_aggCount_1 : decode cX1_aggCount 1 = .ok (.getfield 12, 3) := by decide +kernel
theorem dX1_aggCount_4 : decode cX1_aggCount 4 = .ok (.getfield 141, 3) := by decide +kernel
theorem dX1_aggCount_7 : decode cX1_aggCount 7 = .ok (.ifCond .eq 6, 3) := by decide +kernel
theorem dX1_aggCount_10 : decode cX1_aggCount 10 = .ok (.bipush (-9), 2) := by decide +kernel
theorem dX1_aggCount_12 : decode cX1_aggCount 12 = .ok (.ireturn, 1) := by decide +kernel
theorem dX1_aggCount_13 : decode cX1_aggCount 13 = .ok (.aload_n 0, 1) := by decide +kernel
theorem dX1_aggCount_14 : decode cX1_aggCount 14 = .ok (.iload_n 1, 1) := by decide +kernel
theorem dX1_aggCount_15 : decode cX1_aggCount 15 = .ok (.invokevirtual 145, 3) := by decide +kernel
theorem dX1_aggCount_18 : decode cX1_aggCount 18 = .ok (.ifCond .ne 6, 3) := by decide +kernel
theorem dX1_aggCount_21 : decode cX1_aggCount 21 = .ok (.bipush (-2), 2) := by decide +kernel
theorem dX1_aggCount_23 : decode cX1_aggCount 23 = .ok (.ireturn, 1) := by decide +kernel
theorem dX1_aggCount_24 : decode cX1_aggCount 24 = .ok (.aload_n 0, 1) := by decide +kernel
theorem dX1_aggCount_25 : decode cX1_aggCount 25 = .ok (.iload_n 1, 1) := by decide +kernel
theorem dX1_aggCount_26 : decode cX1_aggCount 26 = .ok (.iload_n 2, 1) := by decide +kernel
theorem dX1_aggCount_27 : decode cX1_aggCount 27 = .ok (.iload_n 3, 1) := by decide +kernel
theorem dX1_aggCount_28 : decode cX1_aggCount 28 = .ok (.invokevirtual 301, 3) := by decide +kernel
theorem dX1_aggCount_31 : decode cX1_aggCount 31 = .ok (.aload_n 0, 1) := by decide +kernel
theorem dX1_aggCount_32 : decode cX1_aggCount 32 = .ok (.getfield 74, 3) := by decide +kernel
theorem dX1_aggCount_35 : decode cX1_aggCount 35 = .ok (.getfield 304, 3) := by decide +kernel
theorem dX1_aggCount_38 : decode cX1_aggCount 38 = .ok (.ireturn, 1) := by decide +kernel
theorem dX1_asks_0 : decode cX1_asks 0 = .ok (.aload_n 0, 1) := by decide +kernel
theorem dX1_asks_1 : decode cX1_asks 1 = .ok (.getfield 74, 3) := by decide +kernel
theorem dX1_asks_4 : decode cX1_asks 4 = .ok (.invokevirtual 279, 3) := by decide +kernel
theorem dX1_asks_7 : decode cX1_asks 7 = .ok (.aload_n 0, 1) := by decide +kernel
theorem dX1_asks_8 : decode cX1_asks 8 = .ok (.iconst 0, 1) := by decide +kernel
theorem dX1_asks_9 : decode cX1_asks 9 = .ok (.putfield 280, 3) := by decide +kernel
theorem dX1_asks_12 : decode cX1_asks 12 = .ok (.aload_n 0, 1) := by decide +kernel
theorem dX1_asks_13 : decode cX1_asks 13 = .ok (.iconst 0, 1) := by decide +kernel
theorem dX1_asks_14 : decode cX1_asks 14 = .ok (.putfield 283, 3) := by decide +kernel
theorem dX1_asks_17 : decode cX1_asks 17 = .ok (.aload_n 0, 1) := by decide +kernel
theorem dX1_asks_18 : decode cX1_asks 18 = .ok (.getfield 55, 3) := by decide +kernel
theorem dX1_asks_21 : decode cX1_asks 21 = .ok (.iload_n 1, 1) := by decide +kernel
theorem dX1_asks_22 : decode cX1_asks 22 = .ok (.iaload, 1) := by decide +kernel
theorem dX1_asks_23 : decode cX1_asks 23 = .ok (.istore 4, 2) := by decide +kernel
theorem dX1_asks_25 : decode cX1_asks 25 = .ok (.iload 4, 2) := by decide +kernel
theorem dX1_asks_27 : decode cX1_asks 27 = .ok (.aload_n 0, 1) := by decide +kernel
theorem dX1_asks_28 : decode cX1_asks 28 = .ok (.getfield 55, 3) := by decide +kernel
theorem dX1_asks_31 : decode cX1_asks 31 = .ok (.iload_n 1, 1) := by decide +kernel
theorem dX1_asks_32 : decode cX1_asks 32 = .ok (.iconst 1, 1) := by decide +kernel
theorem dX1_asks_33 : decode cX1_asks 33 = .ok (.iadd, 1) := by decide +kernel
theorem dX1_asks_34 : decode cX1_asks 34 = .ok (.iaload, 1) := by decide +kernel
theorem dX1_asks_35 : decode cX1_asks 35 = .ok (.if_icmp .ge 82, 3) := by decide +kernel
theorem dX1_asks_38 : decode cX1_asks 38 = .ok (.aload_n 0, 1) := by decide +kernel
theorem dX1_asks_39 : decode cX1_asks 39 = .ok (.dup, 1) := by decide +kernel
theorem dX1_asks_40 : decode cX1_asks 40 = .ok (.getfield 280, 3) := by decide +kernel
theorem dX1_asks_43 : decode cX1_asks 43 = .ok (.iconst 1, 1) := by decide +kernel
theorem dX1_asks_44 : decode cX1_asks 44 = .ok (.iadd, 1) := by decide +kernel
theorem dX1_asks_45 : decode cX1_asks 45 = .ok (.putfield 280, 3) := by decide +kernel
theorem dX1_asks_48 : decode cX1_asks 48 = .ok (.aload_n 0, 1) := by decide +kernel
theorem dX1_asks_49 : decode cX1_asks 49 = .ok (.getfield 51, 3) := by decide +kernel
theorem dX1_asks_52 : decode cX1_asks 52 = .ok (.iload 4, 2) := by decide +kernel
theorem dX1_asks_54 : decode cX1_asks 54 = .ok (.iload_n 2, 1) := by decide +kernel
theorem dX1_asks_55 : decode cX1_asks 55 = .ok (.iload_n 3, 1) := by decide +kernel
theorem dX1_asks_56 : decode cX1_asks 56 = .ok (.invokevirtual 286, 3) := by decide +kernel
theorem dX1_asks_59 : decode cX1_asks 59 = .ok (.ifCond .eq 6, 3) := by decide +kernel
theorem dX1_asks_62 : decode cX1_asks 62 = .ok (.goto 49, 3) := by decide +kernel
theorem dX1_asks_65 : decode cX1_asks 65 = .ok (.aload_n 0, 1) := by decide +kernel
theorem dX1_asks_66 : decode cX1_asks 66 = .ok (.getfield 51, 3) := by decide +kernel
theorem dX1_asks_69 : decode cX1_asks 69 = .ok (.iload 4, 2) := by decide +kernel
theorem dX1_asks_71 : decode cX1_asks 71 = .ok (.iload_n 2, 1) := by decide +kernel
theorem dX1_asks_72 : decode cX1_asks 72 = .ok (.iload_n 3, 1) := by decide +kernel
theorem dX1_asks_73 : decode cX1_asks 73 = .ok (.invokevirtual 290, 3) := by decide +kernel
theorem dX1_asks_76 : decode cX1_asks 76 = .ok (.ifCond .eq 19, 3) := by decide +kernel
theorem dX1_asks_79 : decode cX1_asks 79 = .ok (.aload_n 0, 1) := by decide +kernel
theorem dX1_asks_80 : decode cX1_asks 80 = .ok (.getfield 74, 3) := by decide +kernel
theorem dX1_asks_83 : decode cX1_asks 83 = .ok (.aload_n 0, 1) := by decide +kernel
theorem dX1_asks_84 : decode cX1_asks 84 = .ok (.getfield 51, 3) := by decide +kernel
theorem dX1_asks_87 : decode cX1_asks 87 = .ok (.iload 4, 2) := by decide +kernel
theorem dX1_asks_89 : decode cX1_asks 89 = .ok (.invokevirtual 293, 3) := by decide +kernel
theorem dX1_asks_92 : decode cX1_asks 92 = .ok (.goto 19, 3) := by decide +kernel
theorem dX1_asks_95 : decode cX1_asks 95 = .ok (.aload_n 0, 1) := by decide +kernel
theorem dX1_asks_96 : decode cX1_asks 96 = .ok (.iload_n 1, 1) := by decide +kernel
theorem dX1_asks_97 : decode cX1_asks 97 = .ok (.iload 4, 2) := by decide +kernel
theorem dX1_asks_99 : decode cX1_asks 99 = .ok (.aload_n 0, 1) := by decide +kernel
theorem dX1_asks_100 : decode cX1_asks 100 = .ok (.getfield 55, 3) := by decide +kernel
theorem dX1_asks_103 : decode cX1_asks 103 = .ok (.iload_n 1, 1) := by decide +kernel
theorem dX1_asks_104 : decode cX1_asks 104 = .ok (.iaload, 1) := by decide +kernel
theorem dX1_asks_105 : decode cX1_asks 105 = .ok (.isub, 1) := by decide +kernel
theorem dX1_asks_106 : decode cX1_asks 106 = .ok (.iload_n 2, 1) := by decide +kernel
theorem dX1_asks_107 : decode cX1_asks 107 = .ok (.iload_n 3, 1) := by decide +kernel
theorem dX1_asks_108 : decode cX1_asks 108 = .ok (.invokevirtual 296, 3) := by decide +kernel
theorem dX1_asks_111 : decode cX1_asks 111 = .ok (.iinc 4 1, 3) := by decide +kernel
theorem dX1_asks_114 : decode cX1_asks 114 = .ok (.goto (-89), 3) := by decide +kernel
theorem dX1_asks_117 : decode cX1_asks 117 = .ok (.aload_n 0, 1) := by decide +kernel
theorem dX1_asks_118 : decode cX1_asks 118 = .ok (.getfield 99, 3) := by decide +kernel
theorem dX1_asks_121 : decode cX1_asks 121 = .ok (.iload_n 1, 1) := by decide +kernel
theorem dX1_asks_122 : decode cX1_asks 122 = .ok (.aaload, 1) := by decide +kernel
theorem dX1_asks_123 : decode cX1_asks 123 = .ok (.astore 4, 2) := by decide +kernel
theorem dX1_asks_125 : decode cX1_asks 125 = .ok (.iconst 0, 1) := by decide +kernel
theorem dX1_asks_126 : decode cX1_asks 126 = .ok (.istore 5, 2) := by decide +kernel
theorem dX1_asks_128 : decode cX1_asks 128 = .ok (.iload 5, 2) := by decide +kernel
theorem dX1_asks_130 : decode cX1_asks 130 = .ok (.aload 4, 2) := by decide +kernel
theorem dX1_asks_132 : decode cX1_asks 132 = .ok (.getfield 129, 3) := by decide +kernel
theorem dX1_asks_135 : decode cX1_asks 135 = .ok (.if_icmp .ge 56, 3) := by decide +kernel
theorem dX1_asks_138 : decode cX1_asks 138 = .ok (.aload 4, 2) := by decide +kernel
theorem dX1_asks_140 : decode cX1_asks 140 = .ok (.getfield 132, 3) := by decide +kernel
theorem dX1_asks_143 : decode cX1_asks 143 = .ok (.iload 5, 2) := by decide +kernel
theorem dX1_asks_145 : decode cX1_asks 145 = .ok (.iaload, 1) := by decide +kernel
theorem dX1_asks_146 : decode cX1_asks 146 = .ok (.iload_n 2, 1) := by decide +kernel
theorem dX1_asks_147 : decode cX1_asks 147 = .ok (.if_icmp .lt 38, 3) := by decide +kernel
theorem dX1_asks_150 : decode cX1_asks 150 = .ok (.aload 4, 2) := by decide +kernel
theorem dX1_asks_152 : decode cX1_asks 152 = .ok (.getfield 132, 3) := by decide +kernel
theorem dX1_asks_155 : decode cX1_asks 155 = .ok (.iload 5, 2) := by decide +kernel
theorem dX1_asks_157 : decode cX1_asks 157 = .ok (.iaload, 1) := by decide +kernel
theorem dX1_asks_158 : decode cX1_asks 158 = .ok (.iload_n 3, 1) := by decide +kernel
theorem dX1_asks_159 : decode cX1_asks 159 = .ok (.if_icmp .gt 26, 3) := by decide +kernel
theorem dX1_asks_162 : decode cX1_asks 162 = .ok (.aload_n 0, 1) := by decide +kernel
theorem dX1_asks_163 : decode cX1_asks 163 = .ok (.getfield 74, 3) := by decide +kernel
theorem dX1_asks_166 : decode cX1_asks 166 = .ok (.aload 4, 2) := by decide +kernel
theorem dX1_asks_168 : decode cX1_asks 168 = .ok (.getfield 132, 3) := by decide +kernel
theorem dX1_asks_171 : decode cX1_asks 171 = .ok (.iload 5, 2) := by decide +kernel
theorem dX1_asks_173 : decode cX1_asks 173 = .ok (.iaload, 1) := by decide +kernel
theorem dX1_asks_174 : decode cX1_asks 174 = .ok (.aload 4, 2) := by decide +kernel
theorem dX1_asks_176 : decode cX1_asks 176 = .ok (.getfield 250, 3) := by decide +kernel
theorem dX1_asks_179 : decode cX1_asks 179 = .ok (.iload 5, 2) := by decide +kernel
theorem dX1_asks_181 : decode cX1_asks 181 = .ok (.iaload, 1) := by decide +kernel
theorem dX1_asks_182 : decode cX1_asks 182 = .ok (.invokevirtual 300, 3) := by decide +kernel
theorem dX1_asks_185 : decode cX1_asks 185 = .ok (.iinc 5 1, 3) := by decide +kernel
theorem dX1_asks_188 : decode cX1_asks 188 = .ok (.goto (-60), 3) := by decide +kernel
theorem dX1_asks_191 : decode cX1_asks 191 = .ok (.return_, 1) := by decide +kernel
theorem dX1_asksGroup_0 : decode cX1_asksGroup 0 = .ok (.aload_n 0, 1) := by decide +kernel
theorem dX1_asksGroup_1 : decode cX1_asksGroup 1 = .ok (.getfield 39, 3) := by decide +kernel
theorem dX1_asksGroup_4 : decode cX1_asksGroup 4 = .ok (.getfield 116, 3) := by decide +kernel
theorem dX1_asksGroup_7 : decode cX1_asksGroup 7 = .ok (.iload_n 1, 1) := by decide +kernel
theorem dX1_asksGroup_8 : decode cX1_asksGroup 8 = .ok (.iaload, 1) := by decide +kernel
theorem dX1_asksGroup_9 : decode cX1_asksGroup 9 = .ok (.iload_n 2, 1) := by decide +kernel
theorem dX1_asksGroup_10 : decode cX1_asksGroup 10 = .ok (.aload_n 0, 1) := by decide +kernel
theorem dX1_asksGroup_11 : decode cX1_asksGroup 11 = .ok (.getfield 94, 3) := by decide +kernel
theorem dX1_asksGroup_14 : decode cX1_asksGroup 14 = .ok (.imul, 1) := by decide +kernel
theorem dX1_asksGroup_15 : decode cX1_asksGroup 15 = .ok (.iadd, 1) := by decide +kernel
theorem dX1_asksGroup_16 : decode cX1_asksGroup 16 = .ok (.istore 5, 2) := by decide +kernel
theorem dX1_asksGroup_18 : decode cX1_asksGroup 18 = .ok (.iload 5, 2) := by decide +kernel
theorem dX1_asksGroup_20 : decode cX1_asksGroup 20 = .ok (.aload_n 0, 1) := by decide +kernel
theorem dX1_asksGroup_21 : decode cX1_asksGroup 21 = .ok (.getfield 94, 3) := by decide +kernel
theorem dX1_asksGroup_24 : decode cX1_asksGroup 24 = .ok (.iadd, 1) := by decide +kernel
theorem dX1_asksGroup_25 : decode cX1_asksGroup 25 = .ok (.aload_n 0, 1) := by decide +kernel
theorem dX1_asksGroup_26 : decode cX1_asksGroup 26 = .ok (.getfield 39, 3) := by decide +kernel
theorem dX1_asksGroup_29 : decode cX1_asksGroup 29 = .ok (.getfield 116, 3) := by decide +kernel
theorem dX1_asksGroup_32 : decode cX1_asksGroup 32 = .ok (.iload_n 1, 1) := by decide +kernel
theorem dX1_asksGroup_33 : decode cX1_asksGroup 33 = .ok (.iconst 1, 1) := by decide +kernel
theorem dX1_asksGroup_34 : decode cX1_asksGroup 34 = .ok (.iadd, 1) := by decide +kernel
theorem dX1_asksGroup_35 : decode cX1_asksGroup 35 = .ok (.iaload, 1) := by decide +kernel
theorem dX1_asksGroup_36 : decode cX1_asksGroup 36 = .ok (.invokestatic 84, 3) := by decide +kernel
theorem dX1_asksGroup_39 : decode cX1_asksGroup 39 = .ok (.istore 6, 2) := by decide +kernel
theorem dX1_asksGroup_41 : decode cX1_asksGroup 41 = .ok (.iload 5, 2) := by decide +kernel
theorem dX1_asksGroup_43 : decode cX1_asksGroup 43 = .ok (.iload 6, 2) := by decide +kernel
theorem dX1_asksGroup_45 : decode cX1_asksGroup 45 = .ok (.if_icmp .ge 174, 3) := by decide +kernel
theorem dX1_asksGroup_48 : decode cX1_asksGroup 48 = .ok (.aload_n 0, 1) := by decide +kernel
theorem dX1_asksGroup_49 : decode cX1_asksGroup 49 = .ok (.dup, 1) := by decide +kernel
theorem dX1_asksGroup_50 : decode cX1_asksGroup 50 = .ok (.getfield 280, 3) := by decide +kernel
theorem dX1_asksGroup_53 : decode cX1_asksGroup 53 = .ok (.iconst 1, 1) := by decide +kernel
theorem dX1_asksGroup_54 : decode cX1_asksGroup 54 = .ok (.iadd, 1) := by decide +kernel
theorem dX1_asksGroup_55 : decode cX1_asksGroup 55 = .ok (.putfield 280, 3) := by decide +kernel
theorem dX1_asksGroup_58 : decode cX1_asksGroup 58 = .ok (.aload_n 0, 1) := by decide +kernel
theorem dX1_asksGroup_59 : decode cX1_asksGroup 59 = .ok (.getfield 39, 3) := by decide +kernel
theorem dX1_asksGroup_62 : decode cX1_asksGroup 62 = .ok (.getfield 122, 3) := by decide +kernel
theorem dX1_asksGroup_65 : decode cX1_asksGroup 65 = .ok (.iload 5, 2) := by decide +kernel
theorem dX1_asksGroup_67 : decode cX1_asksGroup 67 = .ok (.iload_n 3, 1) := by decide +kernel
theorem dX1_asksGroup_68 : decode cX1_asksGroup 68 = .ok (.iload 4, 2) := by decide +kernel
theorem dX1_asksGroup_70 : decode cX1_asksGroup 70 = .ok (.invokevirtual 286, 3) := by decide +kernel
theorem dX1_asksGroup_73 : decode cX1_asksGroup 73 = .ok (.ifCond .eq 6, 3) := by decide +kernel
theorem dX1_asksGroup_76 : decode cX1_asksGroup 76 = .ok (.goto 137, 3) := by decide +kernel
theorem dX1_asksGroup_79 : decode cX1_asksGroup 79 = .ok (.aload_n 0, 1) := by decide +kernel
theorem dX1_asksGroup_80 : decode cX1_asksGroup 80 = .ok (.getfield 39, 3) := by decide +kernel
theorem dX1_asksGroup_83 : decode cX1_asksGroup 83 = .ok (.getfield 122, 3) := by decide +kernel
theorem dX1_asksGroup_86 : decode cX1_asksGroup 86 = .ok (.iload 5, 2) := by decide +kernel
theorem dX1_asksGroup_88 : decode cX1_asksGroup 88 = .ok (.iload_n 3, 1) := by decide +kernel
theorem dX1_asksGroup_89 : decode cX1_asksGroup 89 = .ok (.iload 4, 2) := by decide +kernel
theorem dX1_asksGroup_91 : decode cX1_asksGroup 91 = .ok (.invokevirtual 290, 3) := by decide +kernel
theorem dX1_asksGroup_94 : decode cX1_asksGroup 94 = .ok (.ifCond .eq 22, 3) := by decide +kernel
theorem dX1_asksGroup_97 : decode cX1_asksGroup 97 = .ok (.aload_n 0, 1) := by decide +kernel
theorem dX1_asksGroup_98 : decode cX1_asksGroup 98 = .ok (.getfield 74, 3) := by decide +kernel
theorem dX1_asksGroup_101 : decode cX1_asksGroup 101 = .ok (.aload_n 0, 1) := by decide +kernel
theorem dX1_asksGroup_102 : decode cX1_asksGroup 102 = .ok (.getfield 39, 3) := by decide +kernel
theorem dX1_asksGroup_105 : decode cX1_asksGroup 105 = .ok (.getfield 122, 3) := by decide +kernel
theorem dX1_asksGroup_108 : decode cX1_asksGroup 108 = .ok (.iload 5, 2) := by decide +kernel
theorem dX1_asksGroup_110 : decode cX1_asksGroup 110 = .ok (.invokevirtual 293, 3) := by decide +kernel
theorem dX1_asksGroup_113 : decode cX1_asksGroup 113 = .ok (.goto 100, 3) := by decide +kernel
theorem dX1_asksGroup_116 : decode cX1_asksGroup 116 = .ok (.aload_n 0, 1) := by decide +kernel
theorem dX1_asksGroup_117 : decode cX1_asksGroup 117 = .ok (.dup, 1) := by decide +kernel
theorem dX1_asksGroup_118 : decode cX1_asksGroup 118 = .ok (.getfield 283, 3) := by decide +kernel
theorem dX1_asksGroup_121 : decode cX1_asksGroup 121 = .ok (.iconst 1, 1) := by decide +kernel
theorem dX1_asksGroup_122 : decode cX1_asksGroup 122 = .ok (.iadd, 1) := by decide +kernel
theorem dX1_asksGroup_123 : decode cX1_asksGroup 123 = .ok (.putfield 283, 3) := by decide +kernel
theorem dX1_asksGroup_126 : decode cX1_asksGroup 126 = .ok (.aload_n 0, 1) := by decide +kernel
theorem dX1_asksGroup_127 : decode cX1_asksGroup 127 = .ok (.getfield 32, 3) := by decide +kernel
theorem dX1_asksGroup_130 : decode cX1_asksGroup 130 = .ok (.aload_n 0, 1) := by decide +kernel
theorem dX1_asksGroup_131 : decode cX1_asksGroup 131 = .ok (.getfield 39, 3) := by decide +kernel
theorem dX1_asksGroup_134 : decode cX1_asksGroup 134 = .ok (.getfield 197, 3) := by decide +kernel
theorem dX1_asksGroup_137 : decode cX1_asksGroup 137 = .ok (.iload 5, 2) := by decide +kernel
theorem dX1_asksGroup_139 : decode cX1_asksGroup 139 = .ok (.caload, 1) := by decide +kernel
theorem dX1_asksGroup_140 : decode cX1_asksGroup 140 = .ok (.aload_n 0, 1) := by decide +kernel
theorem dX1_asksGroup_141 : decode cX1_asksGroup 141 = .ok (.getfield 39, 3) := by decide +kernel
theorem dX1_asksGroup_144 : decode cX1_asksGroup 144 = .ok (.getfield 122, 3) := by decide +kernel
theorem dX1_asksGroup_147 : decode cX1_asksGroup 147 = .ok (.getfield 222, 3) := by decide +kernel
theorem dX1_asksGroup_150 : decode cX1_asksGroup 150 = .ok (.iload 5, 2) := by decide +kernel
theorem dX1_asksGroup_152 : decode cX1_asksGroup 152 = .ok (.saload, 1) := by decide +kernel
theorem dX1_asksGroup_153 : decode cX1_asksGroup 153 = .ok (.invokevirtual 262, 3) := by decide +kernel
theorem dX1_asksGroup_156 : decode cX1_asksGroup 156 = .ok (.aload_n 0, 1) := by decide +kernel
theorem dX1_asksGroup_157 : decode cX1_asksGroup 157 = .ok (.getfield 32, 3) := by decide +kernel
theorem dX1_asksGroup_160 : decode cX1_asksGroup 160 = .ok (.invokevirtual 264, 3) := by decide +kernel
theorem dX1_asksGroup_163 : decode cX1_asksGroup 163 = .ok (.ifCond .eq 50, 3) := by decide +kernel
theorem dX1_asksGroup_166 : decode cX1_asksGroup 166 = .ok (.aload_n 0, 1) := by decide +kernel
theorem dX1_asksGroup_167 : decode cX1_asksGroup 167 = .ok (.getfield 32, 3) := by decide +kernel
theorem dX1_asksGroup_170 : decode cX1_asksGroup 170 = .ok (.getfield 267, 3) := by decide +kernel
theorem dX1_asksGroup_173 : decode cX1_asksGroup 173 = .ok (.iload_n 3, 1) := by decide +kernel
theorem dX1_asksGroup_174 : decode cX1_asksGroup 174 = .ok (.if_icmp .lt (-18), 3) := by decide +kernel
theorem dX1_asksGroup_177 : decode cX1_asksGroup 177 = .ok (.aload_n 0, 1) := by decide +kernel
theorem dX1_asksGroup_178 : decode cX1_asksGroup 178 = .ok (.getfield 32, 3) := by decide +kernel
theorem dX1_asksGroup_181 : decode cX1_asksGroup 181 = .ok (.getfield 267, 3) := by decide +kernel
theorem dX1_asksGroup_184 : decode cX1_asksGroup 184 = .ok (.iload 4, 2) := by decide +kernel
theorem dX1_asksGroup_186 : decode cX1_asksGroup 186 = .ok (.if_icmp .gt (-30), 3) := by decide +kernel
theorem dX1_asksGroup_189 : decode cX1_asksGroup 189 = .ok (.aload_n 0, 1) := by decide +kernel
theorem dX1_asksGroup_190 : decode cX1_asksGroup 190 = .ok (.getfield 74, 3) := by decide +kernel
theorem dX1_asksGroup_193 : decode cX1_asksGroup 193 = .ok (.aload_n 0, 1) := by decide +kernel
theorem dX1_asksGroup_194 : decode cX1_asksGroup 194 = .ok (.getfield 32, 3) := by decide +kernel
theorem dX1_asksGroup_197 : decode cX1_asksGroup 197 = .ok (.getfield 267, 3) := by decide +kernel
theorem dX1_asksGroup_200 : decode cX1_asksGroup 200 = .ok (.aload_n 0, 1) := by decide +kernel
theorem dX1_asksGroup_201 : decode cX1_asksGroup 201 = .ok (.getfield 32, 3) := by decide +kernel
theorem dX1_asksGroup_204 : decode cX1_asksGroup 204 = .ok (.getfield 270, 3) := by decide +kernel
theorem dX1_asksGroup_207 : decode cX1_asksGroup 207 = .ok (.invokevirtual 300, 3) := by decide +kernel
theorem dX1_asksGroup_210 : decode cX1_asksGroup 210 = .ok (.goto (-54), 3) := by decide +kernel
theorem dX1_asksGroup_213 : decode cX1_asksGroup 213 = .ok (.iinc 5 1, 3) := by decide +kernel
theorem dX1_asksGroup_216 : decode cX1_asksGroup 216 = .ok (.goto (-175), 3) := by decide +kernel
theorem dX1_asksGroup_219 : decode cX1_asksGroup 219 = .ok (.return_, 1) := by decide +kernel
theorem dX1_seek_0 : decode cX1_seek 0 = .ok (.aload_n 0, 1) := by decide +kernel
theorem dX1_seek_1 : decode cX1_seek 1 = .ok (.aconst_null, 1) := by decide +kernel
theorem dX1_seek_2 : decode cX1_seek 2 = .ok (.putfield 138, 3) := by decide +kernel
theorem dX1_seek_5 : decode cX1_seek 5 = .ok (.aload_n 0, 1) := by decide +kernel
theorem dX1_seek_6 : decode cX1_seek 6 = .ok (.getfield 12, 3) := by decide +kernel
theorem dX1_seek_9 : decode cX1_seek 9 = .ok (.getfield 141, 3) := by decide +kernel
theorem dX1_seek_12 : decode cX1_seek 12 = .ok (.ifCond .eq 6, 3) := by decide +kernel
theorem dX1_seek_15 : decode cX1_seek 15 = .ok (.bipush (-9), 2) := by decide +kernel
theorem dX1_seek_17 : decode cX1_seek 17 = .ok (.ireturn, 1) := by decide +kernel
theorem dX1_seek_18 : decode cX1_seek 18 = .ok (.aload_n 0, 1) := by decide +kernel
theorem dX1_seek_19 : decode cX1_seek 19 = .ok (.iload_n 1, 1) := by decide +kernel
theorem dX1_seek_20 : decode cX1_seek 20 = .ok (.invokevirtual 145, 3) := by decide +kernel
theorem dX1_seek_23 : decode cX1_seek 23 = .ok (.ifCond .ne 6, 3) := by decide +kernel
theorem dX1_seek_26 : decode cX1_seek 26 = .ok (.bipush (-2), 2) := by decide +kernel
theorem dX1_seek_28 : decode cX1_seek 28 = .ok (.ireturn, 1) := by decide +kernel
theorem dX1_seek_29 : decode cX1_seek 29 = .ok (.aload_n 0, 1) := by decide +kernel
theorem dX1_seek_30 : decode cX1_seek 30 = .ok (.iload_n 1, 1) := by decide +kernel
theorem dX1_seek_31 : decode cX1_seek 31 = .ok (.iload_n 2, 1) := by decide +kernel
theorem dX1_seek_32 : decode cX1_seek 32 = .ok (.iload_n 3, 1) := by decide +kernel
theorem dX1_seek_33 : decode cX1_seek 33 = .ok (.invokevirtual 301, 3) := by decide +kernel
theorem dX1_seek_36 : decode cX1_seek 36 = .ok (.aload_n 0, 1) := by decide +kernel
theorem dX1_seek_37 : decode cX1_seek 37 = .ok (.getfield 67, 3) := by decide +kernel
theorem dX1_seek_40 : decode cX1_seek 40 = .ok (.iload_n 1, 1) := by decide +kernel
theorem dX1_seek_41 : decode cX1_seek 41 = .ok (.iload_n 2, 1) := by decide +kernel
theorem dX1_seek_42 : decode cX1_seek 42 = .ok (.iload_n 3, 1) := by decide +kernel
theorem dX1_seek_43 : decode cX1_seek 43 = .ok (.invokevirtual 322, 3) := by decide +kernel
theorem dX1_seek_46 : decode cX1_seek 46 = .ok (.aload_n 0, 1) := by decide +kernel
theorem dX1_seek_47 : decode cX1_seek 47 = .ok (.aload_n 0, 1) := by decide +kernel
theorem dX1_seek_48 : decode cX1_seek 48 = .ok (.getfield 67, 3) := by decide +kernel
theorem dX1_seek_51 : decode cX1_seek 51 = .ok (.putfield 138, 3) := by decide +kernel
theorem dX1_seek_54 : decode cX1_seek 54 = .ok (.aload_n 0, 1) := by decide +kernel
theorem dX1_seek_55 : decode cX1_seek 55 = .ok (.getfield 74, 3) := by decide +kernel
theorem dX1_seek_58 : decode cX1_seek 58 = .ok (.getfield 304, 3) := by decide +kernel
theorem dX1_seek_61 : decode cX1_seek 61 = .ok (.ireturn, 1) := by decide +kernel
theorem dX1_next_0 : decode cX1_next 0 = .ok (.aload_n 0, 1) := by decide +kernel
theorem dX1_next_1 : decode cX1_next 1 = .ok (.getfield 138, 3) := by decide +kernel
theorem dX1_next_4 : decode cX1_next 4 = .ok (.invokevirtual 324, 3) := by decide +kernel
theorem dX1_next_7 : decode cX1_next 7 = .ok (.ireturn, 1) := by decide +kernel
theorem dX1_next_8 : decode cX1_next 8 = .ok (.astore_n 1, 1) := by decide +kernel
theorem dX1_next_9 : decode cX1_next 9 = .ok (.iconst 0, 1) := by decide +kernel
theorem dX1_next_10 : decode cX1_next 10 = .ok (.ireturn, 1) := by decide +kernel
theorem dX1_curTime_0 : decode cX1_curTime 0 = .ok (.aload_n 0, 1) := by decide +kernel
theorem dX1_curTime_1 : decode cX1_curTime 1 = .ok (.invokevirtual 330, 3) := by decide +kernel
theorem dX1_curTime_4 : decode cX1_curTime 4 = .ok (.ifCond .eq 13, 3) := by decide +kernel
theorem dX1_curTime_7 : decode cX1_curTime 7 = .ok (.aload_n 0, 1) := by decide +kernel
theorem dX1_curTime_8 : decode cX1_curTime 8 = .ok (.getfield 138, 3) := by decide +kernel
theorem dX1_curTime_11 : decode cX1_curTime 11 = .ok (.getfield 332, 3) := by decide +kernel
theorem dX1_curTime_14 : decode cX1_curTime 14 = .ok (.goto 4, 3) := by decide +kernel
theorem dX1_curTime_17 : decode cX1_curTime 17 = .ok (.iconst 0, 1) := by decide +kernel
theorem dX1_curTime_18 : decode cX1_curTime 18 = .ok (.ireturn, 1) := by decide +kernel
theorem dX1_isAt_0 : decode cX1_isAt 0 = .ok (.aload_n 0, 1) := by decide +kernel
theorem dX1_isAt_1 : decode cX1_isAt 1 = .ok (.getfield 138, 3) := by decide +kernel
theorem dX1_isAt_4 : decode cX1_isAt 4 = .ok (.ifnull 17, 3) := by decide +kernel
theorem dX1_isAt_7 : decode cX1_isAt 7 = .ok (.aload_n 0, 1) := by decide +kernel
theorem dX1_isAt_8 : decode cX1_isAt 8 = .ok (.getfield 138, 3) := by decide +kernel
theorem dX1_isAt_11 : decode cX1_isAt 11 = .ok (.getfield 327, 3) := by decide +kernel
theorem dX1_isAt_14 : decode cX1_isAt 14 = .ok (.ifCond .eq 7, 3) := by decide +kernel
theorem dX1_isAt_17 : decode cX1_isAt 17 = .ok (.iconst 1, 1) := by decide +kernel
theorem dX1_isAt_18 : decode cX1_isAt 18 = .ok (.goto 4, 3) := by decide +kernel
theorem dX1_isAt_21 : decode cX1_isAt 21 = .ok (.iconst 0, 1) := by decide +kernel
theorem dX1_isAt_22 : decode cX1_isAt 22 = .ok (.ireturn, 1) := by decide +kernel
theorem dX1_curVal_0 : decode cX1_curVal 0 = .ok (.aload_n 0, 1) := by decide +kernel
theorem dX1_curVal_1 : decode cX1_curVal 1 = .ok (.invokevirtual 330, 3) := by decide +kernel
theorem dX1_curVal_4 : decode cX1_curVal 4 = .ok (.ifCond .eq 13, 3) := by decide +kernel
theorem dX1_curVal_7 : decode cX1_curVal 7 = .ok (.aload_n 0, 1) := by decide +kernel
theorem dX1_curVal_8 : decode cX1_curVal 8 = .ok (.getfield 138, 3) := by decide +kernel
theorem dX1_curVal_11 : decode cX1_curVal 11 = .ok (.getfield 333, 3) := by decide +kernel
theorem dX1_curVal_14 : decode cX1_curVal 14 = .ok (.goto 4, 3) := by decide +kernel
theorem dX1_curVal_17 : decode cX1_curVal 17 = .ok (.iconst 0, 1) := by decide +kernel
theorem dX1_curVal_18 : decode cX1_curVal 18 = .ok (.ireturn, 1) := by decide +kernel
theorem dX1_crashAfter_0 : decode cX1_crashAfter 0 = .ok (.aload_n 0, 1) := by decide +kernel
theorem dX1_crashAfter_1 : decode cX1_crashAfter 1 = .ok (.getfield 12, 3) := by decide +kernel
theorem dX1_crashAfter_4 : decode cX1_crashAfter 4 = .ok (.getfield 141, 3) := by decide +kernel
theorem dX1_crashAfter_7 : decode cX1_crashAfter 7 = .ok (.ifCond .ne 14, 3) := by decide +kernel
theorem dX1_crashAfter_10 : decode cX1_crashAfter 10 = .ok (.iload_n 1, 1) := by decide +kernel
theorem dX1_crashAfter_11 : decode cX1_crashAfter 11 = .ok (.ifCond .lt 10, 3) := by decide +kernel
theorem dX1_crashAfter_14 : decode cX1_crashAfter 14 = .ok (.iload_n 1, 1) := by decide +kernel
theorem dX1_crashAfter_15 : decode cX1_crashAfter 15 = .ok (.ldc_w 334, 3) := by decide +kernel
theorem dX1_crashAfter_18 : decode cX1_crashAfter 18 = .ok (.if_icmp .le 5, 3) := by decide +kernel
theorem dX1_crashAfter_21 : decode cX1_crashAfter 21 = .ok (.iconst 0, 1) := by decide +kernel
theorem dX1_crashAfter_22 : decode cX1_crashAfter 22 = .ok (.ireturn, 1) := by decide +kernel
theorem dX1_crashAfter_23 : decode cX1_crashAfter 23 = .ok (.aload_n 0, 1) := by decide +kernel
theorem dX1_crashAfter_24 : decode cX1_crashAfter 24 = .ok (.getfield 12, 3) := by decide +kernel
theorem dX1_crashAfter_27 : decode cX1_crashAfter 27 = .ok (.iload_n 1, 1) := by decide +kernel
theorem dX1_crashAfter_28 : decode cX1_crashAfter 28 = .ok (.putfield 335, 3) := by decide +kernel
theorem dX1_crashAfter_31 : decode cX1_crashAfter 31 = .ok (.iconst 1, 1) := by decide +kernel
theorem dX1_crashAfter_32 : decode cX1_crashAfter 32 = .ok (.ireturn, 1) := by decide +kernel
theorem dX1_recover_0 : decode cX1_recover 0 = .ok (.aload_n 0, 1) := by decide +kernel
theorem dX1_recover_1 : decode cX1_recover 1 = .ok (.aconst_null, 1) := by decide +kernel
theorem dX1_recover_2 : decode cX1_recover 2 = .ok (.putfield 138, 3) := by decide +kernel
theorem dX1_recover_5 : decode cX1_recover 5 = .ok (.aload_n 0, 1) := by decide +kernel
theorem dX1_recover_6 : decode cX1_recover 6 = .ok (.dup, 1) := by decide +kernel
theorem dX1_recover_7 : decode cX1_recover 7 = .ok (.getfield 340, 3) := by decide +kernel
theorem dX1_recover_10 : decode cX1_recover 10 = .ok (.iconst 1, 1) := by decide +kernel
theorem dX1_recover_11 : decode cX1_recover 11 = .ok (.iadd, 1) := by decide +kernel
theorem dX1_recover_12 : decode cX1_recover 12 = .ok (.putfield 340, 3) := by decide +kernel
theorem dX1_recover_15 : decode cX1_recover 15 = .ok (.aload_n 0, 1) := by decide +kernel
theorem dX1_recover_16 : decode cX1_recover 16 = .ok (.getfield 12, 3) := by decide +kernel
theorem dX1_recover_19 : decode cX1_recover 19 = .ok (.iconst 0, 1) := by decide +kernel
theorem dX1_recover_20 : decode cX1_recover 20 = .ok (.putfield 141, 3) := by decide +kernel
theorem dX1_recover_23 : decode cX1_recover 23 = .ok (.aload_n 0, 1) := by decide +kernel
theorem dX1_recover_24 : decode cX1_recover 24 = .ok (.getfield 12, 3) := by decide +kernel
theorem dX1_recover_27 : decode cX1_recover 27 = .ok (.iconst (-1), 1) := by decide +kernel
theorem dX1_recover_28 : decode cX1_recover 28 = .ok (.putfield 335, 3) := by decide +kernel
theorem dX1_recover_31 : decode cX1_recover 31 = .ok (.aload_n 0, 1) := by decide +kernel
theorem dX1_recover_32 : decode cX1_recover 32 = .ok (.aload_n 0, 1) := by decide +kernel
theorem dX1_recover_33 : decode cX1_recover 33 = .ok (.getfield 12, 3) := by decide +kernel
theorem dX1_recover_36 : decode cX1_recover 36 = .ok (.getfield 25, 3) := by decide +kernel
theorem dX1_recover_39 : decode cX1_recover 39 = .ok (.iconst 0, 1) := by decide +kernel
theorem dX1_recover_40 : decode cX1_recover 40 = .ok (.iaload, 1) := by decide +kernel
theorem dX1_recover_41 : decode cX1_recover 41 = .ok (.iconst 1, 1) := by decide +kernel
theorem dX1_recover_42 : decode cX1_recover 42 = .ok (.ishr, 1) := by decide +kernel
theorem dX1_recover_43 : decode cX1_recover 43 = .ok (.putfield 160, 3) := by decide +kernel
theorem dX1_recover_46 : decode cX1_recover 46 = .ok (.aload_n 0, 1) := by decide +kernel
theorem dX1_recover_47 : decode cX1_recover 47 = .ok (.aload_n 0, 1) := by decide +kernel
theorem dX1_recover_48 : decode cX1_recover 48 = .ok (.getfield 12, 3) := by decide +kernel
theorem dX1_recover_51 : decode cX1_recover 51 = .ok (.getfield 25, 3) := by decide +kernel
theorem dX1_recover_54 : decode cX1_recover 54 = .ok (.iconst 0, 1) := by decide +kernel
theorem dX1_recover_55 : decode cX1_recover 55 = .ok (.iaload, 1) := by decide +kernel
theorem dX1_recover_56 : decode cX1_recover 56 = .ok (.iconst 1, 1) := by decide +kernel
theorem dX1_recover_57 : decode cX1_recover 57 = .ok (.iand, 1) := by decide +kernel
theorem dX1_recover_58 : decode cX1_recover 58 = .ok (.putfield 209, 3) := by decide +kernel
theorem dX1_recover_61 : decode cX1_recover 61 = .ok (.aload_n 0, 1) := by decide +kernel
theorem dX1_recover_62 : decode cX1_recover 62 = .ok (.invokevirtual 343, 3) := by decide +kernel
theorem dX1_recover_65 : decode cX1_recover 65 = .ok (.aload_n 0, 1) := by decide +kernel
theorem dX1_recover_66 : decode cX1_recover 66 = .ok (.getfield 99, 3) := by decide +kernel
theorem dX1_recover_69 : decode cX1_recover 69 = .ok (.astore_n 1, 1) := by decide +kernel
theorem dX1_recover_70 : decode cX1_recover 70 = .ok (.aload_n 1, 1) := by decide +kernel
theorem dX1_recover_71 : decode cX1_recover 71 = .ok (.arraylength, 1) := by decide +kernel
theorem dX1_recover_72 : decode cX1_recover 72 = .ok (.istore_n 2, 1) := by decide +kernel
theorem dX1_recover_73 : decode cX1_recover 73 = .ok (.iconst 0, 1) := by decide +kernel
theorem dX1_recover_74 : decode cX1_recover 74 = .ok (.istore_n 3, 1) := by decide +kernel
theorem dX1_recover_75 : decode cX1_recover 75 = .ok (.iload_n 3, 1) := by decide +kernel
theorem dX1_recover_76 : decode cX1_recover 76 = .ok (.iload_n 2, 1) := by decide +kernel
theorem dX1_recover_77 : decode cX1_recover 77 = .ok (.if_icmp .ge 20, 3) := by decide +kernel
theorem dX1_recover_80 : decode cX1_recover 80 = .ok (.aload_n 1, 1) := by decide +kernel
theorem dX1_recover_81 : decode cX1_recover 81 = .ok (.iload_n 3, 1) := by decide +kernel
theorem dX1_recover_82 : decode cX1_recover 82 = .ok (.aaload, 1) := by decide +kernel
theorem dX1_recover_83 : decode cX1_recover 83 = .ok (.astore 4, 2) := by decide +kernel
theorem dX1_recover_85 : decode cX1_recover 85 = .ok (.aload 4, 2) := by decide +kernel
theorem dX1_recover_87 : decode cX1_recover 87 = .ok (.iconst 0, 1) := by decide +kernel
theorem dX1_recover_88 : decode cX1_recover 88 = .ok (.putfield 129, 3) := by decide +kernel
theorem dX1_recover_91 : decode cX1_recover 91 = .ok (.iinc 3 1, 3) := by decide +kernel
theorem dX1_recover_94 : decode cX1_recover 94 = .ok (.goto (-19), 3) := by decide +kernel
theorem dX1_recover_97 : decode cX1_recover 97 = .ok (.aload_n 0, 1) := by decide +kernel
theorem dX1_recover_98 : decode cX1_recover 98 = .ok (.iconst 0, 1) := by decide +kernel
theorem dX1_recover_99 : decode cX1_recover 99 = .ok (.putfield 153, 3) := by decide +kernel
theorem dX1_recover_102 : decode cX1_recover 102 = .ok (.aload_n 0, 1) := by decide +kernel
theorem dX1_recover_103 : decode cX1_recover 103 = .ok (.getfield 153, 3) := by decide +kernel
theorem dX1_recover_106 : decode cX1_recover 106 = .ok (.sipush 128, 3) := by decide +kernel
theorem dX1_recover_109 : decode cX1_recover 109 = .ok (.if_icmp .ge 95, 3) := by decide +kernel
theorem dX1_recover_112 : decode cX1_recover 112 = .ok (.aload_n 0, 1) := by decide +kernel
theorem dX1_recover_113 : decode cX1_recover 113 = .ok (.getfield 12, 3) := by decide +kernel
theorem dX1_recover_116 : decode cX1_recover 116 = .ok (.getfield 25, 3) := by decide +kernel
theorem dX1_recover_119 : decode cX1_recover 119 = .ok (.sipush 1923, 3) := by decide +kernel
theorem dX1_recover_122 : decode cX1_recover 122 = .ok (.iconst 4, 1) := by decide +kernel
theorem dX1_recover_123 : decode cX1_recover 123 = .ok (.aload_n 0, 1) := by decide +kernel
theorem dX1_recover_124 : decode cX1_recover 124 = .ok (.getfield 153, 3) := by decide +kernel
theorem dX1_recover_127 : decode cX1_recover 127 = .ok (.imul, 1) := by decide +kernel
theorem dX1_recover_128 : decode cX1_recover 128 = .ok (.iadd, 1) := by decide +kernel
theorem dX1_recover_129 : decode cX1_recover 129 = .ok (.iconst 3, 1) := by decide +kernel
theorem dX1_recover_130 : decode cX1_recover 130 = .ok (.iadd, 1) := by decide +kernel
theorem dX1_recover_131 : decode cX1_recover 131 = .ok (.iaload, 1) := by decide +kernel
theorem dX1_recover_132 : decode cX1_recover 132 = .ok (.aload_n 0, 1) := by decide +kernel
theorem dX1_recover_133 : decode cX1_recover 133 = .ok (.getfield 160, 3) := by decide +kernel
theorem dX1_recover_136 : decode cX1_recover 136 = .ok (.iconst 1, 1) := by decide +kernel
theorem dX1_recover_137 : decode cX1_recover 137 = .ok (.iadd, 1) := by decide +kernel
theorem dX1_recover_138 : decode cX1_recover 138 = .ok (.if_icmp .ne 66, 3) := by decide +kernel
theorem dX1_recover_141 : decode cX1_recover 141 = .ok (.sipush 1923, 3) := by decide +kernel
theorem dX1_recover_144 : decode cX1_recover 144 = .ok (.iconst 4, 1) := by decide +kernel
theorem dX1_recover_145 : decode cX1_recover 145 = .ok (.aload_n 0, 1) := by decide +kernel
theorem dX1_recover_146 : decode cX1_recover 146 = .ok (.getfield 153, 3) := by decide +kernel
theorem dX1_recover_149 : decode cX1_recover 149 = .ok (.imul, 1) := by decide +kernel
theorem dX1_recover_150 : decode cX1_recover 150 = .ok (.iadd, 1) := by decide +kernel
theorem dX1_recover_151 : decode cX1_recover 151 = .ok (.istore_n 1, 1) := by decide +kernel
theorem dX1_recover_152 : decode cX1_recover 152 = .ok (.aload_n 0, 1) := by decide +kernel
theorem dX1_recover_153 : decode cX1_recover 153 = .ok (.getfield 99, 3) := by decide +kernel
theorem dX1_recover_156 : decode cX1_recover 156 = .ok (.aload_n 0, 1) := by decide +kernel
theorem dX1_recover_157 : decode cX1_recover 157 = .ok (.getfield 12, 3) := by decide +kernel
theorem dX1_recover_160 : decode cX1_recover 160 = .ok (.getfield 25, 3) := by decide +kernel
theorem dX1_recover_163 : decode cX1_recover 163 = .ok (.iload_n 1, 1) := by decide +kernel
theorem dX1_recover_164 : decode cX1_recover 164 = .ok (.iaload, 1) := by decide +kernel
theorem dX1_recover_165 : decode cX1_recover 165 = .ok (.aaload, 1) := by decide +kernel
theorem dX1_recover_166 : decode cX1_recover 166 = .ok (.aload_n 0, 1) := by decide +kernel
theorem dX1_recover_167 : decode cX1_recover 167 = .ok (.getfield 12, 3) := by decide +kernel
theorem dX1_recover_170 : decode cX1_recover 170 = .ok (.getfield 25, 3) := by decide +kernel
theorem dX1_recover_173 : decode cX1_recover 173 = .ok (.iload_n 1, 1) := by decide +kernel
theorem dX1_recover_174 : decode cX1_recover 174 = .ok (.iconst 1, 1) := by decide +kernel
theorem dX1_recover_175 : decode cX1_recover 175 = .ok (.iadd, 1) := by decide +kernel
theorem dX1_recover_176 : decode cX1_recover 176 = .ok (.iaload, 1) := by decide +kernel
theorem dX1_recover_177 : decode cX1_recover 177 = .ok (.aload_n 0, 1) := by decide +kernel
theorem dX1_recover_178 : decode cX1_recover 178 = .ok (.getfield 12, 3) := by decide +kernel
theorem dX1_recover_181 : decode cX1_recover 181 = .ok (.getfield 25, 3) := by decide +kernel
theorem dX1_recover_184 : decode cX1_recover 184 = .ok (.iload_n 1, 1) := by decide +kernel
theorem dX1_recover_185 : decode cX1_recover 185 = .ok (.iconst 2, 1) := by decide +kernel
theorem dX1_recover_186 : decode cX1_recover 186 = .ok (.iadd, 1) := by decide +kernel
theorem dX1_recover_187 : decode cX1_recover 187 = .ok (.iaload, 1) := by decide +kernel
theorem dX1_recover_188 : decode cX1_recover 188 = .ok (.invokevirtual 165, 3) := by decide +kernel
theorem dX1_recover_191 : decode cX1_recover 191 = .ok (.aload_n 0, 1) := by decide +kernel
theorem dX1_recover_192 : decode cX1_recover 192 = .ok (.dup, 1) := by decide +kernel
theorem dX1_recover_193 : decode cX1_recover 193 = .ok (.getfield 153, 3) := by decide +kernel
theorem dX1_recover_196 : decode cX1_recover 196 = .ok (.iconst 1, 1) := by decide +kernel
theorem dX1_recover_197 : decode cX1_recover 197 = .ok (.iadd, 1) := by decide +kernel
theorem dX1_recover_198 : decode cX1_recover 198 = .ok (.putfield 153, 3) := by decide +kernel
theorem dX1_recover_201 : decode cX1_recover 201 = .ok (.goto (-99), 3) := by decide +kernel
theorem dX1_recover_204 : decode cX1_recover 204 = .ok (.aload_n 0, 1) := by decide +kernel
theorem dX1_recover_205 : decode cX1_recover 205 = .ok (.getfield 153, 3) := by decide +kernel
theorem dX1_recover_208 : decode cX1_recover 208 = .ok (.istore_n 1, 1) := by decide +kernel
theorem dX1_recover_209 : decode cX1_recover 209 = .ok (.iconst 0, 1) := by decide +kernel
theorem dX1_recover_210 : decode cX1_recover 210 = .ok (.istore_n 2, 1) := by decide +kernel
theorem dX1_recover_211 : decode cX1_recover 211 = .ok (.iload_n 2, 1) := by decide +kernel
theorem dX1_recover_212 : decode cX1_recover 212 = .ok (.aload_n 0, 1) := by decide +kernel
theorem dX1_recover_213 : decode cX1_recover 213 = .ok (.getfield 39, 3) := by decide +kernel
theorem dX1_recover_216 : decode cX1_recover 216 = .ok (.getfield 168, 3) := by decide +kernel
theorem dX1_recover_219 : decode cX1_recover 219 = .ok (.if_icmp .ge 24, 3) := by decide +kernel
theorem dX1_recover_222 : decode cX1_recover 222 = .ok (.iload_n 1, 1) := by decide +kernel
theorem dX1_recover_223 : decode cX1_recover 223 = .ok (.aload_n 0, 1) := by decide +kernel
theorem dX1_recover_224 : decode cX1_recover 224 = .ok (.getfield 39, 3) := by decide +kernel
theorem dX1_recover_227 : decode cX1_recover 227 = .ok (.getfield 122, 3) := by decide +kernel
theorem dX1_recover_230 : decode cX1_recover 230 = .ok (.getfield 222, 3) := by decide +kernel
theorem dX1_recover_233 : decode cX1_recover 233 = .ok (.iload_n 2, 1) := by decide +kernel
theorem dX1_recover_234 : decode cX1_recover 234 = .ok (.saload, 1) := by decide +kernel
theorem dX1_recover_235 : decode cX1_recover 235 = .ok (.iadd, 1) := by decide +kernel
theorem dX1_recover_236 : decode cX1_recover 236 = .ok (.istore_n 1, 1) := by decide +kernel
theorem dX1_recover_237 : decode cX1_recover 237 = .ok (.iinc 2 1, 3) := by decide +kernel
theorem dX1_recover_240 : decode cX1_recover 240 = .ok (.goto (-29), 3) := by decide +kernel
theorem dX1_recover_243 : decode cX1_recover 243 = .ok (.iload_n 1, 1) := by decide +kernel
theorem dX1_recover_244 : decode cX1_recover 244 = .ok (.ireturn, 1) := by decide +kernel
theorem dX1_reads_0 : decode cX1_reads 0 = .ok (.iconst 1, 1) := by decide +kernel
theorem dX1_reads_1 : decode cX1_reads 1 = .ok (.aload_n 0, 1) := by decide +kernel
theorem dX1_reads_2 : decode cX1_reads 2 = .ok (.getfield 209, 3) := by decide +kernel
theorem dX1_reads_5 : decode cX1_reads 5 = .ok (.sipush 961, 3) := by decide +kernel
theorem dX1_reads_8 : decode cX1_reads 8 = .ok (.imul, 1) := by decide +kernel
theorem dX1_reads_9 : decode cX1_reads 9 = .ok (.iadd, 1) := by decide +kernel
theorem dX1_reads_10 : decode cX1_reads 10 = .ok (.istore_n 1, 1) := by decide +kernel
theorem dX1_reads_11 : decode cX1_reads 11 = .ok (.aload_n 0, 1) := by decide +kernel
theorem dX1_reads_12 : decode cX1_reads 12 = .ok (.getfield 12, 3) := by decide +kernel
theorem dX1_reads_15 : decode cX1_reads 15 = .ok (.getfield 25, 3) := by decide +kernel
theorem dX1_reads_18 : decode cX1_reads 18 = .ok (.astore_n 2, 1) := by decide +kernel
theorem dX1_reads_19 : decode cX1_reads 19 = .ok (.aload_n 0, 1) := by decide +kernel
theorem dX1_reads_20 : decode cX1_reads 20 = .ok (.getfield 39, 3) := by decide +kernel
theorem dX1_reads_23 : decode cX1_reads 23 = .ok (.iconst 0, 1) := by decide +kernel
theorem dX1_reads_24 : decode cX1_reads 24 = .ok (.putfield 168, 3) := by decide +kernel
theorem dX1_reads_27 : decode cX1_reads 27 = .ok (.iconst 0, 1) := by decide +kernel
theorem dX1_reads_28 : decode cX1_reads 28 = .ok (.istore_n 3, 1) := by decide +kernel
theorem dX1_reads_29 : decode cX1_reads 29 = .ok (.iload_n 3, 1) := by decide +kernel
theorem dX1_reads_30 : decode cX1_reads 30 = .ok (.aload_n 2, 1) := by decide +kernel
theorem dX1_reads_31 : decode cX1_reads 31 = .ok (.iload_n 1, 1) := by decide +kernel
theorem dX1_reads_32 : decode cX1_reads 32 = .ok (.iaload, 1) := by decide +kernel
theorem dX1_reads_33 : decode cX1_reads 33 = .ok (.if_icmp .ge 176, 3) := by decide +kernel
theorem dX1_reads_36 : decode cX1_reads 36 = .ok (.iload_n 1, 1) := by decide +kernel
theorem dX1_reads_37 : decode cX1_reads 37 = .ok (.iconst 1, 1) := by decide +kernel
theorem dX1_reads_38 : decode cX1_reads 38 = .ok (.iadd, 1) := by decide +kernel
theorem dX1_reads_39 : decode cX1_reads 39 = .ok (.bipush 10, 2) := by decide +kernel
theorem dX1_reads_41 : decode cX1_reads 41 = .ok (.iload_n 3, 1) := by decide +kernel
theorem dX1_reads_42 : decode cX1_reads 42 = .ok (.imul, 1) := by decide +kernel
theorem dX1_reads_43 : decode cX1_reads 43 = .ok (.iadd, 1) := by decide +kernel
theorem dX1_reads_44 : decode cX1_reads 44 = .ok (.istore 4, 2) := by decide +kernel
theorem dX1_reads_46 : decode cX1_reads 46 = .ok (.aload_n 0, 1) := by decide +kernel
theorem dX1_reads_47 : decode cX1_reads 47 = .ok (.getfield 39, 3) := by decide +kernel
theorem dX1_reads_50 : decode cX1_reads 50 = .ok (.aload_n 2, 1) := by decide +kernel
theorem dX1_reads_51 : decode cX1_reads 51 = .ok (.iload 4, 2) := by decide +kernel
theorem dX1_reads_53 : decode cX1_reads 53 = .ok (.iaload, 1) := by decide +kernel
theorem dX1_reads_54 : decode cX1_reads 54 = .ok (.invokevirtual 172, 3) := by decide +kernel
theorem dX1_reads_57 : decode cX1_reads 57 = .ok (.ifCond .ne 6, 3) := by decide +kernel
theorem dX1_reads_60 : decode cX1_reads 60 = .ok (.goto 149, 3) := by decide +kernel
theorem dX1_reads_63 : decode cX1_reads 63 = .ok (.aload_n 0, 1) := by decide +kernel
theorem dX1_reads_64 : decode cX1_reads 64 = .ok (.getfield 39, 3) := by decide +kernel
theorem dX1_reads_67 : decode cX1_reads 67 = .ok (.getfield 122, 3) := by decide +kernel
theorem dX1_reads_70 : decode cX1_reads 70 = .ok (.astore 5, 2) := by decide +kernel
theorem dX1_reads_72 : decode cX1_reads 72 = .ok (.aload 5, 2) := by decide +kernel
theorem dX1_reads_74 : decode cX1_reads 74 = .ok (.getfield 219, 3) := by decide +kernel
theorem dX1_reads_77 : decode cX1_reads 77 = .ok (.iload_n 3, 1) := by decide +kernel
theorem dX1_reads_78 : decode cX1_reads 78 = .ok (.aload_n 2, 1) := by decide +kernel
theorem dX1_reads_79 : decode cX1_reads 79 = .ok (.iload 4, 2) := by decide +kernel
theorem dX1_reads_81 : decode cX1_reads 81 = .ok (.iconst 1, 1) := by decide +kernel
theorem dX1_reads_82 : decode cX1_reads 82 = .ok (.iadd, 1) := by decide +kernel
theorem dX1_reads_83 : decode cX1_reads 83 = .ok (.iaload, 1) := by decide +kernel
theorem dX1_reads_84 : decode cX1_reads 84 = .ok (.iastore, 1) := by decide +kernel
theorem dX1_reads_85 : decode cX1_reads 85 = .ok (.aload 5, 2) := by decide +kernel
theorem dX1_reads_87 : decode cX1_reads 87 = .ok (.getfield 135, 3) := by decide +kernel
theorem dX1_reads_90 : decode cX1_reads 90 = .ok (.iload_n 3, 1) := by decide +kernel
theorem dX1_reads_91 : decode cX1_reads 91 = .ok (.aload_n 2, 1) := by decide +kernel
theorem dX1_reads_92 : decode cX1_reads 92 = .ok (.iload 4, 2) := by decide +kernel
theorem dX1_reads_94 : decode cX1_reads 94 = .ok (.iconst 2, 1) := by decide +kernel
theorem dX1_reads_95 : decode cX1_reads 95 = .ok (.iadd, 1) := by decide +kernel
theorem dX1_reads_96 : decode cX1_reads 96 = .ok (.iaload, 1) := by decide +kernel
theorem dX1_reads_97 : decode cX1_reads 97 = .ok (.iastore, 1) := by decide +kernel
theorem dX1_reads_98 : decode cX1_reads 98 = .ok (.aload 5, 2) := by decide +kernel
theorem dX1_reads_100 : decode cX1_reads 100 = .ok (.getfield 222, 3) := by decide +kernel
theorem dX1_reads_103 : decode cX1_reads 103 = .ok (.iload_n 3, 1) := by decide +kernel
theorem dX1_reads_104 : decode cX1_reads 104 = .ok (.aload_n 2, 1) := by decide +kernel
theorem dX1_reads_105 : decode cX1_reads 105 = .ok (.iload 4, 2) := by decide +kernel
theorem dX1_reads_107 : decode cX1_reads 107 = .ok (.iconst 3, 1) := by decide +kernel
theorem dX1_reads_108 : decode cX1_reads 108 = .ok (.iadd, 1) := by decide +kernel
theorem dX1_reads_109 : decode cX1_reads 109 = .ok (.iaload, 1) := by decide +kernel
theorem dX1_reads_110 : decode cX1_reads 110 = .ok (.i2s, 1) := by decide +kernel
theorem dX1_reads_111 : decode cX1_reads 111 = .ok (.sastore, 1) := by decide +kernel
theorem dX1_reads_112 : decode cX1_reads 112 = .ok (.aload 5, 2) := by decide +kernel
theorem dX1_reads_114 : decode cX1_reads 114 = .ok (.getfield 225, 3) := by decide +kernel
theorem dX1_reads_117 : decode cX1_reads 117 = .ok (.iload_n 3, 1) := by decide +kernel
theorem dX1_reads_118 : decode cX1_reads 118 = .ok (.aload_n 2, 1) := by decide +kernel
theorem dX1_reads_119 : decode cX1_reads 119 = .ok (.iload 4, 2) := by decide +kernel
theorem dX1_reads_121 : decode cX1_reads 121 = .ok (.iconst 4, 1) := by decide +kernel
theorem dX1_reads_122 : decode cX1_reads 122 = .ok (.iadd, 1) := by decide +kernel
theorem dX1_reads_123 : decode cX1_reads 123 = .ok (.iaload, 1) := by decide +kernel
theorem dX1_reads_124 : decode cX1_reads 124 = .ok (.iastore, 1) := by decide +kernel
theorem dX1_reads_125 : decode cX1_reads 125 = .ok (.aload 5, 2) := by decide +kernel
theorem dX1_reads_127 : decode cX1_reads 127 = .ok (.getfield 228, 3) := by decide +kernel
theorem dX1_reads_130 : decode cX1_reads 130 = .ok (.iload_n 3, 1) := by decide +kernel
theorem dX1_reads_131 : decode cX1_reads 131 = .ok (.aload_n 2, 1) := by decide +kernel
theorem dX1_reads_132 : decode cX1_reads 132 = .ok (.iload 4, 2) := by decide +kernel
theorem dX1_reads_134 : decode cX1_reads 134 = .ok (.iconst 5, 1) := by decide +kernel
theorem dX1_reads_135 : decode cX1_reads 135 = .ok (.iadd, 1) := by decide +kernel
theorem dX1_reads_136 : decode cX1_reads 136 = .ok (.iaload, 1) := by decide +kernel
theorem dX1_reads_137 : decode cX1_reads 137 = .ok (.iastore, 1) := by decide +kernel
theorem dX1_reads_138 : decode cX1_reads 138 = .ok (.aload 5, 2) := by decide +kernel
theorem dX1_reads_140 : decode cX1_reads 140 = .ok (.getfield 231, 3) := by decide +kernel
theorem dX1_reads_143 : decode cX1_reads 143 = .ok (.iload_n 3, 1) := by decide +kernel
theorem dX1_reads_144 : decode cX1_reads 144 = .ok (.aload_n 2, 1) := by decide +kernel
theorem dX1_reads_145 : decode cX1_reads 145 = .ok (.iload 4, 2) := by decide +kernel
