set_option maxRecDepth 100000
theorem dX12_isSeries_1 : decode cX12_isSeries 1 = .ok (.ifCond .lt 15, 3) := by decide +kernel
theorem dX12_isSeries_4 : decode cX12_isSeries 4 = .ok (.iload_n 1, 1) := by decide +kernel
theorem dX12_isSeries_5 : decode cX12_isSeries 5 = .ok (.aload_n 0, 1) := by decide +kernel
theorem dX12_isSeries_6 : decode cX12_isSeries 6 = .ok (.getfield 67, 3) := by decide +kernel
theorem dX12_isSeries_9 : decode cX12_isSeries 9 = .ok (.if_icmp .ge 7, 3) := by decide +kernel
theorem dX12_isSeries_12 : decode cX12_isSeries 12 = .ok (.iconst 1, 1) := by decide +kernel
theorem dX12_isSeries_13 : decode cX12_isSeries 13 = .ok (.goto 4, 3) := by decide +kernel
theorem dX12_isSeries_16 : decode cX12_isSeries 16 = .ok (.iconst 0, 1) := by decide +kernel
theorem dX12_isSeries_17 : decode cX12_isSeries 17 = .ok (.ireturn, 1) := by decide +kernel
theorem dX12_isRising_0 : decode cX12_isRising 0 = .ok (.iconst 1, 1) := by decide +kernel
theorem dX12_isRising_1 : decode cX12_isRising 1 = .ok (.istore_n 3, 1) := by decide +kernel
theorem dX12_isRising_2 : decode cX12_isRising 2 = .ok (.iconst 0, 1) := by decide +kernel
theorem dX12_isRising_3 : decode cX12_isRising 3 = .ok (.istore 4, 2) := by decide +kernel
theorem dX12_isRising_5 : decode cX12_isRising 5 = .ok (.iload 4, 2) := by decide +kernel
theorem dX12_isRising_7 : decode cX12_isRising 7 = .ok (.aload_n 0, 1) := by decide +kernel
theorem dX12_isRising_8 : decode cX12_isRising 8 = .ok (.getfield 115, 3) := by decide +kernel
theorem dX12_isRising_11 : decode cX12_isRising 11 = .ok (.if_icmp .ge 77, 3) := by decide +kernel
theorem dX12_isRising_14 : decode cX12_isRising 14 = .ok (.aload_n 0, 1) := by decide +kernel
theorem dX12_isRising_15 : decode cX12_isRising 15 = .ok (.getfield 35, 3) := by decide +kernel
theorem dX12_isRising_18 : decode cX12_isRising 18 = .ok (.iload 4, 2) := by decide +kernel
theorem dX12_isRising_20 : decode cX12_isRising 20 = .ok (.iaload, 1) := by decide +kernel
theorem dX12_isRising_21 : decode cX12_isRising 21 = .ok (.istore 5, 2) := by decide +kernel
theorem dX12_isRising_23 : decode cX12_isRising 23 = .ok (.iconst 0, 1) := by decide +kernel
theorem dX12_isRising_24 : decode cX12_isRising 24 = .ok (.istore 6, 2) := by decide +kernel
theorem dX12_isRising_26 : decode cX12_isRising 26 = .ok (.iload 6, 2) := by decide +kernel
theorem dX12_isRising_28 : decode cX12_isRising 28 = .ok (.aload_n 0, 1) := by decide +kernel
theorem dX12_isRising_29 : decode cX12_isRising 29 = .ok (.getfield 20, 3) := by decide +kernel
theorem dX12_isRising_32 : decode cX12_isRising 32 = .ok (.iload 5, 2) := by decide +kernel
theorem dX12_isRising_34 : decode cX12_isRising 34 = .ok (.iaload, 1) := by decide +kernel
theorem dX12_isRising_35 : decode cX12_isRising 35 = .ok (.if_icmp .ge 47, 3) := by decide +kernel
theorem dX12_isRising_38 : decode cX12_isRising 38 = .ok (.aload_n 0, 1) := by decide +kernel
theorem dX12_isRising_39 : decode cX12_isRising 39 = .ok (.getfield 17, 3) := by decide +kernel
theorem dX12_isRising_42 : decode cX12_isRising 42 = .ok (.iload 5, 2) := by decide +kernel
theorem dX12_isRising_44 : decode cX12_isRising 44 = .ok (.iaload, 1) := by decide +kernel
theorem dX12_isRising_45 : decode cX12_isRising 45 = .ok (.iload_n 1, 1) := by decide +kernel
theorem dX12_isRising_46 : decode cX12_isRising 46 = .ok (.if_icmp .ne 36, 3) := by decide +kernel
theorem dX12_isRising_49 : decode cX12_isRising 49 = .ok (.iload_n 3, 1) := by decide +kernel
theorem dX12_isRising_50 : decode cX12_isRising 50 = .ok (.ifCond .eq 24, 3) := by decide +kernel
theorem dX12_isRising_53 : decode cX12_isRising 53 = .ok (.iload_n 2, 1) := by decide +kernel
theorem dX12_isRising_54 : decode cX12_isRising 54 = .ok (.aload_n 0, 1) := by decide +kernel
theorem dX12_isRising_55 : decode cX12_isRising 55 = .ok (.getfield 29, 3) := by decide +kernel
theorem dX12_isRising_58 : decode cX12_isRising 58 = .ok (.bipush 64, 2) := by decide +kernel
theorem dX12_isRising_60 : decode cX12_isRising 60 = .ok (.iload 5, 2) := by decide +kernel
theorem dX12_isRising_62 : decode cX12_isRising 62 = .ok (.imul, 1) := by decide +kernel
theorem dX12_isRising_63 : decode cX12_isRising 63 = .ok (.iload 6, 2) := by decide +kernel
theorem dX12_isRising_65 : decode cX12_isRising 65 = .ok (.iadd, 1) := by decide +kernel
theorem dX12_isRising_66 : decode cX12_isRising 66 = .ok (.iaload, 1) := by decide +kernel
theorem dX12_isRising_67 : decode cX12_isRising 67 = .ok (.if_icmp .le 7, 3) := by decide +kernel
theorem dX12_isRising_70 : decode cX12_isRising 70 = .ok (.iconst 1, 1) := by decide +kernel
theorem dX12_isRising_71 : decode cX12_isRising 71 = .ok (.goto 4, 3) := by decide +kernel
theorem dX12_isRising_74 : decode cX12_isRising 74 = .ok (.iconst 0, 1) := by decide +kernel
theorem dX12_isRising_75 : decode cX12_isRising 75 = .ok (.istore_n 3, 1) := by decide +kernel
theorem dX12_isRising_76 : decode cX12_isRising 76 = .ok (.iinc 6 1, 3) := by decide +kernel
theorem dX12_isRising_79 : decode cX12_isRising 79 = .ok (.goto (-53), 3) := by decide +kernel
theorem dX12_isRising_82 : decode cX12_isRising 82 = .ok (.iinc 4 1, 3) := by decide +kernel
theorem dX12_isRising_85 : decode cX12_isRising 85 = .ok (.goto (-80), 3) := by decide +kernel
theorem dX12_isRising_88 : decode cX12_isRising 88 = .ok (.iconst 0, 1) := by decide +kernel
theorem dX12_isRising_89 : decode cX12_isRising 89 = .ok (.istore 4, 2) := by decide +kernel
theorem dX12_isRising_91 : decode cX12_isRising 91 = .ok (.iload 4, 2) := by decide +kernel
theorem dX12_isRising_93 : decode cX12_isRising 93 = .ok (.aload_n 0, 1) := by decide +kernel
theorem dX12_isRising_94 : decode cX12_isRising 94 = .ok (.getfield 106, 3) := by decide +kernel
theorem dX12_isRising_97 : decode cX12_isRising 97 = .ok (.if_icmp .ge 41, 3) := by decide +kernel
theorem dX12_isRising_100 : decode cX12_isRising 100 = .ok (.iload_n 3, 1) := by decide +kernel
theorem dX12_isRising_101 : decode cX12_isRising 101 = .ok (.ifCond .eq 29, 3) := by decide +kernel
theorem dX12_isRising_104 : decode cX12_isRising 104 = .ok (.aload_n 0, 1) := by decide +kernel
theorem dX12_isRising_105 : decode cX12_isRising 105 = .ok (.getfield 38, 3) := by decide +kernel
theorem dX12_isRising_108 : decode cX12_isRising 108 = .ok (.iload 4, 2) := by decide +kernel
theorem dX12_isRising_110 : decode cX12_isRising 110 = .ok (.iaload, 1) := by decide +kernel
theorem dX12_isRising_111 : decode cX12_isRising 111 = .ok (.iload_n 1, 1) := by decide +kernel
theorem dX12_isRising_112 : decode cX12_isRising 112 = .ok (.if_icmp .ne 14, 3) := by decide +kernel
theorem dX12_isRising_115 : decode cX12_isRising 115 = .ok (.iload_n 2, 1) := by decide +kernel
theorem dX12_isRising_116 : decode cX12_isRising 116 = .ok (.aload_n 0, 1) := by decide +kernel
theorem dX12_isRising_117 : decode cX12_isRising 117 = .ok (.getfield 41, 3) := by decide +kernel
theorem dX12_isRising_120 : decode cX12_isRising 120 = .ok (.iload 4, 2) := by decide +kernel
theorem dX12_isRising_122 : decode cX12_isRising 122 = .ok (.iaload, 1) := by decide +kernel
theorem dX12_isRising_123 : decode cX12_isRising 123 = .ok (.if_icmp .le 7, 3) := by decide +kernel
theorem dX12_isRising_126 : decode cX12_isRising 126 = .ok (.iconst 1, 1) := by decide +kernel
theorem dX12_isRising_127 : decode cX12_isRising 127 = .ok (.goto 4, 3) := by decide +kernel
theorem dX12_isRising_130 : decode cX12_isRising 130 = .ok (.iconst 0, 1) := by decide +kernel
theorem dX12_isRising_131 : decode cX12_isRising 131 = .ok (.istore_n 3, 1) := by decide +kernel
theorem dX12_isRising_132 : decode cX12_isRising 132 = .ok (.iinc 4 1, 3) := by decide +kernel
theorem dX12_isRising_135 : decode cX12_isRising 135 = .ok (.goto (-44), 3) := by decide +kernel
theorem dX12_isRising_138 : decode cX12_isRising 138 = .ok (.iload_n 3, 1) := by decide +kernel
theorem dX12_isRising_139 : decode cX12_isRising 139 = .ok (.ireturn, 1) := by decide +kernel
theorem dX12_write_0 : decode cX12_write 0 = .ok (.aload_n 0, 1) := by decide +kernel
theorem dX12_write_1 : decode cX12_write 1 = .ok (.getfield 13, 3) := by decide +kernel
theorem dX12_write_4 : decode cX12_write 4 = .ok (.ifCond .ne 10, 3) := by decide +kernel
theorem dX12_write_7 : decode cX12_write 7 = .ok (.aload_n 0, 1) := by decide +kernel
theorem dX12_write_8 : decode cX12_write 8 = .ok (.iconst 1, 1) := by decide +kernel
theorem dX12_write_9 : decode cX12_write 9 = .ok (.putfield 79, 3) := by decide +kernel
theorem dX12_write_12 : decode cX12_write 12 = .ok (.iconst 0, 1) := by decide +kernel
theorem dX12_write_13 : decode cX12_write 13 = .ok (.ireturn, 1) := by decide +kernel
theorem dX12_write_14 : decode cX12_write 14 = .ok (.aload_n 0, 1) := by decide +kernel
theorem dX12_write_15 : decode cX12_write 15 = .ok (.getfield 13, 3) := by decide +kernel
theorem dX12_write_18 : decode cX12_write 18 = .ok (.ifCond .le 13, 3) := by decide +kernel
theorem dX12_write_21 : decode cX12_write 21 = .ok (.aload_n 0, 1) := by decide +kernel
theorem dX12_write_22 : decode cX12_write 22 = .ok (.dup, 1) := by decide +kernel
theorem dX12_write_23 : decode cX12_write 23 = .ok (.getfield 13, 3) := by decide +kernel
theorem dX12_write_26 : decode cX12_write 26 = .ok (.iconst 1, 1) := by decide +kernel
theorem dX12_write_27 : decode cX12_write 27 = .ok (.isub, 1) := by decide +kernel
theorem dX12_write_28 : decode cX12_write 28 = .ok (.putfield 13, 3) := by decide +kernel
theorem dX12_write_31 : decode cX12_write 31 = .ok (.aload_n 0, 1) := by decide +kernel
theorem dX12_write_32 : decode cX12_write 32 = .ok (.dup, 1) := by decide +kernel
theorem dX12_write_33 : decode cX12_write 33 = .ok (.getfield 83, 3) := by decide +kernel
theorem dX12_write_36 : decode cX12_write 36 = .ok (.iconst 1, 1) := by decide +kernel
theorem dX12_write_37 : decode cX12_write 37 = .ok (.iadd, 1) := by decide +kernel
theorem dX12_write_38 : decode cX12_write 38 = .ok (.putfield 83, 3) := by decide +kernel
theorem dX12_write_41 : decode cX12_write 41 = .ok (.aload_n 0, 1) := by decide +kernel
theorem dX12_write_42 : decode cX12_write 42 = .ok (.getfield 7, 3) := by decide +kernel
theorem dX12_write_45 : decode cX12_write 45 = .ok (.iload_n 1, 1) := by decide +kernel
theorem dX12_write_46 : decode cX12_write 46 = .ok (.iload_n 2, 1) := by decide +kernel
theorem dX12_write_47 : decode cX12_write 47 = .ok (.iastore, 1) := by decide +kernel
theorem dX12_write_48 : decode cX12_write 48 = .ok (.iconst 1, 1) := by decide +kernel
theorem dX12_write_49 : decode cX12_write 49 = .ok (.ireturn, 1) := by decide +kernel
theorem dX12_flush_0 : decode cX12_flush 0 = .ok (.aload_n 0, 1) := by decide +kernel
theorem dX12_flush_1 : decode cX12_flush 1 = .ok (.iconst 0, 1) := by decide +kernel
theorem dX12_flush_2 : decode cX12_flush 2 = .ok (.putfield 76, 3) := by decide +kernel
theorem dX12_flush_5 : decode cX12_flush 5 = .ok (.aload_n 0, 1) := by decide +kernel
theorem dX12_flush_6 : decode cX12_flush 6 = .ok (.invokevirtual 95, 3) := by decide +kernel
theorem dX12_flush_9 : decode cX12_flush 9 = .ok (.aload_n 0, 1) := by decide +kernel
theorem dX12_flush_10 : decode cX12_flush 10 = .ok (.getfield 79, 3) := by decide +kernel
theorem dX12_flush_13 : decode cX12_flush 13 = .ok (.ifCond .eq 6, 3) := by decide +kernel
theorem dX12_flush_16 : decode cX12_flush 16 = .ok (.bipush (-9), 2) := by decide +kernel
theorem dX12_flush_18 : decode cX12_flush 18 = .ok (.ireturn, 1) := by decide +kernel
theorem dX12_flush_19 : decode cX12_flush 19 = .ok (.aload_n 0, 1) := by decide +kernel
theorem dX12_flush_20 : decode cX12_flush 20 = .ok (.getfield 106, 3) := by decide +kernel
theorem dX12_flush_23 : decode cX12_flush 23 = .ok (.ifCond .ne 5, 3) := by decide +kernel
theorem dX12_flush_26 : decode cX12_flush 26 = .ok (.iconst 0, 1) := by decide +kernel
theorem dX12_flush_27 : decode cX12_flush 27 = .ok (.ireturn, 1) := by decide +kernel
theorem dX12_flush_28 : decode cX12_flush 28 = .ok (.aload_n 0, 1) := by decide +kernel
theorem dX12_flush_29 : decode cX12_flush 29 = .ok (.invokevirtual 221, 3) := by decide +kernel
theorem dX12_flush_32 : decode cX12_flush 32 = .ok (.iconst 0, 1) := by decide +kernel
theorem dX12_flush_33 : decode cX12_flush 33 = .ok (.istore_n 1, 1) := by decide +kernel
theorem dX12_flush_34 : decode cX12_flush 34 = .ok (.iload_n 1, 1) := by decide +kernel
theorem dX12_flush_35 : decode cX12_flush 35 = .ok (.aload_n 0, 1) := by decide +kernel
theorem dX12_flush_36 : decode cX12_flush 36 = .ok (.getfield 67, 3) := by decide +kernel
theorem dX12_flush_39 : decode cX12_flush 39 = .ok (.if_icmp .ge 56, 3) := by decide +kernel
theorem dX12_flush_42 : decode cX12_flush 42 = .ok (.iconst 0, 1) := by decide +kernel
theorem dX12_flush_43 : decode cX12_flush 43 = .ok (.istore_n 2, 1) := by decide +kernel
theorem dX12_flush_44 : decode cX12_flush 44 = .ok (.iload_n 2, 1) := by decide +kernel
theorem dX12_flush_45 : decode cX12_flush 45 = .ok (.aload_n 0, 1) := by decide +kernel
theorem dX12_flush_46 : decode cX12_flush 46 = .ok (.getfield 115, 3) := by decide +kernel
theorem dX12_flush_49 : decode cX12_flush 49 = .ok (.if_icmp .ge 35, 3) := by decide +kernel
theorem dX12_flush_52 : decode cX12_flush 52 = .ok (.aload_n 0, 1) := by decide +kernel
theorem dX12_flush_53 : decode cX12_flush 53 = .ok (.getfield 17, 3) := by decide +kernel
theorem dX12_flush_56 : decode cX12_flush 56 = .ok (.aload_n 0, 1) := by decide +kernel
theorem dX12_flush_57 : decode cX12_flush 57 = .ok (.getfield 35, 3) := by decide +kernel
theorem dX12_flush_60 : decode cX12_flush 60 = .ok (.iload_n 2, 1) := by decide +kernel
theorem dX12_flush_61 : decode cX12_flush 61 = .ok (.iaload, 1) := by decide +kernel
theorem dX12_flush_62 : decode cX12_flush 62 = .ok (.iaload, 1) := by decide +kernel
theorem dX12_flush_63 : decode cX12_flush 63 = .ok (.iload_n 1, 1) := by decide +kernel
theorem dX12_flush_64 : decode cX12_flush 64 = .ok (.if_icmp .ne 14, 3) := by decide +kernel
theorem dX12_flush_67 : decode cX12_flush 67 = .ok (.aload_n 0, 1) := by decide +kernel
theorem dX12_flush_68 : decode cX12_flush 68 = .ok (.aload_n 0, 1) := by decide +kernel
theorem dX12_flush_69 : decode cX12_flush 69 = .ok (.getfield 35, 3) := by decide +kernel
theorem dX12_flush_72 : decode cX12_flush 72 = .ok (.iload_n 2, 1) := by decide +kernel
theorem dX12_flush_73 : decode cX12_flush 73 = .ok (.iaload, 1) := by decide +kernel
theorem dX12_flush_74 : decode cX12_flush 74 = .ok (.iconst 0, 1) := by decide +kernel
theorem dX12_flush_75 : decode cX12_flush 75 = .ok (.invokevirtual 224, 3) := by decide +kernel
theorem dX12_flush_78 : decode cX12_flush 78 = .ok (.iinc 2 1, 3) := by decide +kernel
theorem dX12_flush_81 : decode cX12_flush 81 = .ok (.goto (-37), 3) := by decide +kernel
theorem dX12_flush_84 : decode cX12_flush 84 = .ok (.aload_n 0, 1) := by decide +kernel
theorem dX12_flush_85 : decode cX12_flush 85 = .ok (.iload_n 1, 1) := by decide +kernel
theorem dX12_flush_86 : decode cX12_flush 86 = .ok (.invokevirtual 228, 3) := by decide +kernel
theorem dX12_flush_89 : decode cX12_flush 89 = .ok (.iinc 1 1, 3) := by decide +kernel
theorem dX12_flush_92 : decode cX12_flush 92 = .ok (.goto (-58), 3) := by decide +kernel
theorem dX12_flush_95 : decode cX12_flush 95 = .ok (.aload_n 0, 1) := by decide +kernel
theorem dX12_flush_96 : decode cX12_flush 96 = .ok (.getfield 174, 3) := by decide +kernel
theorem dX12_flush_99 : decode cX12_flush 99 = .ok (.aload_n 0, 1) := by decide +kernel
theorem dX12_flush_100 : decode cX12_flush 100 = .ok (.getfield 115, 3) := by decide +kernel
theorem dX12_flush_103 : decode cX12_flush 103 = .ok (.isub, 1) := by decide +kernel
theorem dX12_flush_104 : decode cX12_flush 104 = .ok (.istore_n 1, 1) := by decide +kernel
theorem dX12_flush_105 : decode cX12_flush 105 = .ok (.aload_n 0, 1) := by decide +kernel
theorem dX12_flush_106 : decode cX12_flush 106 = .ok (.aload_n 0, 1) := by decide +kernel
theorem dX12_flush_107 : decode cX12_flush 107 = .ok (.getfield 112, 3) := by decide +kernel
theorem dX12_flush_110 : decode cX12_flush 110 = .ok (.iconst 1, 1) := by decide +kernel
theorem dX12_flush_111 : decode cX12_flush 111 = .ok (.iadd, 1) := by decide +kernel
theorem dX12_flush_112 : decode cX12_flush 112 = .ok (.invokevirtual 231, 3) := by decide +kernel
theorem dX12_flush_115 : decode cX12_flush 115 = .ok (.istore_n 2, 1) := by decide +kernel
theorem dX12_flush_116 : decode cX12_flush 116 = .ok (.iload_n 2, 1) := by decide +kernel
theorem dX12_flush_117 : decode cX12_flush 117 = .ok (.ifCond .ne 8, 3) := by decide +kernel
theorem dX12_flush_120 : decode cX12_flush 120 = .ok (.aload_n 0, 1) := by decide +kernel
theorem dX12_flush_121 : decode cX12_flush 121 = .ok (.iconst 0, 1) := by decide +kernel
theorem dX12_flush_122 : decode cX12_flush 122 = .ok (.putfield 106, 3) := by decide +kernel
theorem dX12_flush_125 : decode cX12_flush 125 = .ok (.iload_n 2, 1) := by decide +kernel
theorem dX12_flush_126 : decode cX12_flush 126 = .ok (.ifCond .ne 7, 3) := by decide +kernel
theorem dX12_flush_129 : decode cX12_flush 129 = .ok (.iload_n 1, 1) := by decide +kernel
theorem dX12_flush_130 : decode cX12_flush 130 = .ok (.goto 4, 3) := by decide +kernel
theorem dX12_flush_133 : decode cX12_flush 133 = .ok (.iload_n 2, 1) := by decide +kernel
theorem dX12_flush_134 : decode cX12_flush 134 = .ok (.ireturn, 1) := by decide +kernel
theorem dX12_beginNext_0 : decode cX12_beginNext 0 = .ok (.aload_n 0, 1) := by decide +kernel
theorem dX12_beginNext_1 : decode cX12_beginNext 1 = .ok (.iconst 0, 1) := by decide +kernel
theorem dX12_beginNext_2 : decode cX12_beginNext 2 = .ok (.putfield 174, 3) := by decide +kernel
theorem dX12_beginNext_5 : decode cX12_beginNext 5 = .ok (.return_, 1) := by decide +kernel
theorem dX12_comes_0 : decode cX12_comes 0 = .ok (.aload_n 0, 1) := by decide +kernel
theorem dX12_comes_1 : decode cX12_comes 1 = .ok (.getfield 47, 3) := by decide +kernel
theorem dX12_comes_4 : decode cX12_comes 4 = .ok (.aload_n 0, 1) := by decide +kernel
theorem dX12_comes_5 : decode cX12_comes 5 = .ok (.getfield 174, 3) := by decide +kernel
theorem dX12_comes_8 : decode cX12_comes 8 = .ok (.iload_n 1, 1) := by decide +kernel
theorem dX12_comes_9 : decode cX12_comes 9 = .ok (.iastore, 1) := by decide +kernel
theorem dX12_comes_10 : decode cX12_comes 10 = .ok (.aload_n 0, 1) := by decide +kernel
theorem dX12_comes_11 : decode cX12_comes 11 = .ok (.getfield 50, 3) := by decide +kernel
theorem dX12_comes_14 : decode cX12_comes 14 = .ok (.aload_n 0, 1) := by decide +kernel
theorem dX12_comes_15 : decode cX12_comes 15 = .ok (.getfield 174, 3) := by decide +kernel
theorem dX12_comes_18 : decode cX12_comes 18 = .ok (.iload_n 2, 1) := by decide +kernel
theorem dX12_comes_19 : decode cX12_comes 19 = .ok (.bastore, 1) := by decide +kernel
theorem dX12_comes_20 : decode cX12_comes 20 = .ok (.aload_n 0, 1) := by decide +kernel
theorem dX12_comes_21 : decode cX12_comes 21 = .ok (.dup, 1) := by decide +kernel
theorem dX12_comes_22 : decode cX12_comes 22 = .ok (.getfield 174, 3) := by decide +kernel
theorem dX12_comes_25 : decode cX12_comes 25 = .ok (.iconst 1, 1) := by decide +kernel
theorem dX12_comes_26 : decode cX12_comes 26 = .ok (.iadd, 1) := by decide +kernel
theorem dX12_comes_27 : decode cX12_comes 27 = .ok (.putfield 174, 3) := by decide +kernel
theorem dX12_comes_30 : decode cX12_comes 30 = .ok (.return_, 1) := by decide +kernel
theorem dX12_headsOf_0 : decode cX12_headsOf 0 = .ok (.iconst (-1), 1) := by decide +kernel
theorem dX12_headsOf_1 : decode cX12_headsOf 1 = .ok (.istore_n 2, 1) := by decide +kernel
theorem dX12_headsOf_2 : decode cX12_headsOf 2 = .ok (.iconst 0, 1) := by decide +kernel
theorem dX12_headsOf_3 : decode cX12_headsOf 3 = .ok (.istore_n 3, 1) := by decide +kernel
theorem dX12_headsOf_4 : decode cX12_headsOf 4 = .ok (.iload_n 3, 1) := by decide +kernel
theorem dX12_headsOf_5 : decode cX12_headsOf 5 = .ok (.aload_n 0, 1) := by decide +kernel
theorem dX12_headsOf_6 : decode cX12_headsOf 6 = .ok (.getfield 106, 3) := by decide +kernel
theorem dX12_headsOf_9 : decode cX12_headsOf 9 = .ok (.if_icmp .ge 82, 3) := by decide +kernel
theorem dX12_headsOf_12 : decode cX12_headsOf 12 = .ok (.aload_n 0, 1) := by decide +kernel
theorem dX12_headsOf_13 : decode cX12_headsOf 13 = .ok (.getfield 38, 3) := by decide +kernel
theorem dX12_headsOf_16 : decode cX12_headsOf 16 = .ok (.iload_n 3, 1) := by decide +kernel
theorem dX12_headsOf_17 : decode cX12_headsOf 17 = .ok (.iaload, 1) := by decide +kernel
theorem dX12_headsOf_18 : decode cX12_headsOf 18 = .ok (.iload_n 1, 1) := by decide +kernel
theorem dX12_headsOf_19 : decode cX12_headsOf 19 = .ok (.if_icmp .eq 6, 3) := by decide +kernel
theorem dX12_headsOf_22 : decode cX12_headsOf 22 = .ok (.goto 63, 3) := by decide +kernel
theorem dX12_headsOf_25 : decode cX12_headsOf 25 = .ok (.iload_n 2, 1) := by decide +kernel
theorem dX12_headsOf_26 : decode cX12_headsOf 26 = .ok (.iconst (-1), 1) := by decide +kernel
theorem dX12_headsOf_27 : decode cX12_headsOf 27 = .ok (.if_icmp .eq 16, 3) := by decide +kernel
theorem dX12_headsOf_30 : decode cX12_headsOf 30 = .ok (.aload_n 0, 1) := by decide +kernel
theorem dX12_headsOf_31 : decode cX12_headsOf 31 = .ok (.getfield 20, 3) := by decide +kernel
theorem dX12_headsOf_34 : decode cX12_headsOf 34 = .ok (.iload_n 2, 1) := by decide +kernel
theorem dX12_headsOf_35 : decode cX12_headsOf 35 = .ok (.iaload, 1) := by decide +kernel
theorem dX12_headsOf_36 : decode cX12_headsOf 36 = .ok (.aload_n 0, 1) := by decide +kernel
theorem dX12_headsOf_37 : decode cX12_headsOf 37 = .ok (.getfield 70, 3) := by decide +kernel
theorem dX12_headsOf_40 : decode cX12_headsOf 40 = .ok (.if_icmp .ne 28, 3) := by decide +kernel
theorem dX12_headsOf_43 : decode cX12_headsOf 43 = .ok (.aload_n 0, 1) := by decide +kernel
theorem dX12_headsOf_44 : decode cX12_headsOf 44 = .ok (.invokevirtual 234, 3) := by decide +kernel
theorem dX12_headsOf_47 : decode cX12_headsOf 47 = .ok (.istore_n 2, 1) := by decide +kernel
theorem dX12_headsOf_48 : decode cX12_headsOf 48 = .ok (.aload_n 0, 1) := by decide +kernel
theorem dX12_headsOf_49 : decode cX12_headsOf 49 = .ok (.getfield 17, 3) := by decide +kernel
theorem dX12_headsOf_52 : decode cX12_headsOf 52 = .ok (.iload_n 2, 1) := by decide +kernel
theorem dX12_headsOf_53 : decode cX12_headsOf 53 = .ok (.iload_n 1, 1) := by decide +kernel
theorem dX12_headsOf_54 : decode cX12_headsOf 54 = .ok (.iastore, 1) := by decide +kernel
theorem dX12_headsOf_55 : decode cX12_headsOf 55 = .ok (.aload_n 0, 1) := by decide +kernel
theorem dX12_headsOf_56 : decode cX12_headsOf 56 = .ok (.getfield 20, 3) := by decide +kernel
theorem dX12_headsOf_59 : decode cX12_headsOf 59 = .ok (.iload_n 2, 1) := by decide +kernel
theorem dX12_headsOf_60 : decode cX12_headsOf 60 = .ok (.iconst 0, 1) := by decide +kernel
theorem dX12_headsOf_61 : decode cX12_headsOf 61 = .ok (.iastore, 1) := by decide +kernel
theorem dX12_headsOf_62 : decode cX12_headsOf 62 = .ok (.aload_n 0, 1) := by decide +kernel
theorem dX12_headsOf_63 : decode cX12_headsOf 63 = .ok (.iload_n 2, 1) := by decide +kernel
theorem dX12_headsOf_64 : decode cX12_headsOf 64 = .ok (.iconst 1, 1) := by decide +kernel
theorem dX12_headsOf_65 : decode cX12_headsOf 65 = .ok (.invokevirtual 224, 3) := by decide +kernel
theorem dX12_headsOf_68 : decode cX12_headsOf 68 = .ok (.aload_n 0, 1) := by decide +kernel
theorem dX12_headsOf_69 : decode cX12_headsOf 69 = .ok (.iload_n 2, 1) := by decide +kernel
theorem dX12_headsOf_70 : decode cX12_headsOf 70 = .ok (.aload_n 0, 1) := by decide +kernel
theorem dX12_headsOf_71 : decode cX12_headsOf 71 = .ok (.getfield 41, 3) := by decide +kernel
theorem dX12_headsOf_74 : decode cX12_headsOf 74 = .ok (.iload_n 3, 1) := by decide +kernel
theorem dX12_headsOf_75 : decode cX12_headsOf 75 = .ok (.iaload, 1) := by decide +kernel
theorem dX12_headsOf_76 : decode cX12_headsOf 76 = .ok (.aload_n 0, 1) := by decide +kernel
theorem dX12_headsOf_77 : decode cX12_headsOf 77 = .ok (.getfield 44, 3) := by decide +kernel
theorem dX12_headsOf_80 : decode cX12_headsOf 80 = .ok (.iload_n 3, 1) := by decide +kernel
theorem dX12_headsOf_81 : decode cX12_headsOf 81 = .ok (.iaload, 1) := by decide +kernel
theorem dX12_headsOf_82 : decode cX12_headsOf 82 = .ok (.invokevirtual 237, 3) := by decide +kernel
theorem dX12_headsOf_85 : decode cX12_headsOf 85 = .ok (.iinc 3 1, 3) := by decide +kernel
theorem dX12_headsOf_88 : decode cX12_headsOf 88 = .ok (.goto (-84), 3) := by decide +kernel
theorem dX12_headsOf_91 : decode cX12_headsOf 91 = .ok (.return_, 1) := by decide +kernel
theorem dX12_freeSlot_0 : decode cX12_freeSlot 0 = .ok (.iconst 0, 1) := by decide +kernel
theorem dX12_freeSlot_1 : decode cX12_freeSlot 1 = .ok (.istore_n 1, 1) := by decide +kernel
theorem dX12_freeSlot_2 : decode cX12_freeSlot 2 = .ok (.aload_n 0, 1) := by decide +kernel
theorem dX12_freeSlot_3 : decode cX12_freeSlot 3 = .ok (.iload_n 1, 1) := by decide +kernel
theorem dX12_freeSlot_4 : decode cX12_freeSlot 4 = .ok (.invokevirtual 177, 3) := by decide +kernel
theorem dX12_freeSlot_7 : decode cX12_freeSlot 7 = .ok (.ifCond .eq 9, 3) := by decide +kernel
theorem dX12_freeSlot_10 : decode cX12_freeSlot 10 = .ok (.iinc 1 1, 3) := by decide +kernel
theorem dX12_freeSlot_13 : decode cX12_freeSlot 13 = .ok (.goto (-11), 3) := by decide +kernel
theorem dX12_freeSlot_16 : decode cX12_freeSlot 16 = .ok (.iload_n 1, 1) := by decide +kernel
theorem dX12_freeSlot_17 : decode cX12_freeSlot 17 = .ok (.ireturn, 1) := by decide +kernel
theorem dX12_isUsed_0 : decode cX12_isUsed 0 = .ok (.iconst 0, 1) := by decide +kernel
theorem dX12_isUsed_1 : decode cX12_isUsed 1 = .ok (.istore_n 2, 1) := by decide +kernel
theorem dX12_isUsed_2 : decode cX12_isUsed 2 = .ok (.iconst 0, 1) := by decide +kernel
theorem dX12_isUsed_3 : decode cX12_isUsed 3 = .ok (.istore_n 3, 1) := by decide +kernel
theorem dX12_isUsed_4 : decode cX12_isUsed 4 = .ok (.iload_n 3, 1) := by decide +kernel
theorem dX12_isUsed_5 : decode cX12_isUsed 5 = .ok (.aload_n 0, 1) := by decide +kernel
theorem dX12_isUsed_6 : decode cX12_isUsed 6 = .ok (.getfield 115, 3) := by decide +kernel
theorem dX12_isUsed_9 : decode cX12_isUsed 9 = .ok (.if_icmp .ge 29, 3) := by decide +kernel
theorem dX12_isUsed_12 : decode cX12_isUsed 12 = .ok (.iload_n 2, 1) := by decide +kernel
theorem dX12_isUsed_13 : decode cX12_isUsed 13 = .ok (.ifCond .ne 13, 3) := by decide +kernel
theorem dX12_isUsed_16 : decode cX12_isUsed 16 = .ok (.aload_n 0, 1) := by decide +kernel
theorem dX12_isUsed_17 : decode cX12_isUsed 17 = .ok (.getfield 35, 3) := by decide +kernel
theorem dX12_isUsed_20 : decode cX12_isUsed 20 = .ok (.iload_n 3, 1) := by decide +kernel
theorem dX12_isUsed_21 : decode cX12_isUsed 21 = .ok (.iaload, 1) := by decide +kernel
theorem dX12_isUsed_22 : decode cX12_isUsed 22 = .ok (.iload_n 1, 1) := by decide +kernel
theorem dX12_isUsed_23 : decode cX12_isUsed 23 = .ok (.if_icmp .ne 7, 3) := by decide +kernel
theorem dX12_isUsed_26 : decode cX12_isUsed 26 = .ok (.iconst 1, 1) := by decide +kernel
theorem dX12_isUsed_27 : decode cX12_isUsed 27 = .ok (.goto 4, 3) := by decide +kernel
theorem dX12_isUsed_30 : decode cX12_isUsed 30 = .ok (.iconst 0, 1) := by decide +kernel
theorem dX12_isUsed_31 : decode cX12_isUsed 31 = .ok (.istore_n 2, 1) := by decide +kernel
theorem dX12_isUsed_32 : decode cX12_isUsed 32 = .ok (.iinc 3 1, 3) := by decide +kernel
theorem dX12_isUsed_35 : decode cX12_isUsed 35 = .ok (.goto (-31), 3) := by decide +kernel
theorem dX12_isUsed_38 : decode cX12_isUsed 38 = .ok (.iconst 0, 1) := by decide +kernel
theorem dX12_isUsed_39 : decode cX12_isUsed 39 = .ok (.istore_n 3, 1) := by decide +kernel
theorem dX12_isUsed_40 : decode cX12_isUsed 40 = .ok (.iload_n 3, 1) := by decide +kernel
theorem dX12_isUsed_41 : decode cX12_isUsed 41 = .ok (.aload_n 0, 1) := by decide +kernel
theorem dX12_isUsed_42 : decode cX12_isUsed 42 = .ok (.getfield 174, 3) := by decide +kernel
theorem dX12_isUsed_45 : decode cX12_isUsed 45 = .ok (.if_icmp .ge 29, 3) := by decide +kernel
theorem dX12_isUsed_48 : decode cX12_isUsed 48 = .ok (.iload_n 2, 1) := by decide +kernel
theorem dX12_isUsed_49 : decode cX12_isUsed 49 = .ok (.ifCond .ne 13, 3) := by decide +kernel
theorem dX12_isUsed_52 : decode cX12_isUsed 52 = .ok (.aload_n 0, 1) := by decide +kernel
theorem dX12_isUsed_53 : decode cX12_isUsed 53 = .ok (.getfield 47, 3) := by decide +kernel
theorem dX12_isUsed_56 : decode cX12_isUsed 56 = .ok (.iload_n 3, 1) := by decide +kernel
theorem dX12_isUsed_57 : decode cX12_isUsed 57 = .ok (.iaload, 1) := by decide +kernel
theorem dX12_isUsed_58 : decode cX12_isUsed 58 = .ok (.iload_n 1, 1) := by decide +kernel
theorem dX12_isUsed_59 : decode cX12_isUsed 59 = .ok (.if_icmp .ne 7, 3) := by decide +kernel
theorem dX12_isUsed_62 : decode cX12_isUsed 62 = .ok (.iconst 1, 1) := by decide +kernel
theorem dX12_isUsed_63 : decode cX12_isUsed 63 = .ok (.goto 4, 3) := by decide +kernel
theorem dX12_isUsed_66 : decode cX12_isUsed 66 = .ok (.iconst 0, 1) := by decide +kernel
theorem dX12_isUsed_67 : decode cX12_isUsed 67 = .ok (.istore_n 2, 1) := by decide +kernel
theorem dX12_isUsed_68 : decode cX12_isUsed 68 = .ok (.iinc 3 1, 3) := by decide +kernel
theorem dX12_isUsed_71 : decode cX12_isUsed 71 = .ok (.goto (-31), 3) := by decide +kernel
theorem dX12_isUsed_74 : decode cX12_isUsed 74 = .ok (.iload_n 2, 1) := by decide +kernel
theorem dX12_isUsed_75 : decode cX12_isUsed 75 = .ok (.ireturn, 1) := by decide +kernel
theorem dX12_add_0 : decode cX12_add 0 = .ok (.aload_n 0, 1) := by decide +kernel
theorem dX12_add_1 : decode cX12_add 1 = .ok (.getfield 29, 3) := by decide +kernel
theorem dX12_add_4 : decode cX12_add 4 = .ok (.bipush 64, 2) := by decide +kernel
theorem dX12_add_6 : decode cX12_add 6 = .ok (.iload_n 1, 1) := by decide +kernel
theorem dX12_add_7 : decode cX12_add 7 = .ok (.imul, 1) := by decide +kernel
theorem dX12_add_8 : decode cX12_add 8 = .ok (.aload_n 0, 1) := by decide +kernel
theorem dX12_add_9 : decode cX12_add 9 = .ok (.getfield 20, 3) := by decide +kernel
theorem dX12_add_12 : decode cX12_add 12 = .ok (.iload_n 1, 1) := by decide +kernel
theorem dX12_add_13 : decode cX12_add 13 = .ok (.iaload, 1) := by decide +kernel
theorem dX12_add_14 : decode cX12_add 14 = .ok (.iadd, 1) := by decide +kernel
theorem dX12_add_15 : decode cX12_add 15 = .ok (.iload_n 2, 1) := by decide +kernel
theorem dX12_add_16 : decode cX12_add 16 = .ok (.iastore, 1) := by decide +kernel
theorem dX12_add_17 : decode cX12_add 17 = .ok (.aload_n 0, 1) := by decide +kernel
theorem dX12_add_18 : decode cX12_add 18 = .ok (.getfield 32, 3) := by decide +kernel
theorem dX12_add_21 : decode cX12_add 21 = .ok (.bipush 64, 2) := by decide +kernel
theorem dX12_add_23 : decode cX12_add 23 = .ok (.iload_n 1, 1) := by decide +kernel
theorem dX12_add_24 : decode cX12_add 24 = .ok (.imul, 1) := by decide +kernel
theorem dX12_add_25 : decode cX12_add 25 = .ok (.aload_n 0, 1) := by decide +kernel
theorem dX12_add_26 : decode cX12_add 26 = .ok (.getfield 20, 3) := by decide +kernel
theorem dX12_add_29 : decode cX12_add 29 = .ok (.iload_n 1, 1) := by decide +kernel
theorem dX12_add_30 : decode cX12_add 30 = .ok (.iaload, 1) := by decide +kernel
theorem dX12_add_31 : decode cX12_add 31 = .ok (.iadd, 1) := by decide +kernel
theorem dX12_add_32 : decode cX12_add 32 = .ok (.iload_n 3, 1) := by decide +kernel
theorem dX12_add_33 : decode cX12_add 33 = .ok (.iastore, 1) := by decide +kernel
theorem dX12_add_34 : decode cX12_add 34 = .ok (.aload_n 0, 1) := by decide +kernel
theorem dX12_add_35 : decode cX12_add 35 = .ok (.getfield 20, 3) := by decide +kernel
theorem dX12_add_38 : decode cX12_add 38 = .ok (.iload_n 1, 1) := by decide +kernel
theorem dX12_add_39 : decode cX12_add 39 = .ok (.dup2, 1) := by decide +kernel
theorem dX12_add_40 : decode cX12_add 40 = .ok (.iaload, 1) := by decide +kernel
theorem dX12_add_41 : decode cX12_add 41 = .ok (.iconst 1, 1) := by decide +kernel
theorem dX12_add_42 : decode cX12_add 42 = .ok (.iadd, 1) := by decide +kernel
theorem dX12_add_43 : decode cX12_add 43 = .ok (.iastore, 1) := by decide +kernel
theorem dX12_add_44 : decode cX12_add 44 = .ok (.return_, 1) := by decide +kernel
theorem dX12_turn_0 : decode cX12_turn 0 = .ok (.aload_n 0, 1) := by decide +kernel
theorem dX12_turn_1 : decode cX12_turn 1 = .ok (.getfield 174, 3) := by decide +kernel
theorem dX12_turn_4 : decode cX12_turn 4 = .ok (.bipush 96, 2) := by decide +kernel
theorem dX12_turn_6 : decode cX12_turn 6 = .ok (.if_icmp .le 6, 3) := by decide +kernel
theorem dX12_turn_9 : decode cX12_turn 9 = .ok (.bipush (-3), 2) := by decide +kernel
theorem dX12_turn_11 : decode cX12_turn 11 = .ok (.ireturn, 1) := by decide +kernel
theorem dX12_turn_12 : decode cX12_turn 12 = .ok (.iconst 0, 1) := by decide +kernel
theorem dX12_turn_13 : decode cX12_turn 13 = .ok (.istore_n 2, 1) := by decide +kernel
theorem dX12_turn_14 : decode cX12_turn 14 = .ok (.iload_n 2, 1) := by decide +kernel
theorem dX12_turn_15 : decode cX12_turn 15 = .ok (.aload_n 0, 1) := by decide +kernel
theorem dX12_turn_16 : decode cX12_turn 16 = .ok (.getfield 174, 3) := by decide +kernel
theorem dX12_turn_19 : decode cX12_turn 19 = .ok (.if_icmp .ge 74, 3) := by decide +kernel
theorem dX12_turn_22 : decode cX12_turn 22 = .ok (.aload_n 0, 1) := by decide +kernel
theorem dX12_turn_23 : decode cX12_turn 23 = .ok (.getfield 50, 3) := by decide +kernel
theorem dX12_turn_26 : decode cX12_turn 26 = .ok (.iload_n 2, 1) := by decide +kernel
theorem dX12_turn_27 : decode cX12_turn 27 = .ok (.baload, 1) := by decide +kernel
theorem dX12_turn_28 : decode cX12_turn 28 = .ok (.ifCond .ne 6, 3) := by decide +kernel
theorem dX12_turn_31 : decode cX12_turn 31 = .ok (.goto 56, 3) := by decide +kernel
theorem dX12_turn_34 : decode cX12_turn 34 = .ok (.aload_n 0, 1) := by decide +kernel
theorem dX12_turn_35 : decode cX12_turn 35 = .ok (.aload_n 0, 1) := by decide +kernel
theorem dX12_turn_36 : decode cX12_turn 36 = .ok (.getfield 47, 3) := by decide +kernel
theorem dX12_turn_39 : decode cX12_turn 39 = .ok (.iload_n 2, 1) := by decide +kernel
theorem dX12_turn_40 : decode cX12_turn 40 = .ok (.iaload, 1) := by decide +kernel
theorem dX12_turn_41 : decode cX12_turn 41 = .ok (.invokevirtual 186, 3) := by decide +kernel
theorem dX12_turn_44 : decode cX12_turn 44 = .ok (.istore_n 3, 1) := by decide +kernel
theorem dX12_turn_45 : decode cX12_turn 45 = .ok (.aload_n 0, 1) := by decide +kernel
theorem dX12_turn_46 : decode cX12_turn 46 = .ok (.iload_n 3, 1) := by decide +kernel
theorem dX12_turn_47 : decode cX12_turn 47 = .ok (.iload_n 2, 1) := by decide +kernel
theorem dX12_turn_48 : decode cX12_turn 48 = .ok (.invokevirtual 190, 3) := by decide +kernel
theorem dX12_turn_51 : decode cX12_turn 51 = .ok (.istore 4, 2) := by decide +kernel
theorem dX12_turn_53 : decode cX12_turn 53 = .ok (.iload 4, 2) := by decide +kernel
theorem dX12_turn_55 : decode cX12_turn 55 = .ok (.iconst (-1), 1) := by decide +kernel
theorem dX12_turn_56 : decode cX12_turn 56 = .ok (.if_icmp .ne 6, 3) := by decide +kernel
theorem dX12_turn_59 : decode cX12_turn 59 = .ok (.bipush (-3), 2) := by decide +kernel
theorem dX12_turn_61 : decode cX12_turn 61 = .ok (.ireturn, 1) := by decide +kernel
theorem dX12_turn_62 : decode cX12_turn 62 = .ok (.aload_n 0, 1) := by decide +kernel
theorem dX12_turn_63 : decode cX12_turn 63 = .ok (.getfield 23, 3) := by decide +kernel
theorem dX12_turn_66 : decode cX12_turn 66 = .ok (.aload_n 0, 1) := by decide +kernel
theorem dX12_turn_67 : decode cX12_turn 67 = .ok (.getfield 47, 3) := by decide +kernel
theorem dX12_turn_70 : decode cX12_turn 70 = .ok (.iload_n 2, 1) := by decide +kernel
theorem dX12_turn_71 : decode cX12_turn 71 = .ok (.iaload, 1) := by decide +kernel
theorem dX12_turn_72 : decode cX12_turn 72 = .ok (.iload 4, 2) := by decide +kernel
theorem dX12_turn_74 : decode cX12_turn 74 = .ok (.iastore, 1) := by decide +kernel
theorem dX12_turn_75 : decode cX12_turn 75 = .ok (.aload_n 0, 1) := by decide +kernel
theorem dX12_turn_76 : decode cX12_turn 76 = .ok (.getfield 26, 3) := by decide +kernel
theorem dX12_turn_79 : decode cX12_turn 79 = .ok (.aload_n 0, 1) := by decide +kernel
theorem dX12_turn_80 : decode cX12_turn 80 = .ok (.getfield 47, 3) := by decide +kernel
theorem dX12_turn_83 : decode cX12_turn 83 = .ok (.iload_n 2, 1) := by decide +kernel
theorem dX12_turn_84 : decode cX12_turn 84 = .ok (.iaload, 1) := by decide +kernel
theorem dX12_turn_85 : decode cX12_turn 85 = .ok (.iload_n 3, 1) := by decide +kernel
theorem dX12_turn_86 : decode cX12_turn 86 = .ok (.iastore, 1) := by decide +kernel
theorem dX12_turn_87 : decode cX12_turn 87 = .ok (.iinc 2 1, 3) := by decide +kernel
theorem dX12_turn_90 : decode cX12_turn 90 = .ok (.goto (-76), 3) := by decide +kernel
theorem dX12_turn_93 : decode cX12_turn 93 = .ok (.iconst 0, 1) := by decide +kernel
theorem dX12_turn_94 : decode cX12_turn 94 = .ok (.istore_n 2, 1) := by decide +kernel
theorem dX12_turn_95 : decode cX12_turn 95 = .ok (.iload_n 2, 1) := by decide +kernel
theorem dX12_turn_96 : decode cX12_turn 96 = .ok (.aload_n 0, 1) := by decide +kernel
theorem dX12_turn_97 : decode cX12_turn 97 = .ok (.getfield 174, 3) := by decide +kernel
theorem dX12_turn_100 : decode cX12_turn 100 = .ok (.if_icmp .ge 34, 3) := by decide +kernel
theorem dX12_turn_103 : decode cX12_turn 103 = .ok (.aload_n 0, 1) := by decide +kernel
theorem dX12_turn_104 : decode cX12_turn 104 = .ok (.getfield 50, 3) := by decide +kernel
theorem dX12_turn_107 : decode cX12_turn 107 = .ok (.iload_n 2, 1) := by decide +kernel
theorem dX12_turn_108 : decode cX12_turn 108 = .ok (.baload, 1) := by decide +kernel
theorem dX12_turn_109 : decode cX12_turn 109 = .ok (.ifCond .eq 19, 3) := by decide +kernel
theorem dX12_turn_112 : decode cX12_turn 112 = .ok (.aload_n 0, 1) := by decide +kernel
theorem dX12_turn_113 : decode cX12_turn 113 = .ok (.aload_n 0, 1) := by decide +kernel
theorem dX12_turn_114 : decode cX12_turn 114 = .ok (.getfield 47, 3) := by decide +kernel
theorem dX12_turn_117 : decode cX12_turn 117 = .ok (.iload_n 2, 1) := by decide +kernel
theorem dX12_turn_118 : decode cX12_turn 118 = .ok (.iaload, 1) := by decide +kernel
theorem dX12_turn_119 : decode cX12_turn 119 = .ok (.invokevirtual 194, 3) := by decide +kernel
theorem dX12_turn_122 : decode cX12_turn 122 = .ok (.ifCond .ne 6, 3) := by decide +kernel
theorem dX12_turn_125 : decode cX12_turn 125 = .ok (.bipush (-9), 2) := by decide +kernel
theorem dX12_turn_127 : decode cX12_turn 127 = .ok (.ireturn, 1) := by decide +kernel
theorem dX12_turn_128 : decode cX12_turn 128 = .ok (.iinc 2 1, 3) := by decide +kernel
theorem dX12_turn_131 : decode cX12_turn 131 = .ok (.goto (-36), 3) := by decide +kernel
theorem dX12_turn_134 : decode cX12_turn 134 = .ok (.aload_n 0, 1) := by decide +kernel
theorem dX12_turn_135 : decode cX12_turn 135 = .ok (.aload_n 0, 1) := by decide +kernel
theorem dX12_turn_136 : decode cX12_turn 136 = .ok (.iconst 1, 1) := by decide +kernel
theorem dX12_turn_137 : decode cX12_turn 137 = .ok (.aload_n 0, 1) := by decide +kernel
theorem dX12_turn_138 : decode cX12_turn 138 = .ok (.getfield 197, 3) := by decide +kernel
theorem dX12_turn_141 : decode cX12_turn 141 = .ok (.isub, 1) := by decide +kernel
theorem dX12_turn_142 : decode cX12_turn 142 = .ok (.invokevirtual 200, 3) := by decide +kernel
theorem dX12_turn_145 : decode cX12_turn 145 = .ok (.invokevirtual 203, 3) := by decide +kernel
theorem dX12_turn_148 : decode cX12_turn 148 = .ok (.ifCond .eq 21, 3) := by decide +kernel
theorem dX12_turn_151 : decode cX12_turn 151 = .ok (.aload_n 0, 1) := by decide +kernel
theorem dX12_turn_152 : decode cX12_turn 152 = .ok (.iconst 0, 1) := by decide +kernel
theorem dX12_turn_153 : decode cX12_turn 153 = .ok (.iconst 2, 1) := by decide +kernel
theorem dX12_turn_154 : decode cX12_turn 154 = .ok (.iload_n 1, 1) := by decide +kernel
theorem dX12_turn_155 : decode cX12_turn 155 = .ok (.imul, 1) := by decide +kernel
theorem dX12_turn_156 : decode cX12_turn 156 = .ok (.iconst 1, 1) := by decide +kernel
theorem dX12_turn_157 : decode cX12_turn 157 = .ok (.iadd, 1) := by decide +kernel
theorem dX12_turn_158 : decode cX12_turn 158 = .ok (.aload_n 0, 1) := by decide +kernel
theorem dX12_turn_159 : decode cX12_turn 159 = .ok (.getfield 197, 3) := by decide +kernel
theorem dX12_turn_162 : decode cX12_turn 162 = .ok (.isub, 1) := by decide +kernel
theorem dX12_turn_163 : decode cX12_turn 163 = .ok (.invokevirtual 109, 3) := by decide +kernel
theorem dX12_turn_166 : decode cX12_turn 166 = .ok (.ifCond .ne 6, 3) := by decide +kernel
theorem dX12_turn_169 : decode cX12_turn 169 = .ok (.bipush (-9), 2) := by decide +kernel
theorem dX12_turn_171 : decode cX12_turn 171 = .ok (.ireturn, 1) := by decide +kernel
theorem dX12_turn_172 : decode cX12_turn 172 = .ok (.iconst 0, 1) := by decide +kernel
theorem dX12_turn_173 : decode cX12_turn 173 = .ok (.istore_n 2, 1) := by decide +kernel
theorem dX12_turn_174 : decode cX12_turn 174 = .ok (.iload_n 2, 1) := by decide +kernel
theorem dX12_turn_175 : decode cX12_turn 175 = .ok (.aload_n 0, 1) := by decide +kernel
theorem dX12_turn_176 : decode cX12_turn 176 = .ok (.getfield 174, 3) := by decide +kernel
theorem dX12_turn_179 : decode cX12_turn 179 = .ok (.if_icmp .ge 21, 3) := by decide +kernel
theorem dX12_turn_182 : decode cX12_turn 182 = .ok (.aload_n 0, 1) := by decide +kernel
theorem dX12_turn_183 : decode cX12_turn 183 = .ok (.getfield 35, 3) := by decide +kernel
theorem dX12_turn_186 : decode cX12_turn 186 = .ok (.iload_n 2, 1) := by decide +kernel
theorem dX12_turn_187 : decode cX12_turn 187 = .ok (.aload_n 0, 1) := by decide +kernel
theorem dX12_turn_188 : decode cX12_turn 188 = .ok (.getfield 47, 3) := by decide +kernel
theorem dX12_turn_191 : decode cX12_turn 191 = .ok (.iload_n 2, 1) := by decide +kernel
theorem dX12_turn_192 : decode cX12_turn 192 = .ok (.iaload, 1) := by decide +kernel
theorem dX12_turn_193 : decode cX12_turn 193 = .ok (.iastore, 1) := by decide +kernel
theorem dX12_turn_194 : decode cX12_turn 194 = .ok (.iinc 2 1, 3) := by decide +kernel
theorem dX12_turn_197 : decode cX12_turn 197 = .ok (.goto (-23), 3) := by decide +kernel
theorem dX12_turn_200 : decode cX12_turn 200 = .ok (.aload_n 0, 1) := by decide +kernel
theorem dX12_turn_201 : decode cX12_turn 201 = .ok (.aload_n 0, 1) := by decide +kernel
theorem dX12_turn_202 : decode cX12_turn 202 = .ok (.getfield 174, 3) := by decide +kernel
theorem dX12_turn_205 : decode cX12_turn 205 = .ok (.putfield 115, 3) := by decide +kernel
theorem dX12_turn_208 : decode cX12_turn 208 = .ok (.aload_n 0, 1) := by decide +kernel
theorem dX12_turn_209 : decode cX12_turn 209 = .ok (.iload_n 1, 1) := by decide +kernel
theorem dX12_turn_210 : decode cX12_turn 210 = .ok (.putfield 112, 3) := by decide +kernel
theorem dX12_turn_213 : decode cX12_turn 213 = .ok (.aload_n 0, 1) := by decide +kernel
theorem dX12_turn_214 : decode cX12_turn 214 = .ok (.iconst 1, 1) := by decide +kernel
theorem dX12_turn_215 : decode cX12_turn 215 = .ok (.aload_n 0, 1) := by decide +kernel
theorem dX12_turn_216 : decode cX12_turn 216 = .ok (.getfield 197, 3) := by decide +kernel
theorem dX12_turn_219 : decode cX12_turn 219 = .ok (.isub, 1) := by decide +kernel
theorem dX12_turn_220 : decode cX12_turn 220 = .ok (.putfield 197, 3) := by decide +kernel
theorem dX12_turn_223 : decode cX12_turn 223 = .ok (.iconst 0, 1) := by decide +kernel
theorem dX12_turn_224 : decode cX12_turn 224 = .ok (.ireturn, 1) := by decide +kernel
theorem dX12_make_0 : decode cX12_make 0 = .ok (.bipush 64, 2) := by decide +kernel
theorem dX12_make_2 : decode cX12_make 2 = .ok (.iload_n 1, 1) := by decide +kernel
theorem dX12_make_3 : decode cX12_make 3 = .ok (.imul, 1) := by decide +kernel
theorem dX12_make_4 : decode cX12_make 4 = .ok (.istore_n 2, 1) := by decide +kernel
theorem dX12_make_5 : decode cX12_make 5 = .ok (.aload_n 0, 1) := by decide +kernel
theorem dX12_make_6 : decode cX12_make 6 = .ok (.getfield 60, 3) := by decide +kernel
theorem dX12_make_9 : decode cX12_make 9 = .ok (.iconst 0, 1) := by decide +kernel
theorem dX12_make_10 : decode cX12_make 10 = .ok (.aload_n 0, 1) := by decide +kernel
theorem dX12_make_11 : decode cX12_make 11 = .ok (.getfield 29, 3) := by decide +kernel
theorem dX12_make_14 : decode cX12_make 14 = .ok (.iload_n 2, 1) := by decide +kernel
theorem dX12_make_15 : decode cX12_make 15 = .ok (.iaload, 1) := by decide +kernel
theorem dX12_make_16 : decode cX12_make 16 = .ok (.iastore, 1) := by decide +kernel
theorem dX12_make_17 : decode cX12_make 17 = .ok (.aload_n 0, 1) := by decide +kernel
theorem dX12_make_18 : decode cX12_make 18 = .ok (.getfield 60, 3) := by decide +kernel
theorem dX12_make_21 : decode cX12_make 21 = .ok (.iconst 1, 1) := by decide +kernel
theorem dX12_make_22 : decode cX12_make 22 = .ok (.aload_n 0, 1) := by decide +kernel
theorem dX12_make_23 : decode cX12_make 23 = .ok (.getfield 32, 3) := by decide +kernel
theorem dX12_make_26 : decode cX12_make 26 = .ok (.iload_n 2, 1) := by decide +kernel
theorem dX12_make_27 : decode cX12_make 27 = .ok (.iaload, 1) := by decide +kernel
theorem dX12_make_28 : decode cX12_make 28 = .ok (.iastore, 1) := by decide +kernel
theorem dX12_make_29 : decode cX12_make 29 = .ok (.aload_n 0, 1) := by decide +kernel
theorem dX12_make_30 : decode cX12_make 30 = .ok (.iconst 0, 1) := by decide +kernel
theorem dX12_make_31 : decode cX12_make 31 = .ok (.putfield 118, 3) := by decide +kernel
theorem dX12_make_34 : decode cX12_make 34 = .ok (.lconst 0, 1) := by decide +kernel
theorem dX12_make_35 : decode cX12_make 35 = .ok (.lstore_n 3, 1) := by decide +kernel
theorem dX12_make_36 : decode cX12_make 36 = .ok (.iconst 1, 1) := by decide +kernel
theorem dX12_make_37 : decode cX12_make 37 = .ok (.istore 5, 2) := by decide +kernel
theorem dX12_make_39 : decode cX12_make 39 = .ok (.iload 5, 2) := by decide +kernel
theorem dX12_make_41 : decode cX12_make 41 = .ok (.aload_n 0, 1) := by decide +kernel
theorem dX12_make_42 : decode cX12_make 42 = .ok (.getfield 20, 3) := by decide +kernel
theorem dX12_make_45 : decode cX12_make 45 = .ok (.iload_n 1, 1) := by decide +kernel
theorem dX12_make_46 : decode cX12_make 46 = .ok (.iaload, 1) := by decide +kernel
theorem dX12_make_47 : decode cX12_make 47 = .ok (.if_icmp .ge 70, 3) := by decide +kernel
theorem dX12_make_50 : decode cX12_make 50 = .ok (.aload_n 0, 1) := by decide +kernel
theorem dX12_make_51 : decode cX12_make 51 = .ok (.getfield 29, 3) := by decide +kernel
theorem dX12_make_54 : decode cX12_make 54 = .ok (.iload_n 2, 1) := by decide +kernel
theorem dX12_make_55 : decode cX12_make 55 = .ok (.iload 5, 2) := by decide +kernel
theorem dX12_make_57 : decode cX12_make 57 = .ok (.iadd, 1) := by decide +kernel
theorem dX12_make_58 : decode cX12_make 58 = .ok (.iaload, 1) := by decide +kernel
theorem dX12_make_59 : decode cX12_make 59 = .ok (.i2l, 1) := by decide +kernel
theorem dX12_make_60 : decode cX12_make 60 = .ok (.aload_n 0, 1) := by decide +kernel
theorem dX12_make_61 : decode cX12_make 61 = .ok (.getfield 29, 3) := by decide +kernel
theorem dX12_make_64 : decode cX12_make 64 = .ok (.iload_n 2, 1) := by decide +kernel
theorem dX12_make_65 : decode cX12_make 65 = .ok (.iload 5, 2) := by decide +kernel
theorem dX12_make_67 : decode cX12_make 67 = .ok (.iadd, 1) := by decide +kernel
theorem dX12_make_68 : decode cX12_make 68 = .ok (.iconst 1, 1) := by decide +kernel
theorem dX12_make_69 : decode cX12_make 69 = .ok (.isub, 1) := by decide +kernel
theorem dX12_make_70 : decode cX12_make 70 = .ok (.iaload, 1) := by decide +kernel
theorem dX12_make_71 : decode cX12_make 71 = .ok (.i2l, 1) := by decide +kernel
theorem dX12_make_72 : decode cX12_make 72 = .ok (.lsub, 1) := by decide +kernel
theorem dX12_make_73 : decode cX12_make 73 = .ok (.lstore 6, 2) := by decide +kernel
theorem dX12_make_75 : decode cX12_make 75 = .ok (.aload_n 0, 1) := by decide +kernel
theorem dX12_make_76 : decode cX12_make 76 = .ok (.lload 6, 2) := by decide +kernel
theorem dX12_make_78 : decode cX12_make 78 = .ok (.lload_n 3, 1) := by decide +kernel
theorem dX12_make_79 : decode cX12_make 79 = .ok (.lsub, 1) := by decide +kernel
theorem dX12_make_80 : decode cX12_make 80 = .ok (.invokevirtual 151, 3) := by decide +kernel
theorem dX12_make_83 : decode cX12_make 83 = .ok (.lload 6, 2) := by decide +kernel
theorem dX12_make_85 : decode cX12_make 85 = .ok (.lstore_n 3, 1) := by decide +kernel
theorem dX12_make_86 : decode cX12_make 86 = .ok (.aload_n 0, 1) := by decide +kernel
theorem dX12_make_87 : decode cX12_make 87 = .ok (.aload_n 0, 1) := by decide +kernel
theorem dX12_make_88 : decode cX12_make 88 = .ok (.getfield 32, 3) := by decide +kernel
theorem dX12_make_91 : decode cX12_make 91 = .ok (.iload_n 2, 1) := by decide +kernel
theorem dX12_make_92 : decode cX12_make 92 = .ok (.iload 5, 2) := by decide +kernel
theorem dX12_make_94 : decode cX12_make 94 = .ok (.iadd, 1) := by decide +kernel
theorem dX12_make_95 : decode cX12_make 95 = .ok (.iaload, 1) := by decide +kernel
theorem dX12_make_96 : decode cX12_make 96 = .ok (.aload_n 0, 1) := by decide +kernel
theorem dX12_make_97 : decode cX12_make 97 = .ok (.getfield 32, 3) := by decide +kernel
theorem dX12_make_100 : decode cX12_make 100 = .ok (.iload_n 2, 1) := by decide +kernel
theorem dX12_make_101 : decode cX12_make 101 = .ok (.iload 5, 2) := by decide +kernel
theorem dX12_make_103 : decode cX12_make 103 = .ok (.iadd, 1) := by decide +kernel
theorem dX12_make_104 : decode cX12_make 104 = .ok (.iconst 1, 1) := by decide +kernel
theorem dX12_make_105 : decode cX12_make 105 = .ok (.isub, 1) := by decide +kernel
theorem dX12_make_106 : decode cX12_make 106 = .ok (.iaload, 1) := by decide +kernel
theorem dX12_make_107 : decode cX12_make 107 = .ok (.isub, 1) := by decide +kernel
theorem dX12_make_108 : decode cX12_make 108 = .ok (.invokevirtual 155, 3) := by decide +kernel
theorem dX12_make_111 : decode cX12_make 111 = .ok (.iinc 5 1, 3) := by decide +kernel
theorem dX12_make_114 : decode cX12_make 114 = .ok (.goto (-75), 3) := by decide +kernel
theorem dX12_make_117 : decode cX12_make 117 = .ok (.iconst 2, 1) := by decide +kernel
theorem dX12_make_118 : decode cX12_make 118 = .ok (.aload_n 0, 1) := by decide +kernel
theorem dX12_make_119 : decode cX12_make 119 = .ok (.getfield 118, 3) := by decide +kernel
theorem dX12_make_122 : decode cX12_make 122 = .ok (.bipush 31, 2) := by decide +kernel
theorem dX12_make_124 : decode cX12_make 124 = .ok (.iadd, 1) := by decide +kernel
theorem dX12_make_125 : decode cX12_make 125 = .ok (.bipush 32, 2) := by decide +kernel
theorem dX12_make_127 : decode cX12_make 127 = .ok (.idiv, 1) := by decide +kernel
theorem dX12_make_128 : decode cX12_make 128 = .ok (.iadd, 1) := by decide +kernel
theorem dX12_make_129 : decode cX12_make 129 = .ok (.ireturn, 1) := by decide +kernel
theorem dX12_putStep_0 : decode cX12_putStep 0 = .ok (.lload_n 1, 1) := by decide +kernel
theorem dX12_putStep_1 : decode cX12_putStep 1 = .ok (.lconst 0, 1) := by decide +kernel
theorem dX12_putStep_2 : decode cX12_putStep 2 = .ok (.lcmp, 1) := by decide +kernel
theorem dX12_putStep_3 : decode cX12_putStep 3 = .ok (.ifCond .ne 12, 3) := by decide +kernel
theorem dX12_putStep_6 : decode cX12_putStep 6 = .ok (.aload_n 0, 1) := by decide +kernel
theorem dX12_putStep_7 : decode cX12_putStep 7 = .ok (.lconst 0, 1) := by decide +kernel
theorem dX12_putStep_8 : decode cX12_putStep 8 = .ok (.iconst 1, 1) := by decide +kernel
theorem dX12_putStep_9 : decode cX12_putStep 9 = .ok (.invokevirtual 121, 3) := by decide +kernel
theorem dX12_putStep_12 : decode cX12_putStep 12 = .ok (.goto 154, 3) := by decide +kernel
theorem dX12_putStep_15 : decode cX12_putStep 15 = .ok (.lload_n 1, 1) := by decide +kernel
theorem dX12_putStep_16 : decode cX12_putStep 16 = .ok (.ldc2_w 125, 3) := by decide +kernel
theorem dX12_putStep_19 : decode cX12_putStep 19 = .ok (.ladd, 1) := by decide +kernel
theorem dX12_putStep_20 : decode cX12_putStep 20 = .ok (.lconst 0, 1) := by decide +kernel
theorem dX12_putStep_21 : decode cX12_putStep 21 = .ok (.lcmp, 1) := by decide +kernel
theorem dX12_putStep_22 : decode cX12_putStep 22 = .ok (.ifCond .lt 37, 3) := by decide +kernel
theorem dX12_putStep_25 : decode cX12_putStep 25 = .ok (.lload_n 1, 1) := by decide +kernel
theorem dX12_putStep_26 : decode cX12_putStep 26 = .ok (.ldc2_w 125, 3) := by decide +kernel
theorem dX12_putStep_29 : decode cX12_putStep 29 = .ok (.ladd, 1) := by decide +kernel
theorem dX12_putStep_30 : decode cX12_putStep 30 = .ok (.ldc2_w 127, 3) := by decide +kernel
theorem dX12_putStep_33 : decode cX12_putStep 33 = .ok (.lcmp, 1) := by decide +kernel
theorem dX12_putStep_34 : decode cX12_putStep 34 = .ok (.ifCond .gt 25, 3) := by decide +kernel
theorem dX12_putStep_37 : decode cX12_putStep 37 = .ok (.aload_n 0, 1) := by decide +kernel
theorem dX12_putStep_38 : decode cX12_putStep 38 = .ok (.ldc2_w 129, 3) := by decide +kernel
theorem dX12_putStep_41 : decode cX12_putStep 41 = .ok (.iconst 2, 1) := by decide +kernel
theorem dX12_putStep_42 : decode cX12_putStep 42 = .ok (.invokevirtual 121, 3) := by decide +kernel
theorem dX12_putStep_45 : decode cX12_putStep 45 = .ok (.aload_n 0, 1) := by decide +kernel
theorem dX12_putStep_46 : decode cX12_putStep 46 = .ok (.lload_n 1, 1) := by decide +kernel
theorem dX12_putStep_47 : decode cX12_putStep 47 = .ok (.ldc2_w 125, 3) := by decide +kernel
theorem dX12_putStep_50 : decode cX12_putStep 50 = .ok (.ladd, 1) := by decide +kernel
theorem dX12_putStep_51 : decode cX12_putStep 51 = .ok (.bipush 7, 2) := by decide +kernel
theorem dX12_putStep_53 : decode cX12_putStep 53 = .ok (.invokevirtual 121, 3) := by decide +kernel
theorem dX12_putStep_56 : decode cX12_putStep 56 = .ok (.goto 110, 3) := by decide +kernel
theorem dX12_putStep_59 : decode cX12_putStep 59 = .ok (.lload_n 1, 1) := by decide +kernel
theorem dX12_putStep_60 : decode cX12_putStep 60 = .ok (.ldc2_w 131, 3) := by decide +kernel
theorem dX12_putStep_63 : decode cX12_putStep 63 = .ok (.ladd, 1) := by decide +kernel
theorem dX12_putStep_64 : decode cX12_putStep 64 = .ok (.lconst 0, 1) := by decide +kernel
theorem dX12_putStep_65 : decode cX12_putStep 65 = .ok (.lcmp, 1) := by decide +kernel
theorem dX12_putStep_66 : decode cX12_putStep 66 = .ok (.ifCond .lt 37, 3) := by decide +kernel
theorem dX12_putStep_69 : decode cX12_putStep 69 = .ok (.lload_n 1, 1) := by decide +kernel
theorem dX12_putStep_70 : decode cX12_putStep 70 = .ok (.ldc2_w 131, 3) := by decide +kernel
theorem dX12_putStep_73 : decode cX12_putStep 73 = .ok (.ladd, 1) := by decide +kernel
theorem dX12_putStep_74 : decode cX12_putStep 74 = .ok (.ldc2_w 133, 3) := by decide +kernel
theorem dX12_putStep_77 : decode cX12_putStep 77 = .ok (.lcmp, 1) := by decide +kernel
theorem dX12_putStep_78 : decode cX12_putStep 78 = .ok (.ifCond .gt 25, 3) := by decide +kernel
theorem dX12_putStep_81 : decode cX12_putStep 81 = .ok (.aload_n 0, 1) := by decide +kernel
theorem dX12_putStep_82 : decode cX12_putStep 82 = .ok (.ldc2_w 135, 3) := by decide +kernel
theorem dX12_putStep_85 : decode cX12_putStep 85 = .ok (.iconst 3, 1) := by decide +kernel
theorem dX12_putStep_86 : decode cX12_putStep 86 = .ok (.invokevirtual 121, 3) := by decide +kernel
theorem dX12_putStep_89 : decode cX12_putStep 89 = .ok (.aload_n 0, 1) := by decide +kernel
theorem dX12_putStep_90 : decode cX12_putStep 90 = .ok (.lload_n 1, 1) := by decide +kernel
theorem dX12_putStep_91 : decode cX12_putStep 91 = .ok (.ldc2_w 131, 3) := by decide +kernel
theorem dX12_putStep_94 : decode cX12_putStep 94 = .ok (.ladd, 1) := by decide +kernel
theorem dX12_putStep_95 : decode cX12_putStep 95 = .ok (.bipush 9, 2) := by decide +kernel
theorem dX12_putStep_97 : decode cX12_putStep 97 = .ok (.invokevirtual 121, 3) := by decide +kernel
theorem dX12_putStep_100 : decode cX12_putStep 100 = .ok (.goto 66, 3) := by decide +kernel
theorem dX12_putStep_103 : decode cX12_putStep 103 = .ok (.lload_n 1, 1) := by decide +kernel
theorem dX12_putStep_104 : decode cX12_putStep 104 = .ok (.ldc2_w 137, 3) := by decide +kernel
theorem dX12_putStep_107 : decode cX12_putStep 107 = .ok (.ladd, 1) := by decide +kernel
theorem dX12_putStep_108 : decode cX12_putStep 108 = .ok (.lconst 0, 1) := by decide +kernel
theorem dX12_putStep_109 : decode cX12_putStep 109 = .ok (.lcmp, 1) := by decide +kernel
theorem dX12_putStep_110 : decode cX12_putStep 110 = .ok (.ifCond .lt 37, 3) := by decide +kernel
theorem dX12_putStep_113 : decode cX12_putStep 113 = .ok (.lload_n 1, 1) := by decide +kernel
theorem dX12_putStep_114 : decode cX12_putStep 114 = .ok (.ldc2_w 137, 3) := by decide +kernel
theorem dX12_putStep_117 : decode cX12_putStep 117 = .ok (.ladd, 1) := by decide +kernel
theorem dX12_putStep_118 : decode cX12_putStep 118 = .ok (.ldc2_w 139, 3) := by decide +kernel
theorem dX12_putStep_121 : decode cX12_putStep 121 = .ok (.lcmp, 1) := by decide +kernel
theorem dX12_putStep_122 : decode cX12_putStep 122 = .ok (.ifCond .gt 25, 3) := by decide +kernel
theorem dX12_putStep_125 : decode cX12_putStep 125 = .ok (.aload_n 0, 1) := by decide +kernel
theorem dX12_putStep_126 : decode cX12_putStep 126 = .ok (.ldc2_w 141, 3) := by decide +kernel
theorem dX12_putStep_129 : decode cX12_putStep 129 = .ok (.iconst 4, 1) := by decide +kernel
theorem dX12_putStep_130 : decode cX12_putStep 130 = .ok (.invokevirtual 121, 3) := by decide +kernel
theorem dX12_putStep_133 : decode cX12_putStep 133 = .ok (.aload_n 0, 1) := by decide +kernel
theorem dX12_putStep_134 : decode cX12_putStep 134 = .ok (.lload_n 1, 1) := by decide +kernel
theorem dX12_putStep_135 : decode cX12_putStep 135 = .ok (.ldc2_w 137, 3) := by decide +kernel
theorem dX12_putStep_138 : decode cX12_putStep 138 = .ok (.ladd, 1) := by decide +kernel
theorem dX12_putStep_139 : decode cX12_putStep 139 = .ok (.bipush 12, 2) := by decide +kernel
theorem dX12_putStep_141 : decode cX12_putStep 141 = .ok (.invokevirtual 121, 3) := by decide +kernel
theorem dX12_putStep_144 : decode cX12_putStep 144 = .ok (.goto 22, 3) := by decide +kernel
theorem dX12_putStep_147 : decode cX12_putStep 147 = .ok (.aload_n 0, 1) := by decide +kernel
theorem dX12_putStep_148 : decode cX12_putStep 148 = .ok (.ldc2_w 143, 3) := by decide +kernel
theorem dX12_putStep_151 : decode cX12_putStep 151 = .ok (.iconst 4, 1) := by decide +kernel
theorem dX12_putStep_152 : decode cX12_putStep 152 = .ok (.invokevirtual 121, 3) := by decide +kernel
theorem dX12_putStep_155 : decode cX12_putStep 155 = .ok (.aload_n 0, 1) := by decide +kernel
theorem dX12_putStep_156 : decode cX12_putStep 156 = .ok (.lload_n 1, 1) := by decide +kernel
theorem dX12_putStep_157 : decode cX12_putStep 157 = .ok (.ldc2_w 145, 3) := by decide +kernel
theorem dX12_putStep_160 : decode cX12_putStep 160 = .ok (.ladd, 1) := by decide +kernel
theorem dX12_putStep_161 : decode cX12_putStep 161 = .ok (.bipush 34, 2) := by decide +kernel
theorem dX12_putStep_163 : decode cX12_putStep 163 = .ok (.invokevirtual 121, 3) := by decide +kernel
theorem dX12_putStep_166 : decode cX12_putStep 166 = .ok (.return_, 1) := by decide +kernel
theorem dX12_put_0 : decode cX12_put 0 = .ok (.iload_n 3, 1) := by decide +kernel
theorem dX12_put_1 : decode cX12_put 1 = .ok (.iconst 1, 1) := by decide +kernel
theorem dX12_put_2 : decode cX12_put 2 = .ok (.isub, 1) := by decide +kernel
theorem dX12_put_3 : decode cX12_put 3 = .ok (.istore 4, 2) := by decide +kernel
theorem dX12_put_5 : decode cX12_put 5 = .ok (.iload 4, 2) := by decide +kernel
theorem dX12_put_7 : decode cX12_put 7 = .ok (.ifCond .lt 84, 3) := by decide +kernel
theorem dX12_put_10 : decode cX12_put 10 = .ok (.aload_n 0, 1) := by decide +kernel
theorem dX12_put_11 : decode cX12_put 11 = .ok (.getfield 118, 3) := by decide +kernel
theorem dX12_put_14 : decode cX12_put 14 = .ok (.bipush 32, 2) := by decide +kernel
theorem dX12_put_16 : decode cX12_put 16 = .ok (.irem, 1) := by decide +kernel
theorem dX12_put_17 : decode cX12_put 17 = .ok (.ifCond .ne 18, 3) := by decide +kernel
theorem dX12_put_20 : decode cX12_put 20 = .ok (.aload_n 0, 1) := by decide +kernel
theorem dX12_put_21 : decode cX12_put 21 = .ok (.getfield 60, 3) := by decide +kernel
theorem dX12_put_24 : decode cX12_put 24 = .ok (.iconst 2, 1) := by decide +kernel
theorem dX12_put_25 : decode cX12_put 25 = .ok (.aload_n 0, 1) := by decide +kernel
theorem dX12_put_26 : decode cX12_put 26 = .ok (.getfield 118, 3) := by decide +kernel
theorem dX12_put_29 : decode cX12_put 29 = .ok (.bipush 32, 2) := by decide +kernel
theorem dX12_put_31 : decode cX12_put 31 = .ok (.idiv, 1) := by decide +kernel
theorem dX12_put_32 : decode cX12_put 32 = .ok (.iadd, 1) := by decide +kernel
theorem dX12_put_33 : decode cX12_put 33 = .ok (.iconst 0, 1) := by decide +kernel
theorem dX12_put_34 : decode cX12_put 34 = .ok (.iastore, 1) := by decide +kernel
theorem dX12_put_35 : decode cX12_put 35 = .ok (.lload_n 1, 1) := by decide +kernel
theorem dX12_put_36 : decode cX12_put 36 = .ok (.iload 4, 2) := by decide +kernel
theorem dX12_put_38 : decode cX12_put 38 = .ok (.lshr, 1) := by decide +kernel
theorem dX12_put_39 : decode cX12_put 39 = .ok (.lconst 1, 1) := by decide +kernel
theorem dX12_put_40 : decode cX12_put 40 = .ok (.land, 1) := by decide +kernel
theorem dX12_put_41 : decode cX12_put 41 = .ok (.lconst 1, 1) := by decide +kernel
theorem dX12_put_42 : decode cX12_put 42 = .ok (.lcmp, 1) := by decide +kernel
theorem dX12_put_43 : decode cX12_put 43 = .ok (.ifCond .ne 32, 3) := by decide +kernel
theorem dX12_put_46 : decode cX12_put 46 = .ok (.aload_n 0, 1) := by decide +kernel
theorem dX12_put_47 : decode cX12_put 47 = .ok (.getfield 60, 3) := by decide +kernel
theorem dX12_put_50 : decode cX12_put 50 = .ok (.iconst 2, 1) := by decide +kernel
theorem dX12_put_51 : decode cX12_put 51 = .ok (.aload_n 0, 1) := by decide +kernel
theorem dX12_put_52 : decode cX12_put 52 = .ok (.getfield 118, 3) := by decide +kernel
theorem dX12_put_55 : decode cX12_put 55 = .ok (.bipush 32, 2) := by decide +kernel
theorem dX12_put_57 : decode cX12_put 57 = .ok (.idiv, 1) := by decide +kernel
theorem dX12_put_58 : decode cX12_put 58 = .ok (.iadd, 1) := by decide +kernel
theorem dX12_put_59 : decode cX12_put 59 = .ok (.dup2, 1) := by decide +kernel
theorem dX12_put_60 : decode cX12_put 60 = .ok (.iaload, 1) := by decide +kernel
theorem dX12_put_61 : decode cX12_put 61 = .ok (.iconst 1, 1) := by decide +kernel
theorem dX12_put_62 : decode cX12_put 62 = .ok (.bipush 31, 2) := by decide +kernel
theorem dX12_put_64 : decode cX12_put 64 = .ok (.aload_n 0, 1) := by decide +kernel
theorem dX12_put_65 : decode cX12_put 65 = .ok (.getfield 118, 3) := by decide +kernel
theorem dX12_put_68 : decode cX12_put 68 = .ok (.bipush 32, 2) := by decide +kernel
theorem dX12_put_70 : decode cX12_put 70 = .ok (.irem, 1) := by decide +kernel
theorem dX12_put_71 : decode cX12_put 71 = .ok (.isub, 1) := by decide +kernel
theorem dX12_put_72 : decode cX12_put 72 = .ok (.ishl, 1) := by decide +kernel
theorem dX12_put_73 : decode cX12_put 73 = .ok (.ior, 1) := by decide +kernel
theorem dX12_put_74 : decode cX12_put 74 = .ok (.iastore, 1) := by decide +kernel
theorem dX12_put_75 : decode cX12_put 75 = .ok (.aload_n 0, 1) := by decide +kernel
theorem dX12_put_76 : decode cX12_put 76 = .ok (.dup, 1) := by decide +kernel
theorem dX12_put_77 : decode cX12_put 77 = .ok (.getfield 118, 3) := by decide +kernel
theorem dX12_put_80 : decode cX12_put 80 = .ok (.iconst 1, 1) := by decide +kernel
theorem dX12_put_81 : decode cX12_put 81 = .ok (.iadd, 1) := by decide +kernel
theorem dX12_put_82 : decode cX12_put 82 = .ok (.putfield 118, 3) := by decide +kernel
theorem dX12_put_85 : decode cX12_put 85 = .ok (.iinc 4 (-1), 3) := by decide +kernel
theorem dX12_put_88 : decode cX12_put 88 = .ok (.goto (-83), 3) := by decide +kernel
theorem dX12_put_91 : decode cX12_put 91 = .ok (.return_, 1) := by decide +kernel
theorem dX12_putValue_0 : decode cX12_putValue 0 = .ok (.iload_n 1, 1) := by decide +kernel
theorem dX12_putValue_1 : decode cX12_putValue 1 = .ok (.ifCond .ge 14, 3) := by decide +kernel
theorem dX12_putValue_4 : decode cX12_putValue 4 = .ok (.ldc2_w 147, 3) := by decide +kernel
theorem dX12_putValue_7 : decode cX12_putValue 7 = .ok (.iload_n 1, 1) := by decide +kernel
theorem dX12_putValue_8 : decode cX12_putValue 8 = .ok (.i2l, 1) := by decide +kernel
theorem dX12_putValue_9 : decode cX12_putValue 9 = .ok (.lmul, 1) := by decide +kernel
theorem dX12_putValue_10 : decode cX12_putValue 10 = .ok (.lconst 1, 1) := by decide +kernel
theorem dX12_putValue_11 : decode cX12_putValue 11 = .ok (.lsub, 1) := by decide +kernel
theorem dX12_putValue_12 : decode cX12_putValue 12 = .ok (.goto 9, 3) := by decide +kernel
theorem dX12_putValue_15 : decode cX12_putValue 15 = .ok (.ldc2_w 129, 3) := by decide +kernel
theorem dX12_putValue_18 : decode cX12_putValue 18 = .ok (.iload_n 1, 1) := by decide +kernel
theorem dX12_putValue_19 : decode cX12_putValue 19 = .ok (.i2l, 1) := by decide +kernel
theorem dX12_putValue_20 : decode cX12_putValue 20 = .ok (.lmul, 1) := by decide +kernel
theorem dX12_putValue_21 : decode cX12_putValue 21 = .ok (.ldc2_w 149, 3) := by decide +kernel
theorem dX12_putValue_24 : decode cX12_putValue 24 = .ok (.land, 1) := by decide +kernel
theorem dX12_putValue_25 : decode cX12_putValue 25 = .ok (.lstore_n 2, 1) := by decide +kernel
theorem dX12_putValue_26 : decode cX12_putValue 26 = .ok (.lload_n 2, 1) := by decide +kernel
theorem dX12_putValue_27 : decode cX12_putValue 27 = .ok (.lconst 0, 1) := by decide +kernel
theorem dX12_putValue_28 : decode cX12_putValue 28 = .ok (.lcmp, 1) := by decide +kernel
theorem dX12_putValue_29 : decode cX12_putValue 29 = .ok (.ifCond .eq 26, 3) := by decide +kernel
theorem dX12_putValue_32 : decode cX12_putValue 32 = .ok (.aload_n 0, 1) := by decide +kernel
theorem dX12_putValue_33 : decode cX12_putValue 33 = .ok (.lconst 1, 1) := by decide +kernel
theorem dX12_putValue_34 : decode cX12_putValue 34 = .ok (.iconst 1, 1) := by decide +kernel
theorem dX12_putValue_35 : decode cX12_putValue 35 = .ok (.invokevirtual 121, 3) := by decide +kernel
theorem dX12_putValue_38 : decode cX12_putValue 38 = .ok (.aload_n 0, 1) := by decide +kernel
theorem dX12_putValue_39 : decode cX12_putValue 39 = .ok (.lload_n 2, 1) := by decide +kernel
theorem dX12_putValue_40 : decode cX12_putValue 40 = .ok (.ldc2_w 143, 3) := by decide +kernel
theorem dX12_putValue_43 : decode cX12_putValue 43 = .ok (.land, 1) := by decide +kernel
theorem dX12_putValue_44 : decode cX12_putValue 44 = .ok (.iconst 4, 1) := by decide +kernel
theorem dX12_putValue_45 : decode cX12_putValue 45 = .ok (.invokevirtual 121, 3) := by decide +kernel
theorem dX12_putValue_48 : decode cX12_putValue 48 = .ok (.lload_n 2, 1) := by decide +kernel
theorem dX12_putValue_49 : decode cX12_putValue 49 = .ok (.iconst 4, 1) := by decide +kernel
theorem dX12_putValue_50 : decode cX12_putValue 50 = .ok (.lshr, 1) := by decide +kernel
theorem dX12_putValue_51 : decode cX12_putValue 51 = .ok (.lstore_n 2, 1) := by decide +kernel
theorem dX12_putValue_52 : decode cX12_putValue 52 = .ok (.goto (-26), 3) := by decide +kernel
theorem dX12_putValue_55 : decode cX12_putValue 55 = .ok (.aload_n 0, 1) := by decide +kernel
theorem dX12_putValue_56 : decode cX12_putValue 56 = .ok (.lconst 0, 1) := by decide +kernel
theorem dX12_putValue_57 : decode cX12_putValue 57 = .ok (.iconst 1, 1) := by decide +kernel
theorem dX12_putValue_58 : decode cX12_putValue 58 = .ok (.invokevirtual 121, 3) := by decide +kernel
theorem dX12_putValue_61 : decode cX12_putValue 61 = .ok (.return_, 1) := by decide +kernel
theorem dX12_find_0 : decode cX12_find 0 = .ok (.iconst 0, 1) := by decide +kernel
theorem dX12_find_1 : decode cX12_find 1 = .ok (.istore_n 3, 1) := by decide +kernel
theorem dX12_find_2 : decode cX12_find 2 = .ok (.sipush 2435, 3) := by decide +kernel
theorem dX12_find_5 : decode cX12_find 5 = .ok (.istore 4, 2) := by decide +kernel
theorem dX12_find_7 : decode cX12_find 7 = .ok (.iload 4, 2) := by decide +kernel
theorem dX12_find_9 : decode cX12_find 9 = .ok (.sipush 4096, 3) := by decide +kernel
theorem dX12_find_12 : decode cX12_find 12 = .ok (.if_icmp .ge 39, 3) := by decide +kernel
theorem dX12_find_15 : decode cX12_find 15 = .ok (.aload_n 0, 1) := by decide +kernel
theorem dX12_find_16 : decode cX12_find 16 = .ok (.iload 4, 2) := by decide +kernel
theorem dX12_find_18 : decode cX12_find 18 = .ok (.iload_n 2, 1) := by decide +kernel
theorem dX12_find_19 : decode cX12_find 19 = .ok (.invokevirtual 183, 3) := by decide +kernel
theorem dX12_find_22 : decode cX12_find 22 = .ok (.ifCond .eq 7, 3) := by decide +kernel
theorem dX12_find_25 : decode cX12_find 25 = .ok (.iconst 0, 1) := by decide +kernel
theorem dX12_find_26 : decode cX12_find 26 = .ok (.goto 6, 3) := by decide +kernel
theorem dX12_find_29 : decode cX12_find 29 = .ok (.iload_n 3, 1) := by decide +kernel
theorem dX12_find_30 : decode cX12_find 30 = .ok (.iconst 1, 1) := by decide +kernel
theorem dX12_find_31 : decode cX12_find 31 = .ok (.iadd, 1) := by decide +kernel
theorem dX12_find_32 : decode cX12_find 32 = .ok (.istore_n 3, 1) := by decide +kernel
theorem dX12_find_33 : decode cX12_find 33 = .ok (.iload_n 3, 1) := by decide +kernel
theorem dX12_find_34 : decode cX12_find 34 = .ok (.iload_n 1, 1) := by decide +kernel
theorem dX12_find_35 : decode cX12_find 35 = .ok (.if_icmp .ne 10, 3) := by decide +kernel
theorem dX12_find_38 : decode cX12_find 38 = .ok (.iload 4, 2) := by decide +kernel
theorem dX12_find_40 : decode cX12_find 40 = .ok (.iload_n 1, 1) := by decide +kernel
theorem dX12_find_41 : decode cX12_find 41 = .ok (.isub, 1) := by decide +kernel
theorem dX12_find_42 : decode cX12_find 42 = .ok (.iconst 1, 1) := by decide +kernel
theorem dX12_find_43 : decode cX12_find 43 = .ok (.iadd, 1) := by decide +kernel
theorem dX12_find_44 : decode cX12_find 44 = .ok (.ireturn, 1) := by decide +kernel
theorem dX12_find_45 : decode cX12_find 45 = .ok (.iinc 4 1, 3) := by decide +kernel
theorem dX12_find_48 : decode cX12_find 48 = .ok (.goto (-41), 3) := by decide +kernel
theorem dX12_find_51 : decode cX12_find 51 = .ok (.iconst (-1), 1) := by decide +kernel
theorem dX12_find_52 : decode cX12_find 52 = .ok (.ireturn, 1) := by decide +kernel
theorem dX12_isTaken_0 : decode cX12_isTaken 0 = .ok (.iconst 0, 1) := by decide +kernel
theorem dX12_isTaken_1 : decode cX12_isTaken 1 = .ok (.istore_n 3, 1) := by decide +kernel
theorem dX12_isTaken_2 : decode cX12_isTaken 2 = .ok (.iconst 0, 1) := by decide +kernel
theorem dX12_isTaken_3 : decode cX12_isTaken 3 = .ok (.istore 4, 2) := by decide +kernel
theorem dX12_isTaken_5 : decode cX12_isTaken 5 = .ok (.iload 4, 2) := by decide +kernel
theorem dX12_isTaken_7 : decode cX12_isTaken 7 = .ok (.aload_n 0, 1) := by decide +kernel
theorem dX12_isTaken_8 : decode cX12_isTaken 8 = .ok (.getfield 115, 3) := by decide +kernel
theorem dX12_isTaken_11 : decode cX12_isTaken 11 = .ok (.if_icmp .ge 34, 3) := by decide +kernel
theorem dX12_isTaken_14 : decode cX12_isTaken 14 = .ok (.iload_n 3, 1) := by decide +kernel
theorem dX12_isTaken_15 : decode cX12_isTaken 15 = .ok (.ifCond .ne 18, 3) := by decide +kernel
theorem dX12_isTaken_18 : decode cX12_isTaken 18 = .ok (.aload_n 0, 1) := by decide +kernel
theorem dX12_isTaken_19 : decode cX12_isTaken 19 = .ok (.aload_n 0, 1) := by decide +kernel
theorem dX12_isTaken_20 : decode cX12_isTaken 20 = .ok (.getfield 35, 3) := by decide +kernel
theorem dX12_isTaken_23 : decode cX12_isTaken 23 = .ok (.iload 4, 2) := by decide +kernel
theorem dX12_isTaken_25 : decode cX12_isTaken 25 = .ok (.iaload, 1) := by decide +kernel
theorem dX12_isTaken_26 : decode cX12_isTaken 26 = .ok (.iload_n 1, 1) := by decide +kernel
theorem dX12_isTaken_27 : decode cX12_isTaken 27 = .ok (.invokevirtual 180, 3) := by decide +kernel
theorem dX12_isTaken_30 : decode cX12_isTaken 30 = .ok (.ifCond .eq 7, 3) := by decide +kernel
theorem dX12_isTaken_33 : decode cX12_isTaken 33 = .ok (.iconst 1, 1) := by decide +kernel
theorem dX12_isTaken_34 : decode cX12_isTaken 34 = .ok (.goto 4, 3) := by decide +kernel
theorem dX12_isTaken_37 : decode cX12_isTaken 37 = .ok (.iconst 0, 1) := by decide +kernel
theorem dX12_isTaken_38 : decode cX12_isTaken 38 = .ok (.istore_n 3, 1) := by decide +kernel
theorem dX12_isTaken_39 : decode cX12_isTaken 39 = .ok (.iinc 4 1, 3) := by decide +kernel
theorem dX12_isTaken_42 : decode cX12_isTaken 42 = .ok (.goto (-37), 3) := by decide +kernel
theorem dX12_isTaken_45 : decode cX12_isTaken 45 = .ok (.iconst 0, 1) := by decide +kernel
theorem dX12_isTaken_46 : decode cX12_isTaken 46 = .ok (.istore 4, 2) := by decide +kernel
theorem dX12_isTaken_48 : decode cX12_isTaken 48 = .ok (.iload 4, 2) := by decide +kernel
theorem dX12_isTaken_50 : decode cX12_isTaken 50 = .ok (.iload_n 2, 1) := by decide +kernel
theorem dX12_isTaken_51 : decode cX12_isTaken 51 = .ok (.if_icmp .ge 44, 3) := by decide +kernel
theorem dX12_isTaken_54 : decode cX12_isTaken 54 = .ok (.iload_n 3, 1) := by decide +kernel
theorem dX12_isTaken_55 : decode cX12_isTaken 55 = .ok (.ifCond .ne 28, 3) := by decide +kernel
theorem dX12_isTaken_58 : decode cX12_isTaken 58 = .ok (.aload_n 0, 1) := by decide +kernel
theorem dX12_isTaken_59 : decode cX12_isTaken 59 = .ok (.getfield 50, 3) := by decide +kernel
theorem dX12_isTaken_62 : decode cX12_isTaken 62 = .ok (.iload 4, 2) := by decide +kernel
theorem dX12_isTaken_64 : decode cX12_isTaken 64 = .ok (.baload, 1) := by decide +kernel
theorem dX12_isTaken_65 : decode cX12_isTaken 65 = .ok (.ifCond .eq 22, 3) := by decide +kernel
theorem dX12_isTaken_68 : decode cX12_isTaken 68 = .ok (.aload_n 0, 1) := by decide +kernel
theorem dX12_isTaken_69 : decode cX12_isTaken 69 = .ok (.aload_n 0, 1) := by decide +kernel
theorem dX12_isTaken_70 : decode cX12_isTaken 70 = .ok (.getfield 47, 3) := by decide +kernel
theorem dX12_isTaken_73 : decode cX12_isTaken 73 = .ok (.iload 4, 2) := by decide +kernel
theorem dX12_isTaken_75 : decode cX12_isTaken 75 = .ok (.iaload, 1) := by decide +kernel
theorem dX12_isTaken_76 : decode cX12_isTaken 76 = .ok (.iload_n 1, 1) := by decide +kernel
theorem dX12_isTaken_77 : decode cX12_isTaken 77 = .ok (.invokevirtual 180, 3) := by decide +kernel
theorem dX12_isTaken_80 : decode cX12_isTaken 80 = .ok (.ifCond .eq 7, 3) := by decide +kernel
theorem dX12_isTaken_83 : decode cX12_isTaken 83 = .ok (.iconst 1, 1) := by decide +kernel
theorem dX12_isTaken_84 : decode cX12_isTaken 84 = .ok (.goto 4, 3) := by decide +kernel
theorem dX12_isTaken_87 : decode cX12_isTaken 87 = .ok (.iconst 0, 1) := by decide +kernel
theorem dX12_isTaken_88 : decode cX12_isTaken 88 = .ok (.istore_n 3, 1) := by decide +kernel
theorem dX12_isTaken_89 : decode cX12_isTaken 89 = .ok (.iinc 4 1, 3) := by decide +kernel
theorem dX12_isTaken_92 : decode cX12_isTaken 92 = .ok (.goto (-44), 3) := by decide +kernel
theorem dX12_isTaken_95 : decode cX12_isTaken 95 = .ok (.iload_n 3, 1) := by decide +kernel
theorem dX12_isTaken_96 : decode cX12_isTaken 96 = .ok (.ireturn, 1) := by decide +kernel
theorem dX12_isOf_0 : decode cX12_isOf 0 = .ok (.iload_n 2, 1) := by decide +kernel
theorem dX12_isOf_1 : decode cX12_isOf 1 = .ok (.aload_n 0, 1) := by decide +kernel
theorem dX12_isOf_2 : decode cX12_isOf 2 = .ok (.getfield 23, 3) := by decide +kernel
theorem dX12_isOf_5 : decode cX12_isOf 5 = .ok (.iload_n 1, 1) := by decide +kernel
theorem dX12_isOf_6 : decode cX12_isOf 6 = .ok (.iaload, 1) := by decide +kernel
theorem dX12_isOf_7 : decode cX12_isOf 7 = .ok (.if_icmp .lt 24, 3) := by decide +kernel
theorem dX12_isOf_10 : decode cX12_isOf 10 = .ok (.iload_n 2, 1) := by decide +kernel
theorem dX12_isOf_11 : decode cX12_isOf 11 = .ok (.aload_n 0, 1) := by decide +kernel
theorem dX12_isOf_12 : decode cX12_isOf 12 = .ok (.getfield 23, 3) := by decide +kernel
theorem dX12_isOf_15 : decode cX12_isOf 15 = .ok (.iload_n 1, 1) := by decide +kernel
theorem dX12_isOf_16 : decode cX12_isOf 16 = .ok (.iaload, 1) := by decide +kernel
theorem dX12_isOf_17 : decode cX12_isOf 17 = .ok (.aload_n 0, 1) := by decide +kernel
theorem dX12_isOf_18 : decode cX12_isOf 18 = .ok (.getfield 26, 3) := by decide +kernel
theorem dX12_isOf_21 : decode cX12_isOf 21 = .ok (.iload_n 1, 1) := by decide +kernel
theorem dX12_isOf_22 : decode cX12_isOf 22 = .ok (.iaload, 1) := by decide +kernel
theorem dX12_isOf_23 : decode cX12_isOf 23 = .ok (.iadd, 1) := by decide +kernel
theorem dX12_isOf_24 : decode cX12_isOf 24 = .ok (.if_icmp .ge 7, 3) := by decide +kernel
theorem dX12_isOf_27 : decode cX12_isOf 27 = .ok (.iconst 1, 1) := by decide +kernel
theorem dX12_isOf_28 : decode cX12_isOf 28 = .ok (.goto 4, 3) := by decide +kernel
theorem dX12_isOf_31 : decode cX12_isOf 31 = .ok (.iconst 0, 1) := by decide +kernel
theorem dX12_isOf_32 : decode cX12_isOf 32 = .ok (.ireturn, 1) := by decide +kernel
theorem dX12_writeChunk_0 : decode cX12_writeChunk 0 = .ok (.aload_n 0, 1) := by decide +kernel
theorem dX12_writeChunk_1 : decode cX12_writeChunk 1 = .ok (.iload_n 1, 1) := by decide +kernel
theorem dX12_writeChunk_2 : decode cX12_writeChunk 2 = .ok (.invokevirtual 186, 3) := by decide +kernel
theorem dX12_writeChunk_5 : decode cX12_writeChunk 5 = .ok (.istore_n 2, 1) := by decide +kernel
theorem dX12_writeChunk_6 : decode cX12_writeChunk 6 = .ok (.iconst 1, 1) := by decide +kernel
theorem dX12_writeChunk_7 : decode cX12_writeChunk 7 = .ok (.istore_n 3, 1) := by decide +kernel
theorem dX12_writeChunk_8 : decode cX12_writeChunk 8 = .ok (.iconst 0, 1) := by decide +kernel
theorem dX12_writeChunk_9 : decode cX12_writeChunk 9 = .ok (.istore 4, 2) := by decide +kernel
theorem dX12_writeChunk_11 : decode cX12_writeChunk 11 = .ok (.iload 4, 2) := by decide +kernel
theorem dX12_writeChunk_13 : decode cX12_writeChunk 13 = .ok (.iload_n 2, 1) := by decide +kernel
theorem dX12_writeChunk_14 : decode cX12_writeChunk 14 = .ok (.if_icmp .ge 34, 3) := by decide +kernel
theorem dX12_writeChunk_17 : decode cX12_writeChunk 17 = .ok (.iload_n 3, 1) := by decide +kernel
theorem dX12_writeChunk_18 : decode cX12_writeChunk 18 = .ok (.ifCond .eq 30, 3) := by decide +kernel
theorem dX12_writeChunk_21 : decode cX12_writeChunk 21 = .ok (.aload_n 0, 1) := by decide +kernel
theorem dX12_writeChunk_22 : decode cX12_writeChunk 22 = .ok (.aload_n 0, 1) := by decide +kernel
theorem dX12_writeChunk_23 : decode cX12_writeChunk 23 = .ok (.getfield 23, 3) := by decide +kernel
theorem dX12_writeChunk_26 : decode cX12_writeChunk 26 = .ok (.iload_n 1, 1) := by decide +kernel
theorem dX12_writeChunk_27 : decode cX12_writeChunk 27 = .ok (.iaload, 1) := by decide +kernel
theorem dX12_writeChunk_28 : decode cX12_writeChunk 28 = .ok (.iload 4, 2) := by decide +kernel
theorem dX12_writeChunk_30 : decode cX12_writeChunk 30 = .ok (.iadd, 1) := by decide +kernel
theorem dX12_writeChunk_31 : decode cX12_writeChunk 31 = .ok (.aload_n 0, 1) := by decide +kernel
theorem dX12_writeChunk_32 : decode cX12_writeChunk 32 = .ok (.getfield 60, 3) := by decide +kernel
theorem dX12_writeChunk_35 : decode cX12_writeChunk 35 = .ok (.iload 4, 2) := by decide +kernel
theorem dX12_writeChunk_37 : decode cX12_writeChunk 37 = .ok (.iaload, 1) := by decide +kernel
theorem dX12_writeChunk_38 : decode cX12_writeChunk 38 = .ok (.invokevirtual 109, 3) := by decide +kernel
theorem dX12_writeChunk_41 : decode cX12_writeChunk 41 = .ok (.istore_n 3, 1) := by decide +kernel
theorem dX12_writeChunk_42 : decode cX12_writeChunk 42 = .ok (.iinc 4 1, 3) := by decide +kernel
theorem dX12_writeChunk_45 : decode cX12_writeChunk 45 = .ok (.goto (-34), 3) := by decide +kernel
theorem dX12_writeChunk_48 : decode cX12_writeChunk 48 = .ok (.iload_n 3, 1) := by decide +kernel
theorem dX12_writeChunk_49 : decode cX12_writeChunk 49 = .ok (.ireturn, 1) := by decide +kernel
theorem dX12_index_0 : decode cX12_index 0 = .ok (.iload_n 1, 1) := by decide +kernel
theorem dX12_index_1 : decode cX12_index 1 = .ok (.ifCond .ne 7, 3) := by decide +kernel
theorem dX12_index_4 : decode cX12_index 4 = .ok (.iconst 1, 1) := by decide +kernel
theorem dX12_index_5 : decode cX12_index 5 = .ok (.goto 6, 3) := by decide +kernel
theorem dX12_index_8 : decode cX12_index 8 = .ok (.sipush 962, 3) := by decide +kernel
theorem dX12_index_11 : decode cX12_index 11 = .ok (.ireturn, 1) := by decide +kernel
theorem dX12_writeIndex_0 : decode cX12_writeIndex 0 = .ok (.aload_n 0, 1) := by decide +kernel
theorem dX12_writeIndex_1 : decode cX12_writeIndex 1 = .ok (.iload_n 1, 1) := by decide +kernel
