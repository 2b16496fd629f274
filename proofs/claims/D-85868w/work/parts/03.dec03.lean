set_option maxRecDepth 100000
theorem dX7_init_54 : decode cX7_init 54 = .ok (.putfield 36, 3) := by decide +kernel
theorem dX7_init_57 : decode cX7_init 57 = .ok (.return_, 1) := by decide +kernel
theorem dX7_ends_0 : decode cX7_ends 0 = .ok (.iconst 0, 1) := by decide +kernel
theorem dX7_ends_1 : decode cX7_ends 1 = .ok (.istore_n 1, 1) := by decide +kernel
theorem dX7_ends_2 : decode cX7_ends 2 = .ok (.iconst 0, 1) := by decide +kernel
theorem dX7_ends_3 : decode cX7_ends 3 = .ok (.istore_n 2, 1) := by decide +kernel
theorem dX7_ends_4 : decode cX7_ends 4 = .ok (.iload_n 2, 1) := by decide +kernel
theorem dX7_ends_5 : decode cX7_ends 5 = .ok (.bipush 8, 2) := by decide +kernel
theorem dX7_ends_7 : decode cX7_ends 7 = .ok (.if_icmp .gt 40, 3) := by decide +kernel
theorem dX7_ends_10 : decode cX7_ends 10 = .ok (.iload_n 1, 1) := by decide +kernel
theorem dX7_ends_11 : decode cX7_ends 11 = .ok (.aload_n 0, 1) := by decide +kernel
theorem dX7_ends_12 : decode cX7_ends 12 = .ok (.getfield 39, 3) := by decide +kernel
theorem dX7_ends_15 : decode cX7_ends 15 = .ok (.if_icmp .ge 19, 3) := by decide +kernel
theorem dX7_ends_18 : decode cX7_ends 18 = .ok (.aload_n 0, 1) := by decide +kernel
theorem dX7_ends_19 : decode cX7_ends 19 = .ok (.getfield 20, 3) := by decide +kernel
theorem dX7_ends_22 : decode cX7_ends 22 = .ok (.iload_n 1, 1) := by decide +kernel
theorem dX7_ends_23 : decode cX7_ends 23 = .ok (.baload, 1) := by decide +kernel
theorem dX7_ends_24 : decode cX7_ends 24 = .ok (.iload_n 2, 1) := by decide +kernel
theorem dX7_ends_25 : decode cX7_ends 25 = .ok (.if_icmp .ge 9, 3) := by decide +kernel
theorem dX7_ends_28 : decode cX7_ends 28 = .ok (.iinc 1 1, 3) := by decide +kernel
theorem dX7_ends_31 : decode cX7_ends 31 = .ok (.goto (-21), 3) := by decide +kernel
theorem dX7_ends_34 : decode cX7_ends 34 = .ok (.aload_n 0, 1) := by decide +kernel
theorem dX7_ends_35 : decode cX7_ends 35 = .ok (.getfield 36, 3) := by decide +kernel
theorem dX7_ends_38 : decode cX7_ends 38 = .ok (.iload_n 2, 1) := by decide +kernel
theorem dX7_ends_39 : decode cX7_ends 39 = .ok (.iload_n 1, 1) := by decide +kernel
theorem dX7_ends_40 : decode cX7_ends 40 = .ok (.iastore, 1) := by decide +kernel
theorem dX7_ends_41 : decode cX7_ends 41 = .ok (.iinc 2 1, 3) := by decide +kernel
theorem dX7_ends_44 : decode cX7_ends 44 = .ok (.goto (-40), 3) := by decide +kernel
theorem dX7_ends_47 : decode cX7_ends 47 = .ok (.return_, 1) := by decide +kernel
theorem dX7_copies_0 : decode cX7_copies 0 = .ok (.aload_n 0, 1) := by decide +kernel
theorem dX7_copies_1 : decode cX7_copies 1 = .ok (.aload_n 1, 1) := by decide +kernel
theorem dX7_copies_2 : decode cX7_copies 2 = .ok (.getfield 20, 3) := by decide +kernel
theorem dX7_copies_5 : decode cX7_copies 5 = .ok (.iload_n 2, 1) := by decide +kernel
theorem dX7_copies_6 : decode cX7_copies 6 = .ok (.baload, 1) := by decide +kernel
theorem dX7_copies_7 : decode cX7_copies 7 = .ok (.invokevirtual 46, 3) := by decide +kernel
theorem dX7_copies_10 : decode cX7_copies 10 = .ok (.ifCond .ne 5, 3) := by decide +kernel
theorem dX7_copies_13 : decode cX7_copies 13 = .ok (.iconst 0, 1) := by decide +kernel
theorem dX7_copies_14 : decode cX7_copies 14 = .ok (.ireturn, 1) := by decide +kernel
theorem dX7_copies_15 : decode cX7_copies 15 = .ok (.aload_n 0, 1) := by decide +kernel
theorem dX7_copies_16 : decode cX7_copies 16 = .ok (.getfield 14, 3) := by decide +kernel
theorem dX7_copies_19 : decode cX7_copies 19 = .ok (.aload_n 0, 1) := by decide +kernel
theorem dX7_copies_20 : decode cX7_copies 20 = .ok (.getfield 39, 3) := by decide +kernel
theorem dX7_copies_23 : decode cX7_copies 23 = .ok (.iconst 1, 1) := by decide +kernel
theorem dX7_copies_24 : decode cX7_copies 24 = .ok (.isub, 1) := by decide +kernel
theorem dX7_copies_25 : decode cX7_copies 25 = .ok (.aload_n 1, 1) := by decide +kernel
theorem dX7_copies_26 : decode cX7_copies 26 = .ok (.getfield 14, 3) := by decide +kernel
theorem dX7_copies_29 : decode cX7_copies 29 = .ok (.iload_n 2, 1) := by decide +kernel
theorem dX7_copies_30 : decode cX7_copies 30 = .ok (.invokevirtual 50, 3) := by decide +kernel
theorem dX7_copies_33 : decode cX7_copies 33 = .ok (.aload_n 0, 1) := by decide +kernel
theorem dX7_copies_34 : decode cX7_copies 34 = .ok (.getfield 24, 3) := by decide +kernel
theorem dX7_copies_37 : decode cX7_copies 37 = .ok (.aload_n 0, 1) := by decide +kernel
theorem dX7_copies_38 : decode cX7_copies 38 = .ok (.getfield 39, 3) := by decide +kernel
theorem dX7_copies_41 : decode cX7_copies 41 = .ok (.iconst 1, 1) := by decide +kernel
theorem dX7_copies_42 : decode cX7_copies 42 = .ok (.isub, 1) := by decide +kernel
theorem dX7_copies_43 : decode cX7_copies 43 = .ok (.aload_n 1, 1) := by decide +kernel
theorem dX7_copies_44 : decode cX7_copies 44 = .ok (.getfield 24, 3) := by decide +kernel
theorem dX7_copies_47 : decode cX7_copies 47 = .ok (.iload_n 2, 1) := by decide +kernel
theorem dX7_copies_48 : decode cX7_copies 48 = .ok (.caload, 1) := by decide +kernel
theorem dX7_copies_49 : decode cX7_copies 49 = .ok (.castore, 1) := by decide +kernel
theorem dX7_copies_50 : decode cX7_copies 50 = .ok (.aload_n 0, 1) := by decide +kernel
theorem dX7_copies_51 : decode cX7_copies 51 = .ok (.getfield 28, 3) := by decide +kernel
theorem dX7_copies_54 : decode cX7_copies 54 = .ok (.aload_n 0, 1) := by decide +kernel
theorem dX7_copies_55 : decode cX7_copies 55 = .ok (.getfield 39, 3) := by decide +kernel
theorem dX7_copies_58 : decode cX7_copies 58 = .ok (.iconst 1, 1) := by decide +kernel
theorem dX7_copies_59 : decode cX7_copies 59 = .ok (.isub, 1) := by decide +kernel
theorem dX7_copies_60 : decode cX7_copies 60 = .ok (.aload_n 1, 1) := by decide +kernel
theorem dX7_copies_61 : decode cX7_copies 61 = .ok (.getfield 28, 3) := by decide +kernel
theorem dX7_copies_64 : decode cX7_copies 64 = .ok (.iload_n 2, 1) := by decide +kernel
theorem dX7_copies_65 : decode cX7_copies 65 = .ok (.saload, 1) := by decide +kernel
theorem dX7_copies_66 : decode cX7_copies 66 = .ok (.sastore, 1) := by decide +kernel
theorem dX7_copies_67 : decode cX7_copies 67 = .ok (.iconst 1, 1) := by decide +kernel
theorem dX7_copies_68 : decode cX7_copies 68 = .ok (.ireturn, 1) := by decide +kernel
theorem dX7_opens_0 : decode cX7_opens 0 = .ok (.aload_n 0, 1) := by decide +kernel
theorem dX7_opens_1 : decode cX7_opens 1 = .ok (.getfield 39, 3) := by decide +kernel
theorem dX7_opens_4 : decode cX7_opens 4 = .ok (.bipush 96, 2) := by decide +kernel
theorem dX7_opens_6 : decode cX7_opens 6 = .ok (.if_icmp .ne 5, 3) := by decide +kernel
theorem dX7_opens_9 : decode cX7_opens 9 = .ok (.iconst 0, 1) := by decide +kernel
theorem dX7_opens_10 : decode cX7_opens 10 = .ok (.ireturn, 1) := by decide +kernel
theorem dX7_opens_11 : decode cX7_opens 11 = .ok (.aload_n 0, 1) := by decide +kernel
theorem dX7_opens_12 : decode cX7_opens 12 = .ok (.getfield 20, 3) := by decide +kernel
theorem dX7_opens_15 : decode cX7_opens 15 = .ok (.aload_n 0, 1) := by decide +kernel
theorem dX7_opens_16 : decode cX7_opens 16 = .ok (.getfield 39, 3) := by decide +kernel
theorem dX7_opens_19 : decode cX7_opens 19 = .ok (.iload_n 1, 1) := by decide +kernel
theorem dX7_opens_20 : decode cX7_opens 20 = .ok (.i2b, 1) := by decide +kernel
theorem dX7_opens_21 : decode cX7_opens 21 = .ok (.bastore, 1) := by decide +kernel
theorem dX7_opens_22 : decode cX7_opens 22 = .ok (.aload_n 0, 1) := by decide +kernel
theorem dX7_opens_23 : decode cX7_opens 23 = .ok (.getfield 32, 3) := by decide +kernel
theorem dX7_opens_26 : decode cX7_opens 26 = .ok (.aload_n 0, 1) := by decide +kernel
theorem dX7_opens_27 : decode cX7_opens 27 = .ok (.getfield 39, 3) := by decide +kernel
theorem dX7_opens_30 : decode cX7_opens 30 = .ok (.iconst (-1), 1) := by decide +kernel
theorem dX7_opens_31 : decode cX7_opens 31 = .ok (.iastore, 1) := by decide +kernel
theorem dX7_opens_32 : decode cX7_opens 32 = .ok (.aload_n 0, 1) := by decide +kernel
theorem dX7_opens_33 : decode cX7_opens 33 = .ok (.getfield 14, 3) := by decide +kernel
theorem dX7_opens_36 : decode cX7_opens 36 = .ok (.aload_n 0, 1) := by decide +kernel
theorem dX7_opens_37 : decode cX7_opens 37 = .ok (.getfield 39, 3) := by decide +kernel
theorem dX7_opens_40 : decode cX7_opens 40 = .ok (.invokevirtual 43, 3) := by decide +kernel
theorem dX7_opens_43 : decode cX7_opens 43 = .ok (.aload_n 0, 1) := by decide +kernel
theorem dX7_opens_44 : decode cX7_opens 44 = .ok (.dup, 1) := by decide +kernel
theorem dX7_opens_45 : decode cX7_opens 45 = .ok (.getfield 39, 3) := by decide +kernel
theorem dX7_opens_48 : decode cX7_opens 48 = .ok (.iconst 1, 1) := by decide +kernel
theorem dX7_opens_49 : decode cX7_opens 49 = .ok (.iadd, 1) := by decide +kernel
theorem dX7_opens_50 : decode cX7_opens 50 = .ok (.putfield 39, 3) := by decide +kernel
theorem dX7_opens_53 : decode cX7_opens 53 = .ok (.iconst 1, 1) := by decide +kernel
theorem dX7_opens_54 : decode cX7_opens 54 = .ok (.ireturn, 1) := by decide +kernel
theorem dX8_init_0 : decode cX8_init 0 = .ok (.aload_n 0, 1) := by decide +kernel
theorem dX8_init_1 : decode cX8_init 1 = .ok (.invokespecial 1, 3) := by decide +kernel
theorem dX8_init_4 : decode cX8_init 4 = .ok (.aload_n 0, 1) := by decide +kernel
theorem dX8_init_5 : decode cX8_init 5 = .ok (.iload_n 1, 1) := by decide +kernel
theorem dX8_init_6 : decode cX8_init 6 = .ok (.newarray .int, 2) := by decide +kernel
theorem dX8_init_8 : decode cX8_init 8 = .ok (.putfield 7, 3) := by decide +kernel
theorem dX8_init_11 : decode cX8_init 11 = .ok (.aload_n 0, 1) := by decide +kernel
theorem dX8_init_12 : decode cX8_init 12 = .ok (.iload_n 1, 1) := by decide +kernel
theorem dX8_init_13 : decode cX8_init 13 = .ok (.newarray .int, 2) := by decide +kernel
theorem dX8_init_15 : decode cX8_init 15 = .ok (.putfield 13, 3) := by decide +kernel
theorem dX8_init_18 : decode cX8_init 18 = .ok (.aload_n 0, 1) := by decide +kernel
theorem dX8_init_19 : decode cX8_init 19 = .ok (.iload_n 1, 1) := by decide +kernel
theorem dX8_init_20 : decode cX8_init 20 = .ok (.newarray .int, 2) := by decide +kernel
theorem dX8_init_22 : decode cX8_init 22 = .ok (.putfield 16, 3) := by decide +kernel
theorem dX8_init_25 : decode cX8_init 25 = .ok (.aload_n 0, 1) := by decide +kernel
theorem dX8_init_26 : decode cX8_init 26 = .ok (.iload_n 1, 1) := by decide +kernel
theorem dX8_init_27 : decode cX8_init 27 = .ok (.newarray .int, 2) := by decide +kernel
theorem dX8_init_29 : decode cX8_init 29 = .ok (.putfield 19, 3) := by decide +kernel
theorem dX8_init_32 : decode cX8_init 32 = .ok (.aload_n 0, 1) := by decide +kernel
theorem dX8_init_33 : decode cX8_init 33 = .ok (.iload_n 1, 1) := by decide +kernel
theorem dX8_init_34 : decode cX8_init 34 = .ok (.newarray .short, 2) := by decide +kernel
theorem dX8_init_36 : decode cX8_init 36 = .ok (.putfield 22, 3) := by decide +kernel
theorem dX8_init_39 : decode cX8_init 39 = .ok (.aload_n 0, 1) := by decide +kernel
theorem dX8_init_40 : decode cX8_init 40 = .ok (.iload_n 1, 1) := by decide +kernel
theorem dX8_init_41 : decode cX8_init 41 = .ok (.newarray .long, 2) := by decide +kernel
theorem dX8_init_43 : decode cX8_init 43 = .ok (.putfield 26, 3) := by decide +kernel
theorem dX8_init_46 : decode cX8_init 46 = .ok (.return_, 1) := by decide +kernel
theorem dX8_begin_0 : decode cX8_begin 0 = .ok (.aload_n 0, 1) := by decide +kernel
theorem dX8_begin_1 : decode cX8_begin 1 = .ok (.getfield 22, 3) := by decide +kernel
theorem dX8_begin_4 : decode cX8_begin 4 = .ok (.iload_n 1, 1) := by decide +kernel
theorem dX8_begin_5 : decode cX8_begin 5 = .ok (.iconst 0, 1) := by decide +kernel
theorem dX8_begin_6 : decode cX8_begin 6 = .ok (.sastore, 1) := by decide +kernel
theorem dX8_begin_7 : decode cX8_begin 7 = .ok (.aload_n 0, 1) := by decide +kernel
theorem dX8_begin_8 : decode cX8_begin 8 = .ok (.getfield 26, 3) := by decide +kernel
theorem dX8_begin_11 : decode cX8_begin 11 = .ok (.iload_n 1, 1) := by decide +kernel
theorem dX8_begin_12 : decode cX8_begin 12 = .ok (.lconst 0, 1) := by decide +kernel
theorem dX8_begin_13 : decode cX8_begin 13 = .ok (.lastore, 1) := by decide +kernel
theorem dX8_begin_14 : decode cX8_begin 14 = .ok (.return_, 1) := by decide +kernel
theorem dX8_join_0 : decode cX8_join 0 = .ok (.aload_n 0, 1) := by decide +kernel
theorem dX8_join_1 : decode cX8_join 1 = .ok (.getfield 22, 3) := by decide +kernel
theorem dX8_join_4 : decode cX8_join 4 = .ok (.iload_n 1, 1) := by decide +kernel
theorem dX8_join_5 : decode cX8_join 5 = .ok (.saload, 1) := by decide +kernel
theorem dX8_join_6 : decode cX8_join 6 = .ok (.ifCond .ne 7, 3) := by decide +kernel
theorem dX8_join_9 : decode cX8_join 9 = .ok (.iconst 1, 1) := by decide +kernel
theorem dX8_join_10 : decode cX8_join 10 = .ok (.goto 4, 3) := by decide +kernel
theorem dX8_join_13 : decode cX8_join 13 = .ok (.iconst 0, 1) := by decide +kernel
theorem dX8_join_14 : decode cX8_join 14 = .ok (.istore 4, 2) := by decide +kernel
theorem dX8_join_16 : decode cX8_join 16 = .ok (.iload 4, 2) := by decide +kernel
theorem dX8_join_18 : decode cX8_join 18 = .ok (.ifCond .eq 15, 3) := by decide +kernel
theorem dX8_join_21 : decode cX8_join 21 = .ok (.aload_n 0, 1) := by decide +kernel
theorem dX8_join_22 : decode cX8_join 22 = .ok (.getfield 7, 3) := by decide +kernel
theorem dX8_join_25 : decode cX8_join 25 = .ok (.iload_n 1, 1) := by decide +kernel
theorem dX8_join_26 : decode cX8_join 26 = .ok (.aload_n 2, 1) := by decide +kernel
theorem dX8_join_27 : decode cX8_join 27 = .ok (.getfield 7, 3) := by decide +kernel
theorem dX8_join_30 : decode cX8_join 30 = .ok (.iload_n 3, 1) := by decide +kernel
theorem dX8_join_31 : decode cX8_join 31 = .ok (.iaload, 1) := by decide +kernel
theorem dX8_join_32 : decode cX8_join 32 = .ok (.iastore, 1) := by decide +kernel
theorem dX8_join_33 : decode cX8_join 33 = .ok (.aload_n 0, 1) := by decide +kernel
theorem dX8_join_34 : decode cX8_join 34 = .ok (.getfield 13, 3) := by decide +kernel
theorem dX8_join_37 : decode cX8_join 37 = .ok (.iload_n 1, 1) := by decide +kernel
theorem dX8_join_38 : decode cX8_join 38 = .ok (.aload_n 2, 1) := by decide +kernel
theorem dX8_join_39 : decode cX8_join 39 = .ok (.getfield 13, 3) := by decide +kernel
theorem dX8_join_42 : decode cX8_join 42 = .ok (.iload_n 3, 1) := by decide +kernel
theorem dX8_join_43 : decode cX8_join 43 = .ok (.iaload, 1) := by decide +kernel
theorem dX8_join_44 : decode cX8_join 44 = .ok (.iastore, 1) := by decide +kernel
theorem dX8_join_45 : decode cX8_join 45 = .ok (.aload_n 0, 1) := by decide +kernel
theorem dX8_join_46 : decode cX8_join 46 = .ok (.getfield 16, 3) := by decide +kernel
theorem dX8_join_49 : decode cX8_join 49 = .ok (.iload_n 1, 1) := by decide +kernel
theorem dX8_join_50 : decode cX8_join 50 = .ok (.iload 4, 2) := by decide +kernel
theorem dX8_join_52 : decode cX8_join 52 = .ok (.ifCond .eq 12, 3) := by decide +kernel
theorem dX8_join_55 : decode cX8_join 55 = .ok (.aload_n 2, 1) := by decide +kernel
theorem dX8_join_56 : decode cX8_join 56 = .ok (.getfield 16, 3) := by decide +kernel
theorem dX8_join_59 : decode cX8_join 59 = .ok (.iload_n 3, 1) := by decide +kernel
theorem dX8_join_60 : decode cX8_join 60 = .ok (.iaload, 1) := by decide +kernel
theorem dX8_join_61 : decode cX8_join 61 = .ok (.goto 18, 3) := by decide +kernel
theorem dX8_join_64 : decode cX8_join 64 = .ok (.aload_n 0, 1) := by decide +kernel
theorem dX8_join_65 : decode cX8_join 65 = .ok (.getfield 16, 3) := by decide +kernel
theorem dX8_join_68 : decode cX8_join 68 = .ok (.iload_n 1, 1) := by decide +kernel
theorem dX8_join_69 : decode cX8_join 69 = .ok (.iaload, 1) := by decide +kernel
theorem dX8_join_70 : decode cX8_join 70 = .ok (.aload_n 2, 1) := by decide +kernel
theorem dX8_join_71 : decode cX8_join 71 = .ok (.getfield 16, 3) := by decide +kernel
theorem dX8_join_74 : decode cX8_join 74 = .ok (.iload_n 3, 1) := by decide +kernel
theorem dX8_join_75 : decode cX8_join 75 = .ok (.iaload, 1) := by decide +kernel
theorem dX8_join_76 : decode cX8_join 76 = .ok (.invokestatic 30, 3) := by decide +kernel
theorem dX8_join_79 : decode cX8_join 79 = .ok (.iastore, 1) := by decide +kernel
theorem dX8_join_80 : decode cX8_join 80 = .ok (.aload_n 0, 1) := by decide +kernel
theorem dX8_join_81 : decode cX8_join 81 = .ok (.getfield 19, 3) := by decide +kernel
theorem dX8_join_84 : decode cX8_join 84 = .ok (.iload_n 1, 1) := by decide +kernel
theorem dX8_join_85 : decode cX8_join 85 = .ok (.iload 4, 2) := by decide +kernel
theorem dX8_join_87 : decode cX8_join 87 = .ok (.ifCond .eq 12, 3) := by decide +kernel
theorem dX8_join_90 : decode cX8_join 90 = .ok (.aload_n 2, 1) := by decide +kernel
theorem dX8_join_91 : decode cX8_join 91 = .ok (.getfield 19, 3) := by decide +kernel
theorem dX8_join_94 : decode cX8_join 94 = .ok (.iload_n 3, 1) := by decide +kernel
theorem dX8_join_95 : decode cX8_join 95 = .ok (.iaload, 1) := by decide +kernel
theorem dX8_join_96 : decode cX8_join 96 = .ok (.goto 18, 3) := by decide +kernel
theorem dX8_join_99 : decode cX8_join 99 = .ok (.aload_n 0, 1) := by decide +kernel
theorem dX8_join_100 : decode cX8_join 100 = .ok (.getfield 19, 3) := by decide +kernel
theorem dX8_join_103 : decode cX8_join 103 = .ok (.iload_n 1, 1) := by decide +kernel
theorem dX8_join_104 : decode cX8_join 104 = .ok (.iaload, 1) := by decide +kernel
theorem dX8_join_105 : decode cX8_join 105 = .ok (.aload_n 2, 1) := by decide +kernel
theorem dX8_join_106 : decode cX8_join 106 = .ok (.getfield 19, 3) := by decide +kernel
theorem dX8_join_109 : decode cX8_join 109 = .ok (.iload_n 3, 1) := by decide +kernel
theorem dX8_join_110 : decode cX8_join 110 = .ok (.iaload, 1) := by decide +kernel
theorem dX8_join_111 : decode cX8_join 111 = .ok (.invokestatic 36, 3) := by decide +kernel
theorem dX8_join_114 : decode cX8_join 114 = .ok (.iastore, 1) := by decide +kernel
theorem dX8_join_115 : decode cX8_join 115 = .ok (.aload_n 0, 1) := by decide +kernel
theorem dX8_join_116 : decode cX8_join 116 = .ok (.getfield 22, 3) := by decide +kernel
theorem dX8_join_119 : decode cX8_join 119 = .ok (.iload_n 1, 1) := by decide +kernel
theorem dX8_join_120 : decode cX8_join 120 = .ok (.aload_n 0, 1) := by decide +kernel
theorem dX8_join_121 : decode cX8_join 121 = .ok (.getfield 22, 3) := by decide +kernel
theorem dX8_join_124 : decode cX8_join 124 = .ok (.iload_n 1, 1) := by decide +kernel
theorem dX8_join_125 : decode cX8_join 125 = .ok (.saload, 1) := by decide +kernel
theorem dX8_join_126 : decode cX8_join 126 = .ok (.aload_n 2, 1) := by decide +kernel
theorem dX8_join_127 : decode cX8_join 127 = .ok (.getfield 22, 3) := by decide +kernel
theorem dX8_join_130 : decode cX8_join 130 = .ok (.iload_n 3, 1) := by decide +kernel
theorem dX8_join_131 : decode cX8_join 131 = .ok (.saload, 1) := by decide +kernel
theorem dX8_join_132 : decode cX8_join 132 = .ok (.iadd, 1) := by decide +kernel
theorem dX8_join_133 : decode cX8_join 133 = .ok (.i2s, 1) := by decide +kernel
theorem dX8_join_134 : decode cX8_join 134 = .ok (.sastore, 1) := by decide +kernel
theorem dX8_join_135 : decode cX8_join 135 = .ok (.aload_n 0, 1) := by decide +kernel
theorem dX8_join_136 : decode cX8_join 136 = .ok (.getfield 26, 3) := by decide +kernel
theorem dX8_join_139 : decode cX8_join 139 = .ok (.iload_n 1, 1) := by decide +kernel
theorem dX8_join_140 : decode cX8_join 140 = .ok (.dup2, 1) := by decide +kernel
theorem dX8_join_141 : decode cX8_join 141 = .ok (.laload, 1) := by decide +kernel
theorem dX8_join_142 : decode cX8_join 142 = .ok (.aload_n 2, 1) := by decide +kernel
theorem dX8_join_143 : decode cX8_join 143 = .ok (.getfield 26, 3) := by decide +kernel
theorem dX8_join_146 : decode cX8_join 146 = .ok (.iload_n 3, 1) := by decide +kernel
theorem dX8_join_147 : decode cX8_join 147 = .ok (.laload, 1) := by decide +kernel
theorem dX8_join_148 : decode cX8_join 148 = .ok (.ladd, 1) := by decide +kernel
theorem dX8_join_149 : decode cX8_join 149 = .ok (.lastore, 1) := by decide +kernel
theorem dX8_join_150 : decode cX8_join 150 = .ok (.return_, 1) := by decide +kernel
theorem dX8_add_0 : decode cX8_add 0 = .ok (.aload_n 0, 1) := by decide +kernel
theorem dX8_add_1 : decode cX8_add 1 = .ok (.getfield 22, 3) := by decide +kernel
theorem dX8_add_4 : decode cX8_add 4 = .ok (.iload_n 1, 1) := by decide +kernel
theorem dX8_add_5 : decode cX8_add 5 = .ok (.saload, 1) := by decide +kernel
theorem dX8_add_6 : decode cX8_add 6 = .ok (.ifCond .ne 7, 3) := by decide +kernel
theorem dX8_add_9 : decode cX8_add 9 = .ok (.iconst 1, 1) := by decide +kernel
theorem dX8_add_10 : decode cX8_add 10 = .ok (.goto 4, 3) := by decide +kernel
theorem dX8_add_13 : decode cX8_add 13 = .ok (.iconst 0, 1) := by decide +kernel
theorem dX8_add_14 : decode cX8_add 14 = .ok (.istore 4, 2) := by decide +kernel
theorem dX8_add_16 : decode cX8_add 16 = .ok (.iload 4, 2) := by decide +kernel
theorem dX8_add_18 : decode cX8_add 18 = .ok (.ifCond .eq 10, 3) := by decide +kernel
theorem dX8_add_21 : decode cX8_add 21 = .ok (.aload_n 0, 1) := by decide +kernel
theorem dX8_add_22 : decode cX8_add 22 = .ok (.getfield 7, 3) := by decide +kernel
theorem dX8_add_25 : decode cX8_add 25 = .ok (.iload_n 1, 1) := by decide +kernel
theorem dX8_add_26 : decode cX8_add 26 = .ok (.iload_n 2, 1) := by decide +kernel
theorem dX8_add_27 : decode cX8_add 27 = .ok (.iastore, 1) := by decide +kernel
theorem dX8_add_28 : decode cX8_add 28 = .ok (.aload_n 0, 1) := by decide +kernel
theorem dX8_add_29 : decode cX8_add 29 = .ok (.getfield 13, 3) := by decide +kernel
theorem dX8_add_32 : decode cX8_add 32 = .ok (.iload_n 1, 1) := by decide +kernel
theorem dX8_add_33 : decode cX8_add 33 = .ok (.iload_n 2, 1) := by decide +kernel
theorem dX8_add_34 : decode cX8_add 34 = .ok (.iastore, 1) := by decide +kernel
theorem dX8_add_35 : decode cX8_add 35 = .ok (.aload_n 0, 1) := by decide +kernel
theorem dX8_add_36 : decode cX8_add 36 = .ok (.getfield 16, 3) := by decide +kernel
theorem dX8_add_39 : decode cX8_add 39 = .ok (.iload_n 1, 1) := by decide +kernel
theorem dX8_add_40 : decode cX8_add 40 = .ok (.iload 4, 2) := by decide +kernel
theorem dX8_add_42 : decode cX8_add 42 = .ok (.ifCond .eq 7, 3) := by decide +kernel
theorem dX8_add_45 : decode cX8_add 45 = .ok (.iload_n 3, 1) := by decide +kernel
theorem dX8_add_46 : decode cX8_add 46 = .ok (.goto 13, 3) := by decide +kernel
theorem dX8_add_49 : decode cX8_add 49 = .ok (.aload_n 0, 1) := by decide +kernel
theorem dX8_add_50 : decode cX8_add 50 = .ok (.getfield 16, 3) := by decide +kernel
theorem dX8_add_53 : decode cX8_add 53 = .ok (.iload_n 1, 1) := by decide +kernel
theorem dX8_add_54 : decode cX8_add 54 = .ok (.iaload, 1) := by decide +kernel
theorem dX8_add_55 : decode cX8_add 55 = .ok (.iload_n 3, 1) := by decide +kernel
theorem dX8_add_56 : decode cX8_add 56 = .ok (.invokestatic 30, 3) := by decide +kernel
theorem dX8_add_59 : decode cX8_add 59 = .ok (.iastore, 1) := by decide +kernel
theorem dX8_add_60 : decode cX8_add 60 = .ok (.aload_n 0, 1) := by decide +kernel
theorem dX8_add_61 : decode cX8_add 61 = .ok (.getfield 19, 3) := by decide +kernel
theorem dX8_add_64 : decode cX8_add 64 = .ok (.iload_n 1, 1) := by decide +kernel
theorem dX8_add_65 : decode cX8_add 65 = .ok (.iload 4, 2) := by decide +kernel
theorem dX8_add_67 : decode cX8_add 67 = .ok (.ifCond .eq 7, 3) := by decide +kernel
theorem dX8_add_70 : decode cX8_add 70 = .ok (.iload_n 3, 1) := by decide +kernel
theorem dX8_add_71 : decode cX8_add 71 = .ok (.goto 13, 3) := by decide +kernel
theorem dX8_add_74 : decode cX8_add 74 = .ok (.aload_n 0, 1) := by decide +kernel
theorem dX8_add_75 : decode cX8_add 75 = .ok (.getfield 19, 3) := by decide +kernel
theorem dX8_add_78 : decode cX8_add 78 = .ok (.iload_n 1, 1) := by decide +kernel
theorem dX8_add_79 : decode cX8_add 79 = .ok (.iaload, 1) := by decide +kernel
theorem dX8_add_80 : decode cX8_add 80 = .ok (.iload_n 3, 1) := by decide +kernel
theorem dX8_add_81 : decode cX8_add 81 = .ok (.invokestatic 36, 3) := by decide +kernel
theorem dX8_add_84 : decode cX8_add 84 = .ok (.iastore, 1) := by decide +kernel
theorem dX8_add_85 : decode cX8_add 85 = .ok (.aload_n 0, 1) := by decide +kernel
theorem dX8_add_86 : decode cX8_add 86 = .ok (.getfield 22, 3) := by decide +kernel
theorem dX8_add_89 : decode cX8_add 89 = .ok (.iload_n 1, 1) := by decide +kernel
theorem dX8_add_90 : decode cX8_add 90 = .ok (.dup2, 1) := by decide +kernel
theorem dX8_add_91 : decode cX8_add 91 = .ok (.saload, 1) := by decide +kernel
theorem dX8_add_92 : decode cX8_add 92 = .ok (.iconst 1, 1) := by decide +kernel
theorem dX8_add_93 : decode cX8_add 93 = .ok (.iadd, 1) := by decide +kernel
theorem dX8_add_94 : decode cX8_add 94 = .ok (.i2s, 1) := by decide +kernel
theorem dX8_add_95 : decode cX8_add 95 = .ok (.sastore, 1) := by decide +kernel
theorem dX8_add_96 : decode cX8_add 96 = .ok (.aload_n 0, 1) := by decide +kernel
theorem dX8_add_97 : decode cX8_add 97 = .ok (.getfield 26, 3) := by decide +kernel
theorem dX8_add_100 : decode cX8_add 100 = .ok (.iload_n 1, 1) := by decide +kernel
theorem dX8_add_101 : decode cX8_add 101 = .ok (.dup2, 1) := by decide +kernel
theorem dX8_add_102 : decode cX8_add 102 = .ok (.laload, 1) := by decide +kernel
theorem dX8_add_103 : decode cX8_add 103 = .ok (.iload_n 3, 1) := by decide +kernel
theorem dX8_add_104 : decode cX8_add 104 = .ok (.i2l, 1) := by decide +kernel
theorem dX8_add_105 : decode cX8_add 105 = .ok (.ladd, 1) := by decide +kernel
theorem dX8_add_106 : decode cX8_add 106 = .ok (.lastore, 1) := by decide +kernel
theorem dX8_add_107 : decode cX8_add 107 = .ok (.return_, 1) := by decide +kernel
theorem dX8_isOut_0 : decode cX8_isOut 0 = .ok (.aload_n 0, 1) := by decide +kernel
theorem dX8_isOut_1 : decode cX8_isOut 1 = .ok (.getfield 13, 3) := by decide +kernel
theorem dX8_isOut_4 : decode cX8_isOut 4 = .ok (.iload_n 1, 1) := by decide +kernel
theorem dX8_isOut_5 : decode cX8_isOut 5 = .ok (.iaload, 1) := by decide +kernel
theorem dX8_isOut_6 : decode cX8_isOut 6 = .ok (.iload_n 2, 1) := by decide +kernel
theorem dX8_isOut_7 : decode cX8_isOut 7 = .ok (.if_icmp .lt 13, 3) := by decide +kernel
theorem dX8_isOut_10 : decode cX8_isOut 10 = .ok (.aload_n 0, 1) := by decide +kernel
theorem dX8_isOut_11 : decode cX8_isOut 11 = .ok (.getfield 7, 3) := by decide +kernel
theorem dX8_isOut_14 : decode cX8_isOut 14 = .ok (.iload_n 1, 1) := by decide +kernel
theorem dX8_isOut_15 : decode cX8_isOut 15 = .ok (.iaload, 1) := by decide +kernel
theorem dX8_isOut_16 : decode cX8_isOut 16 = .ok (.iload_n 3, 1) := by decide +kernel
theorem dX8_isOut_17 : decode cX8_isOut 17 = .ok (.if_icmp .le 7, 3) := by decide +kernel
theorem dX8_isOut_20 : decode cX8_isOut 20 = .ok (.iconst 1, 1) := by decide +kernel
theorem dX8_isOut_21 : decode cX8_isOut 21 = .ok (.goto 4, 3) := by decide +kernel
theorem dX8_isOut_24 : decode cX8_isOut 24 = .ok (.iconst 0, 1) := by decide +kernel
theorem dX8_isOut_25 : decode cX8_isOut 25 = .ok (.ireturn, 1) := by decide +kernel
theorem dX8_isIn_0 : decode cX8_isIn 0 = .ok (.aload_n 0, 1) := by decide +kernel
theorem dX8_isIn_1 : decode cX8_isIn 1 = .ok (.getfield 7, 3) := by decide +kernel
theorem dX8_isIn_4 : decode cX8_isIn 4 = .ok (.iload_n 1, 1) := by decide +kernel
theorem dX8_isIn_5 : decode cX8_isIn 5 = .ok (.iaload, 1) := by decide +kernel
theorem dX8_isIn_6 : decode cX8_isIn 6 = .ok (.iload_n 2, 1) := by decide +kernel
theorem dX8_isIn_7 : decode cX8_isIn 7 = .ok (.if_icmp .lt 17, 3) := by decide +kernel
theorem dX8_isIn_10 : decode cX8_isIn 10 = .ok (.aload_n 0, 1) := by decide +kernel
theorem dX8_isIn_11 : decode cX8_isIn 11 = .ok (.getfield 13, 3) := by decide +kernel
theorem dX8_isIn_14 : decode cX8_isIn 14 = .ok (.iload_n 1, 1) := by decide +kernel
theorem dX8_isIn_15 : decode cX8_isIn 15 = .ok (.iaload, 1) := by decide +kernel
theorem dX8_isIn_16 : decode cX8_isIn 16 = .ok (.iload_n 3, 1) := by decide +kernel
theorem dX8_isIn_17 : decode cX8_isIn 17 = .ok (.if_icmp .gt 7, 3) := by decide +kernel
theorem dX8_isIn_20 : decode cX8_isIn 20 = .ok (.iconst 1, 1) := by decide +kernel
theorem dX8_isIn_21 : decode cX8_isIn 21 = .ok (.goto 4, 3) := by decide +kernel
theorem dX8_isIn_24 : decode cX8_isIn 24 = .ok (.iconst 0, 1) := by decide +kernel
theorem dX8_isIn_25 : decode cX8_isIn 25 = .ok (.ireturn, 1) := by decide +kernel
theorem dX8_told_0 : decode cX8_told 0 = .ok (.iload_n 2, 1) := by decide +kernel
theorem dX8_told_1 : decode cX8_told 1 = .ok (.tableswitch 70 0 4 #[35, 42, 49, 56, 63], 35) := by decide +kernel
theorem dX8_told_36 : decode cX8_told 36 = .ok (.aload_n 0, 1) := by decide +kernel
theorem dX8_told_37 : decode cX8_told 37 = .ok (.getfield 7, 3) := by decide +kernel
theorem dX8_told_40 : decode cX8_told 40 = .ok (.iload_n 1, 1) := by decide +kernel
theorem dX8_told_41 : decode cX8_told 41 = .ok (.iaload, 1) := by decide +kernel
theorem dX8_told_42 : decode cX8_told 42 = .ok (.ireturn, 1) := by decide +kernel
theorem dX8_told_43 : decode cX8_told 43 = .ok (.aload_n 0, 1) := by decide +kernel
theorem dX8_told_44 : decode cX8_told 44 = .ok (.getfield 13, 3) := by decide +kernel
theorem dX8_told_47 : decode cX8_told 47 = .ok (.iload_n 1, 1) := by decide +kernel
theorem dX8_told_48 : decode cX8_told 48 = .ok (.iaload, 1) := by decide +kernel
theorem dX8_told_49 : decode cX8_told 49 = .ok (.ireturn, 1) := by decide +kernel
theorem dX8_told_50 : decode cX8_told 50 = .ok (.aload_n 0, 1) := by decide +kernel
theorem dX8_told_51 : decode cX8_told 51 = .ok (.getfield 22, 3) := by decide +kernel
theorem dX8_told_54 : decode cX8_told 54 = .ok (.iload_n 1, 1) := by decide +kernel
theorem dX8_told_55 : decode cX8_told 55 = .ok (.saload, 1) := by decide +kernel
theorem dX8_told_56 : decode cX8_told 56 = .ok (.ireturn, 1) := by decide +kernel
theorem dX8_told_57 : decode cX8_told 57 = .ok (.aload_n 0, 1) := by decide +kernel
theorem dX8_told_58 : decode cX8_told 58 = .ok (.getfield 16, 3) := by decide +kernel
theorem dX8_told_61 : decode cX8_told 61 = .ok (.iload_n 1, 1) := by decide +kernel
theorem dX8_told_62 : decode cX8_told 62 = .ok (.iaload, 1) := by decide +kernel
theorem dX8_told_63 : decode cX8_told 63 = .ok (.ireturn, 1) := by decide +kernel
theorem dX8_told_64 : decode cX8_told 64 = .ok (.aload_n 0, 1) := by decide +kernel
theorem dX8_told_65 : decode cX8_told 65 = .ok (.getfield 19, 3) := by decide +kernel
theorem dX8_told_68 : decode cX8_told 68 = .ok (.iload_n 1, 1) := by decide +kernel
theorem dX8_told_69 : decode cX8_told 69 = .ok (.iaload, 1) := by decide +kernel
theorem dX8_told_70 : decode cX8_told 70 = .ok (.ireturn, 1) := by decide +kernel
theorem dX8_told_71 : decode cX8_told 71 = .ok (.new 39, 3) := by decide +kernel
theorem dX8_told_74 : decode cX8_told 74 = .ok (.dup, 1) := by decide +kernel
theorem dX8_told_75 : decode cX8_told 75 = .ok (.invokespecial 41, 3) := by decide +kernel
theorem dX8_told_78 : decode cX8_told 78 = .ok (.athrow, 1) := by decide +kernel
theorem dX9_init_0 : decode cX9_init 0 = .ok (.aload_n 0, 1) := by decide +kernel
theorem dX9_init_1 : decode cX9_init 1 = .ok (.aload_n 1, 1) := by decide +kernel
theorem dX9_init_2 : decode cX9_init 2 = .ok (.putfield 1, 3) := by decide +kernel
theorem dX9_init_5 : decode cX9_init 5 = .ok (.aload_n 0, 1) := by decide +kernel
theorem dX9_init_6 : decode cX9_init 6 = .ok (.invokespecial 7, 3) := by decide +kernel
theorem dX9_init_9 : decode cX9_init 9 = .ok (.aload_n 0, 1) := by decide +kernel
theorem dX9_init_10 : decode cX9_init 10 = .ok (.new 13, 3) := by decide +kernel
theorem dX9_init_13 : decode cX9_init 13 = .ok (.dup, 1) := by decide +kernel
theorem dX9_init_14 : decode cX9_init 14 = .ok (.aload_n 0, 1) := by decide +kernel
theorem dX9_init_15 : decode cX9_init 15 = .ok (.getfield 1, 3) := by decide +kernel
theorem dX9_init_18 : decode cX9_init 18 = .ok (.getfield 15, 3) := by decide +kernel
theorem dX9_init_21 : decode cX9_init 21 = .ok (.getfield 21, 3) := by decide +kernel
theorem dX9_init_24 : decode cX9_init 24 = .ok (.invokespecial 27, 3) := by decide +kernel
theorem dX9_init_27 : decode cX9_init 27 = .ok (.putfield 30, 3) := by decide +kernel
theorem dX9_init_30 : decode cX9_init 30 = .ok (.return_, 1) := by decide +kernel
theorem dX9_begin_0 : decode cX9_begin 0 = .ok (.aload_n 0, 1) := by decide +kernel
theorem dX9_begin_1 : decode cX9_begin 1 = .ok (.iload_n 1, 1) := by decide +kernel
theorem dX9_begin_2 : decode cX9_begin 2 = .ok (.putfield 34, 3) := by decide +kernel
theorem dX9_begin_5 : decode cX9_begin 5 = .ok (.aload_n 0, 1) := by decide +kernel
theorem dX9_begin_6 : decode cX9_begin 6 = .ok (.iload_n 2, 1) := by decide +kernel
theorem dX9_begin_7 : decode cX9_begin 7 = .ok (.putfield 38, 3) := by decide +kernel
theorem dX9_begin_10 : decode cX9_begin 10 = .ok (.aload_n 0, 1) := by decide +kernel
theorem dX9_begin_11 : decode cX9_begin 11 = .ok (.iload_n 3, 1) := by decide +kernel
theorem dX9_begin_12 : decode cX9_begin 12 = .ok (.putfield 41, 3) := by decide +kernel
theorem dX9_begin_15 : decode cX9_begin 15 = .ok (.aload_n 0, 1) := by decide +kernel
theorem dX9_begin_16 : decode cX9_begin 16 = .ok (.aload_n 0, 1) := by decide +kernel
theorem dX9_begin_17 : decode cX9_begin 17 = .ok (.getfield 1, 3) := by decide +kernel
theorem dX9_begin_20 : decode cX9_begin 20 = .ok (.getfield 44, 3) := by decide +kernel
theorem dX9_begin_23 : decode cX9_begin 23 = .ok (.getfield 48, 3) := by decide +kernel
theorem dX9_begin_26 : decode cX9_begin 26 = .ok (.iload_n 1, 1) := by decide +kernel
theorem dX9_begin_27 : decode cX9_begin 27 = .ok (.iaload, 1) := by decide +kernel
theorem dX9_begin_28 : decode cX9_begin 28 = .ok (.putfield 53, 3) := by decide +kernel
theorem dX9_begin_31 : decode cX9_begin 31 = .ok (.aload_n 0, 1) := by decide +kernel
theorem dX9_begin_32 : decode cX9_begin 32 = .ok (.iconst 0, 1) := by decide +kernel
theorem dX9_begin_33 : decode cX9_begin 33 = .ok (.putfield 56, 3) := by decide +kernel
theorem dX9_begin_36 : decode cX9_begin 36 = .ok (.aload_n 0, 1) := by decide +kernel
theorem dX9_begin_37 : decode cX9_begin 37 = .ok (.iconst 0, 1) := by decide +kernel
theorem dX9_begin_38 : decode cX9_begin 38 = .ok (.putfield 59, 3) := by decide +kernel
theorem dX9_begin_41 : decode cX9_begin 41 = .ok (.aload_n 0, 1) := by decide +kernel
theorem dX9_begin_42 : decode cX9_begin 42 = .ok (.iconst 0, 1) := by decide +kernel
theorem dX9_begin_43 : decode cX9_begin 43 = .ok (.putfield 63, 3) := by decide +kernel
theorem dX9_begin_46 : decode cX9_begin 46 = .ok (.return_, 1) := by decide +kernel
theorem dX9_step_0 : decode cX9_step 0 = .ok (.aload_n 0, 1) := by decide +kernel
theorem dX9_step_1 : decode cX9_step 1 = .ok (.aload_n 0, 1) := by decide +kernel
theorem dX9_step_2 : decode cX9_step 2 = .ok (.invokevirtual 115, 3) := by decide +kernel
theorem dX9_step_5 : decode cX9_step 5 = .ok (.putfield 63, 3) := by decide +kernel
theorem dX9_step_8 : decode cX9_step 8 = .ok (.aload_n 0, 1) := by decide +kernel
theorem dX9_step_9 : decode cX9_step 9 = .ok (.getfield 63, 3) := by decide +kernel
theorem dX9_step_12 : decode cX9_step 12 = .ok (.ifCond .eq 25, 3) := by decide +kernel
theorem dX9_step_15 : decode cX9_step 15 = .ok (.aload_n 0, 1) := by decide +kernel
theorem dX9_step_16 : decode cX9_step 16 = .ok (.getfield 95, 3) := by decide +kernel
theorem dX9_step_19 : decode cX9_step 19 = .ok (.aload_n 0, 1) := by decide +kernel
theorem dX9_step_20 : decode cX9_step 20 = .ok (.getfield 38, 3) := by decide +kernel
theorem dX9_step_23 : decode cX9_step 23 = .ok (.if_icmp .lt (-23), 3) := by decide +kernel
theorem dX9_step_26 : decode cX9_step 26 = .ok (.aload_n 0, 1) := by decide +kernel
theorem dX9_step_27 : decode cX9_step 27 = .ok (.getfield 95, 3) := by decide +kernel
theorem dX9_step_30 : decode cX9_step 30 = .ok (.aload_n 0, 1) := by decide +kernel
theorem dX9_step_31 : decode cX9_step 31 = .ok (.getfield 41, 3) := by decide +kernel
theorem dX9_step_34 : decode cX9_step 34 = .ok (.if_icmp .gt (-34), 3) := by decide +kernel
theorem dX9_step_37 : decode cX9_step 37 = .ok (.aload_n 0, 1) := by decide +kernel
theorem dX9_step_38 : decode cX9_step 38 = .ok (.getfield 63, 3) := by decide +kernel
theorem dX9_step_41 : decode cX9_step 41 = .ok (.ireturn, 1) := by decide +kernel
theorem dX9_goes_0 : decode cX9_goes 0 = .ok (.aload_n 0, 1) := by decide +kernel
theorem dX9_goes_1 : decode cX9_goes 1 = .ok (.getfield 53, 3) := by decide +kernel
theorem dX9_goes_4 : decode cX9_goes 4 = .ok (.aload_n 0, 1) := by decide +kernel
theorem dX9_goes_5 : decode cX9_goes 5 = .ok (.getfield 1, 3) := by decide +kernel
theorem dX9_goes_8 : decode cX9_goes 8 = .ok (.getfield 44, 3) := by decide +kernel
theorem dX9_goes_11 : decode cX9_goes 11 = .ok (.getfield 48, 3) := by decide +kernel
theorem dX9_goes_14 : decode cX9_goes 14 = .ok (.aload_n 0, 1) := by decide +kernel
theorem dX9_goes_15 : decode cX9_goes 15 = .ok (.getfield 34, 3) := by decide +kernel
theorem dX9_goes_18 : decode cX9_goes 18 = .ok (.iconst 1, 1) := by decide +kernel
theorem dX9_goes_19 : decode cX9_goes 19 = .ok (.iadd, 1) := by decide +kernel
theorem dX9_goes_20 : decode cX9_goes 20 = .ok (.iaload, 1) := by decide +kernel
theorem dX9_goes_21 : decode cX9_goes 21 = .ok (.if_icmp .ge 142, 3) := by decide +kernel
theorem dX9_goes_24 : decode cX9_goes 24 = .ok (.aload_n 0, 1) := by decide +kernel
theorem dX9_goes_25 : decode cX9_goes 25 = .ok (.getfield 59, 3) := by decide +kernel
theorem dX9_goes_28 : decode cX9_goes 28 = .ok (.ifCond .ne 76, 3) := by decide +kernel
theorem dX9_goes_31 : decode cX9_goes 31 = .ok (.aload_n 0, 1) := by decide +kernel
theorem dX9_goes_32 : decode cX9_goes 32 = .ok (.getfield 1, 3) := by decide +kernel
theorem dX9_goes_35 : decode cX9_goes 35 = .ok (.getfield 44, 3) := by decide +kernel
theorem dX9_goes_38 : decode cX9_goes 38 = .ok (.getfield 66, 3) := by decide +kernel
theorem dX9_goes_41 : decode cX9_goes 41 = .ok (.aload_n 0, 1) := by decide +kernel
theorem dX9_goes_42 : decode cX9_goes 42 = .ok (.getfield 53, 3) := by decide +kernel
theorem dX9_goes_45 : decode cX9_goes 45 = .ok (.aload_n 0, 1) := by decide +kernel
theorem dX9_goes_46 : decode cX9_goes 46 = .ok (.getfield 38, 3) := by decide +kernel
theorem dX9_goes_49 : decode cX9_goes 49 = .ok (.aload_n 0, 1) := by decide +kernel
theorem dX9_goes_50 : decode cX9_goes 50 = .ok (.getfield 41, 3) := by decide +kernel
theorem dX9_goes_53 : decode cX9_goes 53 = .ok (.invokevirtual 70, 3) := by decide +kernel
theorem dX9_goes_56 : decode cX9_goes 56 = .ok (.ifCond .ne 48, 3) := by decide +kernel
theorem dX9_goes_59 : decode cX9_goes 59 = .ok (.aload_n 0, 1) := by decide +kernel
theorem dX9_goes_60 : decode cX9_goes 60 = .ok (.getfield 30, 3) := by decide +kernel
theorem dX9_goes_63 : decode cX9_goes 63 = .ok (.aload_n 0, 1) := by decide +kernel
theorem dX9_goes_64 : decode cX9_goes 64 = .ok (.getfield 1, 3) := by decide +kernel
theorem dX9_goes_67 : decode cX9_goes 67 = .ok (.getfield 44, 3) := by decide +kernel
theorem dX9_goes_70 : decode cX9_goes 70 = .ok (.getfield 76, 3) := by decide +kernel
theorem dX9_goes_73 : decode cX9_goes 73 = .ok (.aload_n 0, 1) := by decide +kernel
theorem dX9_goes_74 : decode cX9_goes 74 = .ok (.getfield 53, 3) := by decide +kernel
theorem dX9_goes_77 : decode cX9_goes 77 = .ok (.caload, 1) := by decide +kernel
theorem dX9_goes_78 : decode cX9_goes 78 = .ok (.aload_n 0, 1) := by decide +kernel
theorem dX9_goes_79 : decode cX9_goes 79 = .ok (.getfield 1, 3) := by decide +kernel
theorem dX9_goes_82 : decode cX9_goes 82 = .ok (.getfield 44, 3) := by decide +kernel
theorem dX9_goes_85 : decode cX9_goes 85 = .ok (.getfield 66, 3) := by decide +kernel
theorem dX9_goes_88 : decode cX9_goes 88 = .ok (.getfield 80, 3) := by decide +kernel
theorem dX9_goes_91 : decode cX9_goes 91 = .ok (.aload_n 0, 1) := by decide +kernel
theorem dX9_goes_92 : decode cX9_goes 92 = .ok (.getfield 53, 3) := by decide +kernel
theorem dX9_goes_95 : decode cX9_goes 95 = .ok (.saload, 1) := by decide +kernel
theorem dX9_goes_96 : decode cX9_goes 96 = .ok (.invokevirtual 84, 3) := by decide +kernel
theorem dX9_goes_99 : decode cX9_goes 99 = .ok (.aload_n 0, 1) := by decide +kernel
theorem dX9_goes_100 : decode cX9_goes 100 = .ok (.iconst 1, 1) := by decide +kernel
theorem dX9_goes_101 : decode cX9_goes 101 = .ok (.putfield 59, 3) := by decide +kernel
theorem dX9_goes_104 : decode cX9_goes 104 = .ok (.aload_n 0, 1) := by decide +kernel
theorem dX9_goes_105 : decode cX9_goes 105 = .ok (.getfield 59, 3) := by decide +kernel
theorem dX9_goes_108 : decode cX9_goes 108 = .ok (.ifCond .eq 37, 3) := by decide +kernel
theorem dX9_goes_111 : decode cX9_goes 111 = .ok (.aload_n 0, 1) := by decide +kernel
theorem dX9_goes_112 : decode cX9_goes 112 = .ok (.getfield 30, 3) := by decide +kernel
theorem dX9_goes_115 : decode cX9_goes 115 = .ok (.invokevirtual 88, 3) := by decide +kernel
theorem dX9_goes_118 : decode cX9_goes 118 = .ok (.ifCond .eq 27, 3) := by decide +kernel
theorem dX9_goes_121 : decode cX9_goes 121 = .ok (.aload_n 0, 1) := by decide +kernel
theorem dX9_goes_122 : decode cX9_goes 122 = .ok (.aload_n 0, 1) := by decide +kernel
theorem dX9_goes_123 : decode cX9_goes 123 = .ok (.getfield 30, 3) := by decide +kernel
theorem dX9_goes_126 : decode cX9_goes 126 = .ok (.getfield 92, 3) := by decide +kernel
theorem dX9_goes_129 : decode cX9_goes 129 = .ok (.putfield 95, 3) := by decide +kernel
theorem dX9_goes_132 : decode cX9_goes 132 = .ok (.aload_n 0, 1) := by decide +kernel
theorem dX9_goes_133 : decode cX9_goes 133 = .ok (.aload_n 0, 1) := by decide +kernel
theorem dX9_goes_134 : decode cX9_goes 134 = .ok (.getfield 30, 3) := by decide +kernel
theorem dX9_goes_137 : decode cX9_goes 137 = .ok (.getfield 96, 3) := by decide +kernel
theorem dX9_goes_140 : decode cX9_goes 140 = .ok (.putfield 99, 3) := by decide +kernel
theorem dX9_goes_143 : decode cX9_goes 143 = .ok (.iconst 1, 1) := by decide +kernel
theorem dX9_goes_144 : decode cX9_goes 144 = .ok (.ireturn, 1) := by decide +kernel
theorem dX9_goes_145 : decode cX9_goes 145 = .ok (.aload_n 0, 1) := by decide +kernel
theorem dX9_goes_146 : decode cX9_goes 146 = .ok (.iconst 0, 1) := by decide +kernel
theorem dX9_goes_147 : decode cX9_goes 147 = .ok (.putfield 59, 3) := by decide +kernel
theorem dX9_goes_150 : decode cX9_goes 150 = .ok (.aload_n 0, 1) := by decide +kernel
theorem dX9_goes_151 : decode cX9_goes 151 = .ok (.dup, 1) := by decide +kernel
theorem dX9_goes_152 : decode cX9_goes 152 = .ok (.getfield 53, 3) := by decide +kernel
theorem dX9_goes_155 : decode cX9_goes 155 = .ok (.iconst 1, 1) := by decide +kernel
theorem dX9_goes_156 : decode cX9_goes 156 = .ok (.iadd, 1) := by decide +kernel
theorem dX9_goes_157 : decode cX9_goes 157 = .ok (.putfield 53, 3) := by decide +kernel
theorem dX9_goes_160 : decode cX9_goes 160 = .ok (.goto (-160), 3) := by decide +kernel
theorem dX9_goes_163 : decode cX9_goes 163 = .ok (.aload_n 0, 1) := by decide +kernel
theorem dX9_goes_164 : decode cX9_goes 164 = .ok (.getfield 1, 3) := by decide +kernel
theorem dX9_goes_167 : decode cX9_goes 167 = .ok (.getfield 100, 3) := by decide +kernel
theorem dX9_goes_170 : decode cX9_goes 170 = .ok (.aload_n 0, 1) := by decide +kernel
theorem dX9_goes_171 : decode cX9_goes 171 = .ok (.getfield 34, 3) := by decide +kernel
theorem dX9_goes_174 : decode cX9_goes 174 = .ok (.aaload, 1) := by decide +kernel
theorem dX9_goes_175 : decode cX9_goes 175 = .ok (.astore_n 1, 1) := by decide +kernel
theorem dX9_goes_176 : decode cX9_goes 176 = .ok (.aload_n 0, 1) := by decide +kernel
theorem dX9_goes_177 : decode cX9_goes 177 = .ok (.getfield 56, 3) := by decide +kernel
theorem dX9_goes_180 : decode cX9_goes 180 = .ok (.aload_n 1, 1) := by decide +kernel
theorem dX9_goes_181 : decode cX9_goes 181 = .ok (.getfield 104, 3) := by decide +kernel
theorem dX9_goes_184 : decode cX9_goes 184 = .ok (.if_icmp .lt 5, 3) := by decide +kernel
theorem dX9_goes_187 : decode cX9_goes 187 = .ok (.iconst 0, 1) := by decide +kernel
theorem dX9_goes_188 : decode cX9_goes 188 = .ok (.ireturn, 1) := by decide +kernel
theorem dX9_goes_189 : decode cX9_goes 189 = .ok (.aload_n 0, 1) := by decide +kernel
theorem dX9_goes_190 : decode cX9_goes 190 = .ok (.aload_n 1, 1) := by decide +kernel
theorem dX9_goes_191 : decode cX9_goes 191 = .ok (.getfield 109, 3) := by decide +kernel
theorem dX9_goes_194 : decode cX9_goes 194 = .ok (.aload_n 0, 1) := by decide +kernel
theorem dX9_goes_195 : decode cX9_goes 195 = .ok (.getfield 56, 3) := by decide +kernel
theorem dX9_goes_198 : decode cX9_goes 198 = .ok (.iaload, 1) := by decide +kernel
theorem dX9_goes_199 : decode cX9_goes 199 = .ok (.putfield 95, 3) := by decide +kernel
theorem dX9_goes_202 : decode cX9_goes 202 = .ok (.aload_n 0, 1) := by decide +kernel
theorem dX9_goes_203 : decode cX9_goes 203 = .ok (.aload_n 1, 1) := by decide +kernel
theorem dX9_goes_204 : decode cX9_goes 204 = .ok (.getfield 112, 3) := by decide +kernel
theorem dX9_goes_207 : decode cX9_goes 207 = .ok (.aload_n 0, 1) := by decide +kernel
theorem dX9_goes_208 : decode cX9_goes 208 = .ok (.getfield 56, 3) := by decide +kernel
theorem dX9_goes_211 : decode cX9_goes 211 = .ok (.iaload, 1) := by decide +kernel
theorem dX9_goes_212 : decode cX9_goes 212 = .ok (.putfield 99, 3) := by decide +kernel
theorem dX9_goes_215 : decode cX9_goes 215 = .ok (.aload_n 0, 1) := by decide +kernel
theorem dX9_goes_216 : decode cX9_goes 216 = .ok (.dup, 1) := by decide +kernel
theorem dX9_goes_217 : decode cX9_goes 217 = .ok (.getfield 56, 3) := by decide +kernel
theorem dX9_goes_220 : decode cX9_goes 220 = .ok (.iconst 1, 1) := by decide +kernel
theorem dX9_goes_221 : decode cX9_goes 221 = .ok (.iadd, 1) := by decide +kernel
theorem dX9_goes_222 : decode cX9_goes 222 = .ok (.putfield 56, 3) := by decide +kernel
theorem dX9_goes_225 : decode cX9_goes 225 = .ok (.iconst 1, 1) := by decide +kernel
theorem dX9_goes_226 : decode cX9_goes 226 = .ok (.ireturn, 1) := by decide +kernel
theorem dX10_init_0 : decode cX10_init 0 = .ok (.aload_n 0, 1) := by decide +kernel
theorem dX10_init_1 : decode cX10_init 1 = .ok (.aload_n 1, 1) := by decide +kernel
theorem dX10_init_2 : decode cX10_init 2 = .ok (.putfield 1, 3) := by decide +kernel
theorem dX10_init_5 : decode cX10_init 5 = .ok (.aload_n 0, 1) := by decide +kernel
theorem dX10_init_6 : decode cX10_init 6 = .ok (.invokespecial 7, 3) := by decide +kernel
theorem dX10_init_9 : decode cX10_init 9 = .ok (.return_, 1) := by decide +kernel
theorem dX10_begin_0 : decode cX10_begin 0 = .ok (.aload_n 0, 1) := by decide +kernel
theorem dX10_begin_1 : decode cX10_begin 1 = .ok (.iconst 0, 1) := by decide +kernel
theorem dX10_begin_2 : decode cX10_begin 2 = .ok (.putfield 13, 3) := by decide +kernel
theorem dX10_begin_5 : decode cX10_begin 5 = .ok (.aload_n 0, 1) := by decide +kernel
theorem dX10_begin_6 : decode cX10_begin 6 = .ok (.iconst 0, 1) := by decide +kernel
theorem dX10_begin_7 : decode cX10_begin 7 = .ok (.putfield 17, 3) := by decide +kernel
theorem dX10_begin_10 : decode cX10_begin 10 = .ok (.aload_n 0, 1) := by decide +kernel
theorem dX10_begin_11 : decode cX10_begin 11 = .ok (.iconst 0, 1) := by decide +kernel
theorem dX10_begin_12 : decode cX10_begin 12 = .ok (.putfield 20, 3) := by decide +kernel
theorem dX10_begin_15 : decode cX10_begin 15 = .ok (.aload_n 0, 1) := by decide +kernel
theorem dX10_begin_16 : decode cX10_begin 16 = .ok (.lconst 0, 1) := by decide +kernel
theorem dX10_begin_17 : decode cX10_begin 17 = .ok (.putfield 23, 3) := by decide +kernel
theorem dX10_begin_20 : decode cX10_begin 20 = .ok (.return_, 1) := by decide +kernel
theorem dX10_join_0 : decode cX10_join 0 = .ok (.aload_n 0, 1) := by decide +kernel
theorem dX10_join_1 : decode cX10_join 1 = .ok (.aload_n 0, 1) := by decide +kernel
theorem dX10_join_2 : decode cX10_join 2 = .ok (.getfield 13, 3) := by decide +kernel
theorem dX10_join_5 : decode cX10_join 5 = .ok (.ifCond .ne 12, 3) := by decide +kernel
theorem dX10_join_8 : decode cX10_join 8 = .ok (.aload_n 1, 1) := by decide +kernel
theorem dX10_join_9 : decode cX10_join 9 = .ok (.getfield 36, 3) := by decide +kernel
theorem dX10_join_12 : decode cX10_join 12 = .ok (.iload_n 2, 1) := by decide +kernel
theorem dX10_join_13 : decode cX10_join 13 = .ok (.iaload, 1) := by decide +kernel
theorem dX10_join_14 : decode cX10_join 14 = .ok (.goto 16, 3) := by decide +kernel
theorem dX10_join_17 : decode cX10_join 17 = .ok (.aload_n 0, 1) := by decide +kernel
theorem dX10_join_18 : decode cX10_join 18 = .ok (.getfield 17, 3) := by decide +kernel
theorem dX10_join_21 : decode cX10_join 21 = .ok (.aload_n 1, 1) := by decide +kernel
theorem dX10_join_22 : decode cX10_join 22 = .ok (.getfield 36, 3) := by decide +kernel
theorem dX10_join_25 : decode cX10_join 25 = .ok (.iload_n 2, 1) := by decide +kernel
theorem dX10_join_26 : decode cX10_join 26 = .ok (.iaload, 1) := by decide +kernel
theorem dX10_join_27 : decode cX10_join 27 = .ok (.invokestatic 27, 3) := by decide +kernel
theorem dX10_join_30 : decode cX10_join 30 = .ok (.putfield 17, 3) := by decide +kernel
theorem dX10_join_33 : decode cX10_join 33 = .ok (.aload_n 0, 1) := by decide +kernel
theorem dX10_join_34 : decode cX10_join 34 = .ok (.aload_n 0, 1) := by decide +kernel
theorem dX10_join_35 : decode cX10_join 35 = .ok (.getfield 13, 3) := by decide +kernel
theorem dX10_join_38 : decode cX10_join 38 = .ok (.ifCond .ne 12, 3) := by decide +kernel
theorem dX10_join_41 : decode cX10_join 41 = .ok (.aload_n 1, 1) := by decide +kernel
theorem dX10_join_42 : decode cX10_join 42 = .ok (.getfield 41, 3) := by decide +kernel
theorem dX10_join_45 : decode cX10_join 45 = .ok (.iload_n 2, 1) := by decide +kernel
theorem dX10_join_46 : decode cX10_join 46 = .ok (.iaload, 1) := by decide +kernel
theorem dX10_join_47 : decode cX10_join 47 = .ok (.goto 16, 3) := by decide +kernel
theorem dX10_join_50 : decode cX10_join 50 = .ok (.aload_n 0, 1) := by decide +kernel
theorem dX10_join_51 : decode cX10_join 51 = .ok (.getfield 20, 3) := by decide +kernel
theorem dX10_join_54 : decode cX10_join 54 = .ok (.aload_n 1, 1) := by decide +kernel
theorem dX10_join_55 : decode cX10_join 55 = .ok (.getfield 41, 3) := by decide +kernel
theorem dX10_join_58 : decode cX10_join 58 = .ok (.iload_n 2, 1) := by decide +kernel
theorem dX10_join_59 : decode cX10_join 59 = .ok (.iaload, 1) := by decide +kernel
theorem dX10_join_60 : decode cX10_join 60 = .ok (.invokestatic 33, 3) := by decide +kernel
theorem dX10_join_63 : decode cX10_join 63 = .ok (.putfield 20, 3) := by decide +kernel
theorem dX10_join_66 : decode cX10_join 66 = .ok (.aload_n 0, 1) := by decide +kernel
theorem dX10_join_67 : decode cX10_join 67 = .ok (.dup, 1) := by decide +kernel
theorem dX10_join_68 : decode cX10_join 68 = .ok (.getfield 13, 3) := by decide +kernel
theorem dX10_join_71 : decode cX10_join 71 = .ok (.aload_n 1, 1) := by decide +kernel
theorem dX10_join_72 : decode cX10_join 72 = .ok (.getfield 43, 3) := by decide +kernel
theorem dX10_join_75 : decode cX10_join 75 = .ok (.iload_n 2, 1) := by decide +kernel
theorem dX10_join_76 : decode cX10_join 76 = .ok (.saload, 1) := by decide +kernel
theorem dX10_join_77 : decode cX10_join 77 = .ok (.iadd, 1) := by decide +kernel
theorem dX10_join_78 : decode cX10_join 78 = .ok (.putfield 13, 3) := by decide +kernel
theorem dX10_join_81 : decode cX10_join 81 = .ok (.aload_n 0, 1) := by decide +kernel
theorem dX10_join_82 : decode cX10_join 82 = .ok (.dup, 1) := by decide +kernel
theorem dX10_join_83 : decode cX10_join 83 = .ok (.getfield 23, 3) := by decide +kernel
theorem dX10_join_86 : decode cX10_join 86 = .ok (.aload_n 1, 1) := by decide +kernel
theorem dX10_join_87 : decode cX10_join 87 = .ok (.getfield 47, 3) := by decide +kernel
theorem dX10_join_90 : decode cX10_join 90 = .ok (.iload_n 2, 1) := by decide +kernel
theorem dX10_join_91 : decode cX10_join 91 = .ok (.laload, 1) := by decide +kernel
theorem dX10_join_92 : decode cX10_join 92 = .ok (.ladd, 1) := by decide +kernel
theorem dX10_join_93 : decode cX10_join 93 = .ok (.putfield 23, 3) := by decide +kernel
theorem dX10_join_96 : decode cX10_join 96 = .ok (.return_, 1) := by decide +kernel
theorem dX10_take_0 : decode cX10_take 0 = .ok (.aload_n 0, 1) := by decide +kernel
theorem dX10_take_1 : decode cX10_take 1 = .ok (.aload_n 0, 1) := by decide +kernel
theorem dX10_take_2 : decode cX10_take 2 = .ok (.getfield 13, 3) := by decide +kernel
theorem dX10_take_5 : decode cX10_take 5 = .ok (.ifCond .ne 7, 3) := by decide +kernel
theorem dX10_take_8 : decode cX10_take 8 = .ok (.iload_n 2, 1) := by decide +kernel
theorem dX10_take_9 : decode cX10_take 9 = .ok (.goto 11, 3) := by decide +kernel
theorem dX10_take_12 : decode cX10_take 12 = .ok (.aload_n 0, 1) := by decide +kernel
theorem dX10_take_13 : decode cX10_take 13 = .ok (.getfield 17, 3) := by decide +kernel
theorem dX10_take_16 : decode cX10_take 16 = .ok (.iload_n 2, 1) := by decide +kernel
theorem dX10_take_17 : decode cX10_take 17 = .ok (.invokestatic 27, 3) := by decide +kernel
theorem dX10_take_20 : decode cX10_take 20 = .ok (.putfield 17, 3) := by decide +kernel
theorem dX10_take_23 : decode cX10_take 23 = .ok (.aload_n 0, 1) := by decide +kernel
theorem dX10_take_24 : decode cX10_take 24 = .ok (.aload_n 0, 1) := by decide +kernel
theorem dX10_take_25 : decode cX10_take 25 = .ok (.getfield 13, 3) := by decide +kernel
theorem dX10_take_28 : decode cX10_take 28 = .ok (.ifCond .ne 7, 3) := by decide +kernel
theorem dX10_take_31 : decode cX10_take 31 = .ok (.iload_n 2, 1) := by decide +kernel
theorem dX10_take_32 : decode cX10_take 32 = .ok (.goto 11, 3) := by decide +kernel
theorem dX10_take_35 : decode cX10_take 35 = .ok (.aload_n 0, 1) := by decide +kernel
theorem dX10_take_36 : decode cX10_take 36 = .ok (.getfield 20, 3) := by decide +kernel
theorem dX10_take_39 : decode cX10_take 39 = .ok (.iload_n 2, 1) := by decide +kernel
theorem dX10_take_40 : decode cX10_take 40 = .ok (.invokestatic 33, 3) := by decide +kernel
theorem dX10_take_43 : decode cX10_take 43 = .ok (.putfield 20, 3) := by decide +kernel
theorem dX10_take_46 : decode cX10_take 46 = .ok (.aload_n 0, 1) := by decide +kernel
theorem dX10_take_47 : decode cX10_take 47 = .ok (.dup, 1) := by decide +kernel
theorem dX10_take_48 : decode cX10_take 48 = .ok (.getfield 13, 3) := by decide +kernel
theorem dX10_take_51 : decode cX10_take 51 = .ok (.iconst 1, 1) := by decide +kernel
theorem dX10_take_52 : decode cX10_take 52 = .ok (.iadd, 1) := by decide +kernel
theorem dX10_take_53 : decode cX10_take 53 = .ok (.putfield 13, 3) := by decide +kernel
theorem dX10_take_56 : decode cX10_take 56 = .ok (.aload_n 0, 1) := by decide +kernel
theorem dX10_take_57 : decode cX10_take 57 = .ok (.dup, 1) := by decide +kernel
theorem dX10_take_58 : decode cX10_take 58 = .ok (.getfield 23, 3) := by decide +kernel
theorem dX10_take_61 : decode cX10_take 61 = .ok (.iload_n 2, 1) := by decide +kernel
theorem dX10_take_62 : decode cX10_take 62 = .ok (.i2l, 1) := by decide +kernel
theorem dX10_take_63 : decode cX10_take 63 = .ok (.ladd, 1) := by decide +kernel
theorem dX10_take_64 : decode cX10_take 64 = .ok (.putfield 23, 3) := by decide +kernel
theorem dX10_take_67 : decode cX10_take 67 = .ok (.return_, 1) := by decide +kernel
theorem dJ2_max_0 : decode cJ2_max 0 = .ok (.iload_n 0, 1) := by decide +kernel
theorem dJ2_max_1 : decode cJ2_max 1 = .ok (.iload_n 1, 1) := by decide +kernel
theorem dJ2_max_2 : decode cJ2_max 2 = .ok (.if_icmp .lt 7, 3) := by decide +kernel
theorem dJ2_max_5 : decode cJ2_max 5 = .ok (.iload_n 0, 1) := by decide +kernel
theorem dJ2_max_6 : decode cJ2_max 6 = .ok (.goto 4, 3) := by decide +kernel
theorem dJ2_max_9 : decode cJ2_max 9 = .ok (.iload_n 1, 1) := by decide +kernel
theorem dJ2_max_10 : decode cJ2_max 10 = .ok (.ireturn, 1) := by decide +kernel
theorem dJ2_min_0 : decode cJ2_min 0 = .ok (.iload_n 0, 1) := by decide +kernel
theorem dJ2_min_1 : decode cJ2_min 1 = .ok (.iload_n 1, 1) := by decide +kernel
theorem dJ2_min_2 : decode cJ2_min 2 = .ok (.if_icmp .gt 7, 3) := by decide +kernel
theorem dJ2_min_5 : decode cJ2_min 5 = .ok (.iload_n 0, 1) := by decide +kernel
theorem dJ2_min_6 : decode cJ2_min 6 = .ok (.goto 4, 3) := by decide +kernel
theorem dJ2_min_9 : decode cJ2_min 9 = .ok (.iload_n 1, 1) := by decide +kernel
theorem dJ2_min_10 : decode cJ2_min 10 = .ok (.ireturn, 1) := by decide +kernel
theorem dX11_init_0 : decode cX11_init 0 = .ok (.aload_n 0, 1) := by decide +kernel
theorem dX11_init_1 : decode cX11_init 1 = .ok (.invokespecial 3, 3) := by decide +kernel
theorem dX11_init_4 : decode cX11_init 4 = .ok (.aload_n 0, 1) := by decide +kernel
theorem dX11_init_5 : decode cX11_init 5 = .ok (.sipush 128, 3) := by decide +kernel
theorem dX11_init_8 : decode cX11_init 8 = .ok (.newarray .int, 2) := by decide +kernel
theorem dX11_init_10 : decode cX11_init 10 = .ok (.putfield 9, 3) := by decide +kernel
theorem dX11_init_13 : decode cX11_init 13 = .ok (.aload_n 0, 1) := by decide +kernel
theorem dX11_init_14 : decode cX11_init 14 = .ok (.sipush 128, 3) := by decide +kernel
theorem dX11_init_17 : decode cX11_init 17 = .ok (.newarray .int, 2) := by decide +kernel
theorem dX11_init_19 : decode cX11_init 19 = .ok (.putfield 15, 3) := by decide +kernel
theorem dX11_init_22 : decode cX11_init 22 = .ok (.return_, 1) := by decide +kernel
theorem dX11_add_0 : decode cX11_add 0 = .ok (.aload_n 0, 1) := by decide +kernel
theorem dX11_add_1 : decode cX11_add 1 = .ok (.getfield 9, 3) := by decide +kernel
theorem dX11_add_4 : decode cX11_add 4 = .ok (.aload_n 0, 1) := by decide +kernel
theorem dX11_add_5 : decode cX11_add 5 = .ok (.getfield 18, 3) := by decide +kernel
theorem dX11_add_8 : decode cX11_add 8 = .ok (.iload_n 1, 1) := by decide +kernel
theorem dX11_add_9 : decode cX11_add 9 = .ok (.iastore, 1) := by decide +kernel
theorem dX11_add_10 : decode cX11_add 10 = .ok (.aload_n 0, 1) := by decide +kernel
theorem dX11_add_11 : decode cX11_add 11 = .ok (.getfield 15, 3) := by decide +kernel
theorem dX11_add_14 : decode cX11_add 14 = .ok (.aload_n 0, 1) := by decide +kernel
theorem dX11_add_15 : decode cX11_add 15 = .ok (.getfield 18, 3) := by decide +kernel
theorem dX11_add_18 : decode cX11_add 18 = .ok (.iload_n 2, 1) := by decide +kernel
theorem dX11_add_19 : decode cX11_add 19 = .ok (.iastore, 1) := by decide +kernel
theorem dX11_add_20 : decode cX11_add 20 = .ok (.aload_n 0, 1) := by decide +kernel
theorem dX11_add_21 : decode cX11_add 21 = .ok (.dup, 1) := by decide +kernel
theorem dX11_add_22 : decode cX11_add 22 = .ok (.getfield 18, 3) := by decide +kernel
theorem dX11_add_25 : decode cX11_add 25 = .ok (.iconst 1, 1) := by decide +kernel
theorem dX11_add_26 : decode cX11_add 26 = .ok (.iadd, 1) := by decide +kernel
theorem dX11_add_27 : decode cX11_add 27 = .ok (.putfield 18, 3) := by decide +kernel
theorem dX11_add_30 : decode cX11_add 30 = .ok (.return_, 1) := by decide +kernel
theorem dX12_init_0 : decode cX12_init 0 = .ok (.aload_n 0, 1) := by decide +kernel
theorem dX12_init_1 : decode cX12_init 1 = .ok (.invokespecial 1, 3) := by decide +kernel
theorem dX12_init_4 : decode cX12_init 4 = .ok (.aload_n 0, 1) := by decide +kernel
theorem dX12_init_5 : decode cX12_init 5 = .ok (.sipush 4096, 3) := by decide +kernel
theorem dX12_init_8 : decode cX12_init 8 = .ok (.newarray .int, 2) := by decide +kernel
theorem dX12_init_10 : decode cX12_init 10 = .ok (.putfield 7, 3) := by decide +kernel
theorem dX12_init_13 : decode cX12_init 13 = .ok (.aload_n 0, 1) := by decide +kernel
theorem dX12_init_14 : decode cX12_init 14 = .ok (.iconst (-1), 1) := by decide +kernel
theorem dX12_init_15 : decode cX12_init 15 = .ok (.putfield 13, 3) := by decide +kernel
theorem dX12_init_18 : decode cX12_init 18 = .ok (.aload_n 0, 1) := by decide +kernel
theorem dX12_init_19 : decode cX12_init 19 = .ok (.sipush 240, 3) := by decide +kernel
theorem dX12_init_22 : decode cX12_init 22 = .ok (.newarray .int, 2) := by decide +kernel
theorem dX12_init_24 : decode cX12_init 24 = .ok (.putfield 17, 3) := by decide +kernel
theorem dX12_init_27 : decode cX12_init 27 = .ok (.aload_n 0, 1) := by decide +kernel
theorem dX12_init_28 : decode cX12_init 28 = .ok (.sipush 240, 3) := by decide +kernel
theorem dX12_init_31 : decode cX12_init 31 = .ok (.newarray .int, 2) := by decide +kernel
theorem dX12_init_33 : decode cX12_init 33 = .ok (.putfield 20, 3) := by decide +kernel
theorem dX12_init_36 : decode cX12_init 36 = .ok (.aload_n 0, 1) := by decide +kernel
theorem dX12_init_37 : decode cX12_init 37 = .ok (.sipush 240, 3) := by decide +kernel
theorem dX12_init_40 : decode cX12_init 40 = .ok (.newarray .int, 2) := by decide +kernel
theorem dX12_init_42 : decode cX12_init 42 = .ok (.putfield 23, 3) := by decide +kernel
theorem dX12_init_45 : decode cX12_init 45 = .ok (.aload_n 0, 1) := by decide +kernel
theorem dX12_init_46 : decode cX12_init 46 = .ok (.sipush 240, 3) := by decide +kernel
theorem dX12_init_49 : decode cX12_init 49 = .ok (.newarray .int, 2) := by decide +kernel
theorem dX12_init_51 : decode cX12_init 51 = .ok (.putfield 26, 3) := by decide +kernel
theorem dX12_init_54 : decode cX12_init 54 = .ok (.aload_n 0, 1) := by decide +kernel
theorem dX12_init_55 : decode cX12_init 55 = .ok (.sipush 15360, 3) := by decide +kernel
theorem dX12_init_58 : decode cX12_init 58 = .ok (.newarray .int, 2) := by decide +kernel
theorem dX12_init_60 : decode cX12_init 60 = .ok (.putfield 29, 3) := by decide +kernel
theorem dX12_init_63 : decode cX12_init 63 = .ok (.aload_n 0, 1) := by decide +kernel
theorem dX12_init_64 : decode cX12_init 64 = .ok (.sipush 15360, 3) := by decide +kernel
theorem dX12_init_67 : decode cX12_init 67 = .ok (.newarray .int, 2) := by decide +kernel
theorem dX12_init_69 : decode cX12_init 69 = .ok (.putfield 32, 3) := by decide +kernel
theorem dX12_init_72 : decode cX12_init 72 = .ok (.aload_n 0, 1) := by decide +kernel
theorem dX12_init_73 : decode cX12_init 73 = .ok (.bipush 96, 2) := by decide +kernel
theorem dX12_init_75 : decode cX12_init 75 = .ok (.newarray .int, 2) := by decide +kernel
theorem dX12_init_77 : decode cX12_init 77 = .ok (.putfield 35, 3) := by decide +kernel
theorem dX12_init_80 : decode cX12_init 80 = .ok (.aload_n 0, 1) := by decide +kernel
theorem dX12_init_81 : decode cX12_init 81 = .ok (.sipush 128, 3) := by decide +kernel
theorem dX12_init_84 : decode cX12_init 84 = .ok (.newarray .int, 2) := by decide +kernel
theorem dX12_init_86 : decode cX12_init 86 = .ok (.putfield 38, 3) := by decide +kernel
theorem dX12_init_89 : decode cX12_init 89 = .ok (.aload_n 0, 1) := by decide +kernel
theorem dX12_init_90 : decode cX12_init 90 = .ok (.sipush 128, 3) := by decide +kernel
theorem dX12_init_93 : decode cX12_init 93 = .ok (.newarray .int, 2) := by decide +kernel
theorem dX12_init_95 : decode cX12_init 95 = .ok (.putfield 41, 3) := by decide +kernel
theorem dX12_init_98 : decode cX12_init 98 = .ok (.aload_n 0, 1) := by decide +kernel
theorem dX12_init_99 : decode cX12_init 99 = .ok (.sipush 128, 3) := by decide +kernel
theorem dX12_init_102 : decode cX12_init 102 = .ok (.newarray .int, 2) := by decide +kernel
theorem dX12_init_104 : decode cX12_init 104 = .ok (.putfield 44, 3) := by decide +kernel
theorem dX12_init_107 : decode cX12_init 107 = .ok (.aload_n 0, 1) := by decide +kernel
theorem dX12_init_108 : decode cX12_init 108 = .ok (.sipush 240, 3) := by decide +kernel
theorem dX12_init_111 : decode cX12_init 111 = .ok (.newarray .int, 2) := by decide +kernel
theorem dX12_init_113 : decode cX12_init 113 = .ok (.putfield 47, 3) := by decide +kernel
theorem dX12_init_116 : decode cX12_init 116 = .ok (.aload_n 0, 1) := by decide +kernel
theorem dX12_init_117 : decode cX12_init 117 = .ok (.sipush 240, 3) := by decide +kernel
theorem dX12_init_120 : decode cX12_init 120 = .ok (.newarray .boolean, 2) := by decide +kernel
theorem dX12_init_122 : decode cX12_init 122 = .ok (.putfield 50, 3) := by decide +kernel
theorem dX12_init_125 : decode cX12_init 125 = .ok (.aload_n 0, 1) := by decide +kernel
theorem dX12_init_126 : decode cX12_init 126 = .ok (.sipush 6300, 3) := by decide +kernel
theorem dX12_init_129 : decode cX12_init 129 = .ok (.newarray .int, 2) := by decide +kernel
theorem dX12_init_131 : decode cX12_init 131 = .ok (.putfield 54, 3) := by decide +kernel
theorem dX12_init_134 : decode cX12_init 134 = .ok (.aload_n 0, 1) := by decide +kernel
theorem dX12_init_135 : decode cX12_init 135 = .ok (.sipush 6300, 3) := by decide +kernel
theorem dX12_init_138 : decode cX12_init 138 = .ok (.newarray .int, 2) := by decide +kernel
theorem dX12_init_140 : decode cX12_init 140 = .ok (.putfield 57, 3) := by decide +kernel
theorem dX12_init_143 : decode cX12_init 143 = .ok (.aload_n 0, 1) := by decide +kernel
theorem dX12_init_144 : decode cX12_init 144 = .ok (.sipush 200, 3) := by decide +kernel
theorem dX12_init_147 : decode cX12_init 147 = .ok (.newarray .int, 2) := by decide +kernel
theorem dX12_init_149 : decode cX12_init 149 = .ok (.putfield 60, 3) := by decide +kernel
theorem dX12_init_152 : decode cX12_init 152 = .ok (.aload_n 0, 1) := by decide +kernel
theorem dX12_init_153 : decode cX12_init 153 = .ok (.iload_n 1, 1) := by decide +kernel
theorem dX12_init_154 : decode cX12_init 154 = .ok (.iconst 1, 1) := by decide +kernel
theorem dX12_init_155 : decode cX12_init 155 = .ok (.bipush 8, 2) := by decide +kernel
theorem dX12_init_157 : decode cX12_init 157 = .ok (.invokestatic 63, 3) := by decide +kernel
theorem dX12_init_160 : decode cX12_init 160 = .ok (.putfield 67, 3) := by decide +kernel
theorem dX12_init_163 : decode cX12_init 163 = .ok (.aload_n 0, 1) := by decide +kernel
theorem dX12_init_164 : decode cX12_init 164 = .ok (.iload_n 2, 1) := by decide +kernel
theorem dX12_init_165 : decode cX12_init 165 = .ok (.iconst 2, 1) := by decide +kernel
theorem dX12_init_166 : decode cX12_init 166 = .ok (.bipush 64, 2) := by decide +kernel
theorem dX12_init_168 : decode cX12_init 168 = .ok (.invokestatic 63, 3) := by decide +kernel
theorem dX12_init_171 : decode cX12_init 171 = .ok (.putfield 70, 3) := by decide +kernel
theorem dX12_init_174 : decode cX12_init 174 = .ok (.aload_n 0, 1) := by decide +kernel
theorem dX12_init_175 : decode cX12_init 175 = .ok (.iload_n 3, 1) := by decide +kernel
theorem dX12_init_176 : decode cX12_init 176 = .ok (.iconst 2, 1) := by decide +kernel
theorem dX12_init_177 : decode cX12_init 177 = .ok (.bipush 8, 2) := by decide +kernel
theorem dX12_init_179 : decode cX12_init 179 = .ok (.invokestatic 63, 3) := by decide +kernel
theorem dX12_init_182 : decode cX12_init 182 = .ok (.putfield 73, 3) := by decide +kernel
theorem dX12_init_185 : decode cX12_init 185 = .ok (.return_, 1) := by decide +kernel
theorem dX12_between_0 : decode cX12_between 0 = .ok (.iload_n 0, 1) := by decide +kernel
theorem dX12_between_1 : decode cX12_between 1 = .ok (.iload_n 1, 1) := by decide +kernel
theorem dX12_between_2 : decode cX12_between 2 = .ok (.if_icmp .ge 7, 3) := by decide +kernel
theorem dX12_between_5 : decode cX12_between 5 = .ok (.iload_n 1, 1) := by decide +kernel
theorem dX12_between_6 : decode cX12_between 6 = .ok (.goto 13, 3) := by decide +kernel
theorem dX12_between_9 : decode cX12_between 9 = .ok (.iload_n 0, 1) := by decide +kernel
theorem dX12_between_10 : decode cX12_between 10 = .ok (.iload_n 2, 1) := by decide +kernel
theorem dX12_between_11 : decode cX12_between 11 = .ok (.if_icmp .le 7, 3) := by decide +kernel
theorem dX12_between_14 : decode cX12_between 14 = .ok (.iload_n 2, 1) := by decide +kernel
theorem dX12_between_15 : decode cX12_between 15 = .ok (.goto 4, 3) := by decide +kernel
theorem dX12_between_18 : decode cX12_between 18 = .ok (.iload_n 0, 1) := by decide +kernel
theorem dX12_between_19 : decode cX12_between 19 = .ok (.ireturn, 1) := by decide +kernel
theorem dX12_thrown_0 : decode cX12_thrown 0 = .ok (.aload_n 0, 1) := by decide +kernel
theorem dX12_thrown_1 : decode cX12_thrown 1 = .ok (.getfield 76, 3) := by decide +kernel
theorem dX12_thrown_4 : decode cX12_thrown 4 = .ok (.ireturn, 1) := by decide +kernel
theorem dX12_append_0 : decode cX12_append 0 = .ok (.aload_n 0, 1) := by decide +kernel
theorem dX12_append_1 : decode cX12_append 1 = .ok (.iconst 0, 1) := by decide +kernel
theorem dX12_append_2 : decode cX12_append 2 = .ok (.putfield 76, 3) := by decide +kernel
theorem dX12_append_5 : decode cX12_append 5 = .ok (.aload_n 0, 1) := by decide +kernel
theorem dX12_append_6 : decode cX12_append 6 = .ok (.invokevirtual 95, 3) := by decide +kernel
theorem dX12_append_9 : decode cX12_append 9 = .ok (.aload_n 0, 1) := by decide +kernel
theorem dX12_append_10 : decode cX12_append 10 = .ok (.getfield 79, 3) := by decide +kernel
theorem dX12_append_13 : decode cX12_append 13 = .ok (.ifCond .eq 6, 3) := by decide +kernel
theorem dX12_append_16 : decode cX12_append 16 = .ok (.bipush (-9), 2) := by decide +kernel
theorem dX12_append_18 : decode cX12_append 18 = .ok (.ireturn, 1) := by decide +kernel
theorem dX12_append_19 : decode cX12_append 19 = .ok (.aload_n 0, 1) := by decide +kernel
theorem dX12_append_20 : decode cX12_append 20 = .ok (.iload_n 1, 1) := by decide +kernel
theorem dX12_append_21 : decode cX12_append 21 = .ok (.invokevirtual 98, 3) := by decide +kernel
theorem dX12_append_24 : decode cX12_append 24 = .ok (.ifCond .ne 6, 3) := by decide +kernel
theorem dX12_append_27 : decode cX12_append 27 = .ok (.bipush (-2), 2) := by decide +kernel
theorem dX12_append_29 : decode cX12_append 29 = .ok (.ireturn, 1) := by decide +kernel
theorem dX12_append_30 : decode cX12_append 30 = .ok (.aload_n 0, 1) := by decide +kernel
theorem dX12_append_31 : decode cX12_append 31 = .ok (.iload_n 1, 1) := by decide +kernel
theorem dX12_append_32 : decode cX12_append 32 = .ok (.iload_n 2, 1) := by decide +kernel
theorem dX12_append_33 : decode cX12_append 33 = .ok (.invokevirtual 102, 3) := by decide +kernel
theorem dX12_append_36 : decode cX12_append 36 = .ok (.ifCond .ne 5, 3) := by decide +kernel
theorem dX12_append_39 : decode cX12_append 39 = .ok (.iconst (-1), 1) := by decide +kernel
theorem dX12_append_40 : decode cX12_append 40 = .ok (.ireturn, 1) := by decide +kernel
theorem dX12_append_41 : decode cX12_append 41 = .ok (.aload_n 0, 1) := by decide +kernel
theorem dX12_append_42 : decode cX12_append 42 = .ok (.getfield 106, 3) := by decide +kernel
theorem dX12_append_45 : decode cX12_append 45 = .ok (.sipush 128, 3) := by decide +kernel
theorem dX12_append_48 : decode cX12_append 48 = .ok (.if_icmp .ne 6, 3) := by decide +kernel
theorem dX12_append_51 : decode cX12_append 51 = .ok (.bipush (-3), 2) := by decide +kernel
theorem dX12_append_53 : decode cX12_append 53 = .ok (.ireturn, 1) := by decide +kernel
theorem dX12_append_54 : decode cX12_append 54 = .ok (.sipush 1923, 3) := by decide +kernel
theorem dX12_append_57 : decode cX12_append 57 = .ok (.iconst 4, 1) := by decide +kernel
theorem dX12_append_58 : decode cX12_append 58 = .ok (.aload_n 0, 1) := by decide +kernel
theorem dX12_append_59 : decode cX12_append 59 = .ok (.getfield 106, 3) := by decide +kernel
theorem dX12_append_62 : decode cX12_append 62 = .ok (.imul, 1) := by decide +kernel
theorem dX12_append_63 : decode cX12_append 63 = .ok (.iadd, 1) := by decide +kernel
theorem dX12_append_64 : decode cX12_append 64 = .ok (.istore 4, 2) := by decide +kernel
theorem dX12_append_66 : decode cX12_append 66 = .ok (.aload_n 0, 1) := by decide +kernel
theorem dX12_append_67 : decode cX12_append 67 = .ok (.iload 4, 2) := by decide +kernel
theorem dX12_append_69 : decode cX12_append 69 = .ok (.iload_n 1, 1) := by decide +kernel
theorem dX12_append_70 : decode cX12_append 70 = .ok (.invokevirtual 109, 3) := by decide +kernel
theorem dX12_append_73 : decode cX12_append 73 = .ok (.ifCond .eq 44, 3) := by decide +kernel
theorem dX12_append_76 : decode cX12_append 76 = .ok (.aload_n 0, 1) := by decide +kernel
theorem dX12_append_77 : decode cX12_append 77 = .ok (.iload 4, 2) := by decide +kernel
theorem dX12_append_79 : decode cX12_append 79 = .ok (.iconst 1, 1) := by decide +kernel
theorem dX12_append_80 : decode cX12_append 80 = .ok (.iadd, 1) := by decide +kernel
theorem dX12_append_81 : decode cX12_append 81 = .ok (.iload_n 2, 1) := by decide +kernel
theorem dX12_append_82 : decode cX12_append 82 = .ok (.invokevirtual 109, 3) := by decide +kernel
theorem dX12_append_85 : decode cX12_append 85 = .ok (.ifCond .eq 32, 3) := by decide +kernel
theorem dX12_append_88 : decode cX12_append 88 = .ok (.aload_n 0, 1) := by decide +kernel
theorem dX12_append_89 : decode cX12_append 89 = .ok (.iload 4, 2) := by decide +kernel
theorem dX12_append_91 : decode cX12_append 91 = .ok (.iconst 2, 1) := by decide +kernel
theorem dX12_append_92 : decode cX12_append 92 = .ok (.iadd, 1) := by decide +kernel
theorem dX12_append_93 : decode cX12_append 93 = .ok (.iload_n 3, 1) := by decide +kernel
theorem dX12_append_94 : decode cX12_append 94 = .ok (.invokevirtual 109, 3) := by decide +kernel
theorem dX12_append_97 : decode cX12_append 97 = .ok (.ifCond .eq 20, 3) := by decide +kernel
theorem dX12_append_100 : decode cX12_append 100 = .ok (.aload_n 0, 1) := by decide +kernel
theorem dX12_append_101 : decode cX12_append 101 = .ok (.iload 4, 2) := by decide +kernel
theorem dX12_append_103 : decode cX12_append 103 = .ok (.iconst 3, 1) := by decide +kernel
theorem dX12_append_104 : decode cX12_append 104 = .ok (.iadd, 1) := by decide +kernel
theorem dX12_append_105 : decode cX12_append 105 = .ok (.aload_n 0, 1) := by decide +kernel
theorem dX12_append_106 : decode cX12_append 106 = .ok (.getfield 112, 3) := by decide +kernel
theorem dX12_append_109 : decode cX12_append 109 = .ok (.iconst 1, 1) := by decide +kernel
theorem dX12_append_110 : decode cX12_append 110 = .ok (.iadd, 1) := by decide +kernel
theorem dX12_append_111 : decode cX12_append 111 = .ok (.invokevirtual 109, 3) := by decide +kernel
theorem dX12_append_114 : decode cX12_append 114 = .ok (.ifCond .ne 6, 3) := by decide +kernel
theorem dX12_append_117 : decode cX12_append 117 = .ok (.bipush (-9), 2) := by decide +kernel
theorem dX12_append_119 : decode cX12_append 119 = .ok (.ireturn, 1) := by decide +kernel
theorem dX12_append_120 : decode cX12_append 120 = .ok (.aload_n 0, 1) := by decide +kernel
theorem dX12_append_121 : decode cX12_append 121 = .ok (.getfield 38, 3) := by decide +kernel
theorem dX12_append_124 : decode cX12_append 124 = .ok (.aload_n 0, 1) := by decide +kernel
theorem dX12_append_125 : decode cX12_append 125 = .ok (.getfield 106, 3) := by decide +kernel
theorem dX12_append_128 : decode cX12_append 128 = .ok (.iload_n 1, 1) := by decide +kernel
theorem dX12_append_129 : decode cX12_append 129 = .ok (.iastore, 1) := by decide +kernel
theorem dX12_append_130 : decode cX12_append 130 = .ok (.aload_n 0, 1) := by decide +kernel
theorem dX12_append_131 : decode cX12_append 131 = .ok (.getfield 41, 3) := by decide +kernel
theorem dX12_append_134 : decode cX12_append 134 = .ok (.aload_n 0, 1) := by decide +kernel
theorem dX12_append_135 : decode cX12_append 135 = .ok (.getfield 106, 3) := by decide +kernel
theorem dX12_append_138 : decode cX12_append 138 = .ok (.iload_n 2, 1) := by decide +kernel
theorem dX12_append_139 : decode cX12_append 139 = .ok (.iastore, 1) := by decide +kernel
theorem dX12_append_140 : decode cX12_append 140 = .ok (.aload_n 0, 1) := by decide +kernel
theorem dX12_append_141 : decode cX12_append 141 = .ok (.getfield 44, 3) := by decide +kernel
theorem dX12_append_144 : decode cX12_append 144 = .ok (.aload_n 0, 1) := by decide +kernel
theorem dX12_append_145 : decode cX12_append 145 = .ok (.getfield 106, 3) := by decide +kernel
theorem dX12_append_148 : decode cX12_append 148 = .ok (.iload_n 3, 1) := by decide +kernel
theorem dX12_append_149 : decode cX12_append 149 = .ok (.iastore, 1) := by decide +kernel
theorem dX12_append_150 : decode cX12_append 150 = .ok (.aload_n 0, 1) := by decide +kernel
theorem dX12_append_151 : decode cX12_append 151 = .ok (.dup, 1) := by decide +kernel
theorem dX12_append_152 : decode cX12_append 152 = .ok (.getfield 106, 3) := by decide +kernel
theorem dX12_append_155 : decode cX12_append 155 = .ok (.iconst 1, 1) := by decide +kernel
theorem dX12_append_156 : decode cX12_append 156 = .ok (.iadd, 1) := by decide +kernel
theorem dX12_append_157 : decode cX12_append 157 = .ok (.putfield 106, 3) := by decide +kernel
theorem dX12_append_160 : decode cX12_append 160 = .ok (.iconst 0, 1) := by decide +kernel
theorem dX12_append_161 : decode cX12_append 161 = .ok (.ireturn, 1) := by decide +kernel
theorem dX12_dropCursor_0 : decode cX12_dropCursor 0 = .ok (.aload_n 0, 1) := by decide +kernel
theorem dX12_dropCursor_1 : decode cX12_dropCursor 1 = .ok (.iconst 0, 1) := by decide +kernel
theorem dX12_dropCursor_2 : decode cX12_dropCursor 2 = .ok (.putfield 86, 3) := by decide +kernel
theorem dX12_dropCursor_5 : decode cX12_dropCursor 5 = .ok (.aload_n 0, 1) := by decide +kernel
theorem dX12_dropCursor_6 : decode cX12_dropCursor 6 = .ok (.iconst 0, 1) := by decide +kernel
theorem dX12_dropCursor_7 : decode cX12_dropCursor 7 = .ok (.putfield 89, 3) := by decide +kernel
theorem dX12_dropCursor_10 : decode cX12_dropCursor 10 = .ok (.aload_n 0, 1) := by decide +kernel
theorem dX12_dropCursor_11 : decode cX12_dropCursor 11 = .ok (.iconst (-1), 1) := by decide +kernel
theorem dX12_dropCursor_12 : decode cX12_dropCursor 12 = .ok (.putfield 92, 3) := by decide +kernel
theorem dX12_dropCursor_15 : decode cX12_dropCursor 15 = .ok (.return_, 1) := by decide +kernel
theorem dX12_isSeries_0 : decode cX12_isSeries 0 = .ok (.iload_n 1, 1) := by decide +kernel
