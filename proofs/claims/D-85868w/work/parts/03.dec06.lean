set_option maxRecDepth 100000
theorem dX12_lookInto_20 : decode cX12_lookInto 20 = .ok (.dup, 1) := by decide +kernel
theorem dX12_lookInto_21 : decode cX12_lookInto 21 = .ok (.getfield 271, 3) := by decide +kernel
theorem dX12_lookInto_24 : decode cX12_lookInto 24 = .ok (.aload_n 0, 1) := by decide +kernel
theorem dX12_lookInto_25 : decode cX12_lookInto 25 = .ok (.aload_n 0, 1) := by decide +kernel
theorem dX12_lookInto_26 : decode cX12_lookInto 26 = .ok (.iload_n 1, 1) := by decide +kernel
theorem dX12_lookInto_27 : decode cX12_lookInto 27 = .ok (.iload 6, 2) := by decide +kernel
theorem dX12_lookInto_29 : decode cX12_lookInto 29 = .ok (.invokevirtual 280, 3) := by decide +kernel
theorem dX12_lookInto_32 : decode cX12_lookInto 32 = .ok (.invokevirtual 209, 3) := by decide +kernel
theorem dX12_lookInto_35 : decode cX12_lookInto 35 = .ok (.aload_n 0, 1) := by decide +kernel
theorem dX12_lookInto_36 : decode cX12_lookInto 36 = .ok (.aload_n 0, 1) := by decide +kernel
theorem dX12_lookInto_37 : decode cX12_lookInto 37 = .ok (.iload_n 1, 1) := by decide +kernel
theorem dX12_lookInto_38 : decode cX12_lookInto 38 = .ok (.iload 6, 2) := by decide +kernel
theorem dX12_lookInto_40 : decode cX12_lookInto 40 = .ok (.invokevirtual 280, 3) := by decide +kernel
theorem dX12_lookInto_43 : decode cX12_lookInto 43 = .ok (.invokevirtual 212, 3) := by decide +kernel
theorem dX12_lookInto_46 : decode cX12_lookInto 46 = .ok (.iload 4, 2) := by decide +kernel
theorem dX12_lookInto_48 : decode cX12_lookInto 48 = .ok (.iload 5, 2) := by decide +kernel
theorem dX12_lookInto_50 : decode cX12_lookInto 50 = .ok (.invokestatic 283, 3) := by decide +kernel
theorem dX12_lookInto_53 : decode cX12_lookInto 53 = .ok (.ifCond .eq 7, 3) := by decide +kernel
theorem dX12_lookInto_56 : decode cX12_lookInto 56 = .ok (.iconst 1, 1) := by decide +kernel
theorem dX12_lookInto_57 : decode cX12_lookInto 57 = .ok (.goto 4, 3) := by decide +kernel
theorem dX12_lookInto_60 : decode cX12_lookInto 60 = .ok (.iconst 0, 1) := by decide +kernel
theorem dX12_lookInto_61 : decode cX12_lookInto 61 = .ok (.iadd, 1) := by decide +kernel
theorem dX12_lookInto_62 : decode cX12_lookInto 62 = .ok (.putfield 271, 3) := by decide +kernel
theorem dX12_lookInto_65 : decode cX12_lookInto 65 = .ok (.iinc 6 1, 3) := by decide +kernel
theorem dX12_lookInto_68 : decode cX12_lookInto 68 = .ok (.goto (-65), 3) := by decide +kernel
theorem dX12_lookInto_71 : decode cX12_lookInto 71 = .ok (.return_, 1) := by decide +kernel
theorem dX12_next_0 : decode cX12_next 0 = .ok (.aload_n 0, 1) := by decide +kernel
theorem dX12_next_1 : decode cX12_next 1 = .ok (.iconst 0, 1) := by decide +kernel
theorem dX12_next_2 : decode cX12_next 2 = .ok (.putfield 76, 3) := by decide +kernel
theorem dX12_next_5 : decode cX12_next 5 = .ok (.aload_n 0, 1) := by decide +kernel
theorem dX12_next_6 : decode cX12_next 6 = .ok (.getfield 92, 3) := by decide +kernel
theorem dX12_next_9 : decode cX12_next 9 = .ok (.aload_n 0, 1) := by decide +kernel
theorem dX12_next_10 : decode cX12_next 10 = .ok (.getfield 89, 3) := by decide +kernel
theorem dX12_next_13 : decode cX12_next 13 = .ok (.if_icmp .ge 13, 3) := by decide +kernel
theorem dX12_next_16 : decode cX12_next 16 = .ok (.aload_n 0, 1) := by decide +kernel
theorem dX12_next_17 : decode cX12_next 17 = .ok (.dup, 1) := by decide +kernel
theorem dX12_next_18 : decode cX12_next 18 = .ok (.getfield 92, 3) := by decide +kernel
theorem dX12_next_21 : decode cX12_next 21 = .ok (.iconst 1, 1) := by decide +kernel
theorem dX12_next_22 : decode cX12_next 22 = .ok (.iadd, 1) := by decide +kernel
theorem dX12_next_23 : decode cX12_next 23 = .ok (.putfield 92, 3) := by decide +kernel
theorem dX12_next_26 : decode cX12_next 26 = .ok (.aload_n 0, 1) := by decide +kernel
theorem dX12_next_27 : decode cX12_next 27 = .ok (.getfield 86, 3) := by decide +kernel
theorem dX12_next_30 : decode cX12_next 30 = .ok (.ifCond .eq 18, 3) := by decide +kernel
theorem dX12_next_33 : decode cX12_next 33 = .ok (.aload_n 0, 1) := by decide +kernel
theorem dX12_next_34 : decode cX12_next 34 = .ok (.getfield 92, 3) := by decide +kernel
theorem dX12_next_37 : decode cX12_next 37 = .ok (.aload_n 0, 1) := by decide +kernel
theorem dX12_next_38 : decode cX12_next 38 = .ok (.getfield 89, 3) := by decide +kernel
theorem dX12_next_41 : decode cX12_next 41 = .ok (.if_icmp .ge 7, 3) := by decide +kernel
theorem dX12_next_44 : decode cX12_next 44 = .ok (.iconst 1, 1) := by decide +kernel
theorem dX12_next_45 : decode cX12_next 45 = .ok (.goto 4, 3) := by decide +kernel
theorem dX12_next_48 : decode cX12_next 48 = .ok (.iconst 0, 1) := by decide +kernel
theorem dX12_next_49 : decode cX12_next 49 = .ok (.ireturn, 1) := by decide +kernel
theorem dX12_curTime_0 : decode cX12_curTime 0 = .ok (.aload_n 0, 1) := by decide +kernel
theorem dX12_curTime_1 : decode cX12_curTime 1 = .ok (.iconst 0, 1) := by decide +kernel
theorem dX12_curTime_2 : decode cX12_curTime 2 = .ok (.putfield 76, 3) := by decide +kernel
theorem dX12_curTime_5 : decode cX12_curTime 5 = .ok (.aload_n 0, 1) := by decide +kernel
theorem dX12_curTime_6 : decode cX12_curTime 6 = .ok (.invokevirtual 295, 3) := by decide +kernel
theorem dX12_curTime_9 : decode cX12_curTime 9 = .ok (.ifCond .eq 15, 3) := by decide +kernel
theorem dX12_curTime_12 : decode cX12_curTime 12 = .ok (.aload_n 0, 1) := by decide +kernel
theorem dX12_curTime_13 : decode cX12_curTime 13 = .ok (.getfield 54, 3) := by decide +kernel
theorem dX12_curTime_16 : decode cX12_curTime 16 = .ok (.aload_n 0, 1) := by decide +kernel
theorem dX12_curTime_17 : decode cX12_curTime 17 = .ok (.getfield 92, 3) := by decide +kernel
theorem dX12_curTime_20 : decode cX12_curTime 20 = .ok (.iaload, 1) := by decide +kernel
theorem dX12_curTime_21 : decode cX12_curTime 21 = .ok (.goto 4, 3) := by decide +kernel
theorem dX12_curTime_24 : decode cX12_curTime 24 = .ok (.iconst 0, 1) := by decide +kernel
theorem dX12_curTime_25 : decode cX12_curTime 25 = .ok (.ireturn, 1) := by decide +kernel
theorem dX12_isAt_0 : decode cX12_isAt 0 = .ok (.aload_n 0, 1) := by decide +kernel
theorem dX12_isAt_1 : decode cX12_isAt 1 = .ok (.getfield 86, 3) := by decide +kernel
theorem dX12_isAt_4 : decode cX12_isAt 4 = .ok (.ifCond .eq 25, 3) := by decide +kernel
theorem dX12_isAt_7 : decode cX12_isAt 7 = .ok (.aload_n 0, 1) := by decide +kernel
theorem dX12_isAt_8 : decode cX12_isAt 8 = .ok (.getfield 92, 3) := by decide +kernel
theorem dX12_isAt_11 : decode cX12_isAt 11 = .ok (.ifCond .lt 18, 3) := by decide +kernel
theorem dX12_isAt_14 : decode cX12_isAt 14 = .ok (.aload_n 0, 1) := by decide +kernel
theorem dX12_isAt_15 : decode cX12_isAt 15 = .ok (.getfield 92, 3) := by decide +kernel
theorem dX12_isAt_18 : decode cX12_isAt 18 = .ok (.aload_n 0, 1) := by decide +kernel
theorem dX12_isAt_19 : decode cX12_isAt 19 = .ok (.getfield 89, 3) := by decide +kernel
theorem dX12_isAt_22 : decode cX12_isAt 22 = .ok (.if_icmp .ge 7, 3) := by decide +kernel
theorem dX12_isAt_25 : decode cX12_isAt 25 = .ok (.iconst 1, 1) := by decide +kernel
theorem dX12_isAt_26 : decode cX12_isAt 26 = .ok (.goto 4, 3) := by decide +kernel
theorem dX12_isAt_29 : decode cX12_isAt 29 = .ok (.iconst 0, 1) := by decide +kernel
theorem dX12_isAt_30 : decode cX12_isAt 30 = .ok (.ireturn, 1) := by decide +kernel
theorem dX12_curVal_0 : decode cX12_curVal 0 = .ok (.aload_n 0, 1) := by decide +kernel
theorem dX12_curVal_1 : decode cX12_curVal 1 = .ok (.iconst 0, 1) := by decide +kernel
theorem dX12_curVal_2 : decode cX12_curVal 2 = .ok (.putfield 76, 3) := by decide +kernel
theorem dX12_curVal_5 : decode cX12_curVal 5 = .ok (.aload_n 0, 1) := by decide +kernel
theorem dX12_curVal_6 : decode cX12_curVal 6 = .ok (.invokevirtual 295, 3) := by decide +kernel
theorem dX12_curVal_9 : decode cX12_curVal 9 = .ok (.ifCond .eq 15, 3) := by decide +kernel
theorem dX12_curVal_12 : decode cX12_curVal 12 = .ok (.aload_n 0, 1) := by decide +kernel
theorem dX12_curVal_13 : decode cX12_curVal 13 = .ok (.getfield 57, 3) := by decide +kernel
theorem dX12_curVal_16 : decode cX12_curVal 16 = .ok (.aload_n 0, 1) := by decide +kernel
theorem dX12_curVal_17 : decode cX12_curVal 17 = .ok (.getfield 92, 3) := by decide +kernel
theorem dX12_curVal_20 : decode cX12_curVal 20 = .ok (.iaload, 1) := by decide +kernel
theorem dX12_curVal_21 : decode cX12_curVal 21 = .ok (.goto 4, 3) := by decide +kernel
theorem dX12_curVal_24 : decode cX12_curVal 24 = .ok (.iconst 0, 1) := by decide +kernel
theorem dX12_curVal_25 : decode cX12_curVal 25 = .ok (.ireturn, 1) := by decide +kernel
theorem dX12_aggCount_0 : decode cX12_aggCount 0 = .ok (.aload_n 0, 1) := by decide +kernel
theorem dX12_aggCount_1 : decode cX12_aggCount 1 = .ok (.iconst 0, 1) := by decide +kernel
theorem dX12_aggCount_2 : decode cX12_aggCount 2 = .ok (.putfield 76, 3) := by decide +kernel
theorem dX12_aggCount_5 : decode cX12_aggCount 5 = .ok (.aload_n 0, 1) := by decide +kernel
theorem dX12_aggCount_6 : decode cX12_aggCount 6 = .ok (.getfield 79, 3) := by decide +kernel
theorem dX12_aggCount_9 : decode cX12_aggCount 9 = .ok (.ifCond .eq 6, 3) := by decide +kernel
theorem dX12_aggCount_12 : decode cX12_aggCount 12 = .ok (.bipush (-9), 2) := by decide +kernel
theorem dX12_aggCount_14 : decode cX12_aggCount 14 = .ok (.ireturn, 1) := by decide +kernel
theorem dX12_aggCount_15 : decode cX12_aggCount 15 = .ok (.aload_n 0, 1) := by decide +kernel
theorem dX12_aggCount_16 : decode cX12_aggCount 16 = .ok (.iload_n 1, 1) := by decide +kernel
theorem dX12_aggCount_17 : decode cX12_aggCount 17 = .ok (.invokevirtual 98, 3) := by decide +kernel
theorem dX12_aggCount_20 : decode cX12_aggCount 20 = .ok (.ifCond .ne 6, 3) := by decide +kernel
theorem dX12_aggCount_23 : decode cX12_aggCount 23 = .ok (.bipush (-2), 2) := by decide +kernel
theorem dX12_aggCount_25 : decode cX12_aggCount 25 = .ok (.ireturn, 1) := by decide +kernel
theorem dX12_aggCount_26 : decode cX12_aggCount 26 = .ok (.aload_n 0, 1) := by decide +kernel
theorem dX12_aggCount_27 : decode cX12_aggCount 27 = .ok (.iload_n 1, 1) := by decide +kernel
theorem dX12_aggCount_28 : decode cX12_aggCount 28 = .ok (.iload_n 2, 1) := by decide +kernel
theorem dX12_aggCount_29 : decode cX12_aggCount 29 = .ok (.iload_n 3, 1) := by decide +kernel
theorem dX12_aggCount_30 : decode cX12_aggCount 30 = .ok (.iconst 0, 1) := by decide +kernel
theorem dX12_aggCount_31 : decode cX12_aggCount 31 = .ok (.invokevirtual 291, 3) := by decide +kernel
theorem dX12_aggCount_34 : decode cX12_aggCount 34 = .ok (.aload_n 0, 1) := by decide +kernel
theorem dX12_aggCount_35 : decode cX12_aggCount 35 = .ok (.getfield 248, 3) := by decide +kernel
theorem dX12_aggCount_38 : decode cX12_aggCount 38 = .ok (.ireturn, 1) := by decide +kernel
theorem dX12_aggMin_0 : decode cX12_aggMin 0 = .ok (.aload_n 0, 1) := by decide +kernel
theorem dX12_aggMin_1 : decode cX12_aggMin 1 = .ok (.iload_n 1, 1) := by decide +kernel
theorem dX12_aggMin_2 : decode cX12_aggMin 2 = .ok (.iload_n 2, 1) := by decide +kernel
theorem dX12_aggMin_3 : decode cX12_aggMin 3 = .ok (.iload_n 3, 1) := by decide +kernel
theorem dX12_aggMin_4 : decode cX12_aggMin 4 = .ok (.invokevirtual 299, 3) := by decide +kernel
theorem dX12_aggMin_7 : decode cX12_aggMin 7 = .ok (.ifCond .eq 10, 3) := by decide +kernel
theorem dX12_aggMin_10 : decode cX12_aggMin 10 = .ok (.aload_n 0, 1) := by decide +kernel
theorem dX12_aggMin_11 : decode cX12_aggMin 11 = .ok (.getfield 251, 3) := by decide +kernel
theorem dX12_aggMin_14 : decode cX12_aggMin 14 = .ok (.goto 4, 3) := by decide +kernel
theorem dX12_aggMin_17 : decode cX12_aggMin 17 = .ok (.iconst 0, 1) := by decide +kernel
theorem dX12_aggMin_18 : decode cX12_aggMin 18 = .ok (.ireturn, 1) := by decide +kernel
theorem dX12_asks_0 : decode cX12_asks 0 = .ok (.aload_n 0, 1) := by decide +kernel
theorem dX12_asks_1 : decode cX12_asks 1 = .ok (.aload_n 0, 1) := by decide +kernel
theorem dX12_asks_2 : decode cX12_asks 2 = .ok (.getfield 79, 3) := by decide +kernel
theorem dX12_asks_5 : decode cX12_asks 5 = .ok (.ifCond .eq 7, 3) := by decide +kernel
theorem dX12_asks_8 : decode cX12_asks 8 = .ok (.iconst 1, 1) := by decide +kernel
theorem dX12_asks_9 : decode cX12_asks 9 = .ok (.goto 16, 3) := by decide +kernel
theorem dX12_asks_12 : decode cX12_asks 12 = .ok (.aload_n 0, 1) := by decide +kernel
theorem dX12_asks_13 : decode cX12_asks 13 = .ok (.iload_n 1, 1) := by decide +kernel
theorem dX12_asks_14 : decode cX12_asks 14 = .ok (.invokevirtual 98, 3) := by decide +kernel
theorem dX12_asks_17 : decode cX12_asks 17 = .ok (.ifCond .ne 7, 3) := by decide +kernel
theorem dX12_asks_20 : decode cX12_asks 20 = .ok (.iconst 2, 1) := by decide +kernel
theorem dX12_asks_21 : decode cX12_asks 21 = .ok (.goto 4, 3) := by decide +kernel
theorem dX12_asks_24 : decode cX12_asks 24 = .ok (.iconst 0, 1) := by decide +kernel
theorem dX12_asks_25 : decode cX12_asks 25 = .ok (.putfield 76, 3) := by decide +kernel
theorem dX12_asks_28 : decode cX12_asks 28 = .ok (.aload_n 0, 1) := by decide +kernel
theorem dX12_asks_29 : decode cX12_asks 29 = .ok (.getfield 76, 3) := by decide +kernel
theorem dX12_asks_32 : decode cX12_asks 32 = .ok (.ifCond .ne 11, 3) := by decide +kernel
theorem dX12_asks_35 : decode cX12_asks 35 = .ok (.aload_n 0, 1) := by decide +kernel
theorem dX12_asks_36 : decode cX12_asks 36 = .ok (.iload_n 1, 1) := by decide +kernel
theorem dX12_asks_37 : decode cX12_asks 37 = .ok (.iload_n 2, 1) := by decide +kernel
theorem dX12_asks_38 : decode cX12_asks 38 = .ok (.iload_n 3, 1) := by decide +kernel
theorem dX12_asks_39 : decode cX12_asks 39 = .ok (.iconst 0, 1) := by decide +kernel
theorem dX12_asks_40 : decode cX12_asks 40 = .ok (.invokevirtual 291, 3) := by decide +kernel
theorem dX12_asks_43 : decode cX12_asks 43 = .ok (.aload_n 0, 1) := by decide +kernel
theorem dX12_asks_44 : decode cX12_asks 44 = .ok (.getfield 76, 3) := by decide +kernel
theorem dX12_asks_47 : decode cX12_asks 47 = .ok (.ifCond .ne 7, 3) := by decide +kernel
theorem dX12_asks_50 : decode cX12_asks 50 = .ok (.iconst 1, 1) := by decide +kernel
theorem dX12_asks_51 : decode cX12_asks 51 = .ok (.goto 4, 3) := by decide +kernel
theorem dX12_asks_54 : decode cX12_asks 54 = .ok (.iconst 0, 1) := by decide +kernel
theorem dX12_asks_55 : decode cX12_asks 55 = .ok (.ireturn, 1) := by decide +kernel
theorem dX12_aggMax_0 : decode cX12_aggMax 0 = .ok (.aload_n 0, 1) := by decide +kernel
theorem dX12_aggMax_1 : decode cX12_aggMax 1 = .ok (.iload_n 1, 1) := by decide +kernel
theorem dX12_aggMax_2 : decode cX12_aggMax 2 = .ok (.iload_n 2, 1) := by decide +kernel
theorem dX12_aggMax_3 : decode cX12_aggMax 3 = .ok (.iload_n 3, 1) := by decide +kernel
theorem dX12_aggMax_4 : decode cX12_aggMax 4 = .ok (.invokevirtual 299, 3) := by decide +kernel
theorem dX12_aggMax_7 : decode cX12_aggMax 7 = .ok (.ifCond .eq 10, 3) := by decide +kernel
theorem dX12_aggMax_10 : decode cX12_aggMax 10 = .ok (.aload_n 0, 1) := by decide +kernel
theorem dX12_aggMax_11 : decode cX12_aggMax 11 = .ok (.getfield 254, 3) := by decide +kernel
theorem dX12_aggMax_14 : decode cX12_aggMax 14 = .ok (.goto 4, 3) := by decide +kernel
theorem dX12_aggMax_17 : decode cX12_aggMax 17 = .ok (.iconst 0, 1) := by decide +kernel
theorem dX12_aggMax_18 : decode cX12_aggMax 18 = .ok (.ireturn, 1) := by decide +kernel
theorem dX12_aggSum_0 : decode cX12_aggSum 0 = .ok (.aload_n 0, 1) := by decide +kernel
theorem dX12_aggSum_1 : decode cX12_aggSum 1 = .ok (.iload_n 1, 1) := by decide +kernel
theorem dX12_aggSum_2 : decode cX12_aggSum 2 = .ok (.iload_n 2, 1) := by decide +kernel
theorem dX12_aggSum_3 : decode cX12_aggSum 3 = .ok (.iload_n 3, 1) := by decide +kernel
theorem dX12_aggSum_4 : decode cX12_aggSum 4 = .ok (.invokevirtual 299, 3) := by decide +kernel
theorem dX12_aggSum_7 : decode cX12_aggSum 7 = .ok (.ifCond .eq 10, 3) := by decide +kernel
theorem dX12_aggSum_10 : decode cX12_aggSum 10 = .ok (.aload_n 0, 1) := by decide +kernel
theorem dX12_aggSum_11 : decode cX12_aggSum 11 = .ok (.getfield 257, 3) := by decide +kernel
theorem dX12_aggSum_14 : decode cX12_aggSum 14 = .ok (.goto 4, 3) := by decide +kernel
theorem dX12_aggSum_17 : decode cX12_aggSum 17 = .ok (.lconst 0, 1) := by decide +kernel
theorem dX12_aggSum_18 : decode cX12_aggSum 18 = .ok (.lreturn, 1) := by decide +kernel
theorem dX12_crashAfter_0 : decode cX12_crashAfter 0 = .ok (.aload_n 0, 1) := by decide +kernel
theorem dX12_crashAfter_1 : decode cX12_crashAfter 1 = .ok (.iconst 0, 1) := by decide +kernel
theorem dX12_crashAfter_2 : decode cX12_crashAfter 2 = .ok (.putfield 76, 3) := by decide +kernel
theorem dX12_crashAfter_5 : decode cX12_crashAfter 5 = .ok (.aload_n 0, 1) := by decide +kernel
theorem dX12_crashAfter_6 : decode cX12_crashAfter 6 = .ok (.getfield 79, 3) := by decide +kernel
theorem dX12_crashAfter_9 : decode cX12_crashAfter 9 = .ok (.ifCond .ne 14, 3) := by decide +kernel
theorem dX12_crashAfter_12 : decode cX12_crashAfter 12 = .ok (.iload_n 1, 1) := by decide +kernel
theorem dX12_crashAfter_13 : decode cX12_crashAfter 13 = .ok (.ifCond .lt 10, 3) := by decide +kernel
theorem dX12_crashAfter_16 : decode cX12_crashAfter 16 = .ok (.iload_n 1, 1) := by decide +kernel
theorem dX12_crashAfter_17 : decode cX12_crashAfter 17 = .ok (.ldc_w 303, 3) := by decide +kernel
theorem dX12_crashAfter_20 : decode cX12_crashAfter 20 = .ok (.if_icmp .le 5, 3) := by decide +kernel
theorem dX12_crashAfter_23 : decode cX12_crashAfter 23 = .ok (.iconst 0, 1) := by decide +kernel
theorem dX12_crashAfter_24 : decode cX12_crashAfter 24 = .ok (.ireturn, 1) := by decide +kernel
theorem dX12_crashAfter_25 : decode cX12_crashAfter 25 = .ok (.aload_n 0, 1) := by decide +kernel
theorem dX12_crashAfter_26 : decode cX12_crashAfter 26 = .ok (.iload_n 1, 1) := by decide +kernel
theorem dX12_crashAfter_27 : decode cX12_crashAfter 27 = .ok (.putfield 13, 3) := by decide +kernel
theorem dX12_crashAfter_30 : decode cX12_crashAfter 30 = .ok (.iconst 1, 1) := by decide +kernel
theorem dX12_crashAfter_31 : decode cX12_crashAfter 31 = .ok (.ireturn, 1) := by decide +kernel
theorem dX12_recover_0 : decode cX12_recover 0 = .ok (.aload_n 0, 1) := by decide +kernel
theorem dX12_recover_1 : decode cX12_recover 1 = .ok (.iconst 0, 1) := by decide +kernel
theorem dX12_recover_2 : decode cX12_recover 2 = .ok (.putfield 76, 3) := by decide +kernel
theorem dX12_recover_5 : decode cX12_recover 5 = .ok (.aload_n 0, 1) := by decide +kernel
theorem dX12_recover_6 : decode cX12_recover 6 = .ok (.invokevirtual 95, 3) := by decide +kernel
theorem dX12_recover_9 : decode cX12_recover 9 = .ok (.aload_n 0, 1) := by decide +kernel
theorem dX12_recover_10 : decode cX12_recover 10 = .ok (.dup, 1) := by decide +kernel
theorem dX12_recover_11 : decode cX12_recover 11 = .ok (.getfield 304, 3) := by decide +kernel
theorem dX12_recover_14 : decode cX12_recover 14 = .ok (.iconst 1, 1) := by decide +kernel
theorem dX12_recover_15 : decode cX12_recover 15 = .ok (.iadd, 1) := by decide +kernel
theorem dX12_recover_16 : decode cX12_recover 16 = .ok (.putfield 304, 3) := by decide +kernel
theorem dX12_recover_19 : decode cX12_recover 19 = .ok (.aload_n 0, 1) := by decide +kernel
theorem dX12_recover_20 : decode cX12_recover 20 = .ok (.iconst 0, 1) := by decide +kernel
theorem dX12_recover_21 : decode cX12_recover 21 = .ok (.putfield 79, 3) := by decide +kernel
theorem dX12_recover_24 : decode cX12_recover 24 = .ok (.aload_n 0, 1) := by decide +kernel
theorem dX12_recover_25 : decode cX12_recover 25 = .ok (.iconst (-1), 1) := by decide +kernel
theorem dX12_recover_26 : decode cX12_recover 26 = .ok (.putfield 13, 3) := by decide +kernel
theorem dX12_recover_29 : decode cX12_recover 29 = .ok (.aload_n 0, 1) := by decide +kernel
theorem dX12_recover_30 : decode cX12_recover 30 = .ok (.aload_n 0, 1) := by decide +kernel
theorem dX12_recover_31 : decode cX12_recover 31 = .ok (.getfield 7, 3) := by decide +kernel
theorem dX12_recover_34 : decode cX12_recover 34 = .ok (.iconst 0, 1) := by decide +kernel
theorem dX12_recover_35 : decode cX12_recover 35 = .ok (.iaload, 1) := by decide +kernel
theorem dX12_recover_36 : decode cX12_recover 36 = .ok (.iconst 1, 1) := by decide +kernel
theorem dX12_recover_37 : decode cX12_recover 37 = .ok (.iand, 1) := by decide +kernel
theorem dX12_recover_38 : decode cX12_recover 38 = .ok (.putfield 197, 3) := by decide +kernel
theorem dX12_recover_41 : decode cX12_recover 41 = .ok (.aload_n 0, 1) := by decide +kernel
theorem dX12_recover_42 : decode cX12_recover 42 = .ok (.aload_n 0, 1) := by decide +kernel
theorem dX12_recover_43 : decode cX12_recover 43 = .ok (.getfield 7, 3) := by decide +kernel
theorem dX12_recover_46 : decode cX12_recover 46 = .ok (.iconst 0, 1) := by decide +kernel
theorem dX12_recover_47 : decode cX12_recover 47 = .ok (.iaload, 1) := by decide +kernel
theorem dX12_recover_48 : decode cX12_recover 48 = .ok (.iconst 1, 1) := by decide +kernel
theorem dX12_recover_49 : decode cX12_recover 49 = .ok (.ishr, 1) := by decide +kernel
theorem dX12_recover_50 : decode cX12_recover 50 = .ok (.putfield 112, 3) := by decide +kernel
theorem dX12_recover_53 : decode cX12_recover 53 = .ok (.aload_n 0, 1) := by decide +kernel
theorem dX12_recover_54 : decode cX12_recover 54 = .ok (.aload_n 0, 1) := by decide +kernel
theorem dX12_recover_55 : decode cX12_recover 55 = .ok (.getfield 197, 3) := by decide +kernel
theorem dX12_recover_58 : decode cX12_recover 58 = .ok (.invokevirtual 200, 3) := by decide +kernel
theorem dX12_recover_61 : decode cX12_recover 61 = .ok (.istore_n 1, 1) := by decide +kernel
theorem dX12_recover_62 : decode cX12_recover 62 = .ok (.aload_n 0, 1) := by decide +kernel
theorem dX12_recover_63 : decode cX12_recover 63 = .ok (.aload_n 0, 1) := by decide +kernel
theorem dX12_recover_64 : decode cX12_recover 64 = .ok (.getfield 7, 3) := by decide +kernel
theorem dX12_recover_67 : decode cX12_recover 67 = .ok (.iload_n 1, 1) := by decide +kernel
theorem dX12_recover_68 : decode cX12_recover 68 = .ok (.iaload, 1) := by decide +kernel
theorem dX12_recover_69 : decode cX12_recover 69 = .ok (.putfield 115, 3) := by decide +kernel
theorem dX12_recover_72 : decode cX12_recover 72 = .ok (.iconst 0, 1) := by decide +kernel
theorem dX12_recover_73 : decode cX12_recover 73 = .ok (.istore_n 2, 1) := by decide +kernel
theorem dX12_recover_74 : decode cX12_recover 74 = .ok (.iconst 0, 1) := by decide +kernel
theorem dX12_recover_75 : decode cX12_recover 75 = .ok (.istore_n 3, 1) := by decide +kernel
theorem dX12_recover_76 : decode cX12_recover 76 = .ok (.iload_n 3, 1) := by decide +kernel
theorem dX12_recover_77 : decode cX12_recover 77 = .ok (.aload_n 0, 1) := by decide +kernel
theorem dX12_recover_78 : decode cX12_recover 78 = .ok (.getfield 115, 3) := by decide +kernel
theorem dX12_recover_81 : decode cX12_recover 81 = .ok (.if_icmp .ge 100, 3) := by decide +kernel
theorem dX12_recover_84 : decode cX12_recover 84 = .ok (.iload_n 1, 1) := by decide +kernel
theorem dX12_recover_85 : decode cX12_recover 85 = .ok (.iconst 1, 1) := by decide +kernel
theorem dX12_recover_86 : decode cX12_recover 86 = .ok (.iadd, 1) := by decide +kernel
theorem dX12_recover_87 : decode cX12_recover 87 = .ok (.bipush 10, 2) := by decide +kernel
theorem dX12_recover_89 : decode cX12_recover 89 = .ok (.iload_n 3, 1) := by decide +kernel
theorem dX12_recover_90 : decode cX12_recover 90 = .ok (.imul, 1) := by decide +kernel
theorem dX12_recover_91 : decode cX12_recover 91 = .ok (.iadd, 1) := by decide +kernel
theorem dX12_recover_92 : decode cX12_recover 92 = .ok (.istore 4, 2) := by decide +kernel
theorem dX12_recover_94 : decode cX12_recover 94 = .ok (.aload_n 0, 1) := by decide +kernel
theorem dX12_recover_95 : decode cX12_recover 95 = .ok (.getfield 35, 3) := by decide +kernel
theorem dX12_recover_98 : decode cX12_recover 98 = .ok (.iload_n 3, 1) := by decide +kernel
theorem dX12_recover_99 : decode cX12_recover 99 = .ok (.iload_n 3, 1) := by decide +kernel
theorem dX12_recover_100 : decode cX12_recover 100 = .ok (.iastore, 1) := by decide +kernel
theorem dX12_recover_101 : decode cX12_recover 101 = .ok (.aload_n 0, 1) := by decide +kernel
theorem dX12_recover_102 : decode cX12_recover 102 = .ok (.getfield 17, 3) := by decide +kernel
theorem dX12_recover_105 : decode cX12_recover 105 = .ok (.iload_n 3, 1) := by decide +kernel
theorem dX12_recover_106 : decode cX12_recover 106 = .ok (.aload_n 0, 1) := by decide +kernel
theorem dX12_recover_107 : decode cX12_recover 107 = .ok (.getfield 7, 3) := by decide +kernel
theorem dX12_recover_110 : decode cX12_recover 110 = .ok (.iload 4, 2) := by decide +kernel
theorem dX12_recover_112 : decode cX12_recover 112 = .ok (.iaload, 1) := by decide +kernel
theorem dX12_recover_113 : decode cX12_recover 113 = .ok (.iastore, 1) := by decide +kernel
theorem dX12_recover_114 : decode cX12_recover 114 = .ok (.aload_n 0, 1) := by decide +kernel
theorem dX12_recover_115 : decode cX12_recover 115 = .ok (.getfield 20, 3) := by decide +kernel
theorem dX12_recover_118 : decode cX12_recover 118 = .ok (.iload_n 3, 1) := by decide +kernel
theorem dX12_recover_119 : decode cX12_recover 119 = .ok (.aload_n 0, 1) := by decide +kernel
theorem dX12_recover_120 : decode cX12_recover 120 = .ok (.getfield 7, 3) := by decide +kernel
theorem dX12_recover_123 : decode cX12_recover 123 = .ok (.iload 4, 2) := by decide +kernel
theorem dX12_recover_125 : decode cX12_recover 125 = .ok (.iconst 3, 1) := by decide +kernel
theorem dX12_recover_126 : decode cX12_recover 126 = .ok (.iadd, 1) := by decide +kernel
theorem dX12_recover_127 : decode cX12_recover 127 = .ok (.iaload, 1) := by decide +kernel
theorem dX12_recover_128 : decode cX12_recover 128 = .ok (.iastore, 1) := by decide +kernel
theorem dX12_recover_129 : decode cX12_recover 129 = .ok (.aload_n 0, 1) := by decide +kernel
theorem dX12_recover_130 : decode cX12_recover 130 = .ok (.getfield 23, 3) := by decide +kernel
theorem dX12_recover_133 : decode cX12_recover 133 = .ok (.iload_n 3, 1) := by decide +kernel
theorem dX12_recover_134 : decode cX12_recover 134 = .ok (.aload_n 0, 1) := by decide +kernel
theorem dX12_recover_135 : decode cX12_recover 135 = .ok (.getfield 7, 3) := by decide +kernel
theorem dX12_recover_138 : decode cX12_recover 138 = .ok (.iload 4, 2) := by decide +kernel
theorem dX12_recover_140 : decode cX12_recover 140 = .ok (.bipush 8, 2) := by decide +kernel
theorem dX12_recover_142 : decode cX12_recover 142 = .ok (.iadd, 1) := by decide +kernel
theorem dX12_recover_143 : decode cX12_recover 143 = .ok (.iaload, 1) := by decide +kernel
theorem dX12_recover_144 : decode cX12_recover 144 = .ok (.iastore, 1) := by decide +kernel
theorem dX12_recover_145 : decode cX12_recover 145 = .ok (.aload_n 0, 1) := by decide +kernel
theorem dX12_recover_146 : decode cX12_recover 146 = .ok (.getfield 26, 3) := by decide +kernel
theorem dX12_recover_149 : decode cX12_recover 149 = .ok (.iload_n 3, 1) := by decide +kernel
theorem dX12_recover_150 : decode cX12_recover 150 = .ok (.aload_n 0, 1) := by decide +kernel
theorem dX12_recover_151 : decode cX12_recover 151 = .ok (.getfield 7, 3) := by decide +kernel
theorem dX12_recover_154 : decode cX12_recover 154 = .ok (.iload 4, 2) := by decide +kernel
theorem dX12_recover_156 : decode cX12_recover 156 = .ok (.bipush 9, 2) := by decide +kernel
theorem dX12_recover_158 : decode cX12_recover 158 = .ok (.iadd, 1) := by decide +kernel
theorem dX12_recover_159 : decode cX12_recover 159 = .ok (.iaload, 1) := by decide +kernel
theorem dX12_recover_160 : decode cX12_recover 160 = .ok (.iastore, 1) := by decide +kernel
theorem dX12_recover_161 : decode cX12_recover 161 = .ok (.aload_n 0, 1) := by decide +kernel
theorem dX12_recover_162 : decode cX12_recover 162 = .ok (.iload_n 3, 1) := by decide +kernel
theorem dX12_recover_163 : decode cX12_recover 163 = .ok (.invokevirtual 307, 3) := by decide +kernel
theorem dX12_recover_166 : decode cX12_recover 166 = .ok (.iload_n 2, 1) := by decide +kernel
theorem dX12_recover_167 : decode cX12_recover 167 = .ok (.aload_n 0, 1) := by decide +kernel
theorem dX12_recover_168 : decode cX12_recover 168 = .ok (.getfield 20, 3) := by decide +kernel
theorem dX12_recover_171 : decode cX12_recover 171 = .ok (.iload_n 3, 1) := by decide +kernel
theorem dX12_recover_172 : decode cX12_recover 172 = .ok (.iaload, 1) := by decide +kernel
theorem dX12_recover_173 : decode cX12_recover 173 = .ok (.iadd, 1) := by decide +kernel
theorem dX12_recover_174 : decode cX12_recover 174 = .ok (.istore_n 2, 1) := by decide +kernel
theorem dX12_recover_175 : decode cX12_recover 175 = .ok (.iinc 3 1, 3) := by decide +kernel
theorem dX12_recover_178 : decode cX12_recover 178 = .ok (.goto (-102), 3) := by decide +kernel
theorem dX12_recover_181 : decode cX12_recover 181 = .ok (.aload_n 0, 1) := by decide +kernel
theorem dX12_recover_182 : decode cX12_recover 182 = .ok (.iconst 0, 1) := by decide +kernel
theorem dX12_recover_183 : decode cX12_recover 183 = .ok (.putfield 106, 3) := by decide +kernel
theorem dX12_recover_186 : decode cX12_recover 186 = .ok (.aload_n 0, 1) := by decide +kernel
theorem dX12_recover_187 : decode cX12_recover 187 = .ok (.getfield 106, 3) := by decide +kernel
theorem dX12_recover_190 : decode cX12_recover 190 = .ok (.sipush 128, 3) := by decide +kernel
theorem dX12_recover_193 : decode cX12_recover 193 = .ok (.if_icmp .ge 118, 3) := by decide +kernel
theorem dX12_recover_196 : decode cX12_recover 196 = .ok (.aload_n 0, 1) := by decide +kernel
theorem dX12_recover_197 : decode cX12_recover 197 = .ok (.getfield 7, 3) := by decide +kernel
theorem dX12_recover_200 : decode cX12_recover 200 = .ok (.sipush 1923, 3) := by decide +kernel
theorem dX12_recover_203 : decode cX12_recover 203 = .ok (.iconst 4, 1) := by decide +kernel
theorem dX12_recover_204 : decode cX12_recover 204 = .ok (.aload_n 0, 1) := by decide +kernel
theorem dX12_recover_205 : decode cX12_recover 205 = .ok (.getfield 106, 3) := by decide +kernel
theorem dX12_recover_208 : decode cX12_recover 208 = .ok (.imul, 1) := by decide +kernel
theorem dX12_recover_209 : decode cX12_recover 209 = .ok (.iadd, 1) := by decide +kernel
theorem dX12_recover_210 : decode cX12_recover 210 = .ok (.iconst 3, 1) := by decide +kernel
theorem dX12_recover_211 : decode cX12_recover 211 = .ok (.iadd, 1) := by decide +kernel
theorem dX12_recover_212 : decode cX12_recover 212 = .ok (.iaload, 1) := by decide +kernel
theorem dX12_recover_213 : decode cX12_recover 213 = .ok (.aload_n 0, 1) := by decide +kernel
theorem dX12_recover_214 : decode cX12_recover 214 = .ok (.getfield 112, 3) := by decide +kernel
theorem dX12_recover_217 : decode cX12_recover 217 = .ok (.iconst 1, 1) := by decide +kernel
theorem dX12_recover_218 : decode cX12_recover 218 = .ok (.iadd, 1) := by decide +kernel
theorem dX12_recover_219 : decode cX12_recover 219 = .ok (.if_icmp .ne 92, 3) := by decide +kernel
theorem dX12_recover_222 : decode cX12_recover 222 = .ok (.aload_n 0, 1) := by decide +kernel
theorem dX12_recover_223 : decode cX12_recover 223 = .ok (.getfield 38, 3) := by decide +kernel
theorem dX12_recover_226 : decode cX12_recover 226 = .ok (.aload_n 0, 1) := by decide +kernel
theorem dX12_recover_227 : decode cX12_recover 227 = .ok (.getfield 106, 3) := by decide +kernel
theorem dX12_recover_230 : decode cX12_recover 230 = .ok (.aload_n 0, 1) := by decide +kernel
theorem dX12_recover_231 : decode cX12_recover 231 = .ok (.getfield 7, 3) := by decide +kernel
theorem dX12_recover_234 : decode cX12_recover 234 = .ok (.sipush 1923, 3) := by decide +kernel
theorem dX12_recover_237 : decode cX12_recover 237 = .ok (.iconst 4, 1) := by decide +kernel
theorem dX12_recover_238 : decode cX12_recover 238 = .ok (.aload_n 0, 1) := by decide +kernel
theorem dX12_recover_239 : decode cX12_recover 239 = .ok (.getfield 106, 3) := by decide +kernel
theorem dX12_recover_242 : decode cX12_recover 242 = .ok (.imul, 1) := by decide +kernel
theorem dX12_recover_243 : decode cX12_recover 243 = .ok (.iadd, 1) := by decide +kernel
theorem dX12_recover_244 : decode cX12_recover 244 = .ok (.iaload, 1) := by decide +kernel
theorem dX12_recover_245 : decode cX12_recover 245 = .ok (.iastore, 1) := by decide +kernel
theorem dX12_recover_246 : decode cX12_recover 246 = .ok (.aload_n 0, 1) := by decide +kernel
theorem dX12_recover_247 : decode cX12_recover 247 = .ok (.getfield 41, 3) := by decide +kernel
theorem dX12_recover_250 : decode cX12_recover 250 = .ok (.aload_n 0, 1) := by decide +kernel
theorem dX12_recover_251 : decode cX12_recover 251 = .ok (.getfield 106, 3) := by decide +kernel
theorem dX12_recover_254 : decode cX12_recover 254 = .ok (.aload_n 0, 1) := by decide +kernel
theorem dX12_recover_255 : decode cX12_recover 255 = .ok (.getfield 7, 3) := by decide +kernel
theorem dX12_recover_258 : decode cX12_recover 258 = .ok (.sipush 1923, 3) := by decide +kernel
theorem dX12_recover_261 : decode cX12_recover 261 = .ok (.iconst 4, 1) := by decide +kernel
theorem dX12_recover_262 : decode cX12_recover 262 = .ok (.aload_n 0, 1) := by decide +kernel
theorem dX12_recover_263 : decode cX12_recover 263 = .ok (.getfield 106, 3) := by decide +kernel
theorem dX12_recover_266 : decode cX12_recover 266 = .ok (.imul, 1) := by decide +kernel
theorem dX12_recover_267 : decode cX12_recover 267 = .ok (.iadd, 1) := by decide +kernel
theorem dX12_recover_268 : decode cX12_recover 268 = .ok (.iconst 1, 1) := by decide +kernel
theorem dX12_recover_269 : decode cX12_recover 269 = .ok (.iadd, 1) := by decide +kernel
theorem dX12_recover_270 : decode cX12_recover 270 = .ok (.iaload, 1) := by decide +kernel
theorem dX12_recover_271 : decode cX12_recover 271 = .ok (.iastore, 1) := by decide +kernel
theorem dX12_recover_272 : decode cX12_recover 272 = .ok (.aload_n 0, 1) := by decide +kernel
theorem dX12_recover_273 : decode cX12_recover 273 = .ok (.getfield 44, 3) := by decide +kernel
theorem dX12_recover_276 : decode cX12_recover 276 = .ok (.aload_n 0, 1) := by decide +kernel
theorem dX12_recover_277 : decode cX12_recover 277 = .ok (.getfield 106, 3) := by decide +kernel
theorem dX12_recover_280 : decode cX12_recover 280 = .ok (.aload_n 0, 1) := by decide +kernel
theorem dX12_recover_281 : decode cX12_recover 281 = .ok (.getfield 7, 3) := by decide +kernel
theorem dX12_recover_284 : decode cX12_recover 284 = .ok (.sipush 1923, 3) := by decide +kernel
theorem dX12_recover_287 : decode cX12_recover 287 = .ok (.iconst 4, 1) := by decide +kernel
theorem dX12_recover_288 : decode cX12_recover 288 = .ok (.aload_n 0, 1) := by decide +kernel
theorem dX12_recover_289 : decode cX12_recover 289 = .ok (.getfield 106, 3) := by decide +kernel
theorem dX12_recover_292 : decode cX12_recover 292 = .ok (.imul, 1) := by decide +kernel
theorem dX12_recover_293 : decode cX12_recover 293 = .ok (.iadd, 1) := by decide +kernel
theorem dX12_recover_294 : decode cX12_recover 294 = .ok (.iconst 2, 1) := by decide +kernel
theorem dX12_recover_295 : decode cX12_recover 295 = .ok (.iadd, 1) := by decide +kernel
theorem dX12_recover_296 : decode cX12_recover 296 = .ok (.iaload, 1) := by decide +kernel
theorem dX12_recover_297 : decode cX12_recover 297 = .ok (.iastore, 1) := by decide +kernel
theorem dX12_recover_298 : decode cX12_recover 298 = .ok (.aload_n 0, 1) := by decide +kernel
theorem dX12_recover_299 : decode cX12_recover 299 = .ok (.dup, 1) := by decide +kernel
theorem dX12_recover_300 : decode cX12_recover 300 = .ok (.getfield 106, 3) := by decide +kernel
theorem dX12_recover_303 : decode cX12_recover 303 = .ok (.iconst 1, 1) := by decide +kernel
theorem dX12_recover_304 : decode cX12_recover 304 = .ok (.iadd, 1) := by decide +kernel
theorem dX12_recover_305 : decode cX12_recover 305 = .ok (.putfield 106, 3) := by decide +kernel
theorem dX12_recover_308 : decode cX12_recover 308 = .ok (.goto (-122), 3) := by decide +kernel
theorem dX12_recover_311 : decode cX12_recover 311 = .ok (.iload_n 2, 1) := by decide +kernel
theorem dX12_recover_312 : decode cX12_recover 312 = .ok (.aload_n 0, 1) := by decide +kernel
theorem dX12_recover_313 : decode cX12_recover 313 = .ok (.getfield 106, 3) := by decide +kernel
theorem dX12_recover_316 : decode cX12_recover 316 = .ok (.iadd, 1) := by decide +kernel
theorem dX12_recover_317 : decode cX12_recover 317 = .ok (.ireturn, 1) := by decide +kernel
theorem dX12_read_0 : decode cX12_read 0 = .ok (.bipush 64, 2) := by decide +kernel
theorem dX12_read_2 : decode cX12_read 2 = .ok (.iload_n 1, 1) := by decide +kernel
theorem dX12_read_3 : decode cX12_read 3 = .ok (.imul, 1) := by decide +kernel
theorem dX12_read_4 : decode cX12_read 4 = .ok (.istore_n 2, 1) := by decide +kernel
theorem dX12_read_5 : decode cX12_read 5 = .ok (.aload_n 0, 1) := by decide +kernel
theorem dX12_read_6 : decode cX12_read 6 = .ok (.getfield 29, 3) := by decide +kernel
theorem dX12_read_9 : decode cX12_read 9 = .ok (.iload_n 2, 1) := by decide +kernel
theorem dX12_read_10 : decode cX12_read 10 = .ok (.aload_n 0, 1) := by decide +kernel
theorem dX12_read_11 : decode cX12_read 11 = .ok (.getfield 7, 3) := by decide +kernel
theorem dX12_read_14 : decode cX12_read 14 = .ok (.aload_n 0, 1) := by decide +kernel
theorem dX12_read_15 : decode cX12_read 15 = .ok (.getfield 23, 3) := by decide +kernel
theorem dX12_read_18 : decode cX12_read 18 = .ok (.iload_n 1, 1) := by decide +kernel
theorem dX12_read_19 : decode cX12_read 19 = .ok (.iaload, 1) := by decide +kernel
theorem dX12_read_20 : decode cX12_read 20 = .ok (.iaload, 1) := by decide +kernel
theorem dX12_read_21 : decode cX12_read 21 = .ok (.iastore, 1) := by decide +kernel
theorem dX12_read_22 : decode cX12_read 22 = .ok (.aload_n 0, 1) := by decide +kernel
theorem dX12_read_23 : decode cX12_read 23 = .ok (.getfield 32, 3) := by decide +kernel
theorem dX12_read_26 : decode cX12_read 26 = .ok (.iload_n 2, 1) := by decide +kernel
theorem dX12_read_27 : decode cX12_read 27 = .ok (.aload_n 0, 1) := by decide +kernel
theorem dX12_read_28 : decode cX12_read 28 = .ok (.getfield 7, 3) := by decide +kernel
theorem dX12_read_31 : decode cX12_read 31 = .ok (.aload_n 0, 1) := by decide +kernel
theorem dX12_read_32 : decode cX12_read 32 = .ok (.getfield 23, 3) := by decide +kernel
theorem dX12_read_35 : decode cX12_read 35 = .ok (.iload_n 1, 1) := by decide +kernel
theorem dX12_read_36 : decode cX12_read 36 = .ok (.iaload, 1) := by decide +kernel
theorem dX12_read_37 : decode cX12_read 37 = .ok (.iconst 1, 1) := by decide +kernel
theorem dX12_read_38 : decode cX12_read 38 = .ok (.iadd, 1) := by decide +kernel
theorem dX12_read_39 : decode cX12_read 39 = .ok (.iaload, 1) := by decide +kernel
theorem dX12_read_40 : decode cX12_read 40 = .ok (.iastore, 1) := by decide +kernel
theorem dX12_read_41 : decode cX12_read 41 = .ok (.aload_n 0, 1) := by decide +kernel
theorem dX12_read_42 : decode cX12_read 42 = .ok (.aload_n 0, 1) := by decide +kernel
theorem dX12_read_43 : decode cX12_read 43 = .ok (.getfield 23, 3) := by decide +kernel
theorem dX12_read_46 : decode cX12_read 46 = .ok (.iload_n 1, 1) := by decide +kernel
theorem dX12_read_47 : decode cX12_read 47 = .ok (.iaload, 1) := by decide +kernel
theorem dX12_read_48 : decode cX12_read 48 = .ok (.iconst 2, 1) := by decide +kernel
theorem dX12_read_49 : decode cX12_read 49 = .ok (.iadd, 1) := by decide +kernel
theorem dX12_read_50 : decode cX12_read 50 = .ok (.putfield 159, 3) := by decide +kernel
theorem dX12_read_53 : decode cX12_read 53 = .ok (.aload_n 0, 1) := by decide +kernel
theorem dX12_read_54 : decode cX12_read 54 = .ok (.iconst 0, 1) := by decide +kernel
theorem dX12_read_55 : decode cX12_read 55 = .ok (.putfield 118, 3) := by decide +kernel
theorem dX12_read_58 : decode cX12_read 58 = .ok (.lconst 0, 1) := by decide +kernel
theorem dX12_read_59 : decode cX12_read 59 = .ok (.lstore_n 3, 1) := by decide +kernel
theorem dX12_read_60 : decode cX12_read 60 = .ok (.iconst 1, 1) := by decide +kernel
theorem dX12_read_61 : decode cX12_read 61 = .ok (.istore 5, 2) := by decide +kernel
theorem dX12_read_63 : decode cX12_read 63 = .ok (.iload 5, 2) := by decide +kernel
theorem dX12_read_65 : decode cX12_read 65 = .ok (.aload_n 0, 1) := by decide +kernel
theorem dX12_read_66 : decode cX12_read 66 = .ok (.getfield 20, 3) := by decide +kernel
theorem dX12_read_69 : decode cX12_read 69 = .ok (.iload_n 1, 1) := by decide +kernel
theorem dX12_read_70 : decode cX12_read 70 = .ok (.iaload, 1) := by decide +kernel
theorem dX12_read_71 : decode cX12_read 71 = .ok (.if_icmp .ge 65, 3) := by decide +kernel
theorem dX12_read_74 : decode cX12_read 74 = .ok (.lload_n 3, 1) := by decide +kernel
theorem dX12_read_75 : decode cX12_read 75 = .ok (.aload_n 0, 1) := by decide +kernel
theorem dX12_read_76 : decode cX12_read 76 = .ok (.invokevirtual 166, 3) := by decide +kernel
theorem dX12_read_79 : decode cX12_read 79 = .ok (.ladd, 1) := by decide +kernel
theorem dX12_read_80 : decode cX12_read 80 = .ok (.lstore_n 3, 1) := by decide +kernel
theorem dX12_read_81 : decode cX12_read 81 = .ok (.aload_n 0, 1) := by decide +kernel
theorem dX12_read_82 : decode cX12_read 82 = .ok (.getfield 29, 3) := by decide +kernel
theorem dX12_read_85 : decode cX12_read 85 = .ok (.iload_n 2, 1) := by decide +kernel
theorem dX12_read_86 : decode cX12_read 86 = .ok (.iload 5, 2) := by decide +kernel
theorem dX12_read_88 : decode cX12_read 88 = .ok (.iadd, 1) := by decide +kernel
theorem dX12_read_89 : decode cX12_read 89 = .ok (.aload_n 0, 1) := by decide +kernel
theorem dX12_read_90 : decode cX12_read 90 = .ok (.getfield 29, 3) := by decide +kernel
theorem dX12_read_93 : decode cX12_read 93 = .ok (.iload_n 2, 1) := by decide +kernel
theorem dX12_read_94 : decode cX12_read 94 = .ok (.iload 5, 2) := by decide +kernel
theorem dX12_read_96 : decode cX12_read 96 = .ok (.iadd, 1) := by decide +kernel
theorem dX12_read_97 : decode cX12_read 97 = .ok (.iconst 1, 1) := by decide +kernel
theorem dX12_read_98 : decode cX12_read 98 = .ok (.isub, 1) := by decide +kernel
theorem dX12_read_99 : decode cX12_read 99 = .ok (.iaload, 1) := by decide +kernel
theorem dX12_read_100 : decode cX12_read 100 = .ok (.i2l, 1) := by decide +kernel
theorem dX12_read_101 : decode cX12_read 101 = .ok (.lload_n 3, 1) := by decide +kernel
theorem dX12_read_102 : decode cX12_read 102 = .ok (.ladd, 1) := by decide +kernel
theorem dX12_read_103 : decode cX12_read 103 = .ok (.l2i, 1) := by decide +kernel
theorem dX12_read_104 : decode cX12_read 104 = .ok (.iastore, 1) := by decide +kernel
theorem dX12_read_105 : decode cX12_read 105 = .ok (.aload_n 0, 1) := by decide +kernel
theorem dX12_read_106 : decode cX12_read 106 = .ok (.getfield 32, 3) := by decide +kernel
theorem dX12_read_109 : decode cX12_read 109 = .ok (.iload_n 2, 1) := by decide +kernel
theorem dX12_read_110 : decode cX12_read 110 = .ok (.iload 5, 2) := by decide +kernel
theorem dX12_read_112 : decode cX12_read 112 = .ok (.iadd, 1) := by decide +kernel
theorem dX12_read_113 : decode cX12_read 113 = .ok (.aload_n 0, 1) := by decide +kernel
theorem dX12_read_114 : decode cX12_read 114 = .ok (.getfield 32, 3) := by decide +kernel
theorem dX12_read_117 : decode cX12_read 117 = .ok (.iload_n 2, 1) := by decide +kernel
theorem dX12_read_118 : decode cX12_read 118 = .ok (.iload 5, 2) := by decide +kernel
theorem dX12_read_120 : decode cX12_read 120 = .ok (.iadd, 1) := by decide +kernel
theorem dX12_read_121 : decode cX12_read 121 = .ok (.iconst 1, 1) := by decide +kernel
theorem dX12_read_122 : decode cX12_read 122 = .ok (.isub, 1) := by decide +kernel
theorem dX12_read_123 : decode cX12_read 123 = .ok (.iaload, 1) := by decide +kernel
theorem dX12_read_124 : decode cX12_read 124 = .ok (.aload_n 0, 1) := by decide +kernel
theorem dX12_read_125 : decode cX12_read 125 = .ok (.invokevirtual 170, 3) := by decide +kernel
theorem dX12_read_128 : decode cX12_read 128 = .ok (.iadd, 1) := by decide +kernel
theorem dX12_read_129 : decode cX12_read 129 = .ok (.iastore, 1) := by decide +kernel
theorem dX12_read_130 : decode cX12_read 130 = .ok (.iinc 5 1, 3) := by decide +kernel
theorem dX12_read_133 : decode cX12_read 133 = .ok (.goto (-70), 3) := by decide +kernel
theorem dX12_read_136 : decode cX12_read 136 = .ok (.return_, 1) := by decide +kernel
theorem dX12_takeStep_0 : decode cX12_takeStep 0 = .ok (.aload_n 0, 1) := by decide +kernel
theorem dX12_takeStep_1 : decode cX12_takeStep 1 = .ok (.iconst 1, 1) := by decide +kernel
theorem dX12_takeStep_2 : decode cX12_takeStep 2 = .ok (.invokevirtual 162, 3) := by decide +kernel
theorem dX12_takeStep_5 : decode cX12_takeStep 5 = .ok (.lconst 0, 1) := by decide +kernel
theorem dX12_takeStep_6 : decode cX12_takeStep 6 = .ok (.lcmp, 1) := by decide +kernel
theorem dX12_takeStep_7 : decode cX12_takeStep 7 = .ok (.ifCond .ne 5, 3) := by decide +kernel
theorem dX12_takeStep_10 : decode cX12_takeStep 10 = .ok (.lconst 0, 1) := by decide +kernel
theorem dX12_takeStep_11 : decode cX12_takeStep 11 = .ok (.lreturn, 1) := by decide +kernel
theorem dX12_takeStep_12 : decode cX12_takeStep 12 = .ok (.aload_n 0, 1) := by decide +kernel
theorem dX12_takeStep_13 : decode cX12_takeStep 13 = .ok (.iconst 1, 1) := by decide +kernel
theorem dX12_takeStep_14 : decode cX12_takeStep 14 = .ok (.invokevirtual 162, 3) := by decide +kernel
theorem dX12_takeStep_17 : decode cX12_takeStep 17 = .ok (.lconst 0, 1) := by decide +kernel
theorem dX12_takeStep_18 : decode cX12_takeStep 18 = .ok (.lcmp, 1) := by decide +kernel
theorem dX12_takeStep_19 : decode cX12_takeStep 19 = .ok (.ifCond .ne 14, 3) := by decide +kernel
theorem dX12_takeStep_22 : decode cX12_takeStep 22 = .ok (.aload_n 0, 1) := by decide +kernel
theorem dX12_takeStep_23 : decode cX12_takeStep 23 = .ok (.bipush 7, 2) := by decide +kernel
theorem dX12_takeStep_25 : decode cX12_takeStep 25 = .ok (.invokevirtual 162, 3) := by decide +kernel
theorem dX12_takeStep_28 : decode cX12_takeStep 28 = .ok (.ldc2_w 125, 3) := by decide +kernel
theorem dX12_takeStep_31 : decode cX12_takeStep 31 = .ok (.lsub, 1) := by decide +kernel
theorem dX12_takeStep_32 : decode cX12_takeStep 32 = .ok (.lreturn, 1) := by decide +kernel
theorem dX12_takeStep_33 : decode cX12_takeStep 33 = .ok (.aload_n 0, 1) := by decide +kernel
theorem dX12_takeStep_34 : decode cX12_takeStep 34 = .ok (.iconst 1, 1) := by decide +kernel
theorem dX12_takeStep_35 : decode cX12_takeStep 35 = .ok (.invokevirtual 162, 3) := by decide +kernel
theorem dX12_takeStep_38 : decode cX12_takeStep 38 = .ok (.lconst 0, 1) := by decide +kernel
theorem dX12_takeStep_39 : decode cX12_takeStep 39 = .ok (.lcmp, 1) := by decide +kernel
theorem dX12_takeStep_40 : decode cX12_takeStep 40 = .ok (.ifCond .ne 14, 3) := by decide +kernel
theorem dX12_takeStep_43 : decode cX12_takeStep 43 = .ok (.aload_n 0, 1) := by decide +kernel
theorem dX12_takeStep_44 : decode cX12_takeStep 44 = .ok (.bipush 9, 2) := by decide +kernel
theorem dX12_takeStep_46 : decode cX12_takeStep 46 = .ok (.invokevirtual 162, 3) := by decide +kernel
theorem dX12_takeStep_49 : decode cX12_takeStep 49 = .ok (.ldc2_w 131, 3) := by decide +kernel
theorem dX12_takeStep_52 : decode cX12_takeStep 52 = .ok (.lsub, 1) := by decide +kernel
theorem dX12_takeStep_53 : decode cX12_takeStep 53 = .ok (.lreturn, 1) := by decide +kernel
theorem dX12_takeStep_54 : decode cX12_takeStep 54 = .ok (.aload_n 0, 1) := by decide +kernel
theorem dX12_takeStep_55 : decode cX12_takeStep 55 = .ok (.iconst 1, 1) := by decide +kernel
theorem dX12_takeStep_56 : decode cX12_takeStep 56 = .ok (.invokevirtual 162, 3) := by decide +kernel
theorem dX12_takeStep_59 : decode cX12_takeStep 59 = .ok (.lconst 0, 1) := by decide +kernel
theorem dX12_takeStep_60 : decode cX12_takeStep 60 = .ok (.lcmp, 1) := by decide +kernel
theorem dX12_takeStep_61 : decode cX12_takeStep 61 = .ok (.ifCond .ne 16, 3) := by decide +kernel
theorem dX12_takeStep_64 : decode cX12_takeStep 64 = .ok (.aload_n 0, 1) := by decide +kernel
theorem dX12_takeStep_65 : decode cX12_takeStep 65 = .ok (.bipush 12, 2) := by decide +kernel
theorem dX12_takeStep_67 : decode cX12_takeStep 67 = .ok (.invokevirtual 162, 3) := by decide +kernel
theorem dX12_takeStep_70 : decode cX12_takeStep 70 = .ok (.ldc2_w 137, 3) := by decide +kernel
theorem dX12_takeStep_73 : decode cX12_takeStep 73 = .ok (.lsub, 1) := by decide +kernel
theorem dX12_takeStep_74 : decode cX12_takeStep 74 = .ok (.goto 13, 3) := by decide +kernel
theorem dX12_takeStep_77 : decode cX12_takeStep 77 = .ok (.aload_n 0, 1) := by decide +kernel
theorem dX12_takeStep_78 : decode cX12_takeStep 78 = .ok (.bipush 34, 2) := by decide +kernel
theorem dX12_takeStep_80 : decode cX12_takeStep 80 = .ok (.invokevirtual 162, 3) := by decide +kernel
theorem dX12_takeStep_83 : decode cX12_takeStep 83 = .ok (.ldc2_w 145, 3) := by decide +kernel
theorem dX12_takeStep_86 : decode cX12_takeStep 86 = .ok (.lsub, 1) := by decide +kernel
theorem dX12_takeStep_87 : decode cX12_takeStep 87 = .ok (.lreturn, 1) := by decide +kernel
theorem dX12_take_0 : decode cX12_take 0 = .ok (.lconst 0, 1) := by decide +kernel
theorem dX12_take_1 : decode cX12_take 1 = .ok (.lstore_n 2, 1) := by decide +kernel
theorem dX12_take_2 : decode cX12_take 2 = .ok (.iconst 0, 1) := by decide +kernel
theorem dX12_take_3 : decode cX12_take 3 = .ok (.istore 4, 2) := by decide +kernel
theorem dX12_take_5 : decode cX12_take 5 = .ok (.iload 4, 2) := by decide +kernel
theorem dX12_take_7 : decode cX12_take 7 = .ok (.iload_n 1, 1) := by decide +kernel
theorem dX12_take_8 : decode cX12_take 8 = .ok (.if_icmp .ge 57, 3) := by decide +kernel
theorem dX12_take_11 : decode cX12_take 11 = .ok (.ldc2_w 129, 3) := by decide +kernel
theorem dX12_take_14 : decode cX12_take 14 = .ok (.lload_n 2, 1) := by decide +kernel
theorem dX12_take_15 : decode cX12_take 15 = .ok (.lmul, 1) := by decide +kernel
theorem dX12_take_16 : decode cX12_take 16 = .ok (.aload_n 0, 1) := by decide +kernel
theorem dX12_take_17 : decode cX12_take 17 = .ok (.getfield 7, 3) := by decide +kernel
theorem dX12_take_20 : decode cX12_take 20 = .ok (.aload_n 0, 1) := by decide +kernel
theorem dX12_take_21 : decode cX12_take 21 = .ok (.getfield 159, 3) := by decide +kernel
theorem dX12_take_24 : decode cX12_take 24 = .ok (.aload_n 0, 1) := by decide +kernel
theorem dX12_take_25 : decode cX12_take 25 = .ok (.getfield 118, 3) := by decide +kernel
theorem dX12_take_28 : decode cX12_take 28 = .ok (.bipush 32, 2) := by decide +kernel
theorem dX12_take_30 : decode cX12_take 30 = .ok (.idiv, 1) := by decide +kernel
theorem dX12_take_31 : decode cX12_take 31 = .ok (.iadd, 1) := by decide +kernel
theorem dX12_take_32 : decode cX12_take 32 = .ok (.iaload, 1) := by decide +kernel
theorem dX12_take_33 : decode cX12_take 33 = .ok (.bipush 31, 2) := by decide +kernel
theorem dX12_take_35 : decode cX12_take 35 = .ok (.aload_n 0, 1) := by decide +kernel
theorem dX12_take_36 : decode cX12_take 36 = .ok (.getfield 118, 3) := by decide +kernel
theorem dX12_take_39 : decode cX12_take 39 = .ok (.bipush 32, 2) := by decide +kernel
theorem dX12_take_41 : decode cX12_take 41 = .ok (.irem, 1) := by decide +kernel
theorem dX12_take_42 : decode cX12_take 42 = .ok (.isub, 1) := by decide +kernel
theorem dX12_take_43 : decode cX12_take 43 = .ok (.ishr, 1) := by decide +kernel
theorem dX12_take_44 : decode cX12_take 44 = .ok (.iconst 1, 1) := by decide +kernel
theorem dX12_take_45 : decode cX12_take 45 = .ok (.iand, 1) := by decide +kernel
theorem dX12_take_46 : decode cX12_take 46 = .ok (.i2l, 1) := by decide +kernel
theorem dX12_take_47 : decode cX12_take 47 = .ok (.ladd, 1) := by decide +kernel
theorem dX12_take_48 : decode cX12_take 48 = .ok (.lstore_n 2, 1) := by decide +kernel
theorem dX12_take_49 : decode cX12_take 49 = .ok (.aload_n 0, 1) := by decide +kernel
theorem dX12_take_50 : decode cX12_take 50 = .ok (.dup, 1) := by decide +kernel
theorem dX12_take_51 : decode cX12_take 51 = .ok (.getfield 118, 3) := by decide +kernel
theorem dX12_take_54 : decode cX12_take 54 = .ok (.iconst 1, 1) := by decide +kernel
theorem dX12_take_55 : decode cX12_take 55 = .ok (.iadd, 1) := by decide +kernel
theorem dX12_take_56 : decode cX12_take 56 = .ok (.putfield 118, 3) := by decide +kernel
theorem dX12_take_59 : decode cX12_take 59 = .ok (.iinc 4 1, 3) := by decide +kernel
theorem dX12_take_62 : decode cX12_take 62 = .ok (.goto (-57), 3) := by decide +kernel
theorem dX12_take_65 : decode cX12_take 65 = .ok (.lload_n 2, 1) := by decide +kernel
theorem dX12_take_66 : decode cX12_take 66 = .ok (.lreturn, 1) := by decide +kernel
theorem dX12_takeValue_0 : decode cX12_takeValue 0 = .ok (.lconst 0, 1) := by decide +kernel
theorem dX12_takeValue_1 : decode cX12_takeValue 1 = .ok (.lstore_n 1, 1) := by decide +kernel
theorem dX12_takeValue_2 : decode cX12_takeValue 2 = .ok (.iconst 0, 1) := by decide +kernel
theorem dX12_takeValue_3 : decode cX12_takeValue 3 = .ok (.istore_n 3, 1) := by decide +kernel
theorem dX12_takeValue_4 : decode cX12_takeValue 4 = .ok (.aload_n 0, 1) := by decide +kernel
theorem dX12_takeValue_5 : decode cX12_takeValue 5 = .ok (.iconst 1, 1) := by decide +kernel
theorem dX12_takeValue_6 : decode cX12_takeValue 6 = .ok (.invokevirtual 162, 3) := by decide +kernel
theorem dX12_takeValue_9 : decode cX12_takeValue 9 = .ok (.lconst 1, 1) := by decide +kernel
theorem dX12_takeValue_10 : decode cX12_takeValue 10 = .ok (.lcmp, 1) := by decide +kernel
theorem dX12_takeValue_11 : decode cX12_takeValue 11 = .ok (.ifCond .ne 19, 3) := by decide +kernel
theorem dX12_takeValue_14 : decode cX12_takeValue 14 = .ok (.lload_n 1, 1) := by decide +kernel
theorem dX12_takeValue_15 : decode cX12_takeValue 15 = .ok (.aload_n 0, 1) := by decide +kernel
theorem dX12_takeValue_16 : decode cX12_takeValue 16 = .ok (.iconst 4, 1) := by decide +kernel
theorem dX12_takeValue_17 : decode cX12_takeValue 17 = .ok (.invokevirtual 162, 3) := by decide +kernel
theorem dX12_takeValue_20 : decode cX12_takeValue 20 = .ok (.iload_n 3, 1) := by decide +kernel
theorem dX12_takeValue_21 : decode cX12_takeValue 21 = .ok (.lshl, 1) := by decide +kernel
theorem dX12_takeValue_22 : decode cX12_takeValue 22 = .ok (.lor, 1) := by decide +kernel
theorem dX12_takeValue_23 : decode cX12_takeValue 23 = .ok (.lstore_n 1, 1) := by decide +kernel
theorem dX12_takeValue_24 : decode cX12_takeValue 24 = .ok (.iinc 3 4, 3) := by decide +kernel
theorem dX12_takeValue_27 : decode cX12_takeValue 27 = .ok (.goto (-23), 3) := by decide +kernel
theorem dX12_takeValue_30 : decode cX12_takeValue 30 = .ok (.lload_n 1, 1) := by decide +kernel
theorem dX12_takeValue_31 : decode cX12_takeValue 31 = .ok (.ldc2_w 129, 3) := by decide +kernel
theorem dX12_takeValue_34 : decode cX12_takeValue 34 = .ok (.lrem, 1) := by decide +kernel
theorem dX12_takeValue_35 : decode cX12_takeValue 35 = .ok (.lconst 0, 1) := by decide +kernel
theorem dX12_takeValue_36 : decode cX12_takeValue 36 = .ok (.lcmp, 1) := by decide +kernel
theorem dX12_takeValue_37 : decode cX12_takeValue 37 = .ok (.ifCond .ne 11, 3) := by decide +kernel
theorem dX12_takeValue_40 : decode cX12_takeValue 40 = .ok (.lload_n 1, 1) := by decide +kernel
theorem dX12_takeValue_41 : decode cX12_takeValue 41 = .ok (.ldc2_w 129, 3) := by decide +kernel
theorem dX12_takeValue_44 : decode cX12_takeValue 44 = .ok (.ldiv, 1) := by decide +kernel
theorem dX12_takeValue_45 : decode cX12_takeValue 45 = .ok (.goto 11, 3) := by decide +kernel
theorem dX12_takeValue_48 : decode cX12_takeValue 48 = .ok (.lload_n 1, 1) := by decide +kernel
theorem dX12_takeValue_49 : decode cX12_takeValue 49 = .ok (.ldc2_w 129, 3) := by decide +kernel
theorem dX12_takeValue_52 : decode cX12_takeValue 52 = .ok (.ldiv, 1) := by decide +kernel
theorem dX12_takeValue_53 : decode cX12_takeValue 53 = .ok (.lneg, 1) := by decide +kernel
theorem dX12_takeValue_54 : decode cX12_takeValue 54 = .ok (.lconst 1, 1) := by decide +kernel
theorem dX12_takeValue_55 : decode cX12_takeValue 55 = .ok (.lsub, 1) := by decide +kernel
theorem dX12_takeValue_56 : decode cX12_takeValue 56 = .ok (.l2i, 1) := by decide +kernel
theorem dX12_takeValue_57 : decode cX12_takeValue 57 = .ok (.ireturn, 1) := by decide +kernel
theorem dX12_cell_0 : decode cX12_cell 0 = .ok (.aload_n 0, 1) := by decide +kernel
theorem dX12_cell_1 : decode cX12_cell 1 = .ok (.iconst 0, 1) := by decide +kernel
theorem dX12_cell_2 : decode cX12_cell 2 = .ok (.putfield 76, 3) := by decide +kernel
theorem dX12_cell_5 : decode cX12_cell 5 = .ok (.iload_n 1, 1) := by decide +kernel
theorem dX12_cell_6 : decode cX12_cell 6 = .ok (.ifCond .lt 10, 3) := by decide +kernel
theorem dX12_cell_9 : decode cX12_cell 9 = .ok (.iload_n 1, 1) := by decide +kernel
theorem dX12_cell_10 : decode cX12_cell 10 = .ok (.sipush 4096, 3) := by decide +kernel
theorem dX12_cell_13 : decode cX12_cell 13 = .ok (.if_icmp .lt 7, 3) := by decide +kernel
theorem dX12_cell_16 : decode cX12_cell 16 = .ok (.iconst 0, 1) := by decide +kernel
theorem dX12_cell_17 : decode cX12_cell 17 = .ok (.goto 9, 3) := by decide +kernel
theorem dX12_cell_20 : decode cX12_cell 20 = .ok (.aload_n 0, 1) := by decide +kernel
theorem dX12_cell_21 : decode cX12_cell 21 = .ok (.getfield 7, 3) := by decide +kernel
theorem dX12_cell_24 : decode cX12_cell 24 = .ok (.iload_n 1, 1) := by decide +kernel
theorem dX12_cell_25 : decode cX12_cell 25 = .ok (.iaload, 1) := by decide +kernel
theorem dX12_cell_26 : decode cX12_cell 26 = .ok (.ireturn, 1) := by decide +kernel
theorem dX12_sizes_0 : decode cX12_sizes 0 = .ok (.aload_n 0, 1) := by decide +kernel
theorem dX12_sizes_1 : decode cX12_sizes 1 = .ok (.aload_n 0, 1) := by decide +kernel
theorem dX12_sizes_2 : decode cX12_sizes 2 = .ok (.getfield 79, 3) := by decide +kernel
theorem dX12_sizes_5 : decode cX12_sizes 5 = .ok (.ifCond .eq 7, 3) := by decide +kernel
theorem dX12_sizes_8 : decode cX12_sizes 8 = .ok (.iconst 1, 1) := by decide +kernel
theorem dX12_sizes_9 : decode cX12_sizes 9 = .ok (.goto 29, 3) := by decide +kernel
theorem dX12_sizes_12 : decode cX12_sizes 12 = .ok (.aload_n 0, 1) := by decide +kernel
theorem dX12_sizes_13 : decode cX12_sizes 13 = .ok (.iload_n 1, 1) := by decide +kernel
theorem dX12_sizes_14 : decode cX12_sizes 14 = .ok (.invokevirtual 98, 3) := by decide +kernel
theorem dX12_sizes_17 : decode cX12_sizes 17 = .ok (.ifCond .ne 7, 3) := by decide +kernel
theorem dX12_sizes_20 : decode cX12_sizes 20 = .ok (.iconst 2, 1) := by decide +kernel
theorem dX12_sizes_21 : decode cX12_sizes 21 = .ok (.goto 17, 3) := by decide +kernel
theorem dX12_sizes_24 : decode cX12_sizes 24 = .ok (.iload_n 2, 1) := by decide +kernel
theorem dX12_sizes_25 : decode cX12_sizes 25 = .ok (.ifCond .lt 8, 3) := by decide +kernel
theorem dX12_sizes_28 : decode cX12_sizes 28 = .ok (.iload_n 2, 1) := by decide +kernel
theorem dX12_sizes_29 : decode cX12_sizes 29 = .ok (.iconst 2, 1) := by decide +kernel
theorem dX12_sizes_30 : decode cX12_sizes 30 = .ok (.if_icmp .le 7, 3) := by decide +kernel
theorem dX12_sizes_33 : decode cX12_sizes 33 = .ok (.iconst 3, 1) := by decide +kernel
theorem dX12_sizes_34 : decode cX12_sizes 34 = .ok (.goto 4, 3) := by decide +kernel
theorem dX12_sizes_37 : decode cX12_sizes 37 = .ok (.iconst 0, 1) := by decide +kernel
theorem dX12_sizes_38 : decode cX12_sizes 38 = .ok (.putfield 76, 3) := by decide +kernel
theorem dX12_sizes_41 : decode cX12_sizes 41 = .ok (.aload_n 0, 1) := by decide +kernel
theorem dX12_sizes_42 : decode cX12_sizes 42 = .ok (.getfield 76, 3) := by decide +kernel
theorem dX12_sizes_45 : decode cX12_sizes 45 = .ok (.ifCond .le 5, 3) := by decide +kernel
theorem dX12_sizes_48 : decode cX12_sizes 48 = .ok (.iconst 0, 1) := by decide +kernel
theorem dX12_sizes_49 : decode cX12_sizes 49 = .ok (.ireturn, 1) := by decide +kernel
theorem dX12_sizes_50 : decode cX12_sizes 50 = .ok (.iload_n 2, 1) := by decide +kernel
theorem dX12_sizes_51 : decode cX12_sizes 51 = .ok (.ifCond .ne 9, 3) := by decide +kernel
theorem dX12_sizes_54 : decode cX12_sizes 54 = .ok (.aload_n 0, 1) := by decide +kernel
theorem dX12_sizes_55 : decode cX12_sizes 55 = .ok (.iload_n 1, 1) := by decide +kernel
theorem dX12_sizes_56 : decode cX12_sizes 56 = .ok (.invokevirtual 274, 3) := by decide +kernel
theorem dX12_sizes_59 : decode cX12_sizes 59 = .ok (.ireturn, 1) := by decide +kernel
theorem dX12_sizes_60 : decode cX12_sizes 60 = .ok (.iload_n 2, 1) := by decide +kernel
theorem dX12_sizes_61 : decode cX12_sizes 61 = .ok (.iconst 2, 1) := by decide +kernel
theorem dX12_sizes_62 : decode cX12_sizes 62 = .ok (.if_icmp .ne 9, 3) := by decide +kernel
theorem dX12_sizes_65 : decode cX12_sizes 65 = .ok (.aload_n 0, 1) := by decide +kernel
theorem dX12_sizes_66 : decode cX12_sizes 66 = .ok (.iload_n 1, 1) := by decide +kernel
theorem dX12_sizes_67 : decode cX12_sizes 67 = .ok (.invokevirtual 277, 3) := by decide +kernel
theorem dX12_sizes_70 : decode cX12_sizes 70 = .ok (.ireturn, 1) := by decide +kernel
theorem dX12_sizes_71 : decode cX12_sizes 71 = .ok (.iconst 0, 1) := by decide +kernel
theorem dX12_sizes_72 : decode cX12_sizes 72 = .ok (.istore_n 3, 1) := by decide +kernel
theorem dX12_sizes_73 : decode cX12_sizes 73 = .ok (.iconst 0, 1) := by decide +kernel
theorem dX12_sizes_74 : decode cX12_sizes 74 = .ok (.istore 4, 2) := by decide +kernel
theorem dX12_sizes_76 : decode cX12_sizes 76 = .ok (.iload 4, 2) := by decide +kernel
theorem dX12_sizes_78 : decode cX12_sizes 78 = .ok (.aload_n 0, 1) := by decide +kernel
theorem dX12_sizes_79 : decode cX12_sizes 79 = .ok (.getfield 106, 3) := by decide +kernel
theorem dX12_sizes_82 : decode cX12_sizes 82 = .ok (.if_icmp .ge 28, 3) := by decide +kernel
theorem dX12_sizes_85 : decode cX12_sizes 85 = .ok (.iload_n 3, 1) := by decide +kernel
theorem dX12_sizes_86 : decode cX12_sizes 86 = .ok (.aload_n 0, 1) := by decide +kernel
theorem dX12_sizes_87 : decode cX12_sizes 87 = .ok (.getfield 38, 3) := by decide +kernel
theorem dX12_sizes_90 : decode cX12_sizes 90 = .ok (.iload 4, 2) := by decide +kernel
theorem dX12_sizes_92 : decode cX12_sizes 92 = .ok (.iaload, 1) := by decide +kernel
theorem dX12_sizes_93 : decode cX12_sizes 93 = .ok (.iload_n 1, 1) := by decide +kernel
theorem dX12_sizes_94 : decode cX12_sizes 94 = .ok (.if_icmp .ne 7, 3) := by decide +kernel
theorem dX12_sizes_97 : decode cX12_sizes 97 = .ok (.iconst 1, 1) := by decide +kernel
theorem dX12_sizes_98 : decode cX12_sizes 98 = .ok (.goto 4, 3) := by decide +kernel
theorem dX12_sizes_101 : decode cX12_sizes 101 = .ok (.iconst 0, 1) := by decide +kernel
theorem dX12_sizes_102 : decode cX12_sizes 102 = .ok (.iadd, 1) := by decide +kernel
theorem dX12_sizes_103 : decode cX12_sizes 103 = .ok (.istore_n 3, 1) := by decide +kernel
theorem dX12_sizes_104 : decode cX12_sizes 104 = .ok (.iinc 4 1, 3) := by decide +kernel
theorem dX12_sizes_107 : decode cX12_sizes 107 = .ok (.goto (-31), 3) := by decide +kernel
theorem dX12_sizes_110 : decode cX12_sizes 110 = .ok (.iload_n 3, 1) := by decide +kernel
theorem dX12_sizes_111 : decode cX12_sizes 111 = .ok (.ireturn, 1) := by decide +kernel
theorem dX12_chunk_0 : decode cX12_chunk 0 = .ok (.aload_n 0, 1) := by decide +kernel
theorem dX12_chunk_1 : decode cX12_chunk 1 = .ok (.aload_n 0, 1) := by decide +kernel
theorem dX12_chunk_2 : decode cX12_chunk 2 = .ok (.getfield 79, 3) := by decide +kernel
theorem dX12_chunk_5 : decode cX12_chunk 5 = .ok (.ifCond .eq 7, 3) := by decide +kernel
theorem dX12_chunk_8 : decode cX12_chunk 8 = .ok (.iconst 1, 1) := by decide +kernel
theorem dX12_chunk_9 : decode cX12_chunk 9 = .ok (.goto 43, 3) := by decide +kernel
theorem dX12_chunk_12 : decode cX12_chunk 12 = .ok (.aload_n 0, 1) := by decide +kernel
theorem dX12_chunk_13 : decode cX12_chunk 13 = .ok (.iload_n 1, 1) := by decide +kernel
theorem dX12_chunk_14 : decode cX12_chunk 14 = .ok (.invokevirtual 98, 3) := by decide +kernel
theorem dX12_chunk_17 : decode cX12_chunk 17 = .ok (.ifCond .ne 7, 3) := by decide +kernel
theorem dX12_chunk_20 : decode cX12_chunk 20 = .ok (.iconst 2, 1) := by decide +kernel
theorem dX12_chunk_21 : decode cX12_chunk 21 = .ok (.goto 31, 3) := by decide +kernel
theorem dX12_chunk_24 : decode cX12_chunk 24 = .ok (.iload_n 3, 1) := by decide +kernel
theorem dX12_chunk_25 : decode cX12_chunk 25 = .ok (.ifCond .lt 22, 3) := by decide +kernel
theorem dX12_chunk_28 : decode cX12_chunk 28 = .ok (.iload_n 3, 1) := by decide +kernel
theorem dX12_chunk_29 : decode cX12_chunk 29 = .ok (.bipush 6, 2) := by decide +kernel
theorem dX12_chunk_31 : decode cX12_chunk 31 = .ok (.if_icmp .gt 16, 3) := by decide +kernel
theorem dX12_chunk_34 : decode cX12_chunk 34 = .ok (.iload_n 2, 1) := by decide +kernel
theorem dX12_chunk_35 : decode cX12_chunk 35 = .ok (.ifCond .lt 12, 3) := by decide +kernel
theorem dX12_chunk_38 : decode cX12_chunk 38 = .ok (.iload_n 2, 1) := by decide +kernel
theorem dX12_chunk_39 : decode cX12_chunk 39 = .ok (.aload_n 0, 1) := by decide +kernel
theorem dX12_chunk_40 : decode cX12_chunk 40 = .ok (.iload_n 1, 1) := by decide +kernel
theorem dX12_chunk_41 : decode cX12_chunk 41 = .ok (.invokevirtual 274, 3) := by decide +kernel
theorem dX12_chunk_44 : decode cX12_chunk 44 = .ok (.if_icmp .lt 7, 3) := by decide +kernel
theorem dX12_chunk_47 : decode cX12_chunk 47 = .ok (.iconst 3, 1) := by decide +kernel
theorem dX12_chunk_48 : decode cX12_chunk 48 = .ok (.goto 4, 3) := by decide +kernel
theorem dX12_chunk_51 : decode cX12_chunk 51 = .ok (.iconst 0, 1) := by decide +kernel
theorem dX12_chunk_52 : decode cX12_chunk 52 = .ok (.putfield 76, 3) := by decide +kernel
theorem dX12_chunk_55 : decode cX12_chunk 55 = .ok (.aload_n 0, 1) := by decide +kernel
theorem dX12_chunk_56 : decode cX12_chunk 56 = .ok (.getfield 76, 3) := by decide +kernel
theorem dX12_chunk_59 : decode cX12_chunk 59 = .ok (.ifCond .le 5, 3) := by decide +kernel
theorem dX12_chunk_62 : decode cX12_chunk 62 = .ok (.iconst 0, 1) := by decide +kernel
theorem dX12_chunk_63 : decode cX12_chunk 63 = .ok (.ireturn, 1) := by decide +kernel
theorem dX12_chunk_64 : decode cX12_chunk 64 = .ok (.aload_n 0, 1) := by decide +kernel
theorem dX12_chunk_65 : decode cX12_chunk 65 = .ok (.iload_n 1, 1) := by decide +kernel
theorem dX12_chunk_66 : decode cX12_chunk 66 = .ok (.iload_n 2, 1) := by decide +kernel
theorem dX12_chunk_67 : decode cX12_chunk 67 = .ok (.invokevirtual 280, 3) := by decide +kernel
theorem dX12_chunk_70 : decode cX12_chunk 70 = .ok (.istore 4, 2) := by decide +kernel
theorem dX12_chunk_72 : decode cX12_chunk 72 = .ok (.iload_n 3, 1) := by decide +kernel
theorem dX12_chunk_73 : decode cX12_chunk 73 = .ok (.tableswitch 83 0 5 #[39, 46, 53, 61, 68, 75], 39) := by decide +kernel
theorem dX12_chunk_112 : decode cX12_chunk 112 = .ok (.aload_n 0, 1) := by decide +kernel
theorem dX12_chunk_113 : decode cX12_chunk 113 = .ok (.iload 4, 2) := by decide +kernel
theorem dX12_chunk_115 : decode cX12_chunk 115 = .ok (.invokevirtual 209, 3) := by decide +kernel
theorem dX12_chunk_118 : decode cX12_chunk 118 = .ok (.ireturn, 1) := by decide +kernel
theorem dX12_chunk_119 : decode cX12_chunk 119 = .ok (.aload_n 0, 1) := by decide +kernel
theorem dX12_chunk_120 : decode cX12_chunk 120 = .ok (.iload 4, 2) := by decide +kernel
theorem dX12_chunk_122 : decode cX12_chunk 122 = .ok (.invokevirtual 212, 3) := by decide +kernel
theorem dX12_chunk_125 : decode cX12_chunk 125 = .ok (.ireturn, 1) := by decide +kernel
theorem dX12_chunk_126 : decode cX12_chunk 126 = .ok (.aload_n 0, 1) := by decide +kernel
theorem dX12_chunk_127 : decode cX12_chunk 127 = .ok (.getfield 20, 3) := by decide +kernel
theorem dX12_chunk_130 : decode cX12_chunk 130 = .ok (.iload 4, 2) := by decide +kernel
theorem dX12_chunk_132 : decode cX12_chunk 132 = .ok (.iaload, 1) := by decide +kernel
theorem dX12_chunk_133 : decode cX12_chunk 133 = .ok (.ireturn, 1) := by decide +kernel
theorem dX12_chunk_134 : decode cX12_chunk 134 = .ok (.aload_n 0, 1) := by decide +kernel
theorem dX12_chunk_135 : decode cX12_chunk 135 = .ok (.iload 4, 2) := by decide +kernel
theorem dX12_chunk_137 : decode cX12_chunk 137 = .ok (.invokevirtual 215, 3) := by decide +kernel
theorem dX12_chunk_140 : decode cX12_chunk 140 = .ok (.ireturn, 1) := by decide +kernel
theorem dX12_chunk_141 : decode cX12_chunk 141 = .ok (.aload_n 0, 1) := by decide +kernel
theorem dX12_chunk_142 : decode cX12_chunk 142 = .ok (.iload 4, 2) := by decide +kernel
theorem dX12_chunk_144 : decode cX12_chunk 144 = .ok (.invokevirtual 218, 3) := by decide +kernel
theorem dX12_chunk_147 : decode cX12_chunk 147 = .ok (.ireturn, 1) := by decide +kernel
theorem dX12_chunk_148 : decode cX12_chunk 148 = .ok (.aload_n 0, 1) := by decide +kernel
theorem dX12_chunk_149 : decode cX12_chunk 149 = .ok (.getfield 23, 3) := by decide +kernel
theorem dX12_chunk_152 : decode cX12_chunk 152 = .ok (.iload 4, 2) := by decide +kernel
theorem dX12_chunk_154 : decode cX12_chunk 154 = .ok (.iaload, 1) := by decide +kernel
theorem dX12_chunk_155 : decode cX12_chunk 155 = .ok (.ireturn, 1) := by decide +kernel
theorem dX12_chunk_156 : decode cX12_chunk 156 = .ok (.aload_n 0, 1) := by decide +kernel
theorem dX12_chunk_157 : decode cX12_chunk 157 = .ok (.getfield 26, 3) := by decide +kernel
theorem dX12_chunk_160 : decode cX12_chunk 160 = .ok (.iload 4, 2) := by decide +kernel
theorem dX12_chunk_162 : decode cX12_chunk 162 = .ok (.iaload, 1) := by decide +kernel
theorem dX12_chunk_163 : decode cX12_chunk 163 = .ok (.ireturn, 1) := by decide +kernel
theorem dX12_group_0 : decode cX12_group 0 = .ok (.aload_n 0, 1) := by decide +kernel
theorem dX12_group_1 : decode cX12_group 1 = .ok (.aload_n 0, 1) := by decide +kernel
theorem dX12_group_2 : decode cX12_group 2 = .ok (.getfield 79, 3) := by decide +kernel
theorem dX12_group_5 : decode cX12_group 5 = .ok (.ifCond .eq 7, 3) := by decide +kernel
theorem dX12_group_8 : decode cX12_group 8 = .ok (.iconst 1, 1) := by decide +kernel
theorem dX12_group_9 : decode cX12_group 9 = .ok (.goto 42, 3) := by decide +kernel
theorem dX12_group_12 : decode cX12_group 12 = .ok (.aload_n 0, 1) := by decide +kernel
theorem dX12_group_13 : decode cX12_group 13 = .ok (.iload_n 1, 1) := by decide +kernel
theorem dX12_group_14 : decode cX12_group 14 = .ok (.invokevirtual 98, 3) := by decide +kernel
theorem dX12_group_17 : decode cX12_group 17 = .ok (.ifCond .ne 7, 3) := by decide +kernel
theorem dX12_group_20 : decode cX12_group 20 = .ok (.iconst 2, 1) := by decide +kernel
theorem dX12_group_21 : decode cX12_group 21 = .ok (.goto 30, 3) := by decide +kernel
theorem dX12_group_24 : decode cX12_group 24 = .ok (.iload_n 3, 1) := by decide +kernel
theorem dX12_group_25 : decode cX12_group 25 = .ok (.ifCond .lt 21, 3) := by decide +kernel
theorem dX12_group_28 : decode cX12_group 28 = .ok (.iload_n 3, 1) := by decide +kernel
theorem dX12_group_29 : decode cX12_group 29 = .ok (.iconst 5, 1) := by decide +kernel
theorem dX12_group_30 : decode cX12_group 30 = .ok (.if_icmp .gt 16, 3) := by decide +kernel
theorem dX12_group_33 : decode cX12_group 33 = .ok (.iload_n 2, 1) := by decide +kernel
theorem dX12_group_34 : decode cX12_group 34 = .ok (.ifCond .lt 12, 3) := by decide +kernel
theorem dX12_group_37 : decode cX12_group 37 = .ok (.iload_n 2, 1) := by decide +kernel
theorem dX12_group_38 : decode cX12_group 38 = .ok (.aload_n 0, 1) := by decide +kernel
theorem dX12_group_39 : decode cX12_group 39 = .ok (.iload_n 1, 1) := by decide +kernel
theorem dX12_group_40 : decode cX12_group 40 = .ok (.invokevirtual 277, 3) := by decide +kernel
theorem dX12_group_43 : decode cX12_group 43 = .ok (.if_icmp .lt 7, 3) := by decide +kernel
theorem dX12_group_46 : decode cX12_group 46 = .ok (.iconst 3, 1) := by decide +kernel
theorem dX12_group_47 : decode cX12_group 47 = .ok (.goto 4, 3) := by decide +kernel
theorem dX12_group_50 : decode cX12_group 50 = .ok (.iconst 0, 1) := by decide +kernel
theorem dX12_group_51 : decode cX12_group 51 = .ok (.putfield 76, 3) := by decide +kernel
theorem dX12_group_54 : decode cX12_group 54 = .ok (.aload_n 0, 1) := by decide +kernel
theorem dX12_group_55 : decode cX12_group 55 = .ok (.getfield 76, 3) := by decide +kernel
theorem dX12_group_58 : decode cX12_group 58 = .ok (.ifCond .le 5, 3) := by decide +kernel
theorem dX12_group_61 : decode cX12_group 61 = .ok (.iconst 0, 1) := by decide +kernel
theorem dX12_group_62 : decode cX12_group 62 = .ok (.ireturn, 1) := by decide +kernel
theorem dX12_group_63 : decode cX12_group 63 = .ok (.aload_n 0, 1) := by decide +kernel
theorem dX12_group_64 : decode cX12_group 64 = .ok (.iload_n 1, 1) := by decide +kernel
theorem dX12_group_65 : decode cX12_group 65 = .ok (.invokevirtual 274, 3) := by decide +kernel
theorem dX12_group_68 : decode cX12_group 68 = .ok (.istore 4, 2) := by decide +kernel
theorem dX12_group_70 : decode cX12_group 70 = .ok (.aload_n 0, 1) := by decide +kernel
theorem dX12_group_71 : decode cX12_group 71 = .ok (.getfield 73, 3) := by decide +kernel
theorem dX12_group_74 : decode cX12_group 74 = .ok (.iload_n 2, 1) := by decide +kernel
theorem dX12_group_75 : decode cX12_group 75 = .ok (.imul, 1) := by decide +kernel
theorem dX12_group_76 : decode cX12_group 76 = .ok (.istore 5, 2) := by decide +kernel
theorem dX12_group_78 : decode cX12_group 78 = .ok (.iload 5, 2) := by decide +kernel
theorem dX12_group_80 : decode cX12_group 80 = .ok (.aload_n 0, 1) := by decide +kernel
theorem dX12_group_81 : decode cX12_group 81 = .ok (.getfield 73, 3) := by decide +kernel
theorem dX12_group_84 : decode cX12_group 84 = .ok (.iadd, 1) := by decide +kernel
theorem dX12_group_85 : decode cX12_group 85 = .ok (.iload 4, 2) := by decide +kernel
theorem dX12_group_87 : decode cX12_group 87 = .ok (.if_icmp .ge 13, 3) := by decide +kernel
theorem dX12_group_90 : decode cX12_group 90 = .ok (.iload 5, 2) := by decide +kernel
theorem dX12_group_92 : decode cX12_group 92 = .ok (.aload_n 0, 1) := by decide +kernel
theorem dX12_group_93 : decode cX12_group 93 = .ok (.getfield 73, 3) := by decide +kernel
theorem dX12_group_96 : decode cX12_group 96 = .ok (.iadd, 1) := by decide +kernel
theorem dX12_group_97 : decode cX12_group 97 = .ok (.goto 5, 3) := by decide +kernel
theorem dX12_group_100 : decode cX12_group 100 = .ok (.iload 4, 2) := by decide +kernel
theorem dX12_group_102 : decode cX12_group 102 = .ok (.istore 6, 2) := by decide +kernel
theorem dX12_group_104 : decode cX12_group 104 = .ok (.iload_n 3, 1) := by decide +kernel
theorem dX12_group_105 : decode cX12_group 105 = .ok (.ifCond .ne 15, 3) := by decide +kernel
theorem dX12_group_108 : decode cX12_group 108 = .ok (.aload_n 0, 1) := by decide +kernel
theorem dX12_group_109 : decode cX12_group 109 = .ok (.aload_n 0, 1) := by decide +kernel
theorem dX12_group_110 : decode cX12_group 110 = .ok (.iload_n 1, 1) := by decide +kernel
theorem dX12_group_111 : decode cX12_group 111 = .ok (.iload 5, 2) := by decide +kernel
theorem dX12_group_113 : decode cX12_group 113 = .ok (.invokevirtual 280, 3) := by decide +kernel
theorem dX12_group_116 : decode cX12_group 116 = .ok (.invokevirtual 209, 3) := by decide +kernel
theorem dX12_group_119 : decode cX12_group 119 = .ok (.ireturn, 1) := by decide +kernel
theorem dX12_group_120 : decode cX12_group 120 = .ok (.iload_n 3, 1) := by decide +kernel
theorem dX12_group_121 : decode cX12_group 121 = .ok (.iconst 1, 1) := by decide +kernel
theorem dX12_group_122 : decode cX12_group 122 = .ok (.if_icmp .ne 17, 3) := by decide +kernel
theorem dX12_group_125 : decode cX12_group 125 = .ok (.aload_n 0, 1) := by decide +kernel
theorem dX12_group_126 : decode cX12_group 126 = .ok (.aload_n 0, 1) := by decide +kernel
theorem dX12_group_127 : decode cX12_group 127 = .ok (.iload_n 1, 1) := by decide +kernel
theorem dX12_group_128 : decode cX12_group 128 = .ok (.iload 6, 2) := by decide +kernel
theorem dX12_group_130 : decode cX12_group 130 = .ok (.iconst 1, 1) := by decide +kernel
theorem dX12_group_131 : decode cX12_group 131 = .ok (.isub, 1) := by decide +kernel
theorem dX12_group_132 : decode cX12_group 132 = .ok (.invokevirtual 280, 3) := by decide +kernel
theorem dX12_group_135 : decode cX12_group 135 = .ok (.invokevirtual 212, 3) := by decide +kernel
theorem dX12_group_138 : decode cX12_group 138 = .ok (.ireturn, 1) := by decide +kernel
theorem dX12_group_139 : decode cX12_group 139 = .ok (.iload_n 3, 1) := by decide +kernel
theorem dX12_group_140 : decode cX12_group 140 = .ok (.iconst 5, 1) := by decide +kernel
theorem dX12_group_141 : decode cX12_group 141 = .ok (.if_icmp .ne 9, 3) := by decide +kernel
theorem dX12_group_144 : decode cX12_group 144 = .ok (.iload 6, 2) := by decide +kernel
theorem dX12_group_146 : decode cX12_group 146 = .ok (.iload 5, 2) := by decide +kernel
theorem dX12_group_148 : decode cX12_group 148 = .ok (.isub, 1) := by decide +kernel
theorem dX12_group_149 : decode cX12_group 149 = .ok (.ireturn, 1) := by decide +kernel
theorem dX12_group_150 : decode cX12_group 150 = .ok (.iload_n 3, 1) := by decide +kernel
theorem dX12_group_151 : decode cX12_group 151 = .ok (.iconst 2, 1) := by decide +kernel
theorem dX12_group_152 : decode cX12_group 152 = .ok (.if_icmp .ne 7, 3) := by decide +kernel
theorem dX12_group_155 : decode cX12_group 155 = .ok (.iconst 0, 1) := by decide +kernel
theorem dX12_group_156 : decode cX12_group 156 = .ok (.goto 33, 3) := by decide +kernel
theorem dX12_group_159 : decode cX12_group 159 = .ok (.iload_n 3, 1) := by decide +kernel
theorem dX12_group_160 : decode cX12_group 160 = .ok (.iconst 3, 1) := by decide +kernel
theorem dX12_group_161 : decode cX12_group 161 = .ok (.if_icmp .ne 17, 3) := by decide +kernel
theorem dX12_group_164 : decode cX12_group 164 = .ok (.aload_n 0, 1) := by decide +kernel
theorem dX12_group_165 : decode cX12_group 165 = .ok (.aload_n 0, 1) := by decide +kernel
theorem dX12_group_166 : decode cX12_group 166 = .ok (.iload_n 1, 1) := by decide +kernel
theorem dX12_group_167 : decode cX12_group 167 = .ok (.iload 5, 2) := by decide +kernel
theorem dX12_group_169 : decode cX12_group 169 = .ok (.invokevirtual 280, 3) := by decide +kernel
theorem dX12_group_172 : decode cX12_group 172 = .ok (.invokevirtual 215, 3) := by decide +kernel
theorem dX12_group_175 : decode cX12_group 175 = .ok (.goto 14, 3) := by decide +kernel
theorem dX12_group_178 : decode cX12_group 178 = .ok (.aload_n 0, 1) := by decide +kernel
theorem dX12_group_179 : decode cX12_group 179 = .ok (.aload_n 0, 1) := by decide +kernel
theorem dX12_group_180 : decode cX12_group 180 = .ok (.iload_n 1, 1) := by decide +kernel
theorem dX12_group_181 : decode cX12_group 181 = .ok (.iload 5, 2) := by decide +kernel
theorem dX12_group_183 : decode cX12_group 183 = .ok (.invokevirtual 280, 3) := by decide +kernel
theorem dX12_group_186 : decode cX12_group 186 = .ok (.invokevirtual 218, 3) := by decide +kernel
theorem dX12_group_189 : decode cX12_group 189 = .ok (.istore 7, 2) := by decide +kernel
theorem dX12_group_191 : decode cX12_group 191 = .ok (.iload 5, 2) := by decide +kernel
theorem dX12_group_193 : decode cX12_group 193 = .ok (.istore 8, 2) := by decide +kernel
theorem dX12_group_195 : decode cX12_group 195 = .ok (.iload 8, 2) := by decide +kernel
theorem dX12_group_197 : decode cX12_group 197 = .ok (.iload 6, 2) := by decide +kernel
theorem dX12_group_199 : decode cX12_group 199 = .ok (.if_icmp .ge 93, 3) := by decide +kernel
theorem dX12_group_202 : decode cX12_group 202 = .ok (.aload_n 0, 1) := by decide +kernel
theorem dX12_group_203 : decode cX12_group 203 = .ok (.iload_n 1, 1) := by decide +kernel
theorem dX12_group_204 : decode cX12_group 204 = .ok (.iload 8, 2) := by decide +kernel
theorem dX12_group_206 : decode cX12_group 206 = .ok (.invokevirtual 280, 3) := by decide +kernel
theorem dX12_group_209 : decode cX12_group 209 = .ok (.istore 9, 2) := by decide +kernel
theorem dX12_group_211 : decode cX12_group 211 = .ok (.iload_n 3, 1) := by decide +kernel
theorem dX12_group_212 : decode cX12_group 212 = .ok (.iconst 2, 1) := by decide +kernel
theorem dX12_group_213 : decode cX12_group 213 = .ok (.if_icmp .ne 15, 3) := by decide +kernel
theorem dX12_group_216 : decode cX12_group 216 = .ok (.iload 7, 2) := by decide +kernel
theorem dX12_group_218 : decode cX12_group 218 = .ok (.aload_n 0, 1) := by decide +kernel
theorem dX12_group_219 : decode cX12_group 219 = .ok (.getfield 20, 3) := by decide +kernel
theorem dX12_group_222 : decode cX12_group 222 = .ok (.iload 9, 2) := by decide +kernel
theorem dX12_group_224 : decode cX12_group 224 = .ok (.iaload, 1) := by decide +kernel
theorem dX12_group_225 : decode cX12_group 225 = .ok (.iadd, 1) := by decide +kernel
theorem dX12_group_226 : decode cX12_group 226 = .ok (.istore 7, 2) := by decide +kernel
theorem dX12_group_228 : decode cX12_group 228 = .ok (.iload_n 3, 1) := by decide +kernel
theorem dX12_group_229 : decode cX12_group 229 = .ok (.iconst 3, 1) := by decide +kernel
theorem dX12_group_230 : decode cX12_group 230 = .ok (.if_icmp .ne 27, 3) := by decide +kernel
theorem dX12_group_233 : decode cX12_group 233 = .ok (.aload_n 0, 1) := by decide +kernel
theorem dX12_group_234 : decode cX12_group 234 = .ok (.iload 9, 2) := by decide +kernel
theorem dX12_group_236 : decode cX12_group 236 = .ok (.invokevirtual 215, 3) := by decide +kernel
theorem dX12_group_239 : decode cX12_group 239 = .ok (.iload 7, 2) := by decide +kernel
theorem dX12_group_241 : decode cX12_group 241 = .ok (.if_icmp .ge 12, 3) := by decide +kernel
theorem dX12_group_244 : decode cX12_group 244 = .ok (.aload_n 0, 1) := by decide +kernel
