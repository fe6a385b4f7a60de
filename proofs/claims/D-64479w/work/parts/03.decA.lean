set_option maxRecDepth 100000
theorem dX2_init_0 : decode cX2_init 0 = .ok (.aload_n 0, 1) := by decide +kernel
theorem dX2_init_1 : decode cX2_init 1 = .ok (.invokespecial 1, 3) := by decide +kernel
theorem dX2_init_4 : decode cX2_init 4 = .ok (.aload_n 0, 1) := by decide +kernel
theorem dX2_init_5 : decode cX2_init 5 = .ok (.iload_n 1, 1) := by decide +kernel
theorem dX2_init_6 : decode cX2_init 6 = .ok (.putfield 7, 3) := by decide +kernel
theorem dX2_init_9 : decode cX2_init 9 = .ok (.return_, 1) := by decide +kernel
theorem dX3_init_0 : decode cX3_init 0 = .ok (.aload_n 0, 1) := by decide +kernel
theorem dX3_init_1 : decode cX3_init 1 = .ok (.iload_n 1, 1) := by decide +kernel
theorem dX3_init_2 : decode cX3_init 2 = .ok (.invokespecial 3, 3) := by decide +kernel
theorem dX3_init_5 : decode cX3_init 5 = .ok (.aload_n 0, 1) := by decide +kernel
theorem dX3_init_6 : decode cX3_init 6 = .ok (.aload_n 2, 1) := by decide +kernel
theorem dX3_init_7 : decode cX3_init 7 = .ok (.putfield 9, 3) := by decide +kernel
theorem dX3_init_10 : decode cX3_init 10 = .ok (.return_, 1) := by decide +kernel
theorem dX3_isQuiet_0 : decode cX3_isQuiet 0 = .ok (.iconst 1, 1) := by decide +kernel
theorem dX3_isQuiet_1 : decode cX3_isQuiet 1 = .ok (.ireturn, 1) := by decide +kernel
theorem dX3_take_0 : decode cX3_take 0 = .ok (.aload_n 0, 1) := by decide +kernel
theorem dX3_take_1 : decode cX3_take 1 = .ok (.getfield 9, 3) := by decide +kernel
theorem dX3_take_4 : decode cX3_take 4 = .ok (.astore 7, 2) := by decide +kernel
theorem dX3_take_6 : decode cX3_take 6 = .ok (.aload_n 0, 1) := by decide +kernel
theorem dX3_take_7 : decode cX3_take 7 = .ok (.getfield 50, 3) := by decide +kernel
theorem dX3_take_10 : decode cX3_take 10 = .ok (.iload_n 2, 1) := by decide +kernel
theorem dX3_take_11 : decode cX3_take 11 = .ok (.if_icmp .eq 58, 3) := by decide +kernel
theorem dX3_take_14 : decode cX3_take 14 = .ok (.new 16, 3) := by decide +kernel
theorem dX3_take_17 : decode cX3_take 17 = .ok (.dup, 1) := by decide +kernel
theorem dX3_take_18 : decode cX3_take 18 = .ok (.invokespecial 53, 3) := by decide +kernel
theorem dX3_take_21 : decode cX3_take 21 = .ok (.astore 7, 2) := by decide +kernel
theorem dX3_take_23 : decode cX3_take 23 = .ok (.iconst 0, 1) := by decide +kernel
theorem dX3_take_24 : decode cX3_take 24 = .ok (.istore 8, 2) := by decide +kernel
theorem dX3_take_26 : decode cX3_take 26 = .ok (.iload 8, 2) := by decide +kernel
theorem dX3_take_28 : decode cX3_take 28 = .ok (.aload_n 0, 1) := by decide +kernel
theorem dX3_take_29 : decode cX3_take 29 = .ok (.getfield 9, 3) := by decide +kernel
theorem dX3_take_32 : decode cX3_take 32 = .ok (.getfield 36, 3) := by decide +kernel
theorem dX3_take_35 : decode cX3_take 35 = .ok (.if_icmp .ge 34, 3) := by decide +kernel
theorem dX3_take_38 : decode cX3_take 38 = .ok (.aload 7, 2) := by decide +kernel
theorem dX3_take_40 : decode cX3_take 40 = .ok (.aload_n 0, 1) := by decide +kernel
theorem dX3_take_41 : decode cX3_take 41 = .ok (.getfield 9, 3) := by decide +kernel
theorem dX3_take_44 : decode cX3_take 44 = .ok (.getfield 24, 3) := by decide +kernel
theorem dX3_take_47 : decode cX3_take 47 = .ok (.iload 8, 2) := by decide +kernel
theorem dX3_take_49 : decode cX3_take 49 = .ok (.iaload, 1) := by decide +kernel
theorem dX3_take_50 : decode cX3_take 50 = .ok (.aload_n 0, 1) := by decide +kernel
theorem dX3_take_51 : decode cX3_take 51 = .ok (.getfield 9, 3) := by decide +kernel
theorem dX3_take_54 : decode cX3_take 54 = .ok (.getfield 28, 3) := by decide +kernel
theorem dX3_take_57 : decode cX3_take 57 = .ok (.iload 8, 2) := by decide +kernel
theorem dX3_take_59 : decode cX3_take 59 = .ok (.laload, 1) := by decide +kernel
theorem dX3_take_60 : decode cX3_take 60 = .ok (.invokevirtual 32, 3) := by decide +kernel
theorem dX3_take_63 : decode cX3_take 63 = .ok (.iinc 8 1, 3) := by decide +kernel
theorem dX3_take_66 : decode cX3_take 66 = .ok (.goto (-40), 3) := by decide +kernel
theorem dX3_take_69 : decode cX3_take 69 = .ok (.iconst 0, 1) := by decide +kernel
theorem dX3_take_70 : decode cX3_take 70 = .ok (.istore 8, 2) := by decide +kernel
theorem dX3_take_72 : decode cX3_take 72 = .ok (.iload 8, 2) := by decide +kernel
theorem dX3_take_74 : decode cX3_take 74 = .ok (.aload_n 1, 1) := by decide +kernel
theorem dX3_take_75 : decode cX3_take 75 = .ok (.getfield 56, 3) := by decide +kernel
theorem dX3_take_78 : decode cX3_take 78 = .ok (.if_icmp .ge 21, 3) := by decide +kernel
theorem dX3_take_81 : decode cX3_take 81 = .ok (.aload 7, 2) := by decide +kernel
theorem dX3_take_83 : decode cX3_take 83 = .ok (.aload_n 1, 1) := by decide +kernel
theorem dX3_take_84 : decode cX3_take 84 = .ok (.getfield 59, 3) := by decide +kernel
theorem dX3_take_87 : decode cX3_take 87 = .ok (.iload 8, 2) := by decide +kernel
theorem dX3_take_89 : decode cX3_take 89 = .ok (.aaload, 1) := by decide +kernel
theorem dX3_take_90 : decode cX3_take 90 = .ok (.invokevirtual 62, 3) := by decide +kernel
theorem dX3_take_93 : decode cX3_take 93 = .ok (.iinc 8 1, 3) := by decide +kernel
theorem dX3_take_96 : decode cX3_take 96 = .ok (.goto (-24), 3) := by decide +kernel
theorem dX3_take_99 : decode cX3_take 99 = .ok (.aload_n 0, 1) := by decide +kernel
theorem dX3_take_100 : decode cX3_take 100 = .ok (.getfield 50, 3) := by decide +kernel
theorem dX3_take_103 : decode cX3_take 103 = .ok (.iload_n 2, 1) := by decide +kernel
theorem dX3_take_104 : decode cX3_take 104 = .ok (.if_icmp .ne 28, 3) := by decide +kernel
theorem dX3_take_107 : decode cX3_take 107 = .ok (.aload 7, 2) := by decide +kernel
theorem dX3_take_109 : decode cX3_take 109 = .ok (.getfield 36, 3) := by decide +kernel
theorem dX3_take_112 : decode cX3_take 112 = .ok (.bipush 16, 2) := by decide +kernel
theorem dX3_take_114 : decode cX3_take 114 = .ok (.if_icmp .gt 18, 3) := by decide +kernel
theorem dX3_take_117 : decode cX3_take 117 = .ok (.aload 5, 2) := by decide +kernel
theorem dX3_take_119 : decode cX3_take 119 = .ok (.iload 6, 2) := by decide +kernel
theorem dX3_take_121 : decode cX3_take 121 = .ok (.invokevirtual 66, 3) := by decide +kernel
theorem dX3_take_124 : decode cX3_take 124 = .ok (.aload_n 0, 1) := by decide +kernel
theorem dX3_take_125 : decode cX3_take 125 = .ok (.iload_n 3, 1) := by decide +kernel
theorem dX3_take_126 : decode cX3_take 126 = .ok (.invokevirtual 72, 3) := by decide +kernel
theorem dX3_take_129 : decode cX3_take 129 = .ok (.goto 17, 3) := by decide +kernel
theorem dX3_take_132 : decode cX3_take 132 = .ok (.aload 7, 2) := by decide +kernel
theorem dX3_take_134 : decode cX3_take 134 = .ok (.iload_n 2, 1) := by decide +kernel
theorem dX3_take_135 : decode cX3_take 135 = .ok (.iload_n 3, 1) := by decide +kernel
theorem dX3_take_136 : decode cX3_take 136 = .ok (.aload 5, 2) := by decide +kernel
theorem dX3_take_138 : decode cX3_take 138 = .ok (.iload 6, 2) := by decide +kernel
theorem dX3_take_140 : decode cX3_take 140 = .ok (.invokevirtual 66, 3) := by decide +kernel
theorem dX3_take_143 : decode cX3_take 143 = .ok (.invokestatic 77, 3) := by decide +kernel
theorem dX3_take_146 : decode cX3_take 146 = .ok (.areturn, 1) := by decide +kernel
theorem dX3_parts_0 : decode cX3_parts 0 = .ok (.aload_n 0, 1) := by decide +kernel
theorem dX3_parts_1 : decode cX3_parts 1 = .ok (.getfield 36, 3) := by decide +kernel
theorem dX3_parts_4 : decode cX3_parts 4 = .ok (.bipush 16, 2) := by decide +kernel
theorem dX3_parts_6 : decode cX3_parts 6 = .ok (.if_icmp .gt 18, 3) := by decide +kernel
theorem dX3_parts_9 : decode cX3_parts 9 = .ok (.aload_n 3, 1) := by decide +kernel
theorem dX3_parts_10 : decode cX3_parts 10 = .ok (.new 10, 3) := by decide +kernel
theorem dX3_parts_13 : decode cX3_parts 13 = .ok (.dup, 1) := by decide +kernel
theorem dX3_parts_14 : decode cX3_parts 14 = .ok (.iload_n 1, 1) := by decide +kernel
theorem dX3_parts_15 : decode cX3_parts 15 = .ok (.aload_n 0, 1) := by decide +kernel
theorem dX3_parts_16 : decode cX3_parts 16 = .ok (.invokespecial 81, 3) := by decide +kernel
theorem dX3_parts_19 : decode cX3_parts 19 = .ok (.iload_n 2, 1) := by decide +kernel
theorem dX3_parts_20 : decode cX3_parts 20 = .ok (.invokevirtual 72, 3) := by decide +kernel
theorem dX3_parts_23 : decode cX3_parts 23 = .ok (.areturn, 1) := by decide +kernel
theorem dX3_parts_24 : decode cX3_parts 24 = .ok (.aload_n 0, 1) := by decide +kernel
theorem dX3_parts_25 : decode cX3_parts 25 = .ok (.getfield 36, 3) := by decide +kernel
theorem dX3_parts_28 : decode cX3_parts 28 = .ok (.bipush 16, 2) := by decide +kernel
theorem dX3_parts_30 : decode cX3_parts 30 = .ok (.iadd, 1) := by decide +kernel
theorem dX3_parts_31 : decode cX3_parts 31 = .ok (.iconst 1, 1) := by decide +kernel
theorem dX3_parts_32 : decode cX3_parts 32 = .ok (.isub, 1) := by decide +kernel
theorem dX3_parts_33 : decode cX3_parts 33 = .ok (.bipush 16, 2) := by decide +kernel
theorem dX3_parts_35 : decode cX3_parts 35 = .ok (.idiv, 1) := by decide +kernel
theorem dX3_parts_36 : decode cX3_parts 36 = .ok (.istore 4, 2) := by decide +kernel
theorem dX3_parts_38 : decode cX3_parts 38 = .ok (.iconst 0, 1) := by decide +kernel
theorem dX3_parts_39 : decode cX3_parts 39 = .ok (.istore 5, 2) := by decide +kernel
theorem dX3_parts_41 : decode cX3_parts 41 = .ok (.iload 5, 2) := by decide +kernel
theorem dX3_parts_43 : decode cX3_parts 43 = .ok (.iload 4, 2) := by decide +kernel
theorem dX3_parts_45 : decode cX3_parts 45 = .ok (.if_icmp .ge 111, 3) := by decide +kernel
theorem dX3_parts_48 : decode cX3_parts 48 = .ok (.new 16, 3) := by decide +kernel
theorem dX3_parts_51 : decode cX3_parts 51 = .ok (.dup, 1) := by decide +kernel
theorem dX3_parts_52 : decode cX3_parts 52 = .ok (.invokespecial 53, 3) := by decide +kernel
theorem dX3_parts_55 : decode cX3_parts 55 = .ok (.astore 6, 2) := by decide +kernel
theorem dX3_parts_57 : decode cX3_parts 57 = .ok (.aload_n 0, 1) := by decide +kernel
theorem dX3_parts_58 : decode cX3_parts 58 = .ok (.getfield 36, 3) := by decide +kernel
theorem dX3_parts_61 : decode cX3_parts 61 = .ok (.iload 5, 2) := by decide +kernel
theorem dX3_parts_63 : decode cX3_parts 63 = .ok (.imul, 1) := by decide +kernel
theorem dX3_parts_64 : decode cX3_parts 64 = .ok (.iload 4, 2) := by decide +kernel
theorem dX3_parts_66 : decode cX3_parts 66 = .ok (.idiv, 1) := by decide +kernel
theorem dX3_parts_67 : decode cX3_parts 67 = .ok (.istore 7, 2) := by decide +kernel
theorem dX3_parts_69 : decode cX3_parts 69 = .ok (.aload_n 0, 1) := by decide +kernel
theorem dX3_parts_70 : decode cX3_parts 70 = .ok (.getfield 36, 3) := by decide +kernel
theorem dX3_parts_73 : decode cX3_parts 73 = .ok (.iload 5, 2) := by decide +kernel
theorem dX3_parts_75 : decode cX3_parts 75 = .ok (.iconst 1, 1) := by decide +kernel
theorem dX3_parts_76 : decode cX3_parts 76 = .ok (.iadd, 1) := by decide +kernel
theorem dX3_parts_77 : decode cX3_parts 77 = .ok (.imul, 1) := by decide +kernel
theorem dX3_parts_78 : decode cX3_parts 78 = .ok (.iload 4, 2) := by decide +kernel
theorem dX3_parts_80 : decode cX3_parts 80 = .ok (.idiv, 1) := by decide +kernel
theorem dX3_parts_81 : decode cX3_parts 81 = .ok (.istore 8, 2) := by decide +kernel
theorem dX3_parts_83 : decode cX3_parts 83 = .ok (.iload 7, 2) := by decide +kernel
theorem dX3_parts_85 : decode cX3_parts 85 = .ok (.istore 9, 2) := by decide +kernel
theorem dX3_parts_87 : decode cX3_parts 87 = .ok (.iload 9, 2) := by decide +kernel
theorem dX3_parts_89 : decode cX3_parts 89 = .ok (.iload 8, 2) := by decide +kernel
theorem dX3_parts_91 : decode cX3_parts 91 = .ok (.if_icmp .ge 28, 3) := by decide +kernel
theorem dX3_parts_94 : decode cX3_parts 94 = .ok (.aload 6, 2) := by decide +kernel
theorem dX3_parts_96 : decode cX3_parts 96 = .ok (.aload_n 0, 1) := by decide +kernel
theorem dX3_parts_97 : decode cX3_parts 97 = .ok (.getfield 24, 3) := by decide +kernel
theorem dX3_parts_100 : decode cX3_parts 100 = .ok (.iload 9, 2) := by decide +kernel
theorem dX3_parts_102 : decode cX3_parts 102 = .ok (.iaload, 1) := by decide +kernel
theorem dX3_parts_103 : decode cX3_parts 103 = .ok (.aload_n 0, 1) := by decide +kernel
theorem dX3_parts_104 : decode cX3_parts 104 = .ok (.getfield 28, 3) := by decide +kernel
theorem dX3_parts_107 : decode cX3_parts 107 = .ok (.iload 9, 2) := by decide +kernel
theorem dX3_parts_109 : decode cX3_parts 109 = .ok (.laload, 1) := by decide +kernel
theorem dX3_parts_110 : decode cX3_parts 110 = .ok (.invokevirtual 32, 3) := by decide +kernel
theorem dX3_parts_113 : decode cX3_parts 113 = .ok (.iinc 9 1, 3) := by decide +kernel
theorem dX3_parts_116 : decode cX3_parts 116 = .ok (.goto (-29), 3) := by decide +kernel
theorem dX3_parts_119 : decode cX3_parts 119 = .ok (.aload_n 3, 1) := by decide +kernel
theorem dX3_parts_120 : decode cX3_parts 120 = .ok (.new 10, 3) := by decide +kernel
theorem dX3_parts_123 : decode cX3_parts 123 = .ok (.dup, 1) := by decide +kernel
theorem dX3_parts_124 : decode cX3_parts 124 = .ok (.iload_n 1, 1) := by decide +kernel
theorem dX3_parts_125 : decode cX3_parts 125 = .ok (.aload 6, 2) := by decide +kernel
theorem dX3_parts_127 : decode cX3_parts 127 = .ok (.invokespecial 81, 3) := by decide +kernel
theorem dX3_parts_130 : decode cX3_parts 130 = .ok (.iload 5, 2) := by decide +kernel
theorem dX3_parts_132 : decode cX3_parts 132 = .ok (.ifCond .ne 7, 3) := by decide +kernel
theorem dX3_parts_135 : decode cX3_parts 135 = .ok (.iload_n 2, 1) := by decide +kernel
theorem dX3_parts_136 : decode cX3_parts 136 = .ok (.goto 10, 3) := by decide +kernel
theorem dX3_parts_139 : decode cX3_parts 139 = .ok (.aload 6, 2) := by decide +kernel
theorem dX3_parts_141 : decode cX3_parts 141 = .ok (.getfield 24, 3) := by decide +kernel
theorem dX3_parts_144 : decode cX3_parts 144 = .ok (.iconst 0, 1) := by decide +kernel
theorem dX3_parts_145 : decode cX3_parts 145 = .ok (.iaload, 1) := by decide +kernel
theorem dX3_parts_146 : decode cX3_parts 146 = .ok (.invokevirtual 72, 3) := by decide +kernel
theorem dX3_parts_149 : decode cX3_parts 149 = .ok (.pop, 1) := by decide +kernel
theorem dX3_parts_150 : decode cX3_parts 150 = .ok (.iinc 5 1, 3) := by decide +kernel
theorem dX3_parts_153 : decode cX3_parts 153 = .ok (.goto (-112), 3) := by decide +kernel
theorem dX3_parts_156 : decode cX3_parts 156 = .ok (.aload_n 3, 1) := by decide +kernel
theorem dX3_parts_157 : decode cX3_parts 157 = .ok (.areturn, 1) := by decide +kernel
theorem dX3_settle_0 : decode cX3_settle 0 = .ok (.aload 4, 2) := by decide +kernel
theorem dX3_settle_2 : decode cX3_settle 2 = .ok (.iload 5, 2) := by decide +kernel
theorem dX3_settle_4 : decode cX3_settle 4 = .ok (.invokevirtual 66, 3) := by decide +kernel
theorem dX3_settle_7 : decode cX3_settle 7 = .ok (.aload_n 0, 1) := by decide +kernel
theorem dX3_settle_8 : decode cX3_settle 8 = .ok (.iload_n 2, 1) := by decide +kernel
theorem dX3_settle_9 : decode cX3_settle 9 = .ok (.invokevirtual 72, 3) := by decide +kernel
theorem dX3_settle_12 : decode cX3_settle 12 = .ok (.areturn, 1) := by decide +kernel
theorem dX3_collect_0 : decode cX3_collect 0 = .ok (.aload_n 0, 1) := by decide +kernel
theorem dX3_collect_1 : decode cX3_collect 1 = .ok (.getfield 9, 3) := by decide +kernel
theorem dX3_collect_4 : decode cX3_collect 4 = .ok (.iload_n 2, 1) := by decide +kernel
theorem dX3_collect_5 : decode cX3_collect 5 = .ok (.invokevirtual 15, 3) := by decide +kernel
theorem dX3_collect_8 : decode cX3_collect 8 = .ok (.istore 6, 2) := by decide +kernel
theorem dX3_collect_10 : decode cX3_collect 10 = .ok (.aload_n 0, 1) := by decide +kernel
theorem dX3_collect_11 : decode cX3_collect 11 = .ok (.getfield 9, 3) := by decide +kernel
theorem dX3_collect_14 : decode cX3_collect 14 = .ok (.iload_n 1, 1) := by decide +kernel
theorem dX3_collect_15 : decode cX3_collect 15 = .ok (.invokevirtual 21, 3) := by decide +kernel
theorem dX3_collect_18 : decode cX3_collect 18 = .ok (.istore 7, 2) := by decide +kernel
theorem dX3_collect_20 : decode cX3_collect 20 = .ok (.iload 7, 2) := by decide +kernel
theorem dX3_collect_22 : decode cX3_collect 22 = .ok (.iload 6, 2) := by decide +kernel
theorem dX3_collect_24 : decode cX3_collect 24 = .ok (.if_icmp .ge 33, 3) := by decide +kernel
theorem dX3_collect_27 : decode cX3_collect 27 = .ok (.aload_n 3, 1) := by decide +kernel
theorem dX3_collect_28 : decode cX3_collect 28 = .ok (.aload_n 0, 1) := by decide +kernel
theorem dX3_collect_29 : decode cX3_collect 29 = .ok (.getfield 9, 3) := by decide +kernel
theorem dX3_collect_32 : decode cX3_collect 32 = .ok (.getfield 24, 3) := by decide +kernel
theorem dX3_collect_35 : decode cX3_collect 35 = .ok (.iload 7, 2) := by decide +kernel
theorem dX3_collect_37 : decode cX3_collect 37 = .ok (.iaload, 1) := by decide +kernel
theorem dX3_collect_38 : decode cX3_collect 38 = .ok (.aload_n 0, 1) := by decide +kernel
theorem dX3_collect_39 : decode cX3_collect 39 = .ok (.getfield 9, 3) := by decide +kernel
theorem dX3_collect_42 : decode cX3_collect 42 = .ok (.getfield 28, 3) := by decide +kernel
theorem dX3_collect_45 : decode cX3_collect 45 = .ok (.iload 7, 2) := by decide +kernel
theorem dX3_collect_47 : decode cX3_collect 47 = .ok (.laload, 1) := by decide +kernel
theorem dX3_collect_48 : decode cX3_collect 48 = .ok (.invokevirtual 32, 3) := by decide +kernel
theorem dX3_collect_51 : decode cX3_collect 51 = .ok (.iinc 7 1, 3) := by decide +kernel
theorem dX3_collect_54 : decode cX3_collect 54 = .ok (.goto (-34), 3) := by decide +kernel
theorem dX3_collect_57 : decode cX3_collect 57 = .ok (.return_, 1) := by decide +kernel
theorem dX3_isSound_0 : decode cX3_isSound 0 = .ok (.aload_n 0, 1) := by decide +kernel
theorem dX3_isSound_1 : decode cX3_isSound 1 = .ok (.getfield 9, 3) := by decide +kernel
theorem dX3_isSound_4 : decode cX3_isSound 4 = .ok (.getfield 36, 3) := by decide +kernel
theorem dX3_isSound_7 : decode cX3_isSound 7 = .ok (.bipush 16, 2) := by decide +kernel
theorem dX3_isSound_9 : decode cX3_isSound 9 = .ok (.if_icmp .gt 7, 3) := by decide +kernel
theorem dX3_isSound_12 : decode cX3_isSound 12 = .ok (.iconst 1, 1) := by decide +kernel
theorem dX3_isSound_13 : decode cX3_isSound 13 = .ok (.goto 4, 3) := by decide +kernel
theorem dX3_isSound_16 : decode cX3_isSound 16 = .ok (.iconst 0, 1) := by decide +kernel
theorem dX3_isSound_17 : decode cX3_isSound 17 = .ok (.istore_n 3, 1) := by decide +kernel
theorem dX3_isSound_18 : decode cX3_isSound 18 = .ok (.iconst 0, 1) := by decide +kernel
theorem dX3_isSound_19 : decode cX3_isSound 19 = .ok (.istore 4, 2) := by decide +kernel
theorem dX3_isSound_21 : decode cX3_isSound 21 = .ok (.iload 4, 2) := by decide +kernel
theorem dX3_isSound_23 : decode cX3_isSound 23 = .ok (.aload_n 0, 1) := by decide +kernel
theorem dX3_isSound_24 : decode cX3_isSound 24 = .ok (.getfield 9, 3) := by decide +kernel
theorem dX3_isSound_27 : decode cX3_isSound 27 = .ok (.getfield 36, 3) := by decide +kernel
theorem dX3_isSound_30 : decode cX3_isSound 30 = .ok (.if_icmp .ge 75, 3) := by decide +kernel
theorem dX3_isSound_33 : decode cX3_isSound 33 = .ok (.iload_n 3, 1) := by decide +kernel
theorem dX3_isSound_34 : decode cX3_isSound 34 = .ok (.aload_n 0, 1) := by decide +kernel
theorem dX3_isSound_35 : decode cX3_isSound 35 = .ok (.getfield 9, 3) := by decide +kernel
theorem dX3_isSound_38 : decode cX3_isSound 38 = .ok (.getfield 24, 3) := by decide +kernel
theorem dX3_isSound_41 : decode cX3_isSound 41 = .ok (.iload 4, 2) := by decide +kernel
theorem dX3_isSound_43 : decode cX3_isSound 43 = .ok (.iaload, 1) := by decide +kernel
theorem dX3_isSound_44 : decode cX3_isSound 44 = .ok (.iload_n 1, 1) := by decide +kernel
theorem dX3_isSound_45 : decode cX3_isSound 45 = .ok (.if_icmp .lt 51, 3) := by decide +kernel
theorem dX3_isSound_48 : decode cX3_isSound 48 = .ok (.aload_n 0, 1) := by decide +kernel
theorem dX3_isSound_49 : decode cX3_isSound 49 = .ok (.getfield 9, 3) := by decide +kernel
theorem dX3_isSound_52 : decode cX3_isSound 52 = .ok (.getfield 24, 3) := by decide +kernel
theorem dX3_isSound_55 : decode cX3_isSound 55 = .ok (.iload 4, 2) := by decide +kernel
theorem dX3_isSound_57 : decode cX3_isSound 57 = .ok (.iaload, 1) := by decide +kernel
theorem dX3_isSound_58 : decode cX3_isSound 58 = .ok (.iload_n 2, 1) := by decide +kernel
theorem dX3_isSound_59 : decode cX3_isSound 59 = .ok (.if_icmp .gt 37, 3) := by decide +kernel
theorem dX3_isSound_62 : decode cX3_isSound 62 = .ok (.iload 4, 2) := by decide +kernel
theorem dX3_isSound_64 : decode cX3_isSound 64 = .ok (.ifCond .eq 28, 3) := by decide +kernel
theorem dX3_isSound_67 : decode cX3_isSound 67 = .ok (.aload_n 0, 1) := by decide +kernel
theorem dX3_isSound_68 : decode cX3_isSound 68 = .ok (.getfield 9, 3) := by decide +kernel
theorem dX3_isSound_71 : decode cX3_isSound 71 = .ok (.getfield 24, 3) := by decide +kernel
theorem dX3_isSound_74 : decode cX3_isSound 74 = .ok (.iload 4, 2) := by decide +kernel
theorem dX3_isSound_76 : decode cX3_isSound 76 = .ok (.iconst 1, 1) := by decide +kernel
theorem dX3_isSound_77 : decode cX3_isSound 77 = .ok (.isub, 1) := by decide +kernel
theorem dX3_isSound_78 : decode cX3_isSound 78 = .ok (.iaload, 1) := by decide +kernel
theorem dX3_isSound_79 : decode cX3_isSound 79 = .ok (.aload_n 0, 1) := by decide +kernel
theorem dX3_isSound_80 : decode cX3_isSound 80 = .ok (.getfield 9, 3) := by decide +kernel
theorem dX3_isSound_83 : decode cX3_isSound 83 = .ok (.getfield 24, 3) := by decide +kernel
theorem dX3_isSound_86 : decode cX3_isSound 86 = .ok (.iload 4, 2) := by decide +kernel
theorem dX3_isSound_88 : decode cX3_isSound 88 = .ok (.iaload, 1) := by decide +kernel
theorem dX3_isSound_89 : decode cX3_isSound 89 = .ok (.if_icmp .ge 7, 3) := by decide +kernel
theorem dX3_isSound_92 : decode cX3_isSound 92 = .ok (.iconst 1, 1) := by decide +kernel
theorem dX3_isSound_93 : decode cX3_isSound 93 = .ok (.goto 4, 3) := by decide +kernel
theorem dX3_isSound_96 : decode cX3_isSound 96 = .ok (.iconst 0, 1) := by decide +kernel
theorem dX3_isSound_97 : decode cX3_isSound 97 = .ok (.iand, 1) := by decide +kernel
theorem dX3_isSound_98 : decode cX3_isSound 98 = .ok (.istore_n 3, 1) := by decide +kernel
theorem dX3_isSound_99 : decode cX3_isSound 99 = .ok (.iinc 4 1, 3) := by decide +kernel
theorem dX3_isSound_102 : decode cX3_isSound 102 = .ok (.goto (-81), 3) := by decide +kernel
theorem dX3_isSound_105 : decode cX3_isSound 105 = .ok (.iload_n 3, 1) := by decide +kernel
theorem dX3_isSound_106 : decode cX3_isSound 106 = .ok (.ireturn, 1) := by decide +kernel
theorem dX3_read_0 : decode cX3_read 0 = .ok (.aload_n 0, 1) := by decide +kernel
theorem dX3_read_1 : decode cX3_read 1 = .ok (.getfield 9, 3) := by decide +kernel
theorem dX3_read_4 : decode cX3_read 4 = .ok (.iload_n 1, 1) := by decide +kernel
theorem dX3_read_5 : decode cX3_read 5 = .ok (.invokevirtual 21, 3) := by decide +kernel
theorem dX3_read_8 : decode cX3_read 8 = .ok (.istore_n 3, 1) := by decide +kernel
theorem dX3_read_9 : decode cX3_read 9 = .ok (.aload_n 2, 1) := by decide +kernel
theorem dX3_read_10 : decode cX3_read 10 = .ok (.iload_n 3, 1) := by decide +kernel
theorem dX3_read_11 : decode cX3_read 11 = .ok (.aload_n 0, 1) := by decide +kernel
theorem dX3_read_12 : decode cX3_read 12 = .ok (.getfield 9, 3) := by decide +kernel
theorem dX3_read_15 : decode cX3_read 15 = .ok (.getfield 36, 3) := by decide +kernel
theorem dX3_read_18 : decode cX3_read 18 = .ok (.if_icmp .ge 20, 3) := by decide +kernel
theorem dX3_read_21 : decode cX3_read 21 = .ok (.aload_n 0, 1) := by decide +kernel
theorem dX3_read_22 : decode cX3_read 22 = .ok (.getfield 9, 3) := by decide +kernel
theorem dX3_read_25 : decode cX3_read 25 = .ok (.getfield 24, 3) := by decide +kernel
theorem dX3_read_28 : decode cX3_read 28 = .ok (.iload_n 3, 1) := by decide +kernel
theorem dX3_read_29 : decode cX3_read 29 = .ok (.iaload, 1) := by decide +kernel
theorem dX3_read_30 : decode cX3_read 30 = .ok (.iload_n 1, 1) := by decide +kernel
theorem dX3_read_31 : decode cX3_read 31 = .ok (.if_icmp .ne 7, 3) := by decide +kernel
theorem dX3_read_34 : decode cX3_read 34 = .ok (.iconst 1, 1) := by decide +kernel
theorem dX3_read_35 : decode cX3_read 35 = .ok (.goto 4, 3) := by decide +kernel
theorem dX3_read_38 : decode cX3_read 38 = .ok (.iconst 0, 1) := by decide +kernel
theorem dX3_read_39 : decode cX3_read 39 = .ok (.putfield 40, 3) := by decide +kernel
theorem dX3_read_42 : decode cX3_read 42 = .ok (.aload_n 2, 1) := by decide +kernel
theorem dX3_read_43 : decode cX3_read 43 = .ok (.aload_n 2, 1) := by decide +kernel
theorem dX3_read_44 : decode cX3_read 44 = .ok (.getfield 40, 3) := by decide +kernel
theorem dX3_read_47 : decode cX3_read 47 = .ok (.ifCond .eq 15, 3) := by decide +kernel
theorem dX3_read_50 : decode cX3_read 50 = .ok (.aload_n 0, 1) := by decide +kernel
theorem dX3_read_51 : decode cX3_read 51 = .ok (.getfield 9, 3) := by decide +kernel
theorem dX3_read_54 : decode cX3_read 54 = .ok (.getfield 28, 3) := by decide +kernel
theorem dX3_read_57 : decode cX3_read 57 = .ok (.iload_n 3, 1) := by decide +kernel
theorem dX3_read_58 : decode cX3_read 58 = .ok (.laload, 1) := by decide +kernel
theorem dX3_read_59 : decode cX3_read 59 = .ok (.goto 4, 3) := by decide +kernel
theorem dX3_read_62 : decode cX3_read 62 = .ok (.lconst 0, 1) := by decide +kernel
theorem dX3_read_63 : decode cX3_read 63 = .ok (.putfield 46, 3) := by decide +kernel
theorem dX3_read_66 : decode cX3_read 66 = .ok (.return_, 1) := by decide +kernel
theorem dX4_init_0 : decode cX4_init 0 = .ok (.aload_n 0, 1) := by decide +kernel
theorem dX4_init_1 : decode cX4_init 1 = .ok (.invokespecial 3, 3) := by decide +kernel
theorem dX4_init_4 : decode cX4_init 4 = .ok (.aload_n 0, 1) := by decide +kernel
theorem dX4_init_5 : decode cX4_init 5 = .ok (.bipush 16, 2) := by decide +kernel
theorem dX4_init_7 : decode cX4_init 7 = .ok (.newarray .int, 2) := by decide +kernel
theorem dX4_init_9 : decode cX4_init 9 = .ok (.putfield 9, 3) := by decide +kernel
theorem dX4_init_12 : decode cX4_init 12 = .ok (.aload_n 0, 1) := by decide +kernel
theorem dX4_init_13 : decode cX4_init 13 = .ok (.bipush 16, 2) := by decide +kernel
theorem dX4_init_15 : decode cX4_init 15 = .ok (.newarray .long, 2) := by decide +kernel
theorem dX4_init_17 : decode cX4_init 17 = .ok (.putfield 15, 3) := by decide +kernel
theorem dX4_init_20 : decode cX4_init 20 = .ok (.return_, 1) := by decide +kernel
theorem dX4_add_0 : decode cX4_add 0 = .ok (.aload_n 0, 1) := by decide +kernel
theorem dX4_add_1 : decode cX4_add 1 = .ok (.aload_n 0, 1) := by decide +kernel
theorem dX4_add_2 : decode cX4_add 2 = .ok (.getfield 19, 3) := by decide +kernel
theorem dX4_add_5 : decode cX4_add 5 = .ok (.iload_n 1, 1) := by decide +kernel
theorem dX4_add_6 : decode cX4_add 6 = .ok (.lload_n 2, 1) := by decide +kernel
theorem dX4_add_7 : decode cX4_add 7 = .ok (.invokevirtual 27, 3) := by decide +kernel
theorem dX4_add_10 : decode cX4_add 10 = .ok (.return_, 1) := by decide +kernel
theorem dX4_insert_0 : decode cX4_insert 0 = .ok (.aload_n 0, 1) := by decide +kernel
theorem dX4_insert_1 : decode cX4_insert 1 = .ok (.getfield 19, 3) := by decide +kernel
theorem dX4_insert_4 : decode cX4_insert 4 = .ok (.aload_n 0, 1) := by decide +kernel
theorem dX4_insert_5 : decode cX4_insert 5 = .ok (.getfield 9, 3) := by decide +kernel
theorem dX4_insert_8 : decode cX4_insert 8 = .ok (.arraylength, 1) := by decide +kernel
theorem dX4_insert_9 : decode cX4_insert 9 = .ok (.if_icmp .ne 77, 3) := by decide +kernel
theorem dX4_insert_12 : decode cX4_insert 12 = .ok (.iconst 2, 1) := by decide +kernel
theorem dX4_insert_13 : decode cX4_insert 13 = .ok (.aload_n 0, 1) := by decide +kernel
theorem dX4_insert_14 : decode cX4_insert 14 = .ok (.getfield 19, 3) := by decide +kernel
theorem dX4_insert_17 : decode cX4_insert 17 = .ok (.imul, 1) := by decide +kernel
theorem dX4_insert_18 : decode cX4_insert 18 = .ok (.newarray .int, 2) := by decide +kernel
theorem dX4_insert_20 : decode cX4_insert 20 = .ok (.astore 5, 2) := by decide +kernel
theorem dX4_insert_22 : decode cX4_insert 22 = .ok (.iconst 2, 1) := by decide +kernel
theorem dX4_insert_23 : decode cX4_insert 23 = .ok (.aload_n 0, 1) := by decide +kernel
theorem dX4_insert_24 : decode cX4_insert 24 = .ok (.getfield 19, 3) := by decide +kernel
theorem dX4_insert_27 : decode cX4_insert 27 = .ok (.imul, 1) := by decide +kernel
theorem dX4_insert_28 : decode cX4_insert 28 = .ok (.newarray .long, 2) := by decide +kernel
theorem dX4_insert_30 : decode cX4_insert 30 = .ok (.astore 6, 2) := by decide +kernel
theorem dX4_insert_32 : decode cX4_insert 32 = .ok (.iconst 0, 1) := by decide +kernel
theorem dX4_insert_33 : decode cX4_insert 33 = .ok (.istore 7, 2) := by decide +kernel
theorem dX4_insert_35 : decode cX4_insert 35 = .ok (.iload 7, 2) := by decide +kernel
theorem dX4_insert_37 : decode cX4_insert 37 = .ok (.aload_n 0, 1) := by decide +kernel
theorem dX4_insert_38 : decode cX4_insert 38 = .ok (.getfield 19, 3) := by decide +kernel
theorem dX4_insert_41 : decode cX4_insert 41 = .ok (.if_icmp .ge 33, 3) := by decide +kernel
theorem dX4_insert_44 : decode cX4_insert 44 = .ok (.aload 5, 2) := by decide +kernel
theorem dX4_insert_46 : decode cX4_insert 46 = .ok (.iload 7, 2) := by decide +kernel
theorem dX4_insert_48 : decode cX4_insert 48 = .ok (.aload_n 0, 1) := by decide +kernel
theorem dX4_insert_49 : decode cX4_insert 49 = .ok (.getfield 9, 3) := by decide +kernel
theorem dX4_insert_52 : decode cX4_insert 52 = .ok (.iload 7, 2) := by decide +kernel
theorem dX4_insert_54 : decode cX4_insert 54 = .ok (.iaload, 1) := by decide +kernel
theorem dX4_insert_55 : decode cX4_insert 55 = .ok (.iastore, 1) := by decide +kernel
theorem dX4_insert_56 : decode cX4_insert 56 = .ok (.aload 6, 2) := by decide +kernel
theorem dX4_insert_58 : decode cX4_insert 58 = .ok (.iload 7, 2) := by decide +kernel
theorem dX4_insert_60 : decode cX4_insert 60 = .ok (.aload_n 0, 1) := by decide +kernel
theorem dX4_insert_61 : decode cX4_insert 61 = .ok (.getfield 15, 3) := by decide +kernel
theorem dX4_insert_64 : decode cX4_insert 64 = .ok (.iload 7, 2) := by decide +kernel
theorem dX4_insert_66 : decode cX4_insert 66 = .ok (.laload, 1) := by decide +kernel
theorem dX4_insert_67 : decode cX4_insert 67 = .ok (.lastore, 1) := by decide +kernel
theorem dX4_insert_68 : decode cX4_insert 68 = .ok (.iinc 7 1, 3) := by decide +kernel
theorem dX4_insert_71 : decode cX4_insert 71 = .ok (.goto (-36), 3) := by decide +kernel
theorem dX4_insert_74 : decode cX4_insert 74 = .ok (.aload_n 0, 1) := by decide +kernel
theorem dX4_insert_75 : decode cX4_insert 75 = .ok (.aload 5, 2) := by decide +kernel
theorem dX4_insert_77 : decode cX4_insert 77 = .ok (.putfield 9, 3) := by decide +kernel
theorem dX4_insert_80 : decode cX4_insert 80 = .ok (.aload_n 0, 1) := by decide +kernel
theorem dX4_insert_81 : decode cX4_insert 81 = .ok (.aload 6, 2) := by decide +kernel
theorem dX4_insert_83 : decode cX4_insert 83 = .ok (.putfield 15, 3) := by decide +kernel
theorem dX4_insert_86 : decode cX4_insert 86 = .ok (.aload_n 0, 1) := by decide +kernel
theorem dX4_insert_87 : decode cX4_insert 87 = .ok (.getfield 19, 3) := by decide +kernel
theorem dX4_insert_90 : decode cX4_insert 90 = .ok (.istore 5, 2) := by decide +kernel
theorem dX4_insert_92 : decode cX4_insert 92 = .ok (.iload 5, 2) := by decide +kernel
theorem dX4_insert_94 : decode cX4_insert 94 = .ok (.iload_n 1, 1) := by decide +kernel
theorem dX4_insert_95 : decode cX4_insert 95 = .ok (.if_icmp .le 41, 3) := by decide +kernel
theorem dX4_insert_98 : decode cX4_insert 98 = .ok (.aload_n 0, 1) := by decide +kernel
theorem dX4_insert_99 : decode cX4_insert 99 = .ok (.getfield 9, 3) := by decide +kernel
theorem dX4_insert_102 : decode cX4_insert 102 = .ok (.iload 5, 2) := by decide +kernel
theorem dX4_insert_104 : decode cX4_insert 104 = .ok (.aload_n 0, 1) := by decide +kernel
theorem dX4_insert_105 : decode cX4_insert 105 = .ok (.getfield 9, 3) := by decide +kernel
theorem dX4_insert_108 : decode cX4_insert 108 = .ok (.iload 5, 2) := by decide +kernel
theorem dX4_insert_110 : decode cX4_insert 110 = .ok (.iconst 1, 1) := by decide +kernel
theorem dX4_insert_111 : decode cX4_insert 111 = .ok (.isub, 1) := by decide +kernel
theorem dX4_insert_112 : decode cX4_insert 112 = .ok (.iaload, 1) := by decide +kernel
theorem dX4_insert_113 : decode cX4_insert 113 = .ok (.iastore, 1) := by decide +kernel
theorem dX4_insert_114 : decode cX4_insert 114 = .ok (.aload_n 0, 1) := by decide +kernel
theorem dX4_insert_115 : decode cX4_insert 115 = .ok (.getfield 15, 3) := by decide +kernel
theorem dX4_insert_118 : decode cX4_insert 118 = .ok (.iload 5, 2) := by decide +kernel
theorem dX4_insert_120 : decode cX4_insert 120 = .ok (.aload_n 0, 1) := by decide +kernel
theorem dX4_insert_121 : decode cX4_insert 121 = .ok (.getfield 15, 3) := by decide +kernel
theorem dX4_insert_124 : decode cX4_insert 124 = .ok (.iload 5, 2) := by decide +kernel
theorem dX4_insert_126 : decode cX4_insert 126 = .ok (.iconst 1, 1) := by decide +kernel
theorem dX4_insert_127 : decode cX4_insert 127 = .ok (.isub, 1) := by decide +kernel
theorem dX4_insert_128 : decode cX4_insert 128 = .ok (.laload, 1) := by decide +kernel
theorem dX4_insert_129 : decode cX4_insert 129 = .ok (.lastore, 1) := by decide +kernel
theorem dX4_insert_130 : decode cX4_insert 130 = .ok (.iinc 5 (-1), 3) := by decide +kernel
theorem dX4_insert_133 : decode cX4_insert 133 = .ok (.goto (-41), 3) := by decide +kernel
theorem dX4_insert_136 : decode cX4_insert 136 = .ok (.aload_n 0, 1) := by decide +kernel
theorem dX4_insert_137 : decode cX4_insert 137 = .ok (.getfield 9, 3) := by decide +kernel
theorem dX4_insert_140 : decode cX4_insert 140 = .ok (.iload_n 1, 1) := by decide +kernel
theorem dX4_insert_141 : decode cX4_insert 141 = .ok (.iload_n 2, 1) := by decide +kernel
theorem dX4_insert_142 : decode cX4_insert 142 = .ok (.iastore, 1) := by decide +kernel
theorem dX4_insert_143 : decode cX4_insert 143 = .ok (.aload_n 0, 1) := by decide +kernel
theorem dX4_insert_144 : decode cX4_insert 144 = .ok (.getfield 15, 3) := by decide +kernel
theorem dX4_insert_147 : decode cX4_insert 147 = .ok (.iload_n 1, 1) := by decide +kernel
theorem dX4_insert_148 : decode cX4_insert 148 = .ok (.lload_n 3, 1) := by decide +kernel
theorem dX4_insert_149 : decode cX4_insert 149 = .ok (.lastore, 1) := by decide +kernel
theorem dX4_insert_150 : decode cX4_insert 150 = .ok (.aload_n 0, 1) := by decide +kernel
theorem dX4_insert_151 : decode cX4_insert 151 = .ok (.dup, 1) := by decide +kernel
theorem dX4_insert_152 : decode cX4_insert 152 = .ok (.getfield 19, 3) := by decide +kernel
theorem dX4_insert_155 : decode cX4_insert 155 = .ok (.iconst 1, 1) := by decide +kernel
theorem dX4_insert_156 : decode cX4_insert 156 = .ok (.iadd, 1) := by decide +kernel
theorem dX4_insert_157 : decode cX4_insert 157 = .ok (.putfield 19, 3) := by decide +kernel
theorem dX4_insert_160 : decode cX4_insert 160 = .ok (.return_, 1) := by decide +kernel
theorem dX4_take_0 : decode cX4_take 0 = .ok (.aload_n 0, 1) := by decide +kernel
theorem dX4_take_1 : decode cX4_take 1 = .ok (.aload_n 1, 1) := by decide +kernel
theorem dX4_take_2 : decode cX4_take 2 = .ok (.getfield 31, 3) := by decide +kernel
theorem dX4_take_5 : decode cX4_take 5 = .ok (.invokevirtual 23, 3) := by decide +kernel
theorem dX4_take_8 : decode cX4_take 8 = .ok (.istore_n 2, 1) := by decide +kernel
theorem dX4_take_9 : decode cX4_take 9 = .ok (.aload_n 1, 1) := by decide +kernel
theorem dX4_take_10 : decode cX4_take 10 = .ok (.getfield 36, 3) := by decide +kernel
theorem dX4_take_13 : decode cX4_take 13 = .ok (.iconst 1, 1) := by decide +kernel
theorem dX4_take_14 : decode cX4_take 14 = .ok (.if_icmp .ne 19, 3) := by decide +kernel
theorem dX4_take_17 : decode cX4_take 17 = .ok (.aload_n 0, 1) := by decide +kernel
theorem dX4_take_18 : decode cX4_take 18 = .ok (.iload_n 2, 1) := by decide +kernel
theorem dX4_take_19 : decode cX4_take 19 = .ok (.aload_n 0, 1) := by decide +kernel
theorem dX4_take_20 : decode cX4_take 20 = .ok (.aload_n 1, 1) := by decide +kernel
theorem dX4_take_21 : decode cX4_take 21 = .ok (.getfield 39, 3) := by decide +kernel
theorem dX4_take_24 : decode cX4_take 24 = .ok (.invokevirtual 42, 3) := by decide +kernel
theorem dX4_take_27 : decode cX4_take 27 = .ok (.invokevirtual 45, 3) := by decide +kernel
theorem dX4_take_30 : decode cX4_take 30 = .ok (.goto 138, 3) := by decide +kernel
theorem dX4_take_33 : decode cX4_take 33 = .ok (.aload_n 1, 1) := by decide +kernel
theorem dX4_take_34 : decode cX4_take 34 = .ok (.getfield 36, 3) := by decide +kernel
theorem dX4_take_37 : decode cX4_take 37 = .ok (.iconst 4, 1) := by decide +kernel
theorem dX4_take_38 : decode cX4_take 38 = .ok (.if_icmp .ne 48, 3) := by decide +kernel
theorem dX4_take_41 : decode cX4_take 41 = .ok (.iload_n 2, 1) := by decide +kernel
theorem dX4_take_42 : decode cX4_take 42 = .ok (.istore_n 3, 1) := by decide +kernel
theorem dX4_take_43 : decode cX4_take 43 = .ok (.iload_n 3, 1) := by decide +kernel
theorem dX4_take_44 : decode cX4_take 44 = .ok (.aload_n 0, 1) := by decide +kernel
theorem dX4_take_45 : decode cX4_take 45 = .ok (.getfield 19, 3) := by decide +kernel
theorem dX4_take_48 : decode cX4_take 48 = .ok (.if_icmp .ge 35, 3) := by decide +kernel
theorem dX4_take_51 : decode cX4_take 51 = .ok (.aload_n 0, 1) := by decide +kernel
theorem dX4_take_52 : decode cX4_take 52 = .ok (.getfield 9, 3) := by decide +kernel
theorem dX4_take_55 : decode cX4_take 55 = .ok (.iload_n 3, 1) := by decide +kernel
theorem dX4_take_56 : decode cX4_take 56 = .ok (.iaload, 1) := by decide +kernel
theorem dX4_take_57 : decode cX4_take 57 = .ok (.aload_n 1, 1) := by decide +kernel
theorem dX4_take_58 : decode cX4_take 58 = .ok (.getfield 39, 3) := by decide +kernel
theorem dX4_take_61 : decode cX4_take 61 = .ok (.if_icmp .gt 22, 3) := by decide +kernel
theorem dX4_take_64 : decode cX4_take 64 = .ok (.aload_n 0, 1) := by decide +kernel
theorem dX4_take_65 : decode cX4_take 65 = .ok (.getfield 15, 3) := by decide +kernel
theorem dX4_take_68 : decode cX4_take 68 = .ok (.iload_n 3, 1) := by decide +kernel
theorem dX4_take_69 : decode cX4_take 69 = .ok (.dup2, 1) := by decide +kernel
theorem dX4_take_70 : decode cX4_take 70 = .ok (.laload, 1) := by decide +kernel
theorem dX4_take_71 : decode cX4_take 71 = .ok (.aload_n 1, 1) := by decide +kernel
theorem dX4_take_72 : decode cX4_take 72 = .ok (.getfield 49, 3) := by decide +kernel
theorem dX4_take_75 : decode cX4_take 75 = .ok (.ladd, 1) := by decide +kernel
theorem dX4_take_76 : decode cX4_take 76 = .ok (.lastore, 1) := by decide +kernel
theorem dX4_take_77 : decode cX4_take 77 = .ok (.iinc 3 1, 3) := by decide +kernel
theorem dX4_take_80 : decode cX4_take 80 = .ok (.goto (-37), 3) := by decide +kernel
theorem dX4_take_83 : decode cX4_take 83 = .ok (.goto 85, 3) := by decide +kernel
theorem dX4_take_86 : decode cX4_take 86 = .ok (.aload_n 0, 1) := by decide +kernel
theorem dX4_take_87 : decode cX4_take 87 = .ok (.aload_n 1, 1) := by decide +kernel
theorem dX4_take_88 : decode cX4_take 88 = .ok (.getfield 31, 3) := by decide +kernel
theorem dX4_take_91 : decode cX4_take 91 = .ok (.invokevirtual 53, 3) := by decide +kernel
theorem dX4_take_94 : decode cX4_take 94 = .ok (.ifCond .ne 19, 3) := by decide +kernel
theorem dX4_take_97 : decode cX4_take 97 = .ok (.aload_n 0, 1) := by decide +kernel
theorem dX4_take_98 : decode cX4_take 98 = .ok (.iload_n 2, 1) := by decide +kernel
theorem dX4_take_99 : decode cX4_take 99 = .ok (.aload_n 1, 1) := by decide +kernel
theorem dX4_take_100 : decode cX4_take 100 = .ok (.getfield 31, 3) := by decide +kernel
theorem dX4_take_103 : decode cX4_take 103 = .ok (.aload_n 1, 1) := by decide +kernel
theorem dX4_take_104 : decode cX4_take 104 = .ok (.getfield 49, 3) := by decide +kernel
theorem dX4_take_107 : decode cX4_take 107 = .ok (.invokevirtual 27, 3) := by decide +kernel
theorem dX4_take_110 : decode cX4_take 110 = .ok (.goto 58, 3) := by decide +kernel
theorem dX4_take_113 : decode cX4_take 113 = .ok (.aload_n 0, 1) := by decide +kernel
theorem dX4_take_114 : decode cX4_take 114 = .ok (.getfield 15, 3) := by decide +kernel
theorem dX4_take_117 : decode cX4_take 117 = .ok (.iload_n 2, 1) := by decide +kernel
theorem dX4_take_118 : decode cX4_take 118 = .ok (.aload_n 1, 1) := by decide +kernel
theorem dX4_take_119 : decode cX4_take 119 = .ok (.getfield 36, 3) := by decide +kernel
theorem dX4_take_122 : decode cX4_take 122 = .ok (.ifCond .ne 10, 3) := by decide +kernel
theorem dX4_take_125 : decode cX4_take 125 = .ok (.aload_n 1, 1) := by decide +kernel
theorem dX4_take_126 : decode cX4_take 126 = .ok (.getfield 49, 3) := by decide +kernel
theorem dX4_take_129 : decode cX4_take 129 = .ok (.goto 38, 3) := by decide +kernel
theorem dX4_take_132 : decode cX4_take 132 = .ok (.aload_n 1, 1) := by decide +kernel
theorem dX4_take_133 : decode cX4_take 133 = .ok (.getfield 36, 3) := by decide +kernel
theorem dX4_take_136 : decode cX4_take 136 = .ok (.iconst 2, 1) := by decide +kernel
theorem dX4_take_137 : decode cX4_take 137 = .ok (.if_icmp .ne 17, 3) := by decide +kernel
theorem dX4_take_140 : decode cX4_take 140 = .ok (.aload_n 0, 1) := by decide +kernel
theorem dX4_take_141 : decode cX4_take 141 = .ok (.getfield 15, 3) := by decide +kernel
theorem dX4_take_144 : decode cX4_take 144 = .ok (.iload_n 2, 1) := by decide +kernel
theorem dX4_take_145 : decode cX4_take 145 = .ok (.laload, 1) := by decide +kernel
theorem dX4_take_146 : decode cX4_take 146 = .ok (.aload_n 1, 1) := by decide +kernel
theorem dX4_take_147 : decode cX4_take 147 = .ok (.getfield 49, 3) := by decide +kernel
theorem dX4_take_150 : decode cX4_take 150 = .ok (.ladd, 1) := by decide +kernel
theorem dX4_take_151 : decode cX4_take 151 = .ok (.goto 16, 3) := by decide +kernel
theorem dX4_take_154 : decode cX4_take 154 = .ok (.aload_n 0, 1) := by decide +kernel
theorem dX4_take_155 : decode cX4_take 155 = .ok (.getfield 15, 3) := by decide +kernel
theorem dX4_take_158 : decode cX4_take 158 = .ok (.iload_n 2, 1) := by decide +kernel
theorem dX4_take_159 : decode cX4_take 159 = .ok (.laload, 1) := by decide +kernel
theorem dX4_take_160 : decode cX4_take 160 = .ok (.aload_n 1, 1) := by decide +kernel
theorem dX4_take_161 : decode cX4_take 161 = .ok (.getfield 49, 3) := by decide +kernel
theorem dX4_take_164 : decode cX4_take 164 = .ok (.invokestatic 57, 3) := by decide +kernel
theorem dX4_take_167 : decode cX4_take 167 = .ok (.lastore, 1) := by decide +kernel
theorem dX4_take_168 : decode cX4_take 168 = .ok (.return_, 1) := by decide +kernel
theorem dX4_below_0 : decode cX4_below 0 = .ok (.iconst 0, 1) := by decide +kernel
theorem dX4_below_1 : decode cX4_below 1 = .ok (.istore_n 2, 1) := by decide +kernel
theorem dX4_below_2 : decode cX4_below 2 = .ok (.aload_n 0, 1) := by decide +kernel
theorem dX4_below_3 : decode cX4_below 3 = .ok (.getfield 19, 3) := by decide +kernel
theorem dX4_below_6 : decode cX4_below 6 = .ok (.istore_n 3, 1) := by decide +kernel
theorem dX4_below_7 : decode cX4_below 7 = .ok (.iload_n 2, 1) := by decide +kernel
theorem dX4_below_8 : decode cX4_below 8 = .ok (.iload_n 3, 1) := by decide +kernel
theorem dX4_below_9 : decode cX4_below 9 = .ok (.if_icmp .ge 35, 3) := by decide +kernel
theorem dX4_below_12 : decode cX4_below 12 = .ok (.iload_n 2, 1) := by decide +kernel
theorem dX4_below_13 : decode cX4_below 13 = .ok (.iload_n 3, 1) := by decide +kernel
theorem dX4_below_14 : decode cX4_below 14 = .ok (.iadd, 1) := by decide +kernel
theorem dX4_below_15 : decode cX4_below 15 = .ok (.iconst 1, 1) := by decide +kernel
theorem dX4_below_16 : decode cX4_below 16 = .ok (.iushr, 1) := by decide +kernel
theorem dX4_below_17 : decode cX4_below 17 = .ok (.istore 4, 2) := by decide +kernel
theorem dX4_below_19 : decode cX4_below 19 = .ok (.aload_n 0, 1) := by decide +kernel
theorem dX4_below_20 : decode cX4_below 20 = .ok (.getfield 9, 3) := by decide +kernel
theorem dX4_below_23 : decode cX4_below 23 = .ok (.iload 4, 2) := by decide +kernel
theorem dX4_below_25 : decode cX4_below 25 = .ok (.iaload, 1) := by decide +kernel
theorem dX4_below_26 : decode cX4_below 26 = .ok (.iload_n 1, 1) := by decide +kernel
theorem dX4_below_27 : decode cX4_below 27 = .ok (.if_icmp .ge 11, 3) := by decide +kernel
theorem dX4_below_30 : decode cX4_below 30 = .ok (.iload 4, 2) := by decide +kernel
theorem dX4_below_32 : decode cX4_below 32 = .ok (.iconst 1, 1) := by decide +kernel
theorem dX4_below_33 : decode cX4_below 33 = .ok (.iadd, 1) := by decide +kernel
theorem dX4_below_34 : decode cX4_below 34 = .ok (.istore_n 2, 1) := by decide +kernel
theorem dX4_below_35 : decode cX4_below 35 = .ok (.goto 6, 3) := by decide +kernel
theorem dX4_below_38 : decode cX4_below 38 = .ok (.iload 4, 2) := by decide +kernel
theorem dX4_below_40 : decode cX4_below 40 = .ok (.istore_n 3, 1) := by decide +kernel
theorem dX4_below_41 : decode cX4_below 41 = .ok (.goto (-34), 3) := by decide +kernel
theorem dX4_below_44 : decode cX4_below 44 = .ok (.iload_n 2, 1) := by decide +kernel
theorem dX4_below_45 : decode cX4_below 45 = .ok (.ireturn, 1) := by decide +kernel
theorem dX4_upTo_0 : decode cX4_upTo 0 = .ok (.iload_n 1, 1) := by decide +kernel
theorem dX4_upTo_1 : decode cX4_upTo 1 = .ok (.ldc 63, 2) := by decide +kernel
theorem dX4_upTo_3 : decode cX4_upTo 3 = .ok (.if_icmp .ne 10, 3) := by decide +kernel
theorem dX4_upTo_6 : decode cX4_upTo 6 = .ok (.aload_n 0, 1) := by decide +kernel
theorem dX4_upTo_7 : decode cX4_upTo 7 = .ok (.getfield 19, 3) := by decide +kernel
theorem dX4_upTo_10 : decode cX4_upTo 10 = .ok (.goto 10, 3) := by decide +kernel
theorem dX4_upTo_13 : decode cX4_upTo 13 = .ok (.aload_n 0, 1) := by decide +kernel
theorem dX4_upTo_14 : decode cX4_upTo 14 = .ok (.iload_n 1, 1) := by decide +kernel
theorem dX4_upTo_15 : decode cX4_upTo 15 = .ok (.iconst 1, 1) := by decide +kernel
theorem dX4_upTo_16 : decode cX4_upTo 16 = .ok (.iadd, 1) := by decide +kernel
theorem dX4_upTo_17 : decode cX4_upTo 17 = .ok (.invokevirtual 23, 3) := by decide +kernel
theorem dX4_upTo_20 : decode cX4_upTo 20 = .ok (.ireturn, 1) := by decide +kernel
theorem dX4_delete_0 : decode cX4_delete 0 = .ok (.iload_n 2, 1) := by decide +kernel
theorem dX4_delete_1 : decode cX4_delete 1 = .ok (.istore_n 3, 1) := by decide +kernel
theorem dX4_delete_2 : decode cX4_delete 2 = .ok (.iload_n 3, 1) := by decide +kernel
theorem dX4_delete_3 : decode cX4_delete 3 = .ok (.aload_n 0, 1) := by decide +kernel
theorem dX4_delete_4 : decode cX4_delete 4 = .ok (.getfield 19, 3) := by decide +kernel
theorem dX4_delete_7 : decode cX4_delete 7 = .ok (.if_icmp .ge 41, 3) := by decide +kernel
theorem dX4_delete_10 : decode cX4_delete 10 = .ok (.aload_n 0, 1) := by decide +kernel
theorem dX4_delete_11 : decode cX4_delete 11 = .ok (.getfield 9, 3) := by decide +kernel
theorem dX4_delete_14 : decode cX4_delete 14 = .ok (.iload_n 1, 1) := by decide +kernel
theorem dX4_delete_15 : decode cX4_delete 15 = .ok (.iload_n 3, 1) := by decide +kernel
theorem dX4_delete_16 : decode cX4_delete 16 = .ok (.iadd, 1) := by decide +kernel
theorem dX4_delete_17 : decode cX4_delete 17 = .ok (.iload_n 2, 1) := by decide +kernel
theorem dX4_delete_18 : decode cX4_delete 18 = .ok (.isub, 1) := by decide +kernel
theorem dX4_delete_19 : decode cX4_delete 19 = .ok (.aload_n 0, 1) := by decide +kernel
theorem dX4_delete_20 : decode cX4_delete 20 = .ok (.getfield 9, 3) := by decide +kernel
theorem dX4_delete_23 : decode cX4_delete 23 = .ok (.iload_n 3, 1) := by decide +kernel
theorem dX4_delete_24 : decode cX4_delete 24 = .ok (.iaload, 1) := by decide +kernel
theorem dX4_delete_25 : decode cX4_delete 25 = .ok (.iastore, 1) := by decide +kernel
theorem dX4_delete_26 : decode cX4_delete 26 = .ok (.aload_n 0, 1) := by decide +kernel
theorem dX4_delete_27 : decode cX4_delete 27 = .ok (.getfield 15, 3) := by decide +kernel
theorem dX4_delete_30 : decode cX4_delete 30 = .ok (.iload_n 1, 1) := by decide +kernel
theorem dX4_delete_31 : decode cX4_delete 31 = .ok (.iload_n 3, 1) := by decide +kernel
theorem dX4_delete_32 : decode cX4_delete 32 = .ok (.iadd, 1) := by decide +kernel
theorem dX4_delete_33 : decode cX4_delete 33 = .ok (.iload_n 2, 1) := by decide +kernel
theorem dX4_delete_34 : decode cX4_delete 34 = .ok (.isub, 1) := by decide +kernel
theorem dX4_delete_35 : decode cX4_delete 35 = .ok (.aload_n 0, 1) := by decide +kernel
theorem dX4_delete_36 : decode cX4_delete 36 = .ok (.getfield 15, 3) := by decide +kernel
theorem dX4_delete_39 : decode cX4_delete 39 = .ok (.iload_n 3, 1) := by decide +kernel
theorem dX4_delete_40 : decode cX4_delete 40 = .ok (.laload, 1) := by decide +kernel
theorem dX4_delete_41 : decode cX4_delete 41 = .ok (.lastore, 1) := by decide +kernel
theorem dX4_delete_42 : decode cX4_delete 42 = .ok (.iinc 3 1, 3) := by decide +kernel
theorem dX4_delete_45 : decode cX4_delete 45 = .ok (.goto (-43), 3) := by decide +kernel
theorem dX4_delete_48 : decode cX4_delete 48 = .ok (.aload_n 0, 1) := by decide +kernel
theorem dX4_delete_49 : decode cX4_delete 49 = .ok (.dup, 1) := by decide +kernel
theorem dX4_delete_50 : decode cX4_delete 50 = .ok (.getfield 19, 3) := by decide +kernel
theorem dX4_delete_53 : decode cX4_delete 53 = .ok (.iconst 0, 1) := by decide +kernel
theorem dX4_delete_54 : decode cX4_delete 54 = .ok (.iload_n 2, 1) := by decide +kernel
theorem dX4_delete_55 : decode cX4_delete 55 = .ok (.iload_n 1, 1) := by decide +kernel
theorem dX4_delete_56 : decode cX4_delete 56 = .ok (.isub, 1) := by decide +kernel
theorem dX4_delete_57 : decode cX4_delete 57 = .ok (.invokestatic 64, 3) := by decide +kernel
theorem dX4_delete_60 : decode cX4_delete 60 = .ok (.isub, 1) := by decide +kernel
theorem dX4_delete_61 : decode cX4_delete 61 = .ok (.putfield 19, 3) := by decide +kernel
theorem dX4_delete_64 : decode cX4_delete 64 = .ok (.return_, 1) := by decide +kernel
theorem dX4_has_0 : decode cX4_has 0 = .ok (.aload_n 0, 1) := by decide +kernel
theorem dX4_has_1 : decode cX4_has 1 = .ok (.iload_n 1, 1) := by decide +kernel
theorem dX4_has_2 : decode cX4_has 2 = .ok (.invokevirtual 23, 3) := by decide +kernel
theorem dX4_has_5 : decode cX4_has 5 = .ok (.istore_n 2, 1) := by decide +kernel
theorem dX4_has_6 : decode cX4_has 6 = .ok (.iload_n 2, 1) := by decide +kernel
theorem dX4_has_7 : decode cX4_has 7 = .ok (.aload_n 0, 1) := by decide +kernel
theorem dX4_has_8 : decode cX4_has 8 = .ok (.getfield 19, 3) := by decide +kernel
theorem dX4_has_11 : decode cX4_has 11 = .ok (.if_icmp .ge 17, 3) := by decide +kernel
theorem dX4_has_14 : decode cX4_has 14 = .ok (.aload_n 0, 1) := by decide +kernel
theorem dX4_has_15 : decode cX4_has 15 = .ok (.getfield 9, 3) := by decide +kernel
theorem dX4_has_18 : decode cX4_has 18 = .ok (.iload_n 2, 1) := by decide +kernel
theorem dX4_has_19 : decode cX4_has 19 = .ok (.iaload, 1) := by decide +kernel
theorem dX4_has_20 : decode cX4_has 20 = .ok (.iload_n 1, 1) := by decide +kernel
theorem dX4_has_21 : decode cX4_has 21 = .ok (.if_icmp .ne 7, 3) := by decide +kernel
theorem dX4_has_24 : decode cX4_has 24 = .ok (.iconst 1, 1) := by decide +kernel
theorem dX4_has_25 : decode cX4_has 25 = .ok (.goto 4, 3) := by decide +kernel
theorem dX4_has_28 : decode cX4_has 28 = .ok (.iconst 0, 1) := by decide +kernel
theorem dX4_has_29 : decode cX4_has 29 = .ok (.ireturn, 1) := by decide +kernel
theorem dX5_init_0 : decode cX5_init 0 = .ok (.aload_n 0, 1) := by decide +kernel
theorem dX5_init_1 : decode cX5_init 1 = .ok (.invokespecial 3, 3) := by decide +kernel
theorem dX5_init_4 : decode cX5_init 4 = .ok (.return_, 1) := by decide +kernel
theorem dX5_take_0 : decode cX5_take 0 = .ok (.aload_n 1, 1) := by decide +kernel
theorem dX5_take_1 : decode cX5_take 1 = .ok (.getfield 9, 3) := by decide +kernel
theorem dX5_take_4 : decode cX5_take 4 = .ok (.iconst 1, 1) := by decide +kernel
theorem dX5_take_5 : decode cX5_take 5 = .ok (.if_icmp .ne 11, 3) := by decide +kernel
theorem dX5_take_8 : decode cX5_take 8 = .ok (.aload_n 0, 1) := by decide +kernel
theorem dX5_take_9 : decode cX5_take 9 = .ok (.iconst 0, 1) := by decide +kernel
theorem dX5_take_10 : decode cX5_take 10 = .ok (.putfield 15, 3) := by decide +kernel
theorem dX5_take_13 : decode cX5_take 13 = .ok (.goto 99, 3) := by decide +kernel
theorem dX5_take_16 : decode cX5_take 16 = .ok (.aload_n 1, 1) := by decide +kernel
theorem dX5_take_17 : decode cX5_take 17 = .ok (.getfield 9, 3) := by decide +kernel
theorem dX5_take_20 : decode cX5_take 20 = .ok (.iconst 4, 1) := by decide +kernel
theorem dX5_take_21 : decode cX5_take 21 = .ok (.if_icmp .ne 19, 3) := by decide +kernel
theorem dX5_take_24 : decode cX5_take 24 = .ok (.aload_n 0, 1) := by decide +kernel
theorem dX5_take_25 : decode cX5_take 25 = .ok (.dup, 1) := by decide +kernel
theorem dX5_take_26 : decode cX5_take 26 = .ok (.getfield 21, 3) := by decide +kernel
theorem dX5_take_29 : decode cX5_take 29 = .ok (.aload_n 1, 1) := by decide +kernel
theorem dX5_take_30 : decode cX5_take 30 = .ok (.getfield 25, 3) := by decide +kernel
theorem dX5_take_33 : decode cX5_take 33 = .ok (.ladd, 1) := by decide +kernel
theorem dX5_take_34 : decode cX5_take 34 = .ok (.putfield 21, 3) := by decide +kernel
theorem dX5_take_37 : decode cX5_take 37 = .ok (.goto 75, 3) := by decide +kernel
theorem dX5_take_40 : decode cX5_take 40 = .ok (.aload_n 0, 1) := by decide +kernel
theorem dX5_take_41 : decode cX5_take 41 = .ok (.getfield 15, 3) := by decide +kernel
theorem dX5_take_44 : decode cX5_take 44 = .ok (.ifCond .eq 55, 3) := by decide +kernel
theorem dX5_take_47 : decode cX5_take 47 = .ok (.aload_n 0, 1) := by decide +kernel
theorem dX5_take_48 : decode cX5_take 48 = .ok (.aload_n 1, 1) := by decide +kernel
theorem dX5_take_49 : decode cX5_take 49 = .ok (.getfield 9, 3) := by decide +kernel
theorem dX5_take_52 : decode cX5_take 52 = .ok (.ifCond .ne 10, 3) := by decide +kernel
theorem dX5_take_55 : decode cX5_take 55 = .ok (.aload_n 1, 1) := by decide +kernel
theorem dX5_take_56 : decode cX5_take 56 = .ok (.getfield 25, 3) := by decide +kernel
theorem dX5_take_59 : decode cX5_take 59 = .ok (.goto 34, 3) := by decide +kernel
theorem dX5_take_62 : decode cX5_take 62 = .ok (.aload_n 1, 1) := by decide +kernel
theorem dX5_take_63 : decode cX5_take 63 = .ok (.getfield 9, 3) := by decide +kernel
theorem dX5_take_66 : decode cX5_take 66 = .ok (.iconst 2, 1) := by decide +kernel
theorem dX5_take_67 : decode cX5_take 67 = .ok (.if_icmp .ne 15, 3) := by decide +kernel
theorem dX5_take_70 : decode cX5_take 70 = .ok (.aload_n 0, 1) := by decide +kernel
theorem dX5_take_71 : decode cX5_take 71 = .ok (.getfield 21, 3) := by decide +kernel
theorem dX5_take_74 : decode cX5_take 74 = .ok (.aload_n 1, 1) := by decide +kernel
theorem dX5_take_75 : decode cX5_take 75 = .ok (.getfield 25, 3) := by decide +kernel
theorem dX5_take_78 : decode cX5_take 78 = .ok (.ladd, 1) := by decide +kernel
theorem dX5_take_79 : decode cX5_take 79 = .ok (.goto 14, 3) := by decide +kernel
theorem dX5_take_82 : decode cX5_take 82 = .ok (.aload_n 0, 1) := by decide +kernel
theorem dX5_take_83 : decode cX5_take 83 = .ok (.getfield 21, 3) := by decide +kernel
theorem dX5_take_86 : decode cX5_take 86 = .ok (.aload_n 1, 1) := by decide +kernel
theorem dX5_take_87 : decode cX5_take 87 = .ok (.getfield 25, 3) := by decide +kernel
theorem dX5_take_90 : decode cX5_take 90 = .ok (.invokestatic 26, 3) := by decide +kernel
theorem dX5_take_93 : decode cX5_take 93 = .ok (.putfield 21, 3) := by decide +kernel
theorem dX5_take_96 : decode cX5_take 96 = .ok (.goto 16, 3) := by decide +kernel
theorem dX5_take_99 : decode cX5_take 99 = .ok (.aload_n 0, 1) := by decide +kernel
theorem dX5_take_100 : decode cX5_take 100 = .ok (.iconst 1, 1) := by decide +kernel
theorem dX5_take_101 : decode cX5_take 101 = .ok (.putfield 15, 3) := by decide +kernel
theorem dX5_take_104 : decode cX5_take 104 = .ok (.aload_n 0, 1) := by decide +kernel
theorem dX5_take_105 : decode cX5_take 105 = .ok (.aload_n 1, 1) := by decide +kernel
theorem dX5_take_106 : decode cX5_take 106 = .ok (.getfield 25, 3) := by decide +kernel
theorem dX5_take_109 : decode cX5_take 109 = .ok (.putfield 21, 3) := by decide +kernel
theorem dX5_take_112 : decode cX5_take 112 = .ok (.return_, 1) := by decide +kernel
theorem dX6_init_0 : decode cX6_init 0 = .ok (.aload_n 0, 1) := by decide +kernel
theorem dX6_init_1 : decode cX6_init 1 = .ok (.invokespecial 1, 3) := by decide +kernel
theorem dX6_init_4 : decode cX6_init 4 = .ok (.aload_n 0, 1) := by decide +kernel
theorem dX6_init_5 : decode cX6_init 5 = .ok (.bipush 16, 2) := by decide +kernel
theorem dX6_init_7 : decode cX6_init 7 = .ok (.anewarray 7, 3) := by decide +kernel
theorem dX6_init_10 : decode cX6_init 10 = .ok (.putfield 9, 3) := by decide +kernel
theorem dX6_init_13 : decode cX6_init 13 = .ok (.aload_n 0, 1) := by decide +kernel
theorem dX6_init_14 : decode cX6_init 14 = .ok (.bipush 16, 2) := by decide +kernel
theorem dX6_init_16 : decode cX6_init 16 = .ok (.anewarray 15, 3) := by decide +kernel
theorem dX6_init_19 : decode cX6_init 19 = .ok (.putfield 17, 3) := by decide +kernel
theorem dX6_init_22 : decode cX6_init 22 = .ok (.aload_n 0, 1) := by decide +kernel
theorem dX6_init_23 : decode cX6_init 23 = .ok (.bipush 16, 2) := by decide +kernel
theorem dX6_init_25 : decode cX6_init 25 = .ok (.anewarray 15, 3) := by decide +kernel
theorem dX6_init_28 : decode cX6_init 28 = .ok (.putfield 21, 3) := by decide +kernel
theorem dX6_init_31 : decode cX6_init 31 = .ok (.aload_n 0, 1) := by decide +kernel
theorem dX6_init_32 : decode cX6_init 32 = .ok (.bipush 16, 2) := by decide +kernel
theorem dX6_init_34 : decode cX6_init 34 = .ok (.anewarray 24, 3) := by decide +kernel
theorem dX6_init_37 : decode cX6_init 37 = .ok (.putfield 26, 3) := by decide +kernel
theorem dX6_init_40 : decode cX6_init 40 = .ok (.return_, 1) := by decide +kernel
theorem dX6_made_0 : decode cX6_made 0 = .ok (.aload_n 0, 1) := by decide +kernel
theorem dX6_made_1 : decode cX6_made 1 = .ok (.getfield 26, 3) := by decide +kernel
theorem dX6_made_4 : decode cX6_made 4 = .ok (.iload_n 1, 1) := by decide +kernel
theorem dX6_made_5 : decode cX6_made 5 = .ok (.aaload, 1) := by decide +kernel
theorem dX6_made_6 : decode cX6_made 6 = .ok (.ifnonnull 16, 3) := by decide +kernel
theorem dX6_made_9 : decode cX6_made 9 = .ok (.aload_n 0, 1) := by decide +kernel
theorem dX6_made_10 : decode cX6_made 10 = .ok (.getfield 26, 3) := by decide +kernel
theorem dX6_made_13 : decode cX6_made 13 = .ok (.iload_n 1, 1) := by decide +kernel
theorem dX6_made_14 : decode cX6_made 14 = .ok (.new 24, 3) := by decide +kernel
theorem dX6_made_17 : decode cX6_made 17 = .ok (.dup, 1) := by decide +kernel
theorem dX6_made_18 : decode cX6_made 18 = .ok (.invokespecial 39, 3) := by decide +kernel
theorem dX6_made_21 : decode cX6_made 21 = .ok (.aastore, 1) := by decide +kernel
theorem dX6_made_22 : decode cX6_made 22 = .ok (.aload_n 0, 1) := by decide +kernel
theorem dX6_made_23 : decode cX6_made 23 = .ok (.getfield 26, 3) := by decide +kernel
theorem dX6_made_26 : decode cX6_made 26 = .ok (.iload_n 1, 1) := by decide +kernel
theorem dX6_made_27 : decode cX6_made 27 = .ok (.aaload, 1) := by decide +kernel
theorem dX6_made_28 : decode cX6_made 28 = .ok (.iconst 0, 1) := by decide +kernel
theorem dX6_made_29 : decode cX6_made 29 = .ok (.putfield 40, 3) := by decide +kernel
theorem dX6_made_32 : decode cX6_made 32 = .ok (.aload_n 0, 1) := by decide +kernel
theorem dX6_made_33 : decode cX6_made 33 = .ok (.getfield 26, 3) := by decide +kernel
theorem dX6_made_36 : decode cX6_made 36 = .ok (.iload_n 1, 1) := by decide +kernel
theorem dX6_made_37 : decode cX6_made 37 = .ok (.aaload, 1) := by decide +kernel
theorem dX6_made_38 : decode cX6_made 38 = .ok (.areturn, 1) := by decide +kernel
theorem dX6_go_0 : decode cX6_go 0 = .ok (.aload_n 0, 1) := by decide +kernel
theorem dX6_go_1 : decode cX6_go 1 = .ok (.getfield 17, 3) := by decide +kernel
theorem dX6_go_4 : decode cX6_go 4 = .ok (.iload_n 1, 1) := by decide +kernel
theorem dX6_go_5 : decode cX6_go 5 = .ok (.invokestatic 35, 3) := by decide +kernel
theorem dX6_go_8 : decode cX6_go 8 = .ok (.areturn, 1) := by decide +kernel
theorem dX6_empty_0 : decode cX6_empty 0 = .ok (.aload_n 0, 1) := by decide +kernel
theorem dX6_empty_1 : decode cX6_empty 1 = .ok (.iload_n 1, 1) := by decide +kernel
theorem dX6_empty_2 : decode cX6_empty 2 = .ok (.aaload, 1) := by decide +kernel
theorem dX6_empty_3 : decode cX6_empty 3 = .ok (.ifnonnull 13, 3) := by decide +kernel
theorem dX6_empty_6 : decode cX6_empty 6 = .ok (.aload_n 0, 1) := by decide +kernel
theorem dX6_empty_7 : decode cX6_empty 7 = .ok (.iload_n 1, 1) := by decide +kernel
theorem dX6_empty_8 : decode cX6_empty 8 = .ok (.new 15, 3) := by decide +kernel
theorem dX6_empty_11 : decode cX6_empty 11 = .ok (.dup, 1) := by decide +kernel
theorem dX6_empty_12 : decode cX6_empty 12 = .ok (.invokespecial 30, 3) := by decide +kernel
theorem dX6_empty_15 : decode cX6_empty 15 = .ok (.aastore, 1) := by decide +kernel
theorem dX6_empty_16 : decode cX6_empty 16 = .ok (.aload_n 0, 1) := by decide +kernel
theorem dX6_empty_17 : decode cX6_empty 17 = .ok (.iload_n 1, 1) := by decide +kernel
theorem dX6_empty_18 : decode cX6_empty 18 = .ok (.aaload, 1) := by decide +kernel
theorem dX6_empty_19 : decode cX6_empty 19 = .ok (.iconst 0, 1) := by decide +kernel
theorem dX6_empty_20 : decode cX6_empty 20 = .ok (.putfield 31, 3) := by decide +kernel
theorem dX6_empty_23 : decode cX6_empty 23 = .ok (.aload_n 0, 1) := by decide +kernel
theorem dX6_empty_24 : decode cX6_empty 24 = .ok (.iload_n 1, 1) := by decide +kernel
theorem dX6_empty_25 : decode cX6_empty 25 = .ok (.aaload, 1) := by decide +kernel
theorem dX6_empty_26 : decode cX6_empty 26 = .ok (.areturn, 1) := by decide +kernel
theorem dX6_stay_0 : decode cX6_stay 0 = .ok (.aload_n 0, 1) := by decide +kernel
theorem dX6_stay_1 : decode cX6_stay 1 = .ok (.getfield 21, 3) := by decide +kernel
theorem dX6_stay_4 : decode cX6_stay 4 = .ok (.iload_n 1, 1) := by decide +kernel
theorem dX6_stay_5 : decode cX6_stay 5 = .ok (.invokestatic 35, 3) := by decide +kernel
theorem dX6_stay_8 : decode cX6_stay 8 = .ok (.areturn, 1) := by decide +kernel
theorem dX6_at_0 : decode cX6_at 0 = .ok (.aload_n 0, 1) := by decide +kernel
theorem dX6_at_1 : decode cX6_at 1 = .ok (.getfield 9, 3) := by decide +kernel
theorem dX6_at_4 : decode cX6_at 4 = .ok (.iload_n 1, 1) := by decide +kernel
theorem dX6_at_5 : decode cX6_at 5 = .ok (.aaload, 1) := by decide +kernel
theorem dX6_at_6 : decode cX6_at 6 = .ok (.ifnonnull 16, 3) := by decide +kernel
theorem dX6_at_9 : decode cX6_at 9 = .ok (.aload_n 0, 1) := by decide +kernel
theorem dX6_at_10 : decode cX6_at 10 = .ok (.getfield 9, 3) := by decide +kernel
theorem dX6_at_13 : decode cX6_at 13 = .ok (.iload_n 1, 1) := by decide +kernel
theorem dX6_at_14 : decode cX6_at 14 = .ok (.new 7, 3) := by decide +kernel
theorem dX6_at_17 : decode cX6_at 17 = .ok (.dup, 1) := by decide +kernel
theorem dX6_at_18 : decode cX6_at 18 = .ok (.invokespecial 41, 3) := by decide +kernel
theorem dX6_at_21 : decode cX6_at 21 = .ok (.aastore, 1) := by decide +kernel
theorem dX6_at_22 : decode cX6_at 22 = .ok (.aload_n 0, 1) := by decide +kernel
theorem dX6_at_23 : decode cX6_at 23 = .ok (.getfield 9, 3) := by decide +kernel
theorem dX6_at_26 : decode cX6_at 26 = .ok (.iload_n 1, 1) := by decide +kernel
theorem dX6_at_27 : decode cX6_at 27 = .ok (.aaload, 1) := by decide +kernel
theorem dX6_at_28 : decode cX6_at 28 = .ok (.iconst 0, 1) := by decide +kernel
theorem dX6_at_29 : decode cX6_at 29 = .ok (.putfield 42, 3) := by decide +kernel
theorem dX6_at_32 : decode cX6_at 32 = .ok (.aload_n 0, 1) := by decide +kernel
theorem dX6_at_33 : decode cX6_at 33 = .ok (.getfield 9, 3) := by decide +kernel
theorem dX6_at_36 : decode cX6_at 36 = .ok (.iload_n 1, 1) := by decide +kernel
theorem dX6_at_37 : decode cX6_at 37 = .ok (.aaload, 1) := by decide +kernel
theorem dX6_at_38 : decode cX6_at 38 = .ok (.areturn, 1) := by decide +kernel
theorem dX7_init_0 : decode cX7_init 0 = .ok (.aload_n 0, 1) := by decide +kernel
theorem dX7_init_1 : decode cX7_init 1 = .ok (.invokespecial 1, 3) := by decide +kernel
theorem dX7_init_4 : decode cX7_init 4 = .ok (.aload_n 0, 1) := by decide +kernel
theorem dX7_init_5 : decode cX7_init 5 = .ok (.bipush 8, 2) := by decide +kernel
theorem dX7_init_7 : decode cX7_init 7 = .ok (.anewarray 7, 3) := by decide +kernel
theorem dX7_init_10 : decode cX7_init 10 = .ok (.putfield 9, 3) := by decide +kernel
theorem dX7_init_13 : decode cX7_init 13 = .ok (.return_, 1) := by decide +kernel
theorem dX7_add_0 : decode cX7_add 0 = .ok (.aload_n 0, 1) := by decide +kernel
theorem dX7_add_1 : decode cX7_add 1 = .ok (.getfield 15, 3) := by decide +kernel
theorem dX7_add_4 : decode cX7_add 4 = .ok (.aload_n 0, 1) := by decide +kernel
theorem dX7_add_5 : decode cX7_add 5 = .ok (.getfield 9, 3) := by decide +kernel
theorem dX7_add_8 : decode cX7_add 8 = .ok (.arraylength, 1) := by decide +kernel
theorem dX7_add_9 : decode cX7_add 9 = .ok (.if_icmp .ne 43, 3) := by decide +kernel
theorem dX7_add_12 : decode cX7_add 12 = .ok (.iconst 2, 1) := by decide +kernel
theorem dX7_add_13 : decode cX7_add 13 = .ok (.aload_n 0, 1) := by decide +kernel
theorem dX7_add_14 : decode cX7_add 14 = .ok (.getfield 15, 3) := by decide +kernel
theorem dX7_add_17 : decode cX7_add 17 = .ok (.imul, 1) := by decide +kernel
theorem dX7_add_18 : decode cX7_add 18 = .ok (.anewarray 7, 3) := by decide +kernel
theorem dX7_add_21 : decode cX7_add 21 = .ok (.astore_n 2, 1) := by decide +kernel
theorem dX7_add_22 : decode cX7_add 22 = .ok (.iconst 0, 1) := by decide +kernel
theorem dX7_add_23 : decode cX7_add 23 = .ok (.istore_n 3, 1) := by decide +kernel
theorem dX7_add_24 : decode cX7_add 24 = .ok (.iload_n 3, 1) := by decide +kernel
theorem dX7_add_25 : decode cX7_add 25 = .ok (.aload_n 0, 1) := by decide +kernel
theorem dX7_add_26 : decode cX7_add 26 = .ok (.getfield 15, 3) := by decide +kernel
theorem dX7_add_29 : decode cX7_add 29 = .ok (.if_icmp .ge 18, 3) := by decide +kernel
theorem dX7_add_32 : decode cX7_add 32 = .ok (.aload_n 2, 1) := by decide +kernel
theorem dX7_add_33 : decode cX7_add 33 = .ok (.iload_n 3, 1) := by decide +kernel
theorem dX7_add_34 : decode cX7_add 34 = .ok (.aload_n 0, 1) := by decide +kernel
theorem dX7_add_35 : decode cX7_add 35 = .ok (.getfield 9, 3) := by decide +kernel
theorem dX7_add_38 : decode cX7_add 38 = .ok (.iload_n 3, 1) := by decide +kernel
theorem dX7_add_39 : decode cX7_add 39 = .ok (.aaload, 1) := by decide +kernel
theorem dX7_add_40 : decode cX7_add 40 = .ok (.aastore, 1) := by decide +kernel
theorem dX7_add_41 : decode cX7_add 41 = .ok (.iinc 3 1, 3) := by decide +kernel
theorem dX7_add_44 : decode cX7_add 44 = .ok (.goto (-20), 3) := by decide +kernel
theorem dX7_add_47 : decode cX7_add 47 = .ok (.aload_n 0, 1) := by decide +kernel
theorem dX7_add_48 : decode cX7_add 48 = .ok (.aload_n 2, 1) := by decide +kernel
theorem dX7_add_49 : decode cX7_add 49 = .ok (.putfield 9, 3) := by decide +kernel
theorem dX7_add_52 : decode cX7_add 52 = .ok (.aload_n 0, 1) := by decide +kernel
theorem dX7_add_53 : decode cX7_add 53 = .ok (.getfield 9, 3) := by decide +kernel
theorem dX7_add_56 : decode cX7_add 56 = .ok (.aload_n 0, 1) := by decide +kernel
theorem dX7_add_57 : decode cX7_add 57 = .ok (.dup, 1) := by decide +kernel
theorem dX7_add_58 : decode cX7_add 58 = .ok (.getfield 15, 3) := by decide +kernel
theorem dX7_add_61 : decode cX7_add 61 = .ok (.dup_x1, 1) := by decide +kernel
theorem dX7_add_62 : decode cX7_add 62 = .ok (.iconst 1, 1) := by decide +kernel
theorem dX7_add_63 : decode cX7_add 63 = .ok (.iadd, 1) := by decide +kernel
theorem dX7_add_64 : decode cX7_add 64 = .ok (.putfield 15, 3) := by decide +kernel
theorem dX7_add_67 : decode cX7_add 67 = .ok (.aload_n 1, 1) := by decide +kernel
theorem dX7_add_68 : decode cX7_add 68 = .ok (.aastore, 1) := by decide +kernel
theorem dX7_add_69 : decode cX7_add 69 = .ok (.return_, 1) := by decide +kernel
theorem dX7_become_0 : decode cX7_become 0 = .ok (.aload_n 0, 1) := by decide +kernel
theorem dX7_become_1 : decode cX7_become 1 = .ok (.iconst 0, 1) := by decide +kernel
theorem dX7_become_2 : decode cX7_become 2 = .ok (.putfield 15, 3) := by decide +kernel
theorem dX7_become_5 : decode cX7_become 5 = .ok (.iconst 0, 1) := by decide +kernel
theorem dX7_become_6 : decode cX7_become 6 = .ok (.istore_n 2, 1) := by decide +kernel
theorem dX7_become_7 : decode cX7_become 7 = .ok (.iload_n 2, 1) := by decide +kernel
theorem dX7_become_8 : decode cX7_become 8 = .ok (.aload_n 1, 1) := by decide +kernel
theorem dX7_become_9 : decode cX7_become 9 = .ok (.getfield 15, 3) := by decide +kernel
theorem dX7_become_12 : decode cX7_become 12 = .ok (.if_icmp .ge 19, 3) := by decide +kernel
theorem dX7_become_15 : decode cX7_become 15 = .ok (.aload_n 0, 1) := by decide +kernel
theorem dX7_become_16 : decode cX7_become 16 = .ok (.aload_n 1, 1) := by decide +kernel
theorem dX7_become_17 : decode cX7_become 17 = .ok (.getfield 9, 3) := by decide +kernel
theorem dX7_become_20 : decode cX7_become 20 = .ok (.iload_n 2, 1) := by decide +kernel
theorem dX7_become_21 : decode cX7_become 21 = .ok (.aaload, 1) := by decide +kernel
theorem dX7_become_22 : decode cX7_become 22 = .ok (.invokevirtual 19, 3) := by decide +kernel
theorem dX7_become_25 : decode cX7_become 25 = .ok (.iinc 2 1, 3) := by decide +kernel
theorem dX7_become_28 : decode cX7_become 28 = .ok (.goto (-21), 3) := by decide +kernel
theorem dX7_become_31 : decode cX7_become 31 = .ok (.return_, 1) := by decide +kernel
theorem dX9_isIn_0 : decode cX9_isIn 0 = .ok (.aload_n 0, 1) := by decide +kernel
theorem dX9_isIn_1 : decode cX9_isIn 1 = .ok (.getfield 13, 3) := by decide +kernel
theorem dX9_isIn_4 : decode cX9_isIn 4 = .ok (.iload_n 2, 1) := by decide +kernel
theorem dX9_isIn_5 : decode cX9_isIn 5 = .ok (.if_icmp .gt 15, 3) := by decide +kernel
theorem dX9_isIn_8 : decode cX9_isIn 8 = .ok (.aload_n 0, 1) := by decide +kernel
theorem dX9_isIn_9 : decode cX9_isIn 9 = .ok (.getfield 16, 3) := by decide +kernel
theorem dX9_isIn_12 : decode cX9_isIn 12 = .ok (.iload_n 1, 1) := by decide +kernel
theorem dX9_isIn_13 : decode cX9_isIn 13 = .ok (.if_icmp .lt 7, 3) := by decide +kernel
theorem dX9_isIn_16 : decode cX9_isIn 16 = .ok (.iconst 1, 1) := by decide +kernel
theorem dX9_isIn_17 : decode cX9_isIn 17 = .ok (.goto 4, 3) := by decide +kernel
theorem dX9_isIn_20 : decode cX9_isIn 20 = .ok (.iconst 0, 1) := by decide +kernel
theorem dX9_isIn_21 : decode cX9_isIn 21 = .ok (.ireturn, 1) := by decide +kernel
theorem dX9_cut_0 : decode cX9_cut 0 = .ok (.aload_n 0, 1) := by decide +kernel
theorem dX9_cut_1 : decode cX9_cut 1 = .ok (.getfield 13, 3) := by decide +kernel
theorem dX9_cut_4 : decode cX9_cut 4 = .ok (.iload_n 1, 1) := by decide +kernel
theorem dX9_cut_5 : decode cX9_cut 5 = .ok (.if_icmp .lt 15, 3) := by decide +kernel
theorem dX9_cut_8 : decode cX9_cut 8 = .ok (.aload_n 0, 1) := by decide +kernel
theorem dX9_cut_9 : decode cX9_cut 9 = .ok (.getfield 16, 3) := by decide +kernel
theorem dX9_cut_12 : decode cX9_cut 12 = .ok (.iload_n 2, 1) := by decide +kernel
theorem dX9_cut_13 : decode cX9_cut 13 = .ok (.if_icmp .gt 7, 3) := by decide +kernel
theorem dX9_cut_16 : decode cX9_cut 16 = .ok (.aload_n 0, 1) := by decide +kernel
theorem dX9_cut_17 : decode cX9_cut 17 = .ok (.goto 34, 3) := by decide +kernel
theorem dX9_cut_20 : decode cX9_cut 20 = .ok (.new 8, 3) := by decide +kernel
theorem dX9_cut_23 : decode cX9_cut 23 = .ok (.dup, 1) := by decide +kernel
theorem dX9_cut_24 : decode cX9_cut 24 = .ok (.aload_n 0, 1) := by decide +kernel
theorem dX9_cut_25 : decode cX9_cut 25 = .ok (.getfield 7, 3) := by decide +kernel
theorem dX9_cut_28 : decode cX9_cut 28 = .ok (.aload_n 0, 1) := by decide +kernel
theorem dX9_cut_29 : decode cX9_cut 29 = .ok (.getfield 13, 3) := by decide +kernel
theorem dX9_cut_32 : decode cX9_cut 32 = .ok (.iload_n 1, 1) := by decide +kernel
theorem dX9_cut_33 : decode cX9_cut 33 = .ok (.invokestatic 23, 3) := by decide +kernel
theorem dX9_cut_36 : decode cX9_cut 36 = .ok (.aload_n 0, 1) := by decide +kernel
theorem dX9_cut_37 : decode cX9_cut 37 = .ok (.getfield 16, 3) := by decide +kernel
theorem dX9_cut_40 : decode cX9_cut 40 = .ok (.iload_n 2, 1) := by decide +kernel
theorem dX9_cut_41 : decode cX9_cut 41 = .ok (.invokestatic 29, 3) := by decide +kernel
theorem dX9_cut_44 : decode cX9_cut 44 = .ok (.aload_n 0, 1) := by decide +kernel
theorem dX9_cut_45 : decode cX9_cut 45 = .ok (.getfield 19, 3) := by decide +kernel
theorem dX9_cut_48 : decode cX9_cut 48 = .ok (.invokespecial 32, 3) := by decide +kernel
theorem dX9_cut_51 : decode cX9_cut 51 = .ok (.areturn, 1) := by decide +kernel
theorem dX9_init_0 : decode cX9_init 0 = .ok (.aload_n 0, 1) := by decide +kernel
theorem dX9_init_1 : decode cX9_init 1 = .ok (.invokespecial 1, 3) := by decide +kernel
theorem dX9_init_4 : decode cX9_init 4 = .ok (.aload_n 0, 1) := by decide +kernel
theorem dX9_init_5 : decode cX9_init 5 = .ok (.iload_n 1, 1) := by decide +kernel
theorem dX9_init_6 : decode cX9_init 6 = .ok (.putfield 7, 3) := by decide +kernel
theorem dX9_init_9 : decode cX9_init 9 = .ok (.aload_n 0, 1) := by decide +kernel
theorem dX9_init_10 : decode cX9_init 10 = .ok (.iload_n 2, 1) := by decide +kernel
theorem dX9_init_11 : decode cX9_init 11 = .ok (.putfield 13, 3) := by decide +kernel
theorem dX9_init_14 : decode cX9_init 14 = .ok (.aload_n 0, 1) := by decide +kernel
theorem dX9_init_15 : decode cX9_init 15 = .ok (.iload_n 3, 1) := by decide +kernel
theorem dX9_init_16 : decode cX9_init 16 = .ok (.putfield 16, 3) := by decide +kernel
theorem dX9_init_19 : decode cX9_init 19 = .ok (.aload_n 0, 1) := by decide +kernel
theorem dX9_init_20 : decode cX9_init 20 = .ok (.lload 4, 2) := by decide +kernel
theorem dX9_init_22 : decode cX9_init 22 = .ok (.putfield 19, 3) := by decide +kernel
theorem dX9_init_25 : decode cX9_init 25 = .ok (.return_, 1) := by decide +kernel
theorem dX10_init_0 : decode cX10_init 0 = .ok (.aload_n 0, 1) := by decide +kernel
theorem dX10_init_1 : decode cX10_init 1 = .ok (.invokespecial 1, 3) := by decide +kernel
theorem dX10_init_4 : decode cX10_init 4 = .ok (.aload_n 0, 1) := by decide +kernel
theorem dX10_init_5 : decode cX10_init 5 = .ok (.iconst 4, 1) := by decide +kernel
theorem dX10_init_6 : decode cX10_init 6 = .ok (.anewarray 7, 3) := by decide +kernel
theorem dX10_init_9 : decode cX10_init 9 = .ok (.putfield 9, 3) := by decide +kernel
theorem dX10_init_12 : decode cX10_init 12 = .ok (.aload_n 0, 1) := by decide +kernel
theorem dX10_init_13 : decode cX10_init 13 = .ok (.iconst 4, 1) := by decide +kernel
theorem dX10_init_14 : decode cX10_init 14 = .ok (.newarray .int, 2) := by decide +kernel
theorem dX10_init_16 : decode cX10_init 16 = .ok (.putfield 15, 3) := by decide +kernel
theorem dX10_init_19 : decode cX10_init 19 = .ok (.return_, 1) := by decide +kernel
theorem dX10_add_0 : decode cX10_add 0 = .ok (.aload_n 0, 1) := by decide +kernel
theorem dX10_add_1 : decode cX10_add 1 = .ok (.getfield 19, 3) := by decide +kernel
theorem dX10_add_4 : decode cX10_add 4 = .ok (.aload_n 0, 1) := by decide +kernel
theorem dX10_add_5 : decode cX10_add 5 = .ok (.getfield 9, 3) := by decide +kernel
theorem dX10_add_8 : decode cX10_add 8 = .ok (.arraylength, 1) := by decide +kernel
theorem dX10_add_9 : decode cX10_add 9 = .ok (.if_icmp .ne 75, 3) := by decide +kernel
theorem dX10_add_12 : decode cX10_add 12 = .ok (.iconst 2, 1) := by decide +kernel
theorem dX10_add_13 : decode cX10_add 13 = .ok (.aload_n 0, 1) := by decide +kernel
theorem dX10_add_14 : decode cX10_add 14 = .ok (.getfield 19, 3) := by decide +kernel
theorem dX10_add_17 : decode cX10_add 17 = .ok (.imul, 1) := by decide +kernel
theorem dX10_add_18 : decode cX10_add 18 = .ok (.anewarray 7, 3) := by decide +kernel
theorem dX10_add_21 : decode cX10_add 21 = .ok (.astore_n 3, 1) := by decide +kernel
theorem dX10_add_22 : decode cX10_add 22 = .ok (.iconst 2, 1) := by decide +kernel
theorem dX10_add_23 : decode cX10_add 23 = .ok (.aload_n 0, 1) := by decide +kernel
theorem dX10_add_24 : decode cX10_add 24 = .ok (.getfield 19, 3) := by decide +kernel
theorem dX10_add_27 : decode cX10_add 27 = .ok (.imul, 1) := by decide +kernel
theorem dX10_add_28 : decode cX10_add 28 = .ok (.newarray .int, 2) := by decide +kernel
theorem dX10_add_30 : decode cX10_add 30 = .ok (.astore 4, 2) := by decide +kernel
theorem dX10_add_32 : decode cX10_add 32 = .ok (.iconst 0, 1) := by decide +kernel
theorem dX10_add_33 : decode cX10_add 33 = .ok (.istore 5, 2) := by decide +kernel
theorem dX10_add_35 : decode cX10_add 35 = .ok (.iload 5, 2) := by decide +kernel
theorem dX10_add_37 : decode cX10_add 37 = .ok (.aload_n 0, 1) := by decide +kernel
theorem dX10_add_38 : decode cX10_add 38 = .ok (.getfield 19, 3) := by decide +kernel
theorem dX10_add_41 : decode cX10_add 41 = .ok (.if_icmp .ge 32, 3) := by decide +kernel
theorem dX10_add_44 : decode cX10_add 44 = .ok (.aload_n 3, 1) := by decide +kernel
theorem dX10_add_45 : decode cX10_add 45 = .ok (.iload 5, 2) := by decide +kernel
theorem dX10_add_47 : decode cX10_add 47 = .ok (.aload_n 0, 1) := by decide +kernel
theorem dX10_add_48 : decode cX10_add 48 = .ok (.getfield 9, 3) := by decide +kernel
theorem dX10_add_51 : decode cX10_add 51 = .ok (.iload 5, 2) := by decide +kernel
theorem dX10_add_53 : decode cX10_add 53 = .ok (.aaload, 1) := by decide +kernel
theorem dX10_add_54 : decode cX10_add 54 = .ok (.aastore, 1) := by decide +kernel
theorem dX10_add_55 : decode cX10_add 55 = .ok (.aload 4, 2) := by decide +kernel
theorem dX10_add_57 : decode cX10_add 57 = .ok (.iload 5, 2) := by decide +kernel
theorem dX10_add_59 : decode cX10_add 59 = .ok (.aload_n 0, 1) := by decide +kernel
theorem dX10_add_60 : decode cX10_add 60 = .ok (.getfield 15, 3) := by decide +kernel
theorem dX10_add_63 : decode cX10_add 63 = .ok (.iload 5, 2) := by decide +kernel
theorem dX10_add_65 : decode cX10_add 65 = .ok (.iaload, 1) := by decide +kernel
theorem dX10_add_66 : decode cX10_add 66 = .ok (.iastore, 1) := by decide +kernel
theorem dX10_add_67 : decode cX10_add 67 = .ok (.iinc 5 1, 3) := by decide +kernel
theorem dX10_add_70 : decode cX10_add 70 = .ok (.goto (-35), 3) := by decide +kernel
theorem dX10_add_73 : decode cX10_add 73 = .ok (.aload_n 0, 1) := by decide +kernel
theorem dX10_add_74 : decode cX10_add 74 = .ok (.aload_n 3, 1) := by decide +kernel
theorem dX10_add_75 : decode cX10_add 75 = .ok (.putfield 9, 3) := by decide +kernel
theorem dX10_add_78 : decode cX10_add 78 = .ok (.aload_n 0, 1) := by decide +kernel
theorem dX10_add_79 : decode cX10_add 79 = .ok (.aload 4, 2) := by decide +kernel
theorem dX10_add_81 : decode cX10_add 81 = .ok (.putfield 15, 3) := by decide +kernel
theorem dX10_add_84 : decode cX10_add 84 = .ok (.aload_n 0, 1) := by decide +kernel
theorem dX10_add_85 : decode cX10_add 85 = .ok (.getfield 9, 3) := by decide +kernel
theorem dX10_add_88 : decode cX10_add 88 = .ok (.aload_n 0, 1) := by decide +kernel
theorem dX10_add_89 : decode cX10_add 89 = .ok (.getfield 19, 3) := by decide +kernel
theorem dX10_add_92 : decode cX10_add 92 = .ok (.aload_n 1, 1) := by decide +kernel
theorem dX10_add_93 : decode cX10_add 93 = .ok (.aastore, 1) := by decide +kernel
theorem dX10_add_94 : decode cX10_add 94 = .ok (.aload_n 0, 1) := by decide +kernel
theorem dX10_add_95 : decode cX10_add 95 = .ok (.getfield 15, 3) := by decide +kernel
theorem dX10_add_98 : decode cX10_add 98 = .ok (.aload_n 0, 1) := by decide +kernel
theorem dX10_add_99 : decode cX10_add 99 = .ok (.dup, 1) := by decide +kernel
theorem dX10_add_100 : decode cX10_add 100 = .ok (.getfield 19, 3) := by decide +kernel
theorem dX10_add_103 : decode cX10_add 103 = .ok (.dup_x1, 1) := by decide +kernel
theorem dX10_add_104 : decode cX10_add 104 = .ok (.iconst 1, 1) := by decide +kernel
theorem dX10_add_105 : decode cX10_add 105 = .ok (.iadd, 1) := by decide +kernel
theorem dX10_add_106 : decode cX10_add 106 = .ok (.putfield 19, 3) := by decide +kernel
theorem dX10_add_109 : decode cX10_add 109 = .ok (.iload_n 2, 1) := by decide +kernel
theorem dX10_add_110 : decode cX10_add 110 = .ok (.iastore, 1) := by decide +kernel
theorem dX10_add_111 : decode cX10_add 111 = .ok (.aload_n 0, 1) := by decide +kernel
theorem dX10_add_112 : decode cX10_add 112 = .ok (.areturn, 1) := by decide +kernel
theorem dX10_high_0 : decode cX10_high 0 = .ok (.iload_n 1, 1) := by decide +kernel
theorem dX10_high_1 : decode cX10_high 1 = .ok (.iconst 1, 1) := by decide +kernel
theorem dX10_high_2 : decode cX10_high 2 = .ok (.iadd, 1) := by decide +kernel
theorem dX10_high_3 : decode cX10_high 3 = .ok (.aload_n 0, 1) := by decide +kernel
theorem dX10_high_4 : decode cX10_high 4 = .ok (.getfield 19, 3) := by decide +kernel
theorem dX10_high_7 : decode cX10_high 7 = .ok (.if_icmp .ge 16, 3) := by decide +kernel
theorem dX10_high_10 : decode cX10_high 10 = .ok (.aload_n 0, 1) := by decide +kernel
theorem dX10_high_11 : decode cX10_high 11 = .ok (.getfield 15, 3) := by decide +kernel
theorem dX10_high_14 : decode cX10_high 14 = .ok (.iload_n 1, 1) := by decide +kernel
theorem dX10_high_15 : decode cX10_high 15 = .ok (.iconst 1, 1) := by decide +kernel
theorem dX10_high_16 : decode cX10_high 16 = .ok (.iadd, 1) := by decide +kernel
theorem dX10_high_17 : decode cX10_high 17 = .ok (.iaload, 1) := by decide +kernel
theorem dX10_high_18 : decode cX10_high 18 = .ok (.iconst 1, 1) := by decide +kernel
theorem dX10_high_19 : decode cX10_high 19 = .ok (.isub, 1) := by decide +kernel
theorem dX10_high_20 : decode cX10_high 20 = .ok (.goto 4, 3) := by decide +kernel
theorem dX10_high_23 : decode cX10_high 23 = .ok (.iload_n 2, 1) := by decide +kernel
theorem dX10_high_24 : decode cX10_high 24 = .ok (.ireturn, 1) := by decide +kernel
theorem dX10_put_0 : decode cX10_put 0 = .ok (.iconst 1, 1) := by decide +kernel
theorem dX10_put_1 : decode cX10_put 1 = .ok (.istore_n 3, 1) := by decide +kernel
theorem dX10_put_2 : decode cX10_put 2 = .ok (.iload_n 3, 1) := by decide +kernel
theorem dX10_put_3 : decode cX10_put 3 = .ok (.aload_n 2, 1) := by decide +kernel
theorem dX10_put_4 : decode cX10_put 4 = .ok (.getfield 19, 3) := by decide +kernel
theorem dX10_put_7 : decode cX10_put 7 = .ok (.if_icmp .ge 26, 3) := by decide +kernel
theorem dX10_put_10 : decode cX10_put 10 = .ok (.aload_n 0, 1) := by decide +kernel
theorem dX10_put_11 : decode cX10_put 11 = .ok (.aload_n 2, 1) := by decide +kernel
theorem dX10_put_12 : decode cX10_put 12 = .ok (.getfield 9, 3) := by decide +kernel
theorem dX10_put_15 : decode cX10_put 15 = .ok (.iload_n 3, 1) := by decide +kernel
theorem dX10_put_16 : decode cX10_put 16 = .ok (.aaload, 1) := by decide +kernel
theorem dX10_put_17 : decode cX10_put 17 = .ok (.aload_n 2, 1) := by decide +kernel
theorem dX10_put_18 : decode cX10_put 18 = .ok (.getfield 15, 3) := by decide +kernel
theorem dX10_put_21 : decode cX10_put 21 = .ok (.iload_n 3, 1) := by decide +kernel
theorem dX10_put_22 : decode cX10_put 22 = .ok (.iaload, 1) := by decide +kernel
theorem dX10_put_23 : decode cX10_put 23 = .ok (.invokevirtual 23, 3) := by decide +kernel
theorem dX10_put_26 : decode cX10_put 26 = .ok (.pop, 1) := by decide +kernel
theorem dX10_put_27 : decode cX10_put 27 = .ok (.iinc 3 1, 3) := by decide +kernel
theorem dX10_put_30 : decode cX10_put 30 = .ok (.goto (-28), 3) := by decide +kernel
theorem dX10_put_33 : decode cX10_put 33 = .ok (.aload_n 2, 1) := by decide +kernel
theorem dX10_put_34 : decode cX10_put 34 = .ok (.getfield 19, 3) := by decide +kernel
theorem dX10_put_37 : decode cX10_put 37 = .ok (.iconst 1, 1) := by decide +kernel
theorem dX10_put_38 : decode cX10_put 38 = .ok (.isub, 1) := by decide +kernel
theorem dX10_put_39 : decode cX10_put 39 = .ok (.istore_n 3, 1) := by decide +kernel
theorem dX10_put_40 : decode cX10_put 40 = .ok (.aload_n 0, 1) := by decide +kernel
theorem dX10_put_41 : decode cX10_put 41 = .ok (.getfield 19, 3) := by decide +kernel
theorem dX10_put_44 : decode cX10_put 44 = .ok (.iconst 1, 1) := by decide +kernel
theorem dX10_put_45 : decode cX10_put 45 = .ok (.isub, 1) := by decide +kernel
theorem dX10_put_46 : decode cX10_put 46 = .ok (.istore 4, 2) := by decide +kernel
theorem dX10_put_48 : decode cX10_put 48 = .ok (.iload 4, 2) := by decide +kernel
theorem dX10_put_50 : decode cX10_put 50 = .ok (.iload_n 1, 1) := by decide +kernel
theorem dX10_put_51 : decode cX10_put 51 = .ok (.iload_n 3, 1) := by decide +kernel
theorem dX10_put_52 : decode cX10_put 52 = .ok (.iadd, 1) := by decide +kernel
theorem dX10_put_53 : decode cX10_put 53 = .ok (.if_icmp .le 41, 3) := by decide +kernel
theorem dX10_put_56 : decode cX10_put 56 = .ok (.aload_n 0, 1) := by decide +kernel
theorem dX10_put_57 : decode cX10_put 57 = .ok (.getfield 9, 3) := by decide +kernel
theorem dX10_put_60 : decode cX10_put 60 = .ok (.iload 4, 2) := by decide +kernel
theorem dX10_put_62 : decode cX10_put 62 = .ok (.aload_n 0, 1) := by decide +kernel
theorem dX10_put_63 : decode cX10_put 63 = .ok (.getfield 9, 3) := by decide +kernel
theorem dX10_put_66 : decode cX10_put 66 = .ok (.iload 4, 2) := by decide +kernel
theorem dX10_put_68 : decode cX10_put 68 = .ok (.iload_n 3, 1) := by decide +kernel
theorem dX10_put_69 : decode cX10_put 69 = .ok (.isub, 1) := by decide +kernel
theorem dX10_put_70 : decode cX10_put 70 = .ok (.aaload, 1) := by decide +kernel
theorem dX10_put_71 : decode cX10_put 71 = .ok (.aastore, 1) := by decide +kernel
theorem dX10_put_72 : decode cX10_put 72 = .ok (.aload_n 0, 1) := by decide +kernel
theorem dX10_put_73 : decode cX10_put 73 = .ok (.getfield 15, 3) := by decide +kernel
theorem dX10_put_76 : decode cX10_put 76 = .ok (.iload 4, 2) := by decide +kernel
theorem dX10_put_78 : decode cX10_put 78 = .ok (.aload_n 0, 1) := by decide +kernel
theorem dX10_put_79 : decode cX10_put 79 = .ok (.getfield 15, 3) := by decide +kernel
theorem dX10_put_82 : decode cX10_put 82 = .ok (.iload 4, 2) := by decide +kernel
theorem dX10_put_84 : decode cX10_put 84 = .ok (.iload_n 3, 1) := by decide +kernel
theorem dX10_put_85 : decode cX10_put 85 = .ok (.isub, 1) := by decide +kernel
theorem dX10_put_86 : decode cX10_put 86 = .ok (.iaload, 1) := by decide +kernel
theorem dX10_put_87 : decode cX10_put 87 = .ok (.iastore, 1) := by decide +kernel
theorem dX10_put_88 : decode cX10_put 88 = .ok (.iinc 4 (-1), 3) := by decide +kernel
theorem dX10_put_91 : decode cX10_put 91 = .ok (.goto (-43), 3) := by decide +kernel
theorem dX10_put_94 : decode cX10_put 94 = .ok (.iconst 0, 1) := by decide +kernel
theorem dX10_put_95 : decode cX10_put 95 = .ok (.istore 4, 2) := by decide +kernel
theorem dX10_put_97 : decode cX10_put 97 = .ok (.iload 4, 2) := by decide +kernel
theorem dX10_put_99 : decode cX10_put 99 = .ok (.aload_n 2, 1) := by decide +kernel
theorem dX10_put_100 : decode cX10_put 100 = .ok (.getfield 19, 3) := by decide +kernel
theorem dX10_put_103 : decode cX10_put 103 = .ok (.if_icmp .ge 41, 3) := by decide +kernel
theorem dX10_put_106 : decode cX10_put 106 = .ok (.aload_n 0, 1) := by decide +kernel
theorem dX10_put_107 : decode cX10_put 107 = .ok (.getfield 9, 3) := by decide +kernel
theorem dX10_put_110 : decode cX10_put 110 = .ok (.iload_n 1, 1) := by decide +kernel
theorem dX10_put_111 : decode cX10_put 111 = .ok (.iload 4, 2) := by decide +kernel
theorem dX10_put_113 : decode cX10_put 113 = .ok (.iadd, 1) := by decide +kernel
theorem dX10_put_114 : decode cX10_put 114 = .ok (.aload_n 2, 1) := by decide +kernel
theorem dX10_put_115 : decode cX10_put 115 = .ok (.getfield 9, 3) := by decide +kernel
theorem dX10_put_118 : decode cX10_put 118 = .ok (.iload 4, 2) := by decide +kernel
theorem dX10_put_120 : decode cX10_put 120 = .ok (.aaload, 1) := by decide +kernel
theorem dX10_put_121 : decode cX10_put 121 = .ok (.aastore, 1) := by decide +kernel
theorem dX10_put_122 : decode cX10_put 122 = .ok (.aload_n 0, 1) := by decide +kernel
theorem dX10_put_123 : decode cX10_put 123 = .ok (.getfield 15, 3) := by decide +kernel
theorem dX10_put_126 : decode cX10_put 126 = .ok (.iload_n 1, 1) := by decide +kernel
theorem dX10_put_127 : decode cX10_put 127 = .ok (.iload 4, 2) := by decide +kernel
theorem dX10_put_129 : decode cX10_put 129 = .ok (.iadd, 1) := by decide +kernel
theorem dX10_put_130 : decode cX10_put 130 = .ok (.aload_n 2, 1) := by decide +kernel
theorem dX10_put_131 : decode cX10_put 131 = .ok (.getfield 15, 3) := by decide +kernel
theorem dX10_put_134 : decode cX10_put 134 = .ok (.iload 4, 2) := by decide +kernel
theorem dX10_put_136 : decode cX10_put 136 = .ok (.iaload, 1) := by decide +kernel
theorem dX10_put_137 : decode cX10_put 137 = .ok (.iastore, 1) := by decide +kernel
theorem dX10_put_138 : decode cX10_put 138 = .ok (.iinc 4 1, 3) := by decide +kernel
theorem dX10_put_141 : decode cX10_put 141 = .ok (.goto (-44), 3) := by decide +kernel
theorem dX10_put_144 : decode cX10_put 144 = .ok (.return_, 1) := by decide +kernel
