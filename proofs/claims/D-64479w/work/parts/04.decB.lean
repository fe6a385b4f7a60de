set_option maxRecDepth 100000
theorem dX11_settle_0 : decode cX11_settle 0 = .ok (.aload_n 0, 1) := by decide +kernel
theorem dX11_settle_1 : decode cX11_settle 1 = .ok (.invokevirtual 129, 3) := by decide +kernel
theorem dX11_settle_4 : decode cX11_settle 4 = .ok (.ifCond .eq 16, 3) := by decide +kernel
theorem dX11_settle_7 : decode cX11_settle 7 = .ok (.aload 4, 2) := by decide +kernel
theorem dX11_settle_9 : decode cX11_settle 9 = .ok (.iload 5, 2) := by decide +kernel
theorem dX11_settle_11 : decode cX11_settle 11 = .ok (.invokevirtual 117, 3) := by decide +kernel
theorem dX11_settle_14 : decode cX11_settle 14 = .ok (.aload_n 0, 1) := by decide +kernel
theorem dX11_settle_15 : decode cX11_settle 15 = .ok (.iload_n 2, 1) := by decide +kernel
theorem dX11_settle_16 : decode cX11_settle 16 = .ok (.invokevirtual 96, 3) := by decide +kernel
theorem dX11_settle_19 : decode cX11_settle 19 = .ok (.areturn, 1) := by decide +kernel
theorem dX11_settle_20 : decode cX11_settle 20 = .ok (.aload_n 0, 1) := by decide +kernel
theorem dX11_settle_21 : decode cX11_settle 21 = .ok (.iload_n 1, 1) := by decide +kernel
theorem dX11_settle_22 : decode cX11_settle 22 = .ok (.invokevirtual 105, 3) := by decide +kernel
theorem dX11_settle_25 : decode cX11_settle 25 = .ok (.astore 6, 2) := by decide +kernel
theorem dX11_settle_27 : decode cX11_settle 27 = .ok (.aload 6, 2) := by decide +kernel
theorem dX11_settle_29 : decode cX11_settle 29 = .ok (.getfield 15, 3) := by decide +kernel
theorem dX11_settle_32 : decode cX11_settle 32 = .ok (.getfield 48, 3) := by decide +kernel
theorem dX11_settle_35 : decode cX11_settle 35 = .ok (.ifCond .le 23, 3) := by decide +kernel
theorem dX11_settle_38 : decode cX11_settle 38 = .ok (.aload 6, 2) := by decide +kernel
theorem dX11_settle_40 : decode cX11_settle 40 = .ok (.aload 6, 2) := by decide +kernel
theorem dX11_settle_42 : decode cX11_settle 42 = .ok (.iload_n 3, 1) := by decide +kernel
theorem dX11_settle_43 : decode cX11_settle 43 = .ok (.invokevirtual 109, 3) := by decide +kernel
theorem dX11_settle_46 : decode cX11_settle 46 = .ok (.iload_n 1, 1) := by decide +kernel
theorem dX11_settle_47 : decode cX11_settle 47 = .ok (.iload_n 3, 1) := by decide +kernel
theorem dX11_settle_48 : decode cX11_settle 48 = .ok (.aload 4, 2) := by decide +kernel
theorem dX11_settle_50 : decode cX11_settle 50 = .ok (.iload 5, 2) := by decide +kernel
theorem dX11_settle_52 : decode cX11_settle 52 = .ok (.invokevirtual 113, 3) := by decide +kernel
theorem dX11_settle_55 : decode cX11_settle 55 = .ok (.goto (-28), 3) := by decide +kernel
theorem dX11_settle_58 : decode cX11_settle 58 = .ok (.iconst 0, 1) := by decide +kernel
theorem dX11_settle_59 : decode cX11_settle 59 = .ok (.istore 7, 2) := by decide +kernel
theorem dX11_settle_61 : decode cX11_settle 61 = .ok (.iload 7, 2) := by decide +kernel
theorem dX11_settle_63 : decode cX11_settle 63 = .ok (.aload 6, 2) := by decide +kernel
theorem dX11_settle_65 : decode cX11_settle 65 = .ok (.getfield 9, 3) := by decide +kernel
theorem dX11_settle_68 : decode cX11_settle 68 = .ok (.getfield 25, 3) := by decide +kernel
theorem dX11_settle_71 : decode cX11_settle 71 = .ok (.if_icmp .ge 73, 3) := by decide +kernel
theorem dX11_settle_74 : decode cX11_settle 74 = .ok (.aload 6, 2) := by decide +kernel
theorem dX11_settle_76 : decode cX11_settle 76 = .ok (.getfield 9, 3) := by decide +kernel
theorem dX11_settle_79 : decode cX11_settle 79 = .ok (.getfield 40, 3) := by decide +kernel
theorem dX11_settle_82 : decode cX11_settle 82 = .ok (.iload 7, 2) := by decide +kernel
theorem dX11_settle_84 : decode cX11_settle 84 = .ok (.aaload, 1) := by decide +kernel
theorem dX11_settle_85 : decode cX11_settle 85 = .ok (.iload_n 1, 1) := by decide +kernel
theorem dX11_settle_86 : decode cX11_settle 86 = .ok (.aload 6, 2) := by decide +kernel
theorem dX11_settle_88 : decode cX11_settle 88 = .ok (.getfield 9, 3) := by decide +kernel
theorem dX11_settle_91 : decode cX11_settle 91 = .ok (.getfield 31, 3) := by decide +kernel
theorem dX11_settle_94 : decode cX11_settle 94 = .ok (.iload 7, 2) := by decide +kernel
theorem dX11_settle_96 : decode cX11_settle 96 = .ok (.iaload, 1) := by decide +kernel
theorem dX11_settle_97 : decode cX11_settle 97 = .ok (.aload 6, 2) := by decide +kernel
theorem dX11_settle_99 : decode cX11_settle 99 = .ok (.getfield 9, 3) := by decide +kernel
theorem dX11_settle_102 : decode cX11_settle 102 = .ok (.iload 7, 2) := by decide +kernel
theorem dX11_settle_104 : decode cX11_settle 104 = .ok (.iload_n 3, 1) := by decide +kernel
theorem dX11_settle_105 : decode cX11_settle 105 = .ok (.invokevirtual 36, 3) := by decide +kernel
theorem dX11_settle_108 : decode cX11_settle 108 = .ok (.aload 4, 2) := by decide +kernel
theorem dX11_settle_110 : decode cX11_settle 110 = .ok (.iload 5, 2) := by decide +kernel
theorem dX11_settle_112 : decode cX11_settle 112 = .ok (.iconst 1, 1) := by decide +kernel
theorem dX11_settle_113 : decode cX11_settle 113 = .ok (.iadd, 1) := by decide +kernel
theorem dX11_settle_114 : decode cX11_settle 114 = .ok (.invokevirtual 130, 3) := by decide +kernel
theorem dX11_settle_117 : decode cX11_settle 117 = .ok (.astore 8, 2) := by decide +kernel
theorem dX11_settle_119 : decode cX11_settle 119 = .ok (.aload 6, 2) := by decide +kernel
theorem dX11_settle_121 : decode cX11_settle 121 = .ok (.getfield 9, 3) := by decide +kernel
theorem dX11_settle_124 : decode cX11_settle 124 = .ok (.iload 7, 2) := by decide +kernel
theorem dX11_settle_126 : decode cX11_settle 126 = .ok (.aload 8, 2) := by decide +kernel
theorem dX11_settle_128 : decode cX11_settle 128 = .ok (.invokevirtual 134, 3) := by decide +kernel
theorem dX11_settle_131 : decode cX11_settle 131 = .ok (.iload 7, 2) := by decide +kernel
theorem dX11_settle_133 : decode cX11_settle 133 = .ok (.aload 8, 2) := by decide +kernel
theorem dX11_settle_135 : decode cX11_settle 135 = .ok (.getfield 25, 3) := by decide +kernel
theorem dX11_settle_138 : decode cX11_settle 138 = .ok (.iadd, 1) := by decide +kernel
theorem dX11_settle_139 : decode cX11_settle 139 = .ok (.istore 7, 2) := by decide +kernel
theorem dX11_settle_141 : decode cX11_settle 141 = .ok (.goto (-80), 3) := by decide +kernel
theorem dX11_settle_144 : decode cX11_settle 144 = .ok (.aload 6, 2) := by decide +kernel
theorem dX11_settle_146 : decode cX11_settle 146 = .ok (.iload_n 1, 1) := by decide +kernel
theorem dX11_settle_147 : decode cX11_settle 147 = .ok (.iload_n 2, 1) := by decide +kernel
theorem dX11_settle_148 : decode cX11_settle 148 = .ok (.iload_n 3, 1) := by decide +kernel
theorem dX11_settle_149 : decode cX11_settle 149 = .ok (.aload 4, 2) := by decide +kernel
theorem dX11_settle_151 : decode cX11_settle 151 = .ok (.iload 5, 2) := by decide +kernel
theorem dX11_settle_153 : decode cX11_settle 153 = .ok (.invokevirtual 117, 3) := by decide +kernel
theorem dX11_settle_156 : decode cX11_settle 156 = .ok (.invokevirtual 121, 3) := by decide +kernel
theorem dX11_settle_159 : decode cX11_settle 159 = .ok (.areturn, 1) := by decide +kernel
theorem dX11_isQuiet_0 : decode cX11_isQuiet 0 = .ok (.aload_n 0, 1) := by decide +kernel
theorem dX11_isQuiet_1 : decode cX11_isQuiet 1 = .ok (.getfield 15, 3) := by decide +kernel
theorem dX11_isQuiet_4 : decode cX11_isQuiet 4 = .ok (.getfield 48, 3) := by decide +kernel
theorem dX11_isQuiet_7 : decode cX11_isQuiet 7 = .ok (.ifCond .ne 7, 3) := by decide +kernel
theorem dX11_isQuiet_10 : decode cX11_isQuiet 10 = .ok (.iconst 1, 1) := by decide +kernel
theorem dX11_isQuiet_11 : decode cX11_isQuiet 11 = .ok (.goto 4, 3) := by decide +kernel
theorem dX11_isQuiet_14 : decode cX11_isQuiet 14 = .ok (.iconst 0, 1) := by decide +kernel
theorem dX11_isQuiet_15 : decode cX11_isQuiet 15 = .ok (.istore_n 1, 1) := by decide +kernel
theorem dX11_isQuiet_16 : decode cX11_isQuiet 16 = .ok (.iconst 0, 1) := by decide +kernel
theorem dX11_isQuiet_17 : decode cX11_isQuiet 17 = .ok (.istore_n 2, 1) := by decide +kernel
theorem dX11_isQuiet_18 : decode cX11_isQuiet 18 = .ok (.iload_n 2, 1) := by decide +kernel
theorem dX11_isQuiet_19 : decode cX11_isQuiet 19 = .ok (.aload_n 0, 1) := by decide +kernel
theorem dX11_isQuiet_20 : decode cX11_isQuiet 20 = .ok (.getfield 9, 3) := by decide +kernel
theorem dX11_isQuiet_23 : decode cX11_isQuiet 23 = .ok (.getfield 25, 3) := by decide +kernel
theorem dX11_isQuiet_26 : decode cX11_isQuiet 26 = .ok (.if_icmp .ge 26, 3) := by decide +kernel
theorem dX11_isQuiet_29 : decode cX11_isQuiet 29 = .ok (.iload_n 1, 1) := by decide +kernel
theorem dX11_isQuiet_30 : decode cX11_isQuiet 30 = .ok (.ifCond .eq 22, 3) := by decide +kernel
theorem dX11_isQuiet_33 : decode cX11_isQuiet 33 = .ok (.aload_n 0, 1) := by decide +kernel
theorem dX11_isQuiet_34 : decode cX11_isQuiet 34 = .ok (.getfield 9, 3) := by decide +kernel
theorem dX11_isQuiet_37 : decode cX11_isQuiet 37 = .ok (.getfield 40, 3) := by decide +kernel
theorem dX11_isQuiet_40 : decode cX11_isQuiet 40 = .ok (.iload_n 2, 1) := by decide +kernel
theorem dX11_isQuiet_41 : decode cX11_isQuiet 41 = .ok (.aaload, 1) := by decide +kernel
theorem dX11_isQuiet_42 : decode cX11_isQuiet 42 = .ok (.invokevirtual 125, 3) := by decide +kernel
theorem dX11_isQuiet_45 : decode cX11_isQuiet 45 = .ok (.istore_n 1, 1) := by decide +kernel
theorem dX11_isQuiet_46 : decode cX11_isQuiet 46 = .ok (.iinc 2 1, 3) := by decide +kernel
theorem dX11_isQuiet_49 : decode cX11_isQuiet 49 = .ok (.goto (-31), 3) := by decide +kernel
theorem dX11_isQuiet_52 : decode cX11_isQuiet 52 = .ok (.iload_n 1, 1) := by decide +kernel
theorem dX11_isQuiet_53 : decode cX11_isQuiet 53 = .ok (.ireturn, 1) := by decide +kernel
theorem dX11_mine_0 : decode cX11_mine 0 = .ok (.aload_n 0, 1) := by decide +kernel
theorem dX11_mine_1 : decode cX11_mine 1 = .ok (.getfield 90, 3) := by decide +kernel
theorem dX11_mine_4 : decode cX11_mine 4 = .ok (.iload_n 1, 1) := by decide +kernel
theorem dX11_mine_5 : decode cX11_mine 5 = .ok (.if_icmp .ne 5, 3) := by decide +kernel
theorem dX11_mine_8 : decode cX11_mine 8 = .ok (.aload_n 0, 1) := by decide +kernel
theorem dX11_mine_9 : decode cX11_mine 9 = .ok (.areturn, 1) := by decide +kernel
theorem dX11_mine_10 : decode cX11_mine 10 = .ok (.new 26, 3) := by decide +kernel
theorem dX11_mine_13 : decode cX11_mine 13 = .ok (.dup, 1) := by decide +kernel
theorem dX11_mine_14 : decode cX11_mine 14 = .ok (.invokespecial 93, 3) := by decide +kernel
theorem dX11_mine_17 : decode cX11_mine 17 = .ok (.astore_n 2, 1) := by decide +kernel
theorem dX11_mine_18 : decode cX11_mine 18 = .ok (.iconst 0, 1) := by decide +kernel
theorem dX11_mine_19 : decode cX11_mine 19 = .ok (.istore_n 3, 1) := by decide +kernel
theorem dX11_mine_20 : decode cX11_mine 20 = .ok (.iload_n 3, 1) := by decide +kernel
theorem dX11_mine_21 : decode cX11_mine 21 = .ok (.aload_n 0, 1) := by decide +kernel
theorem dX11_mine_22 : decode cX11_mine 22 = .ok (.getfield 9, 3) := by decide +kernel
theorem dX11_mine_25 : decode cX11_mine 25 = .ok (.getfield 25, 3) := by decide +kernel
theorem dX11_mine_28 : decode cX11_mine 28 = .ok (.if_icmp .ge 32, 3) := by decide +kernel
theorem dX11_mine_31 : decode cX11_mine 31 = .ok (.aload_n 2, 1) := by decide +kernel
theorem dX11_mine_32 : decode cX11_mine 32 = .ok (.aload_n 0, 1) := by decide +kernel
theorem dX11_mine_33 : decode cX11_mine 33 = .ok (.getfield 9, 3) := by decide +kernel
theorem dX11_mine_36 : decode cX11_mine 36 = .ok (.getfield 40, 3) := by decide +kernel
theorem dX11_mine_39 : decode cX11_mine 39 = .ok (.iload_n 3, 1) := by decide +kernel
theorem dX11_mine_40 : decode cX11_mine 40 = .ok (.aaload, 1) := by decide +kernel
theorem dX11_mine_41 : decode cX11_mine 41 = .ok (.aload_n 0, 1) := by decide +kernel
theorem dX11_mine_42 : decode cX11_mine 42 = .ok (.getfield 9, 3) := by decide +kernel
theorem dX11_mine_45 : decode cX11_mine 45 = .ok (.getfield 31, 3) := by decide +kernel
theorem dX11_mine_48 : decode cX11_mine 48 = .ok (.iload_n 3, 1) := by decide +kernel
theorem dX11_mine_49 : decode cX11_mine 49 = .ok (.iaload, 1) := by decide +kernel
theorem dX11_mine_50 : decode cX11_mine 50 = .ok (.invokevirtual 96, 3) := by decide +kernel
theorem dX11_mine_53 : decode cX11_mine 53 = .ok (.pop, 1) := by decide +kernel
theorem dX11_mine_54 : decode cX11_mine 54 = .ok (.iinc 3 1, 3) := by decide +kernel
theorem dX11_mine_57 : decode cX11_mine 57 = .ok (.goto (-37), 3) := by decide +kernel
theorem dX11_mine_60 : decode cX11_mine 60 = .ok (.new 49, 3) := by decide +kernel
theorem dX11_mine_63 : decode cX11_mine 63 = .ok (.dup, 1) := by decide +kernel
theorem dX11_mine_64 : decode cX11_mine 64 = .ok (.invokespecial 99, 3) := by decide +kernel
theorem dX11_mine_67 : decode cX11_mine 67 = .ok (.astore_n 3, 1) := by decide +kernel
theorem dX11_mine_68 : decode cX11_mine 68 = .ok (.iconst 0, 1) := by decide +kernel
theorem dX11_mine_69 : decode cX11_mine 69 = .ok (.istore 4, 2) := by decide +kernel
theorem dX11_mine_71 : decode cX11_mine 71 = .ok (.iload 4, 2) := by decide +kernel
theorem dX11_mine_73 : decode cX11_mine 73 = .ok (.aload_n 0, 1) := by decide +kernel
theorem dX11_mine_74 : decode cX11_mine 74 = .ok (.getfield 15, 3) := by decide +kernel
theorem dX11_mine_77 : decode cX11_mine 77 = .ok (.getfield 48, 3) := by decide +kernel
theorem dX11_mine_80 : decode cX11_mine 80 = .ok (.if_icmp .ge 23, 3) := by decide +kernel
theorem dX11_mine_83 : decode cX11_mine 83 = .ok (.aload_n 3, 1) := by decide +kernel
theorem dX11_mine_84 : decode cX11_mine 84 = .ok (.aload_n 0, 1) := by decide +kernel
theorem dX11_mine_85 : decode cX11_mine 85 = .ok (.getfield 15, 3) := by decide +kernel
theorem dX11_mine_88 : decode cX11_mine 88 = .ok (.getfield 51, 3) := by decide +kernel
theorem dX11_mine_91 : decode cX11_mine 91 = .ok (.iload 4, 2) := by decide +kernel
theorem dX11_mine_93 : decode cX11_mine 93 = .ok (.aaload, 1) := by decide +kernel
theorem dX11_mine_94 : decode cX11_mine 94 = .ok (.invokevirtual 100, 3) := by decide +kernel
theorem dX11_mine_97 : decode cX11_mine 97 = .ok (.iinc 4 1, 3) := by decide +kernel
theorem dX11_mine_100 : decode cX11_mine 100 = .ok (.goto (-29), 3) := by decide +kernel
theorem dX11_mine_103 : decode cX11_mine 103 = .ok (.new 10, 3) := by decide +kernel
theorem dX11_mine_106 : decode cX11_mine 106 = .ok (.dup, 1) := by decide +kernel
theorem dX11_mine_107 : decode cX11_mine 107 = .ok (.iload_n 1, 1) := by decide +kernel
theorem dX11_mine_108 : decode cX11_mine 108 = .ok (.aload_n 2, 1) := by decide +kernel
theorem dX11_mine_109 : decode cX11_mine 109 = .ok (.aload_n 3, 1) := by decide +kernel
theorem dX11_mine_110 : decode cX11_mine 110 = .ok (.invokespecial 102, 3) := by decide +kernel
theorem dX11_mine_113 : decode cX11_mine 113 = .ok (.areturn, 1) := by decide +kernel
theorem dX11_init_0 : decode cX11_init 0 = .ok (.aload_n 0, 1) := by decide +kernel
theorem dX11_init_1 : decode cX11_init 1 = .ok (.iload_n 1, 1) := by decide +kernel
theorem dX11_init_2 : decode cX11_init 2 = .ok (.invokespecial 3, 3) := by decide +kernel
theorem dX11_init_5 : decode cX11_init 5 = .ok (.aload_n 0, 1) := by decide +kernel
theorem dX11_init_6 : decode cX11_init 6 = .ok (.aload_n 2, 1) := by decide +kernel
theorem dX11_init_7 : decode cX11_init 7 = .ok (.putfield 9, 3) := by decide +kernel
theorem dX11_init_10 : decode cX11_init 10 = .ok (.aload_n 0, 1) := by decide +kernel
theorem dX11_init_11 : decode cX11_init 11 = .ok (.aload_n 3, 1) := by decide +kernel
theorem dX11_init_12 : decode cX11_init 12 = .ok (.putfield 15, 3) := by decide +kernel
theorem dX11_init_15 : decode cX11_init 15 = .ok (.return_, 1) := by decide +kernel
theorem dX11_fullest_0 : decode cX11_fullest 0 = .ok (.iconst 0, 1) := by decide +kernel
theorem dX11_fullest_1 : decode cX11_fullest 1 = .ok (.istore_n 2, 1) := by decide +kernel
theorem dX11_fullest_2 : decode cX11_fullest 2 = .ok (.iconst (-1), 1) := by decide +kernel
theorem dX11_fullest_3 : decode cX11_fullest 3 = .ok (.istore_n 3, 1) := by decide +kernel
theorem dX11_fullest_4 : decode cX11_fullest 4 = .ok (.iconst 0, 1) := by decide +kernel
theorem dX11_fullest_5 : decode cX11_fullest 5 = .ok (.istore 4, 2) := by decide +kernel
theorem dX11_fullest_7 : decode cX11_fullest 7 = .ok (.iload 4, 2) := by decide +kernel
theorem dX11_fullest_9 : decode cX11_fullest 9 = .ok (.aload_n 0, 1) := by decide +kernel
theorem dX11_fullest_10 : decode cX11_fullest 10 = .ok (.getfield 9, 3) := by decide +kernel
theorem dX11_fullest_13 : decode cX11_fullest 13 = .ok (.getfield 25, 3) := by decide +kernel
theorem dX11_fullest_16 : decode cX11_fullest 16 = .ok (.if_icmp .ge 99, 3) := by decide +kernel
theorem dX11_fullest_19 : decode cX11_fullest 19 = .ok (.iconst 0, 1) := by decide +kernel
theorem dX11_fullest_20 : decode cX11_fullest 20 = .ok (.istore 5, 2) := by decide +kernel
theorem dX11_fullest_22 : decode cX11_fullest 22 = .ok (.iconst 0, 1) := by decide +kernel
theorem dX11_fullest_23 : decode cX11_fullest 23 = .ok (.istore 6, 2) := by decide +kernel
theorem dX11_fullest_25 : decode cX11_fullest 25 = .ok (.iload 6, 2) := by decide +kernel
theorem dX11_fullest_27 : decode cX11_fullest 27 = .ok (.aload_n 0, 1) := by decide +kernel
theorem dX11_fullest_28 : decode cX11_fullest 28 = .ok (.getfield 15, 3) := by decide +kernel
theorem dX11_fullest_31 : decode cX11_fullest 31 = .ok (.getfield 48, 3) := by decide +kernel
theorem dX11_fullest_34 : decode cX11_fullest 34 = .ok (.if_icmp .ge 55, 3) := by decide +kernel
theorem dX11_fullest_37 : decode cX11_fullest 37 = .ok (.iload 5, 2) := by decide +kernel
theorem dX11_fullest_39 : decode cX11_fullest 39 = .ok (.aload_n 0, 1) := by decide +kernel
theorem dX11_fullest_40 : decode cX11_fullest 40 = .ok (.getfield 15, 3) := by decide +kernel
theorem dX11_fullest_43 : decode cX11_fullest 43 = .ok (.getfield 51, 3) := by decide +kernel
theorem dX11_fullest_46 : decode cX11_fullest 46 = .ok (.iload 6, 2) := by decide +kernel
theorem dX11_fullest_48 : decode cX11_fullest 48 = .ok (.aaload, 1) := by decide +kernel
theorem dX11_fullest_49 : decode cX11_fullest 49 = .ok (.aload_n 0, 1) := by decide +kernel
theorem dX11_fullest_50 : decode cX11_fullest 50 = .ok (.getfield 9, 3) := by decide +kernel
theorem dX11_fullest_53 : decode cX11_fullest 53 = .ok (.getfield 31, 3) := by decide +kernel
theorem dX11_fullest_56 : decode cX11_fullest 56 = .ok (.iload 4, 2) := by decide +kernel
theorem dX11_fullest_58 : decode cX11_fullest 58 = .ok (.iaload, 1) := by decide +kernel
theorem dX11_fullest_59 : decode cX11_fullest 59 = .ok (.aload_n 0, 1) := by decide +kernel
theorem dX11_fullest_60 : decode cX11_fullest 60 = .ok (.getfield 9, 3) := by decide +kernel
theorem dX11_fullest_63 : decode cX11_fullest 63 = .ok (.iload 4, 2) := by decide +kernel
theorem dX11_fullest_65 : decode cX11_fullest 65 = .ok (.iload_n 1, 1) := by decide +kernel
theorem dX11_fullest_66 : decode cX11_fullest 66 = .ok (.invokevirtual 36, 3) := by decide +kernel
theorem dX11_fullest_69 : decode cX11_fullest 69 = .ok (.invokevirtual 55, 3) := by decide +kernel
theorem dX11_fullest_72 : decode cX11_fullest 72 = .ok (.ifCond .eq 7, 3) := by decide +kernel
theorem dX11_fullest_75 : decode cX11_fullest 75 = .ok (.iconst 1, 1) := by decide +kernel
theorem dX11_fullest_76 : decode cX11_fullest 76 = .ok (.goto 4, 3) := by decide +kernel
theorem dX11_fullest_79 : decode cX11_fullest 79 = .ok (.iconst 0, 1) := by decide +kernel
theorem dX11_fullest_80 : decode cX11_fullest 80 = .ok (.iadd, 1) := by decide +kernel
theorem dX11_fullest_81 : decode cX11_fullest 81 = .ok (.istore 5, 2) := by decide +kernel
theorem dX11_fullest_83 : decode cX11_fullest 83 = .ok (.iinc 6 1, 3) := by decide +kernel
theorem dX11_fullest_86 : decode cX11_fullest 86 = .ok (.goto (-61), 3) := by decide +kernel
theorem dX11_fullest_89 : decode cX11_fullest 89 = .ok (.iload 5, 2) := by decide +kernel
theorem dX11_fullest_91 : decode cX11_fullest 91 = .ok (.iload_n 3, 1) := by decide +kernel
theorem dX11_fullest_92 : decode cX11_fullest 92 = .ok (.if_icmp .le 8, 3) := by decide +kernel
theorem dX11_fullest_95 : decode cX11_fullest 95 = .ok (.iload 4, 2) := by decide +kernel
theorem dX11_fullest_97 : decode cX11_fullest 97 = .ok (.goto 4, 3) := by decide +kernel
theorem dX11_fullest_100 : decode cX11_fullest 100 = .ok (.iload_n 2, 1) := by decide +kernel
theorem dX11_fullest_101 : decode cX11_fullest 101 = .ok (.istore_n 2, 1) := by decide +kernel
theorem dX11_fullest_102 : decode cX11_fullest 102 = .ok (.iload_n 3, 1) := by decide +kernel
theorem dX11_fullest_103 : decode cX11_fullest 103 = .ok (.iload 5, 2) := by decide +kernel
theorem dX11_fullest_105 : decode cX11_fullest 105 = .ok (.invokestatic 138, 3) := by decide +kernel
theorem dX11_fullest_108 : decode cX11_fullest 108 = .ok (.istore_n 3, 1) := by decide +kernel
theorem dX11_fullest_109 : decode cX11_fullest 109 = .ok (.iinc 4 1, 3) := by decide +kernel
theorem dX11_fullest_112 : decode cX11_fullest 112 = .ok (.goto (-105), 3) := by decide +kernel
theorem dX11_fullest_115 : decode cX11_fullest 115 = .ok (.iload_n 2, 1) := by decide +kernel
theorem dX11_fullest_116 : decode cX11_fullest 116 = .ok (.ireturn, 1) := by decide +kernel
theorem dX11_send_0 : decode cX11_send 0 = .ok (.aload_n 0, 1) := by decide +kernel
theorem dX11_send_1 : decode cX11_send 1 = .ok (.getfield 9, 3) := by decide +kernel
theorem dX11_send_4 : decode cX11_send 4 = .ok (.getfield 31, 3) := by decide +kernel
theorem dX11_send_7 : decode cX11_send 7 = .ok (.iload_n 1, 1) := by decide +kernel
theorem dX11_send_8 : decode cX11_send 8 = .ok (.iaload, 1) := by decide +kernel
theorem dX11_send_9 : decode cX11_send 9 = .ok (.istore 6, 2) := by decide +kernel
theorem dX11_send_11 : decode cX11_send 11 = .ok (.aload_n 0, 1) := by decide +kernel
theorem dX11_send_12 : decode cX11_send 12 = .ok (.getfield 9, 3) := by decide +kernel
theorem dX11_send_15 : decode cX11_send 15 = .ok (.iload_n 1, 1) := by decide +kernel
theorem dX11_send_16 : decode cX11_send 16 = .ok (.iload_n 3, 1) := by decide +kernel
theorem dX11_send_17 : decode cX11_send 17 = .ok (.invokevirtual 36, 3) := by decide +kernel
theorem dX11_send_20 : decode cX11_send 20 = .ok (.istore 7, 2) := by decide +kernel
theorem dX11_send_22 : decode cX11_send 22 = .ok (.aload 4, 2) := by decide +kernel
theorem dX11_send_24 : decode cX11_send 24 = .ok (.iload 5, 2) := by decide +kernel
theorem dX11_send_26 : decode cX11_send 26 = .ok (.invokevirtual 143, 3) := by decide +kernel
theorem dX11_send_29 : decode cX11_send 29 = .ok (.astore 8, 2) := by decide +kernel
theorem dX11_send_31 : decode cX11_send 31 = .ok (.aload 4, 2) := by decide +kernel
theorem dX11_send_33 : decode cX11_send 33 = .ok (.iload 5, 2) := by decide +kernel
theorem dX11_send_35 : decode cX11_send 35 = .ok (.invokevirtual 147, 3) := by decide +kernel
theorem dX11_send_38 : decode cX11_send 38 = .ok (.astore 9, 2) := by decide +kernel
theorem dX11_send_40 : decode cX11_send 40 = .ok (.iconst 0, 1) := by decide +kernel
theorem dX11_send_41 : decode cX11_send 41 = .ok (.istore 10, 2) := by decide +kernel
theorem dX11_send_43 : decode cX11_send 43 = .ok (.iload 10, 2) := by decide +kernel
theorem dX11_send_45 : decode cX11_send 45 = .ok (.aload_n 0, 1) := by decide +kernel
theorem dX11_send_46 : decode cX11_send 46 = .ok (.getfield 15, 3) := by decide +kernel
theorem dX11_send_49 : decode cX11_send 49 = .ok (.getfield 48, 3) := by decide +kernel
theorem dX11_send_52 : decode cX11_send 52 = .ok (.if_icmp .ge 115, 3) := by decide +kernel
theorem dX11_send_55 : decode cX11_send 55 = .ok (.aload_n 0, 1) := by decide +kernel
theorem dX11_send_56 : decode cX11_send 56 = .ok (.getfield 15, 3) := by decide +kernel
theorem dX11_send_59 : decode cX11_send 59 = .ok (.getfield 51, 3) := by decide +kernel
theorem dX11_send_62 : decode cX11_send 62 = .ok (.iload 10, 2) := by decide +kernel
theorem dX11_send_64 : decode cX11_send 64 = .ok (.aaload, 1) := by decide +kernel
theorem dX11_send_65 : decode cX11_send 65 = .ok (.astore 11, 2) := by decide +kernel
theorem dX11_send_67 : decode cX11_send 67 = .ok (.aload 11, 2) := by decide +kernel
theorem dX11_send_69 : decode cX11_send 69 = .ok (.iload 6, 2) := by decide +kernel
theorem dX11_send_71 : decode cX11_send 71 = .ok (.iload 7, 2) := by decide +kernel
theorem dX11_send_73 : decode cX11_send 73 = .ok (.invokevirtual 55, 3) := by decide +kernel
theorem dX11_send_76 : decode cX11_send 76 = .ok (.ifCond .ne 13, 3) := by decide +kernel
theorem dX11_send_79 : decode cX11_send 79 = .ok (.aload 9, 2) := by decide +kernel
theorem dX11_send_81 : decode cX11_send 81 = .ok (.aload 11, 2) := by decide +kernel
theorem dX11_send_83 : decode cX11_send 83 = .ok (.invokevirtual 100, 3) := by decide +kernel
theorem dX11_send_86 : decode cX11_send 86 = .ok (.goto 75, 3) := by decide +kernel
theorem dX11_send_89 : decode cX11_send 89 = .ok (.aload 8, 2) := by decide +kernel
theorem dX11_send_91 : decode cX11_send 91 = .ok (.aload 11, 2) := by decide +kernel
theorem dX11_send_93 : decode cX11_send 93 = .ok (.iload 6, 2) := by decide +kernel
theorem dX11_send_95 : decode cX11_send 95 = .ok (.iload 7, 2) := by decide +kernel
theorem dX11_send_97 : decode cX11_send 97 = .ok (.invokevirtual 61, 3) := by decide +kernel
theorem dX11_send_100 : decode cX11_send 100 = .ok (.invokevirtual 100, 3) := by decide +kernel
theorem dX11_send_103 : decode cX11_send 103 = .ok (.aload 11, 2) := by decide +kernel
theorem dX11_send_105 : decode cX11_send 105 = .ok (.getfield 150, 3) := by decide +kernel
theorem dX11_send_108 : decode cX11_send 108 = .ok (.iload 6, 2) := by decide +kernel
theorem dX11_send_110 : decode cX11_send 110 = .ok (.if_icmp .ge 22, 3) := by decide +kernel
theorem dX11_send_113 : decode cX11_send 113 = .ok (.aload 9, 2) := by decide +kernel
theorem dX11_send_115 : decode cX11_send 115 = .ok (.aload 11, 2) := by decide +kernel
theorem dX11_send_117 : decode cX11_send 117 = .ok (.aload 11, 2) := by decide +kernel
theorem dX11_send_119 : decode cX11_send 119 = .ok (.getfield 150, 3) := by decide +kernel
theorem dX11_send_122 : decode cX11_send 122 = .ok (.iload 6, 2) := by decide +kernel
theorem dX11_send_124 : decode cX11_send 124 = .ok (.iconst 1, 1) := by decide +kernel
theorem dX11_send_125 : decode cX11_send 125 = .ok (.isub, 1) := by decide +kernel
theorem dX11_send_126 : decode cX11_send 126 = .ok (.invokevirtual 61, 3) := by decide +kernel
theorem dX11_send_129 : decode cX11_send 129 = .ok (.invokevirtual 100, 3) := by decide +kernel
theorem dX11_send_132 : decode cX11_send 132 = .ok (.aload 11, 2) := by decide +kernel
theorem dX11_send_134 : decode cX11_send 134 = .ok (.getfield 153, 3) := by decide +kernel
theorem dX11_send_137 : decode cX11_send 137 = .ok (.iload 7, 2) := by decide +kernel
theorem dX11_send_139 : decode cX11_send 139 = .ok (.if_icmp .le 22, 3) := by decide +kernel
theorem dX11_send_142 : decode cX11_send 142 = .ok (.aload 9, 2) := by decide +kernel
theorem dX11_send_144 : decode cX11_send 144 = .ok (.aload 11, 2) := by decide +kernel
theorem dX11_send_146 : decode cX11_send 146 = .ok (.iload 7, 2) := by decide +kernel
theorem dX11_send_148 : decode cX11_send 148 = .ok (.iconst 1, 1) := by decide +kernel
theorem dX11_send_149 : decode cX11_send 149 = .ok (.iadd, 1) := by decide +kernel
theorem dX11_send_150 : decode cX11_send 150 = .ok (.aload 11, 2) := by decide +kernel
theorem dX11_send_152 : decode cX11_send 152 = .ok (.getfield 153, 3) := by decide +kernel
theorem dX11_send_155 : decode cX11_send 155 = .ok (.invokevirtual 61, 3) := by decide +kernel
theorem dX11_send_158 : decode cX11_send 158 = .ok (.invokevirtual 100, 3) := by decide +kernel
theorem dX11_send_161 : decode cX11_send 161 = .ok (.iinc 10 1, 3) := by decide +kernel
theorem dX11_send_164 : decode cX11_send 164 = .ok (.goto (-121), 3) := by decide +kernel
theorem dX11_send_167 : decode cX11_send 167 = .ok (.aload_n 0, 1) := by decide +kernel
theorem dX11_send_168 : decode cX11_send 168 = .ok (.getfield 15, 3) := by decide +kernel
theorem dX11_send_171 : decode cX11_send 171 = .ok (.aload 9, 2) := by decide +kernel
theorem dX11_send_173 : decode cX11_send 173 = .ok (.invokevirtual 156, 3) := by decide +kernel
theorem dX11_send_176 : decode cX11_send 176 = .ok (.aload_n 0, 1) := by decide +kernel
theorem dX11_send_177 : decode cX11_send 177 = .ok (.getfield 9, 3) := by decide +kernel
theorem dX11_send_180 : decode cX11_send 180 = .ok (.iload_n 1, 1) := by decide +kernel
theorem dX11_send_181 : decode cX11_send 181 = .ok (.aload_n 0, 1) := by decide +kernel
theorem dX11_send_182 : decode cX11_send 182 = .ok (.getfield 9, 3) := by decide +kernel
theorem dX11_send_185 : decode cX11_send 185 = .ok (.getfield 40, 3) := by decide +kernel
theorem dX11_send_188 : decode cX11_send 188 = .ok (.iload_n 1, 1) := by decide +kernel
theorem dX11_send_189 : decode cX11_send 189 = .ok (.aaload, 1) := by decide +kernel
theorem dX11_send_190 : decode cX11_send 190 = .ok (.aload 8, 2) := by decide +kernel
theorem dX11_send_192 : decode cX11_send 192 = .ok (.iload_n 2, 1) := by decide +kernel
theorem dX11_send_193 : decode cX11_send 193 = .ok (.iload 6, 2) := by decide +kernel
theorem dX11_send_195 : decode cX11_send 195 = .ok (.iload 7, 2) := by decide +kernel
theorem dX11_send_197 : decode cX11_send 197 = .ok (.aload 4, 2) := by decide +kernel
theorem dX11_send_199 : decode cX11_send 199 = .ok (.iload 5, 2) := by decide +kernel
theorem dX11_send_201 : decode cX11_send 201 = .ok (.iconst 1, 1) := by decide +kernel
theorem dX11_send_202 : decode cX11_send 202 = .ok (.iadd, 1) := by decide +kernel
theorem dX11_send_203 : decode cX11_send 203 = .ok (.invokevirtual 160, 3) := by decide +kernel
theorem dX11_send_206 : decode cX11_send 206 = .ok (.invokevirtual 134, 3) := by decide +kernel
theorem dX11_send_209 : decode cX11_send 209 = .ok (.return_, 1) := by decide +kernel
theorem dX11_take_0 : decode cX11_take 0 = .ok (.aload_n 0, 1) := by decide +kernel
theorem dX11_take_1 : decode cX11_take 1 = .ok (.iload_n 2, 1) := by decide +kernel
theorem dX11_take_2 : decode cX11_take 2 = .ok (.invokevirtual 105, 3) := by decide +kernel
theorem dX11_take_5 : decode cX11_take 5 = .ok (.astore 7, 2) := by decide +kernel
theorem dX11_take_7 : decode cX11_take 7 = .ok (.iconst 0, 1) := by decide +kernel
theorem dX11_take_8 : decode cX11_take 8 = .ok (.istore 8, 2) := by decide +kernel
theorem dX11_take_10 : decode cX11_take 10 = .ok (.iload 8, 2) := by decide +kernel
theorem dX11_take_12 : decode cX11_take 12 = .ok (.aload_n 1, 1) := by decide +kernel
theorem dX11_take_13 : decode cX11_take 13 = .ok (.getfield 48, 3) := by decide +kernel
theorem dX11_take_16 : decode cX11_take 16 = .ok (.if_icmp .ge 24, 3) := by decide +kernel
theorem dX11_take_19 : decode cX11_take 19 = .ok (.aload 7, 2) := by decide +kernel
theorem dX11_take_21 : decode cX11_take 21 = .ok (.getfield 15, 3) := by decide +kernel
theorem dX11_take_24 : decode cX11_take 24 = .ok (.aload_n 1, 1) := by decide +kernel
theorem dX11_take_25 : decode cX11_take 25 = .ok (.getfield 51, 3) := by decide +kernel
theorem dX11_take_28 : decode cX11_take 28 = .ok (.iload 8, 2) := by decide +kernel
theorem dX11_take_30 : decode cX11_take 30 = .ok (.aaload, 1) := by decide +kernel
theorem dX11_take_31 : decode cX11_take 31 = .ok (.invokevirtual 100, 3) := by decide +kernel
theorem dX11_take_34 : decode cX11_take 34 = .ok (.iinc 8 1, 3) := by decide +kernel
theorem dX11_take_37 : decode cX11_take 37 = .ok (.goto (-27), 3) := by decide +kernel
theorem dX11_take_40 : decode cX11_take 40 = .ok (.aload 7, 2) := by decide +kernel
theorem dX11_take_42 : decode cX11_take 42 = .ok (.getfield 15, 3) := by decide +kernel
theorem dX11_take_45 : decode cX11_take 45 = .ok (.getfield 48, 3) := by decide +kernel
theorem dX11_take_48 : decode cX11_take 48 = .ok (.bipush 24, 2) := by decide +kernel
theorem dX11_take_50 : decode cX11_take 50 = .ok (.if_icmp .le 25, 3) := by decide +kernel
theorem dX11_take_53 : decode cX11_take 53 = .ok (.aload 7, 2) := by decide +kernel
theorem dX11_take_55 : decode cX11_take 55 = .ok (.aload 7, 2) := by decide +kernel
theorem dX11_take_57 : decode cX11_take 57 = .ok (.iload 4, 2) := by decide +kernel
theorem dX11_take_59 : decode cX11_take 59 = .ok (.invokevirtual 109, 3) := by decide +kernel
theorem dX11_take_62 : decode cX11_take 62 = .ok (.iload_n 2, 1) := by decide +kernel
theorem dX11_take_63 : decode cX11_take 63 = .ok (.iload 4, 2) := by decide +kernel
theorem dX11_take_65 : decode cX11_take 65 = .ok (.aload 5, 2) := by decide +kernel
theorem dX11_take_67 : decode cX11_take 67 = .ok (.iload 6, 2) := by decide +kernel
theorem dX11_take_69 : decode cX11_take 69 = .ok (.invokevirtual 113, 3) := by decide +kernel
theorem dX11_take_72 : decode cX11_take 72 = .ok (.goto (-32), 3) := by decide +kernel
theorem dX11_take_75 : decode cX11_take 75 = .ok (.aload 7, 2) := by decide +kernel
theorem dX11_take_77 : decode cX11_take 77 = .ok (.iload_n 2, 1) := by decide +kernel
theorem dX11_take_78 : decode cX11_take 78 = .ok (.iload_n 3, 1) := by decide +kernel
theorem dX11_take_79 : decode cX11_take 79 = .ok (.iload 4, 2) := by decide +kernel
theorem dX11_take_81 : decode cX11_take 81 = .ok (.aload 5, 2) := by decide +kernel
theorem dX11_take_83 : decode cX11_take 83 = .ok (.iload 6, 2) := by decide +kernel
theorem dX11_take_85 : decode cX11_take 85 = .ok (.invokevirtual 117, 3) := by decide +kernel
theorem dX11_take_88 : decode cX11_take 88 = .ok (.invokevirtual 121, 3) := by decide +kernel
theorem dX11_take_91 : decode cX11_take 91 = .ok (.areturn, 1) := by decide +kernel
theorem dX11_parts_0 : decode cX11_parts 0 = .ok (.aload_n 0, 1) := by decide +kernel
theorem dX11_parts_1 : decode cX11_parts 1 = .ok (.getfield 9, 3) := by decide +kernel
theorem dX11_parts_4 : decode cX11_parts 4 = .ok (.getfield 25, 3) := by decide +kernel
theorem dX11_parts_7 : decode cX11_parts 7 = .ok (.bipush 8, 2) := by decide +kernel
theorem dX11_parts_9 : decode cX11_parts 9 = .ok (.if_icmp .gt 11, 3) := by decide +kernel
theorem dX11_parts_12 : decode cX11_parts 12 = .ok (.aload 4, 2) := by decide +kernel
theorem dX11_parts_14 : decode cX11_parts 14 = .ok (.aload_n 0, 1) := by decide +kernel
theorem dX11_parts_15 : decode cX11_parts 15 = .ok (.iload_n 2, 1) := by decide +kernel
theorem dX11_parts_16 : decode cX11_parts 16 = .ok (.invokevirtual 96, 3) := by decide +kernel
theorem dX11_parts_19 : decode cX11_parts 19 = .ok (.areturn, 1) := by decide +kernel
theorem dX11_parts_20 : decode cX11_parts 20 = .ok (.aload_n 0, 1) := by decide +kernel
theorem dX11_parts_21 : decode cX11_parts 21 = .ok (.getfield 9, 3) := by decide +kernel
theorem dX11_parts_24 : decode cX11_parts 24 = .ok (.getfield 25, 3) := by decide +kernel
theorem dX11_parts_27 : decode cX11_parts 27 = .ok (.bipush 8, 2) := by decide +kernel
theorem dX11_parts_29 : decode cX11_parts 29 = .ok (.iadd, 1) := by decide +kernel
theorem dX11_parts_30 : decode cX11_parts 30 = .ok (.iconst 1, 1) := by decide +kernel
theorem dX11_parts_31 : decode cX11_parts 31 = .ok (.isub, 1) := by decide +kernel
theorem dX11_parts_32 : decode cX11_parts 32 = .ok (.bipush 8, 2) := by decide +kernel
theorem dX11_parts_34 : decode cX11_parts 34 = .ok (.idiv, 1) := by decide +kernel
theorem dX11_parts_35 : decode cX11_parts 35 = .ok (.istore 5, 2) := by decide +kernel
theorem dX11_parts_37 : decode cX11_parts 37 = .ok (.iconst 0, 1) := by decide +kernel
theorem dX11_parts_38 : decode cX11_parts 38 = .ok (.istore 6, 2) := by decide +kernel
theorem dX11_parts_40 : decode cX11_parts 40 = .ok (.iload 6, 2) := by decide +kernel
theorem dX11_parts_42 : decode cX11_parts 42 = .ok (.iload 5, 2) := by decide +kernel
theorem dX11_parts_44 : decode cX11_parts 44 = .ok (.if_icmp .ge 223, 3) := by decide +kernel
theorem dX11_parts_47 : decode cX11_parts 47 = .ok (.aload_n 0, 1) := by decide +kernel
theorem dX11_parts_48 : decode cX11_parts 48 = .ok (.getfield 9, 3) := by decide +kernel
theorem dX11_parts_51 : decode cX11_parts 51 = .ok (.getfield 25, 3) := by decide +kernel
theorem dX11_parts_54 : decode cX11_parts 54 = .ok (.iload 6, 2) := by decide +kernel
theorem dX11_parts_56 : decode cX11_parts 56 = .ok (.imul, 1) := by decide +kernel
theorem dX11_parts_57 : decode cX11_parts 57 = .ok (.iload 5, 2) := by decide +kernel
theorem dX11_parts_59 : decode cX11_parts 59 = .ok (.idiv, 1) := by decide +kernel
theorem dX11_parts_60 : decode cX11_parts 60 = .ok (.istore 7, 2) := by decide +kernel
theorem dX11_parts_62 : decode cX11_parts 62 = .ok (.aload_n 0, 1) := by decide +kernel
theorem dX11_parts_63 : decode cX11_parts 63 = .ok (.getfield 9, 3) := by decide +kernel
theorem dX11_parts_66 : decode cX11_parts 66 = .ok (.getfield 25, 3) := by decide +kernel
theorem dX11_parts_69 : decode cX11_parts 69 = .ok (.iload 6, 2) := by decide +kernel
theorem dX11_parts_71 : decode cX11_parts 71 = .ok (.iconst 1, 1) := by decide +kernel
theorem dX11_parts_72 : decode cX11_parts 72 = .ok (.iadd, 1) := by decide +kernel
theorem dX11_parts_73 : decode cX11_parts 73 = .ok (.imul, 1) := by decide +kernel
theorem dX11_parts_74 : decode cX11_parts 74 = .ok (.iload 5, 2) := by decide +kernel
theorem dX11_parts_76 : decode cX11_parts 76 = .ok (.idiv, 1) := by decide +kernel
theorem dX11_parts_77 : decode cX11_parts 77 = .ok (.istore 8, 2) := by decide +kernel
theorem dX11_parts_79 : decode cX11_parts 79 = .ok (.new 26, 3) := by decide +kernel
theorem dX11_parts_82 : decode cX11_parts 82 = .ok (.dup, 1) := by decide +kernel
theorem dX11_parts_83 : decode cX11_parts 83 = .ok (.invokespecial 93, 3) := by decide +kernel
theorem dX11_parts_86 : decode cX11_parts 86 = .ok (.astore 9, 2) := by decide +kernel
theorem dX11_parts_88 : decode cX11_parts 88 = .ok (.iload 7, 2) := by decide +kernel
theorem dX11_parts_90 : decode cX11_parts 90 = .ok (.istore 10, 2) := by decide +kernel
theorem dX11_parts_92 : decode cX11_parts 92 = .ok (.iload 10, 2) := by decide +kernel
theorem dX11_parts_94 : decode cX11_parts 94 = .ok (.iload 8, 2) := by decide +kernel
theorem dX11_parts_96 : decode cX11_parts 96 = .ok (.if_icmp .ge 35, 3) := by decide +kernel
theorem dX11_parts_99 : decode cX11_parts 99 = .ok (.aload 9, 2) := by decide +kernel
theorem dX11_parts_101 : decode cX11_parts 101 = .ok (.aload_n 0, 1) := by decide +kernel
theorem dX11_parts_102 : decode cX11_parts 102 = .ok (.getfield 9, 3) := by decide +kernel
theorem dX11_parts_105 : decode cX11_parts 105 = .ok (.getfield 40, 3) := by decide +kernel
theorem dX11_parts_108 : decode cX11_parts 108 = .ok (.iload 10, 2) := by decide +kernel
theorem dX11_parts_110 : decode cX11_parts 110 = .ok (.aaload, 1) := by decide +kernel
theorem dX11_parts_111 : decode cX11_parts 111 = .ok (.aload_n 0, 1) := by decide +kernel
theorem dX11_parts_112 : decode cX11_parts 112 = .ok (.getfield 9, 3) := by decide +kernel
theorem dX11_parts_115 : decode cX11_parts 115 = .ok (.getfield 31, 3) := by decide +kernel
theorem dX11_parts_118 : decode cX11_parts 118 = .ok (.iload 10, 2) := by decide +kernel
theorem dX11_parts_120 : decode cX11_parts 120 = .ok (.iaload, 1) := by decide +kernel
theorem dX11_parts_121 : decode cX11_parts 121 = .ok (.invokevirtual 96, 3) := by decide +kernel
theorem dX11_parts_124 : decode cX11_parts 124 = .ok (.pop, 1) := by decide +kernel
theorem dX11_parts_125 : decode cX11_parts 125 = .ok (.iinc 10 1, 3) := by decide +kernel
theorem dX11_parts_128 : decode cX11_parts 128 = .ok (.goto (-36), 3) := by decide +kernel
theorem dX11_parts_131 : decode cX11_parts 131 = .ok (.aload_n 0, 1) := by decide +kernel
theorem dX11_parts_132 : decode cX11_parts 132 = .ok (.getfield 9, 3) := by decide +kernel
theorem dX11_parts_135 : decode cX11_parts 135 = .ok (.iload 8, 2) := by decide +kernel
theorem dX11_parts_137 : decode cX11_parts 137 = .ok (.iconst 1, 1) := by decide +kernel
theorem dX11_parts_138 : decode cX11_parts 138 = .ok (.isub, 1) := by decide +kernel
theorem dX11_parts_139 : decode cX11_parts 139 = .ok (.iload_n 3, 1) := by decide +kernel
theorem dX11_parts_140 : decode cX11_parts 140 = .ok (.invokevirtual 36, 3) := by decide +kernel
theorem dX11_parts_143 : decode cX11_parts 143 = .ok (.istore 10, 2) := by decide +kernel
theorem dX11_parts_145 : decode cX11_parts 145 = .ok (.new 49, 3) := by decide +kernel
theorem dX11_parts_148 : decode cX11_parts 148 = .ok (.dup, 1) := by decide +kernel
theorem dX11_parts_149 : decode cX11_parts 149 = .ok (.invokespecial 99, 3) := by decide +kernel
theorem dX11_parts_152 : decode cX11_parts 152 = .ok (.astore 11, 2) := by decide +kernel
theorem dX11_parts_154 : decode cX11_parts 154 = .ok (.iconst 0, 1) := by decide +kernel
theorem dX11_parts_155 : decode cX11_parts 155 = .ok (.istore 12, 2) := by decide +kernel
theorem dX11_parts_157 : decode cX11_parts 157 = .ok (.iload 12, 2) := by decide +kernel
theorem dX11_parts_159 : decode cX11_parts 159 = .ok (.aload_n 0, 1) := by decide +kernel
theorem dX11_parts_160 : decode cX11_parts 160 = .ok (.getfield 15, 3) := by decide +kernel
theorem dX11_parts_163 : decode cX11_parts 163 = .ok (.getfield 48, 3) := by decide +kernel
theorem dX11_parts_166 : decode cX11_parts 166 = .ok (.if_icmp .ge 61, 3) := by decide +kernel
theorem dX11_parts_169 : decode cX11_parts 169 = .ok (.aload_n 0, 1) := by decide +kernel
theorem dX11_parts_170 : decode cX11_parts 170 = .ok (.getfield 15, 3) := by decide +kernel
theorem dX11_parts_173 : decode cX11_parts 173 = .ok (.getfield 51, 3) := by decide +kernel
theorem dX11_parts_176 : decode cX11_parts 176 = .ok (.iload 12, 2) := by decide +kernel
theorem dX11_parts_178 : decode cX11_parts 178 = .ok (.aaload, 1) := by decide +kernel
theorem dX11_parts_179 : decode cX11_parts 179 = .ok (.aload 9, 2) := by decide +kernel
theorem dX11_parts_181 : decode cX11_parts 181 = .ok (.getfield 31, 3) := by decide +kernel
theorem dX11_parts_184 : decode cX11_parts 184 = .ok (.iconst 0, 1) := by decide +kernel
theorem dX11_parts_185 : decode cX11_parts 185 = .ok (.iaload, 1) := by decide +kernel
theorem dX11_parts_186 : decode cX11_parts 186 = .ok (.iload 10, 2) := by decide +kernel
theorem dX11_parts_188 : decode cX11_parts 188 = .ok (.invokevirtual 55, 3) := by decide +kernel
theorem dX11_parts_191 : decode cX11_parts 191 = .ok (.ifCond .eq 30, 3) := by decide +kernel
theorem dX11_parts_194 : decode cX11_parts 194 = .ok (.aload 11, 2) := by decide +kernel
theorem dX11_parts_196 : decode cX11_parts 196 = .ok (.aload_n 0, 1) := by decide +kernel
theorem dX11_parts_197 : decode cX11_parts 197 = .ok (.getfield 15, 3) := by decide +kernel
theorem dX11_parts_200 : decode cX11_parts 200 = .ok (.getfield 51, 3) := by decide +kernel
theorem dX11_parts_203 : decode cX11_parts 203 = .ok (.iload 12, 2) := by decide +kernel
theorem dX11_parts_205 : decode cX11_parts 205 = .ok (.aaload, 1) := by decide +kernel
theorem dX11_parts_206 : decode cX11_parts 206 = .ok (.aload 9, 2) := by decide +kernel
theorem dX11_parts_208 : decode cX11_parts 208 = .ok (.getfield 31, 3) := by decide +kernel
theorem dX11_parts_211 : decode cX11_parts 211 = .ok (.iconst 0, 1) := by decide +kernel
theorem dX11_parts_212 : decode cX11_parts 212 = .ok (.iaload, 1) := by decide +kernel
theorem dX11_parts_213 : decode cX11_parts 213 = .ok (.iload 10, 2) := by decide +kernel
theorem dX11_parts_215 : decode cX11_parts 215 = .ok (.invokevirtual 61, 3) := by decide +kernel
theorem dX11_parts_218 : decode cX11_parts 218 = .ok (.invokevirtual 100, 3) := by decide +kernel
theorem dX11_parts_221 : decode cX11_parts 221 = .ok (.iinc 12 1, 3) := by decide +kernel
theorem dX11_parts_224 : decode cX11_parts 224 = .ok (.goto (-67), 3) := by decide +kernel
theorem dX11_parts_227 : decode cX11_parts 227 = .ok (.aload 4, 2) := by decide +kernel
theorem dX11_parts_229 : decode cX11_parts 229 = .ok (.new 10, 3) := by decide +kernel
theorem dX11_parts_232 : decode cX11_parts 232 = .ok (.dup, 1) := by decide +kernel
theorem dX11_parts_233 : decode cX11_parts 233 = .ok (.iload_n 1, 1) := by decide +kernel
theorem dX11_parts_234 : decode cX11_parts 234 = .ok (.aload 9, 2) := by decide +kernel
theorem dX11_parts_236 : decode cX11_parts 236 = .ok (.aload 11, 2) := by decide +kernel
theorem dX11_parts_238 : decode cX11_parts 238 = .ok (.invokespecial 102, 3) := by decide +kernel
theorem dX11_parts_241 : decode cX11_parts 241 = .ok (.iload 6, 2) := by decide +kernel
theorem dX11_parts_243 : decode cX11_parts 243 = .ok (.ifCond .ne 7, 3) := by decide +kernel
theorem dX11_parts_246 : decode cX11_parts 246 = .ok (.iload_n 2, 1) := by decide +kernel
theorem dX11_parts_247 : decode cX11_parts 247 = .ok (.goto 10, 3) := by decide +kernel
theorem dX11_parts_250 : decode cX11_parts 250 = .ok (.aload 9, 2) := by decide +kernel
theorem dX11_parts_252 : decode cX11_parts 252 = .ok (.getfield 31, 3) := by decide +kernel
theorem dX11_parts_255 : decode cX11_parts 255 = .ok (.iconst 0, 1) := by decide +kernel
theorem dX11_parts_256 : decode cX11_parts 256 = .ok (.iaload, 1) := by decide +kernel
theorem dX11_parts_257 : decode cX11_parts 257 = .ok (.invokevirtual 96, 3) := by decide +kernel
theorem dX11_parts_260 : decode cX11_parts 260 = .ok (.pop, 1) := by decide +kernel
theorem dX11_parts_261 : decode cX11_parts 261 = .ok (.iinc 6 1, 3) := by decide +kernel
theorem dX11_parts_264 : decode cX11_parts 264 = .ok (.goto (-224), 3) := by decide +kernel
theorem dX11_parts_267 : decode cX11_parts 267 = .ok (.aload 4, 2) := by decide +kernel
theorem dX11_parts_269 : decode cX11_parts 269 = .ok (.areturn, 1) := by decide +kernel
theorem dX11_collect_0 : decode cX11_collect 0 = .ok (.aload 4, 2) := by decide +kernel
theorem dX11_collect_2 : decode cX11_collect 2 = .ok (.iload 5, 2) := by decide +kernel
theorem dX11_collect_4 : decode cX11_collect 4 = .ok (.invokevirtual 19, 3) := by decide +kernel
theorem dX11_collect_7 : decode cX11_collect 7 = .ok (.astore 6, 2) := by decide +kernel
theorem dX11_collect_9 : decode cX11_collect 9 = .ok (.iconst 0, 1) := by decide +kernel
theorem dX11_collect_10 : decode cX11_collect 10 = .ok (.istore 7, 2) := by decide +kernel
theorem dX11_collect_12 : decode cX11_collect 12 = .ok (.iload 7, 2) := by decide +kernel
theorem dX11_collect_14 : decode cX11_collect 14 = .ok (.aload_n 0, 1) := by decide +kernel
theorem dX11_collect_15 : decode cX11_collect 15 = .ok (.getfield 9, 3) := by decide +kernel
theorem dX11_collect_18 : decode cX11_collect 18 = .ok (.getfield 25, 3) := by decide +kernel
theorem dX11_collect_21 : decode cX11_collect 21 = .ok (.if_icmp .ge 61, 3) := by decide +kernel
theorem dX11_collect_24 : decode cX11_collect 24 = .ok (.aload_n 0, 1) := by decide +kernel
theorem dX11_collect_25 : decode cX11_collect 25 = .ok (.getfield 9, 3) := by decide +kernel
theorem dX11_collect_28 : decode cX11_collect 28 = .ok (.getfield 31, 3) := by decide +kernel
theorem dX11_collect_31 : decode cX11_collect 31 = .ok (.iload 7, 2) := by decide +kernel
theorem dX11_collect_33 : decode cX11_collect 33 = .ok (.iaload, 1) := by decide +kernel
theorem dX11_collect_34 : decode cX11_collect 34 = .ok (.iload_n 2, 1) := by decide +kernel
theorem dX11_collect_35 : decode cX11_collect 35 = .ok (.if_icmp .gt 41, 3) := by decide +kernel
theorem dX11_collect_38 : decode cX11_collect 38 = .ok (.aload_n 0, 1) := by decide +kernel
theorem dX11_collect_39 : decode cX11_collect 39 = .ok (.getfield 9, 3) := by decide +kernel
theorem dX11_collect_42 : decode cX11_collect 42 = .ok (.iload 7, 2) := by decide +kernel
theorem dX11_collect_44 : decode cX11_collect 44 = .ok (.ldc 35, 2) := by decide +kernel
theorem dX11_collect_46 : decode cX11_collect 46 = .ok (.invokevirtual 36, 3) := by decide +kernel
theorem dX11_collect_49 : decode cX11_collect 49 = .ok (.iload_n 1, 1) := by decide +kernel
theorem dX11_collect_50 : decode cX11_collect 50 = .ok (.if_icmp .lt 26, 3) := by decide +kernel
theorem dX11_collect_53 : decode cX11_collect 53 = .ok (.aload_n 0, 1) := by decide +kernel
theorem dX11_collect_54 : decode cX11_collect 54 = .ok (.getfield 9, 3) := by decide +kernel
theorem dX11_collect_57 : decode cX11_collect 57 = .ok (.getfield 40, 3) := by decide +kernel
theorem dX11_collect_60 : decode cX11_collect 60 = .ok (.iload 7, 2) := by decide +kernel
theorem dX11_collect_62 : decode cX11_collect 62 = .ok (.aaload, 1) := by decide +kernel
theorem dX11_collect_63 : decode cX11_collect 63 = .ok (.iload_n 1, 1) := by decide +kernel
theorem dX11_collect_64 : decode cX11_collect 64 = .ok (.iload_n 2, 1) := by decide +kernel
theorem dX11_collect_65 : decode cX11_collect 65 = .ok (.aload 6, 2) := by decide +kernel
theorem dX11_collect_67 : decode cX11_collect 67 = .ok (.aload 4, 2) := by decide +kernel
theorem dX11_collect_69 : decode cX11_collect 69 = .ok (.iload 5, 2) := by decide +kernel
theorem dX11_collect_71 : decode cX11_collect 71 = .ok (.iconst 1, 1) := by decide +kernel
theorem dX11_collect_72 : decode cX11_collect 72 = .ok (.iadd, 1) := by decide +kernel
theorem dX11_collect_73 : decode cX11_collect 73 = .ok (.invokevirtual 44, 3) := by decide +kernel
theorem dX11_collect_76 : decode cX11_collect 76 = .ok (.iinc 7 1, 3) := by decide +kernel
theorem dX11_collect_79 : decode cX11_collect 79 = .ok (.goto (-67), 3) := by decide +kernel
theorem dX11_collect_82 : decode cX11_collect 82 = .ok (.iconst 0, 1) := by decide +kernel
theorem dX11_collect_83 : decode cX11_collect 83 = .ok (.istore 7, 2) := by decide +kernel
theorem dX11_collect_85 : decode cX11_collect 85 = .ok (.iload 7, 2) := by decide +kernel
theorem dX11_collect_87 : decode cX11_collect 87 = .ok (.aload_n 0, 1) := by decide +kernel
theorem dX11_collect_88 : decode cX11_collect 88 = .ok (.getfield 15, 3) := by decide +kernel
theorem dX11_collect_91 : decode cX11_collect 91 = .ok (.getfield 48, 3) := by decide +kernel
theorem dX11_collect_94 : decode cX11_collect 94 = .ok (.if_icmp .ge 47, 3) := by decide +kernel
theorem dX11_collect_97 : decode cX11_collect 97 = .ok (.aload_n 0, 1) := by decide +kernel
theorem dX11_collect_98 : decode cX11_collect 98 = .ok (.getfield 15, 3) := by decide +kernel
theorem dX11_collect_101 : decode cX11_collect 101 = .ok (.getfield 51, 3) := by decide +kernel
theorem dX11_collect_104 : decode cX11_collect 104 = .ok (.iload 7, 2) := by decide +kernel
theorem dX11_collect_106 : decode cX11_collect 106 = .ok (.aaload, 1) := by decide +kernel
theorem dX11_collect_107 : decode cX11_collect 107 = .ok (.iload_n 1, 1) := by decide +kernel
theorem dX11_collect_108 : decode cX11_collect 108 = .ok (.iload_n 2, 1) := by decide +kernel
theorem dX11_collect_109 : decode cX11_collect 109 = .ok (.invokevirtual 55, 3) := by decide +kernel
theorem dX11_collect_112 : decode cX11_collect 112 = .ok (.ifCond .eq 23, 3) := by decide +kernel
theorem dX11_collect_115 : decode cX11_collect 115 = .ok (.aload 6, 2) := by decide +kernel
theorem dX11_collect_117 : decode cX11_collect 117 = .ok (.aload_n 0, 1) := by decide +kernel
theorem dX11_collect_118 : decode cX11_collect 118 = .ok (.getfield 15, 3) := by decide +kernel
theorem dX11_collect_121 : decode cX11_collect 121 = .ok (.getfield 51, 3) := by decide +kernel
theorem dX11_collect_124 : decode cX11_collect 124 = .ok (.iload 7, 2) := by decide +kernel
theorem dX11_collect_126 : decode cX11_collect 126 = .ok (.aaload, 1) := by decide +kernel
theorem dX11_collect_127 : decode cX11_collect 127 = .ok (.iload_n 1, 1) := by decide +kernel
theorem dX11_collect_128 : decode cX11_collect 128 = .ok (.iload_n 2, 1) := by decide +kernel
theorem dX11_collect_129 : decode cX11_collect 129 = .ok (.invokevirtual 61, 3) := by decide +kernel
theorem dX11_collect_132 : decode cX11_collect 132 = .ok (.invokevirtual 65, 3) := by decide +kernel
theorem dX11_collect_135 : decode cX11_collect 135 = .ok (.iinc 7 1, 3) := by decide +kernel
theorem dX11_collect_138 : decode cX11_collect 138 = .ok (.goto (-53), 3) := by decide +kernel
theorem dX11_collect_141 : decode cX11_collect 141 = .ok (.iconst 0, 1) := by decide +kernel
theorem dX11_collect_142 : decode cX11_collect 142 = .ok (.istore 7, 2) := by decide +kernel
theorem dX11_collect_144 : decode cX11_collect 144 = .ok (.iload 7, 2) := by decide +kernel
theorem dX11_collect_146 : decode cX11_collect 146 = .ok (.aload 6, 2) := by decide +kernel
theorem dX11_collect_148 : decode cX11_collect 148 = .ok (.getfield 71, 3) := by decide +kernel
theorem dX11_collect_151 : decode cX11_collect 151 = .ok (.if_icmp .ge 29, 3) := by decide +kernel
theorem dX11_collect_154 : decode cX11_collect 154 = .ok (.aload_n 3, 1) := by decide +kernel
theorem dX11_collect_155 : decode cX11_collect 155 = .ok (.aload 6, 2) := by decide +kernel
theorem dX11_collect_157 : decode cX11_collect 157 = .ok (.getfield 72, 3) := by decide +kernel
theorem dX11_collect_160 : decode cX11_collect 160 = .ok (.iload 7, 2) := by decide +kernel
theorem dX11_collect_162 : decode cX11_collect 162 = .ok (.iaload, 1) := by decide +kernel
theorem dX11_collect_163 : decode cX11_collect 163 = .ok (.aload 6, 2) := by decide +kernel
theorem dX11_collect_165 : decode cX11_collect 165 = .ok (.getfield 75, 3) := by decide +kernel
theorem dX11_collect_168 : decode cX11_collect 168 = .ok (.iload 7, 2) := by decide +kernel
theorem dX11_collect_170 : decode cX11_collect 170 = .ok (.laload, 1) := by decide +kernel
theorem dX11_collect_171 : decode cX11_collect 171 = .ok (.invokevirtual 79, 3) := by decide +kernel
theorem dX11_collect_174 : decode cX11_collect 174 = .ok (.iinc 7 1, 3) := by decide +kernel
theorem dX11_collect_177 : decode cX11_collect 177 = .ok (.goto (-33), 3) := by decide +kernel
theorem dX11_collect_180 : decode cX11_collect 180 = .ok (.return_, 1) := by decide +kernel
theorem dX11_isSound_0 : decode cX11_isSound 0 = .ok (.aload_n 0, 1) := by decide +kernel
theorem dX11_isSound_1 : decode cX11_isSound 1 = .ok (.getfield 9, 3) := by decide +kernel
theorem dX11_isSound_4 : decode cX11_isSound 4 = .ok (.getfield 25, 3) := by decide +kernel
theorem dX11_isSound_7 : decode cX11_isSound 7 = .ok (.iconst 1, 1) := by decide +kernel
theorem dX11_isSound_8 : decode cX11_isSound 8 = .ok (.if_icmp .lt 44, 3) := by decide +kernel
theorem dX11_isSound_11 : decode cX11_isSound 11 = .ok (.aload_n 0, 1) := by decide +kernel
theorem dX11_isSound_12 : decode cX11_isSound 12 = .ok (.getfield 9, 3) := by decide +kernel
theorem dX11_isSound_15 : decode cX11_isSound 15 = .ok (.getfield 25, 3) := by decide +kernel
theorem dX11_isSound_18 : decode cX11_isSound 18 = .ok (.bipush 8, 2) := by decide +kernel
theorem dX11_isSound_20 : decode cX11_isSound 20 = .ok (.if_icmp .gt 32, 3) := by decide +kernel
theorem dX11_isSound_23 : decode cX11_isSound 23 = .ok (.aload_n 0, 1) := by decide +kernel
theorem dX11_isSound_24 : decode cX11_isSound 24 = .ok (.getfield 15, 3) := by decide +kernel
theorem dX11_isSound_27 : decode cX11_isSound 27 = .ok (.getfield 48, 3) := by decide +kernel
theorem dX11_isSound_30 : decode cX11_isSound 30 = .ok (.bipush 24, 2) := by decide +kernel
theorem dX11_isSound_32 : decode cX11_isSound 32 = .ok (.if_icmp .gt 20, 3) := by decide +kernel
theorem dX11_isSound_35 : decode cX11_isSound 35 = .ok (.aload_n 0, 1) := by decide +kernel
theorem dX11_isSound_36 : decode cX11_isSound 36 = .ok (.getfield 9, 3) := by decide +kernel
theorem dX11_isSound_39 : decode cX11_isSound 39 = .ok (.getfield 31, 3) := by decide +kernel
theorem dX11_isSound_42 : decode cX11_isSound 42 = .ok (.iconst 0, 1) := by decide +kernel
theorem dX11_isSound_43 : decode cX11_isSound 43 = .ok (.iaload, 1) := by decide +kernel
theorem dX11_isSound_44 : decode cX11_isSound 44 = .ok (.iload_n 1, 1) := by decide +kernel
theorem dX11_isSound_45 : decode cX11_isSound 45 = .ok (.if_icmp .ne 7, 3) := by decide +kernel
theorem dX11_isSound_48 : decode cX11_isSound 48 = .ok (.iconst 1, 1) := by decide +kernel
theorem dX11_isSound_49 : decode cX11_isSound 49 = .ok (.goto 4, 3) := by decide +kernel
theorem dX11_isSound_52 : decode cX11_isSound 52 = .ok (.iconst 0, 1) := by decide +kernel
theorem dX11_isSound_53 : decode cX11_isSound 53 = .ok (.istore_n 3, 1) := by decide +kernel
theorem dX11_isSound_54 : decode cX11_isSound 54 = .ok (.iconst 0, 1) := by decide +kernel
theorem dX11_isSound_55 : decode cX11_isSound 55 = .ok (.istore 4, 2) := by decide +kernel
theorem dX11_isSound_57 : decode cX11_isSound 57 = .ok (.iload 4, 2) := by decide +kernel
theorem dX11_isSound_59 : decode cX11_isSound 59 = .ok (.aload_n 0, 1) := by decide +kernel
theorem dX11_isSound_60 : decode cX11_isSound 60 = .ok (.getfield 9, 3) := by decide +kernel
theorem dX11_isSound_63 : decode cX11_isSound 63 = .ok (.getfield 25, 3) := by decide +kernel
theorem dX11_isSound_66 : decode cX11_isSound 66 = .ok (.if_icmp .ge 74, 3) := by decide +kernel
theorem dX11_isSound_69 : decode cX11_isSound 69 = .ok (.iload_n 3, 1) := by decide +kernel
theorem dX11_isSound_70 : decode cX11_isSound 70 = .ok (.ifCond .eq 70, 3) := by decide +kernel
theorem dX11_isSound_73 : decode cX11_isSound 73 = .ok (.aload_n 0, 1) := by decide +kernel
theorem dX11_isSound_74 : decode cX11_isSound 74 = .ok (.getfield 9, 3) := by decide +kernel
theorem dX11_isSound_77 : decode cX11_isSound 77 = .ok (.iload 4, 2) := by decide +kernel
theorem dX11_isSound_79 : decode cX11_isSound 79 = .ok (.iload_n 2, 1) := by decide +kernel
theorem dX11_isSound_80 : decode cX11_isSound 80 = .ok (.invokevirtual 36, 3) := by decide +kernel
theorem dX11_isSound_83 : decode cX11_isSound 83 = .ok (.istore 5, 2) := by decide +kernel
theorem dX11_isSound_85 : decode cX11_isSound 85 = .ok (.aload_n 0, 1) := by decide +kernel
theorem dX11_isSound_86 : decode cX11_isSound 86 = .ok (.getfield 9, 3) := by decide +kernel
theorem dX11_isSound_89 : decode cX11_isSound 89 = .ok (.getfield 31, 3) := by decide +kernel
theorem dX11_isSound_92 : decode cX11_isSound 92 = .ok (.iload 4, 2) := by decide +kernel
theorem dX11_isSound_94 : decode cX11_isSound 94 = .ok (.iaload, 1) := by decide +kernel
theorem dX11_isSound_95 : decode cX11_isSound 95 = .ok (.iload 5, 2) := by decide +kernel
theorem dX11_isSound_97 : decode cX11_isSound 97 = .ok (.if_icmp .gt 35, 3) := by decide +kernel
theorem dX11_isSound_100 : decode cX11_isSound 100 = .ok (.aload_n 0, 1) := by decide +kernel
theorem dX11_isSound_101 : decode cX11_isSound 101 = .ok (.getfield 9, 3) := by decide +kernel
theorem dX11_isSound_104 : decode cX11_isSound 104 = .ok (.getfield 40, 3) := by decide +kernel
theorem dX11_isSound_107 : decode cX11_isSound 107 = .ok (.iload 4, 2) := by decide +kernel
theorem dX11_isSound_109 : decode cX11_isSound 109 = .ok (.aaload, 1) := by decide +kernel
theorem dX11_isSound_110 : decode cX11_isSound 110 = .ok (.aload_n 0, 1) := by decide +kernel
theorem dX11_isSound_111 : decode cX11_isSound 111 = .ok (.getfield 9, 3) := by decide +kernel
theorem dX11_isSound_114 : decode cX11_isSound 114 = .ok (.getfield 31, 3) := by decide +kernel
theorem dX11_isSound_117 : decode cX11_isSound 117 = .ok (.iload 4, 2) := by decide +kernel
theorem dX11_isSound_119 : decode cX11_isSound 119 = .ok (.iaload, 1) := by decide +kernel
theorem dX11_isSound_120 : decode cX11_isSound 120 = .ok (.iload 5, 2) := by decide +kernel
theorem dX11_isSound_122 : decode cX11_isSound 122 = .ok (.invokevirtual 163, 3) := by decide +kernel
theorem dX11_isSound_125 : decode cX11_isSound 125 = .ok (.ifCond .eq 7, 3) := by decide +kernel
theorem dX11_isSound_128 : decode cX11_isSound 128 = .ok (.iconst 1, 1) := by decide +kernel
theorem dX11_isSound_129 : decode cX11_isSound 129 = .ok (.goto 4, 3) := by decide +kernel
theorem dX11_isSound_132 : decode cX11_isSound 132 = .ok (.iconst 0, 1) := by decide +kernel
theorem dX11_isSound_133 : decode cX11_isSound 133 = .ok (.istore_n 3, 1) := by decide +kernel
theorem dX11_isSound_134 : decode cX11_isSound 134 = .ok (.iinc 4 1, 3) := by decide +kernel
theorem dX11_isSound_137 : decode cX11_isSound 137 = .ok (.goto (-80), 3) := by decide +kernel
theorem dX11_isSound_140 : decode cX11_isSound 140 = .ok (.iconst 0, 1) := by decide +kernel
theorem dX11_isSound_141 : decode cX11_isSound 141 = .ok (.istore 4, 2) := by decide +kernel
theorem dX11_isSound_143 : decode cX11_isSound 143 = .ok (.iload 4, 2) := by decide +kernel
theorem dX11_isSound_145 : decode cX11_isSound 145 = .ok (.aload_n 0, 1) := by decide +kernel
theorem dX11_isSound_146 : decode cX11_isSound 146 = .ok (.getfield 15, 3) := by decide +kernel
theorem dX11_isSound_149 : decode cX11_isSound 149 = .ok (.getfield 48, 3) := by decide +kernel
theorem dX11_isSound_152 : decode cX11_isSound 152 = .ok (.if_icmp .ge 51, 3) := by decide +kernel
theorem dX11_isSound_155 : decode cX11_isSound 155 = .ok (.iload_n 3, 1) := by decide +kernel
theorem dX11_isSound_156 : decode cX11_isSound 156 = .ok (.aload_n 0, 1) := by decide +kernel
theorem dX11_isSound_157 : decode cX11_isSound 157 = .ok (.getfield 15, 3) := by decide +kernel
theorem dX11_isSound_160 : decode cX11_isSound 160 = .ok (.getfield 51, 3) := by decide +kernel
theorem dX11_isSound_163 : decode cX11_isSound 163 = .ok (.iload 4, 2) := by decide +kernel
theorem dX11_isSound_165 : decode cX11_isSound 165 = .ok (.aaload, 1) := by decide +kernel
theorem dX11_isSound_166 : decode cX11_isSound 166 = .ok (.getfield 150, 3) := by decide +kernel
theorem dX11_isSound_169 : decode cX11_isSound 169 = .ok (.iload_n 1, 1) := by decide +kernel
theorem dX11_isSound_170 : decode cX11_isSound 170 = .ok (.if_icmp .lt 24, 3) := by decide +kernel
theorem dX11_isSound_173 : decode cX11_isSound 173 = .ok (.aload_n 0, 1) := by decide +kernel
theorem dX11_isSound_174 : decode cX11_isSound 174 = .ok (.getfield 15, 3) := by decide +kernel
theorem dX11_isSound_177 : decode cX11_isSound 177 = .ok (.getfield 51, 3) := by decide +kernel
theorem dX11_isSound_180 : decode cX11_isSound 180 = .ok (.iload 4, 2) := by decide +kernel
theorem dX11_isSound_182 : decode cX11_isSound 182 = .ok (.aaload, 1) := by decide +kernel
theorem dX11_isSound_183 : decode cX11_isSound 183 = .ok (.getfield 153, 3) := by decide +kernel
theorem dX11_isSound_186 : decode cX11_isSound 186 = .ok (.iload_n 2, 1) := by decide +kernel
theorem dX11_isSound_187 : decode cX11_isSound 187 = .ok (.if_icmp .gt 7, 3) := by decide +kernel
theorem dX11_isSound_190 : decode cX11_isSound 190 = .ok (.iconst 1, 1) := by decide +kernel
theorem dX11_isSound_191 : decode cX11_isSound 191 = .ok (.goto 4, 3) := by decide +kernel
theorem dX11_isSound_194 : decode cX11_isSound 194 = .ok (.iconst 0, 1) := by decide +kernel
theorem dX11_isSound_195 : decode cX11_isSound 195 = .ok (.iand, 1) := by decide +kernel
theorem dX11_isSound_196 : decode cX11_isSound 196 = .ok (.istore_n 3, 1) := by decide +kernel
theorem dX11_isSound_197 : decode cX11_isSound 197 = .ok (.iinc 4 1, 3) := by decide +kernel
theorem dX11_isSound_200 : decode cX11_isSound 200 = .ok (.goto (-57), 3) := by decide +kernel
theorem dX11_isSound_203 : decode cX11_isSound 203 = .ok (.iload_n 3, 1) := by decide +kernel
theorem dX11_isSound_204 : decode cX11_isSound 204 = .ok (.ireturn, 1) := by decide +kernel
theorem dX11_read_0 : decode cX11_read 0 = .ok (.iconst 0, 1) := by decide +kernel
theorem dX11_read_1 : decode cX11_read 1 = .ok (.istore_n 3, 1) := by decide +kernel
theorem dX11_read_2 : decode cX11_read 2 = .ok (.iload_n 3, 1) := by decide +kernel
theorem dX11_read_3 : decode cX11_read 3 = .ok (.iconst 1, 1) := by decide +kernel
theorem dX11_read_4 : decode cX11_read 4 = .ok (.iadd, 1) := by decide +kernel
theorem dX11_read_5 : decode cX11_read 5 = .ok (.aload_n 0, 1) := by decide +kernel
theorem dX11_read_6 : decode cX11_read 6 = .ok (.getfield 9, 3) := by decide +kernel
theorem dX11_read_9 : decode cX11_read 9 = .ok (.getfield 25, 3) := by decide +kernel
theorem dX11_read_12 : decode cX11_read 12 = .ok (.if_icmp .ge 24, 3) := by decide +kernel
theorem dX11_read_15 : decode cX11_read 15 = .ok (.aload_n 0, 1) := by decide +kernel
theorem dX11_read_16 : decode cX11_read 16 = .ok (.getfield 9, 3) := by decide +kernel
theorem dX11_read_19 : decode cX11_read 19 = .ok (.getfield 31, 3) := by decide +kernel
theorem dX11_read_22 : decode cX11_read 22 = .ok (.iload_n 3, 1) := by decide +kernel
theorem dX11_read_23 : decode cX11_read 23 = .ok (.iconst 1, 1) := by decide +kernel
theorem dX11_read_24 : decode cX11_read 24 = .ok (.iadd, 1) := by decide +kernel
theorem dX11_read_25 : decode cX11_read 25 = .ok (.iaload, 1) := by decide +kernel
theorem dX11_read_26 : decode cX11_read 26 = .ok (.iload_n 1, 1) := by decide +kernel
theorem dX11_read_27 : decode cX11_read 27 = .ok (.if_icmp .gt 9, 3) := by decide +kernel
theorem dX11_read_30 : decode cX11_read 30 = .ok (.iinc 3 1, 3) := by decide +kernel
theorem dX11_read_33 : decode cX11_read 33 = .ok (.goto (-31), 3) := by decide +kernel
theorem dX11_read_36 : decode cX11_read 36 = .ok (.aload_n 0, 1) := by decide +kernel
theorem dX11_read_37 : decode cX11_read 37 = .ok (.getfield 9, 3) := by decide +kernel
theorem dX11_read_40 : decode cX11_read 40 = .ok (.getfield 40, 3) := by decide +kernel
theorem dX11_read_43 : decode cX11_read 43 = .ok (.iload_n 3, 1) := by decide +kernel
theorem dX11_read_44 : decode cX11_read 44 = .ok (.aaload, 1) := by decide +kernel
theorem dX11_read_45 : decode cX11_read 45 = .ok (.iload_n 1, 1) := by decide +kernel
theorem dX11_read_46 : decode cX11_read 46 = .ok (.aload_n 2, 1) := by decide +kernel
theorem dX11_read_47 : decode cX11_read 47 = .ok (.invokevirtual 83, 3) := by decide +kernel
theorem dX11_read_50 : decode cX11_read 50 = .ok (.iconst 0, 1) := by decide +kernel
theorem dX11_read_51 : decode cX11_read 51 = .ok (.istore 4, 2) := by decide +kernel
theorem dX11_read_53 : decode cX11_read 53 = .ok (.iload 4, 2) := by decide +kernel
theorem dX11_read_55 : decode cX11_read 55 = .ok (.aload_n 0, 1) := by decide +kernel
theorem dX11_read_56 : decode cX11_read 56 = .ok (.getfield 15, 3) := by decide +kernel
theorem dX11_read_59 : decode cX11_read 59 = .ok (.getfield 48, 3) := by decide +kernel
theorem dX11_read_62 : decode cX11_read 62 = .ok (.if_icmp .ge 41, 3) := by decide +kernel
theorem dX11_read_65 : decode cX11_read 65 = .ok (.aload_n 0, 1) := by decide +kernel
theorem dX11_read_66 : decode cX11_read 66 = .ok (.getfield 15, 3) := by decide +kernel
theorem dX11_read_69 : decode cX11_read 69 = .ok (.getfield 51, 3) := by decide +kernel
theorem dX11_read_72 : decode cX11_read 72 = .ok (.iload 4, 2) := by decide +kernel
theorem dX11_read_74 : decode cX11_read 74 = .ok (.aaload, 1) := by decide +kernel
theorem dX11_read_75 : decode cX11_read 75 = .ok (.iload_n 1, 1) := by decide +kernel
theorem dX11_read_76 : decode cX11_read 76 = .ok (.iload_n 1, 1) := by decide +kernel
theorem dX11_read_77 : decode cX11_read 77 = .ok (.invokevirtual 55, 3) := by decide +kernel
theorem dX11_read_80 : decode cX11_read 80 = .ok (.ifCond .eq 17, 3) := by decide +kernel
theorem dX11_read_83 : decode cX11_read 83 = .ok (.aload_n 2, 1) := by decide +kernel
theorem dX11_read_84 : decode cX11_read 84 = .ok (.aload_n 0, 1) := by decide +kernel
theorem dX11_read_85 : decode cX11_read 85 = .ok (.getfield 15, 3) := by decide +kernel
theorem dX11_read_88 : decode cX11_read 88 = .ok (.getfield 51, 3) := by decide +kernel
theorem dX11_read_91 : decode cX11_read 91 = .ok (.iload 4, 2) := by decide +kernel
theorem dX11_read_93 : decode cX11_read 93 = .ok (.aaload, 1) := by decide +kernel
theorem dX11_read_94 : decode cX11_read 94 = .ok (.invokevirtual 87, 3) := by decide +kernel
theorem dX11_read_97 : decode cX11_read 97 = .ok (.iinc 4 1, 3) := by decide +kernel
theorem dX11_read_100 : decode cX11_read 100 = .ok (.goto (-47), 3) := by decide +kernel
theorem dX11_read_103 : decode cX11_read 103 = .ok (.return_, 1) := by decide +kernel
theorem dX1_init_0 : decode cX1_init 0 = .ok (.aload_n 0, 1) := by decide +kernel
theorem dX1_init_1 : decode cX1_init 1 = .ok (.invokespecial 3, 3) := by decide +kernel
theorem dX1_init_4 : decode cX1_init 4 = .ok (.aload_n 0, 1) := by decide +kernel
theorem dX1_init_5 : decode cX1_init 5 = .ok (.new 9, 3) := by decide +kernel
theorem dX1_init_8 : decode cX1_init 8 = .ok (.dup, 1) := by decide +kernel
theorem dX1_init_9 : decode cX1_init 9 = .ok (.iconst 0, 1) := by decide +kernel
theorem dX1_init_10 : decode cX1_init 10 = .ok (.new 11, 3) := by decide +kernel
theorem dX1_init_13 : decode cX1_init 13 = .ok (.dup, 1) := by decide +kernel
theorem dX1_init_14 : decode cX1_init 14 = .ok (.invokespecial 13, 3) := by decide +kernel
theorem dX1_init_17 : decode cX1_init 17 = .ok (.invokespecial 14, 3) := by decide +kernel
theorem dX1_init_20 : decode cX1_init 20 = .ok (.putfield 17, 3) := by decide +kernel
theorem dX1_init_23 : decode cX1_init 23 = .ok (.aload_n 0, 1) := by decide +kernel
theorem dX1_init_24 : decode cX1_init 24 = .ok (.new 23, 3) := by decide +kernel
theorem dX1_init_27 : decode cX1_init 27 = .ok (.dup, 1) := by decide +kernel
theorem dX1_init_28 : decode cX1_init 28 = .ok (.invokespecial 25, 3) := by decide +kernel
theorem dX1_init_31 : decode cX1_init 31 = .ok (.putfield 26, 3) := by decide +kernel
theorem dX1_init_34 : decode cX1_init 34 = .ok (.aload_n 0, 1) := by decide +kernel
theorem dX1_init_35 : decode cX1_init 35 = .ok (.iconst 4, 1) := by decide +kernel
theorem dX1_init_36 : decode cX1_init 36 = .ok (.anewarray 30, 3) := by decide +kernel
theorem dX1_init_39 : decode cX1_init 39 = .ok (.putfield 32, 3) := by decide +kernel
theorem dX1_init_42 : decode cX1_init 42 = .ok (.aload_n 0, 1) := by decide +kernel
theorem dX1_init_43 : decode cX1_init 43 = .ok (.new 9, 3) := by decide +kernel
theorem dX1_init_46 : decode cX1_init 46 = .ok (.dup, 1) := by decide +kernel
theorem dX1_init_47 : decode cX1_init 47 = .ok (.iconst (-1), 1) := by decide +kernel
theorem dX1_init_48 : decode cX1_init 48 = .ok (.new 11, 3) := by decide +kernel
theorem dX1_init_51 : decode cX1_init 51 = .ok (.dup, 1) := by decide +kernel
theorem dX1_init_52 : decode cX1_init 52 = .ok (.invokespecial 13, 3) := by decide +kernel
theorem dX1_init_55 : decode cX1_init 55 = .ok (.invokespecial 14, 3) := by decide +kernel
theorem dX1_init_58 : decode cX1_init 58 = .ok (.putfield 36, 3) := by decide +kernel
theorem dX1_init_61 : decode cX1_init 61 = .ok (.aload_n 0, 1) := by decide +kernel
theorem dX1_init_62 : decode cX1_init 62 = .ok (.new 39, 3) := by decide +kernel
theorem dX1_init_65 : decode cX1_init 65 = .ok (.dup, 1) := by decide +kernel
theorem dX1_init_66 : decode cX1_init 66 = .ok (.invokespecial 41, 3) := by decide +kernel
theorem dX1_init_69 : decode cX1_init 69 = .ok (.putfield 42, 3) := by decide +kernel
theorem dX1_init_72 : decode cX1_init 72 = .ok (.aload_n 0, 1) := by decide +kernel
theorem dX1_init_73 : decode cX1_init 73 = .ok (.new 46, 3) := by decide +kernel
theorem dX1_init_76 : decode cX1_init 76 = .ok (.dup, 1) := by decide +kernel
theorem dX1_init_77 : decode cX1_init 77 = .ok (.invokespecial 48, 3) := by decide +kernel
theorem dX1_init_80 : decode cX1_init 80 = .ok (.putfield 49, 3) := by decide +kernel
theorem dX1_init_83 : decode cX1_init 83 = .ok (.aload_n 0, 1) := by decide +kernel
theorem dX1_init_84 : decode cX1_init 84 = .ok (.new 11, 3) := by decide +kernel
theorem dX1_init_87 : decode cX1_init 87 = .ok (.dup, 1) := by decide +kernel
theorem dX1_init_88 : decode cX1_init 88 = .ok (.invokespecial 13, 3) := by decide +kernel
theorem dX1_init_91 : decode cX1_init 91 = .ok (.putfield 53, 3) := by decide +kernel
theorem dX1_init_94 : decode cX1_init 94 = .ok (.aload_n 0, 1) := by decide +kernel
theorem dX1_init_95 : decode cX1_init 95 = .ok (.new 11, 3) := by decide +kernel
theorem dX1_init_98 : decode cX1_init 98 = .ok (.dup, 1) := by decide +kernel
theorem dX1_init_99 : decode cX1_init 99 = .ok (.invokespecial 13, 3) := by decide +kernel
theorem dX1_init_102 : decode cX1_init 102 = .ok (.putfield 57, 3) := by decide +kernel
theorem dX1_init_105 : decode cX1_init 105 = .ok (.return_, 1) := by decide +kernel
theorem dX1_settle_0 : decode cX1_settle 0 = .ok (.aload_n 0, 1) := by decide +kernel
theorem dX1_settle_1 : decode cX1_settle 1 = .ok (.aload_n 0, 1) := by decide +kernel
theorem dX1_settle_2 : decode cX1_settle 2 = .ok (.getfield 17, 3) := by decide +kernel
theorem dX1_settle_5 : decode cX1_settle 5 = .ok (.aload_n 0, 1) := by decide +kernel
theorem dX1_settle_6 : decode cX1_settle 6 = .ok (.getfield 106, 3) := by decide +kernel
theorem dX1_settle_9 : decode cX1_settle 9 = .ok (.ldc 116, 2) := by decide +kernel
theorem dX1_settle_11 : decode cX1_settle 11 = .ok (.ldc 117, 2) := by decide +kernel
theorem dX1_settle_13 : decode cX1_settle 13 = .ok (.aload_n 0, 1) := by decide +kernel
theorem dX1_settle_14 : decode cX1_settle 14 = .ok (.getfield 42, 3) := by decide +kernel
theorem dX1_settle_17 : decode cX1_settle 17 = .ok (.iconst 0, 1) := by decide +kernel
theorem dX1_settle_18 : decode cX1_settle 18 = .ok (.invokevirtual 203, 3) := by decide +kernel
theorem dX1_settle_21 : decode cX1_settle 21 = .ok (.invokevirtual 122, 3) := by decide +kernel
theorem dX1_settle_24 : decode cX1_settle 24 = .ok (.return_, 1) := by decide +kernel
theorem dX1_plant_0 : decode cX1_plant 0 = .ok (.aload_n 1, 1) := by decide +kernel
theorem dX1_plant_1 : decode cX1_plant 1 = .ok (.astore_n 2, 1) := by decide +kernel
theorem dX1_plant_2 : decode cX1_plant 2 = .ok (.aload_n 2, 1) := by decide +kernel
theorem dX1_plant_3 : decode cX1_plant 3 = .ok (.getfield 89, 3) := by decide +kernel
theorem dX1_plant_6 : decode cX1_plant 6 = .ok (.iconst 1, 1) := by decide +kernel
theorem dX1_plant_7 : decode cX1_plant 7 = .ok (.if_icmp .le 124, 3) := by decide +kernel
theorem dX1_plant_10 : decode cX1_plant 10 = .ok (.new 90, 3) := by decide +kernel
theorem dX1_plant_13 : decode cX1_plant 13 = .ok (.dup, 1) := by decide +kernel
theorem dX1_plant_14 : decode cX1_plant 14 = .ok (.invokespecial 92, 3) := by decide +kernel
theorem dX1_plant_17 : decode cX1_plant 17 = .ok (.astore_n 3, 1) := by decide +kernel
theorem dX1_plant_18 : decode cX1_plant 18 = .ok (.iconst 0, 1) := by decide +kernel
theorem dX1_plant_19 : decode cX1_plant 19 = .ok (.istore 4, 2) := by decide +kernel
theorem dX1_plant_21 : decode cX1_plant 21 = .ok (.iload 4, 2) := by decide +kernel
theorem dX1_plant_23 : decode cX1_plant 23 = .ok (.aload_n 2, 1) := by decide +kernel
theorem dX1_plant_24 : decode cX1_plant 24 = .ok (.getfield 89, 3) := by decide +kernel
theorem dX1_plant_27 : decode cX1_plant 27 = .ok (.if_icmp .ge 99, 3) := by decide +kernel
theorem dX1_plant_30 : decode cX1_plant 30 = .ok (.new 90, 3) := by decide +kernel
theorem dX1_plant_33 : decode cX1_plant 33 = .ok (.dup, 1) := by decide +kernel
theorem dX1_plant_34 : decode cX1_plant 34 = .ok (.invokespecial 92, 3) := by decide +kernel
theorem dX1_plant_37 : decode cX1_plant 37 = .ok (.astore 5, 2) := by decide +kernel
theorem dX1_plant_39 : decode cX1_plant 39 = .ok (.iload 4, 2) := by decide +kernel
theorem dX1_plant_41 : decode cX1_plant 41 = .ok (.istore 6, 2) := by decide +kernel
theorem dX1_plant_43 : decode cX1_plant 43 = .ok (.iload 6, 2) := by decide +kernel
theorem dX1_plant_45 : decode cX1_plant 45 = .ok (.aload_n 2, 1) := by decide +kernel
theorem dX1_plant_46 : decode cX1_plant 46 = .ok (.getfield 89, 3) := by decide +kernel
theorem dX1_plant_49 : decode cX1_plant 49 = .ok (.if_icmp .ge 39, 3) := by decide +kernel
theorem dX1_plant_52 : decode cX1_plant 52 = .ok (.iload 6, 2) := by decide +kernel
theorem dX1_plant_54 : decode cX1_plant 54 = .ok (.iload 4, 2) := by decide +kernel
theorem dX1_plant_56 : decode cX1_plant 56 = .ok (.bipush 8, 2) := by decide +kernel
theorem dX1_plant_58 : decode cX1_plant 58 = .ok (.iadd, 1) := by decide +kernel
theorem dX1_plant_59 : decode cX1_plant 59 = .ok (.if_icmp .ge 29, 3) := by decide +kernel
theorem dX1_plant_62 : decode cX1_plant 62 = .ok (.aload 5, 2) := by decide +kernel
theorem dX1_plant_64 : decode cX1_plant 64 = .ok (.aload_n 2, 1) := by decide +kernel
theorem dX1_plant_65 : decode cX1_plant 65 = .ok (.getfield 93, 3) := by decide +kernel
theorem dX1_plant_68 : decode cX1_plant 68 = .ok (.iload 6, 2) := by decide +kernel
theorem dX1_plant_70 : decode cX1_plant 70 = .ok (.aaload, 1) := by decide +kernel
theorem dX1_plant_71 : decode cX1_plant 71 = .ok (.aload_n 2, 1) := by decide +kernel
theorem dX1_plant_72 : decode cX1_plant 72 = .ok (.getfield 96, 3) := by decide +kernel
theorem dX1_plant_75 : decode cX1_plant 75 = .ok (.iload 6, 2) := by decide +kernel
theorem dX1_plant_77 : decode cX1_plant 77 = .ok (.iaload, 1) := by decide +kernel
theorem dX1_plant_78 : decode cX1_plant 78 = .ok (.invokevirtual 100, 3) := by decide +kernel
theorem dX1_plant_81 : decode cX1_plant 81 = .ok (.pop, 1) := by decide +kernel
theorem dX1_plant_82 : decode cX1_plant 82 = .ok (.iinc 6 1, 3) := by decide +kernel
theorem dX1_plant_85 : decode cX1_plant 85 = .ok (.goto (-42), 3) := by decide +kernel
theorem dX1_plant_88 : decode cX1_plant 88 = .ok (.aload_n 3, 1) := by decide +kernel
theorem dX1_plant_89 : decode cX1_plant 89 = .ok (.new 104, 3) := by decide +kernel
theorem dX1_plant_92 : decode cX1_plant 92 = .ok (.dup, 1) := by decide +kernel
theorem dX1_plant_93 : decode cX1_plant 93 = .ok (.aload_n 0, 1) := by decide +kernel
theorem dX1_plant_94 : decode cX1_plant 94 = .ok (.getfield 106, 3) := by decide +kernel
theorem dX1_plant_97 : decode cX1_plant 97 = .ok (.aload 5, 2) := by decide +kernel
theorem dX1_plant_99 : decode cX1_plant 99 = .ok (.new 46, 3) := by decide +kernel
theorem dX1_plant_102 : decode cX1_plant 102 = .ok (.dup, 1) := by decide +kernel
theorem dX1_plant_103 : decode cX1_plant 103 = .ok (.invokespecial 48, 3) := by decide +kernel
theorem dX1_plant_106 : decode cX1_plant 106 = .ok (.invokespecial 109, 3) := by decide +kernel
theorem dX1_plant_109 : decode cX1_plant 109 = .ok (.aload 5, 2) := by decide +kernel
theorem dX1_plant_111 : decode cX1_plant 111 = .ok (.getfield 96, 3) := by decide +kernel
theorem dX1_plant_114 : decode cX1_plant 114 = .ok (.iconst 0, 1) := by decide +kernel
theorem dX1_plant_115 : decode cX1_plant 115 = .ok (.iaload, 1) := by decide +kernel
theorem dX1_plant_116 : decode cX1_plant 116 = .ok (.invokevirtual 100, 3) := by decide +kernel
theorem dX1_plant_119 : decode cX1_plant 119 = .ok (.pop, 1) := by decide +kernel
theorem dX1_plant_120 : decode cX1_plant 120 = .ok (.iinc 4 8, 3) := by decide +kernel
theorem dX1_plant_123 : decode cX1_plant 123 = .ok (.goto (-102), 3) := by decide +kernel
theorem dX1_plant_126 : decode cX1_plant 126 = .ok (.aload_n 3, 1) := by decide +kernel
theorem dX1_plant_127 : decode cX1_plant 127 = .ok (.astore_n 2, 1) := by decide +kernel
theorem dX1_plant_128 : decode cX1_plant 128 = .ok (.goto (-126), 3) := by decide +kernel
theorem dX1_plant_131 : decode cX1_plant 131 = .ok (.aload_n 0, 1) := by decide +kernel
theorem dX1_plant_132 : decode cX1_plant 132 = .ok (.aload_n 2, 1) := by decide +kernel
theorem dX1_plant_133 : decode cX1_plant 133 = .ok (.getfield 93, 3) := by decide +kernel
theorem dX1_plant_136 : decode cX1_plant 136 = .ok (.iconst 0, 1) := by decide +kernel
theorem dX1_plant_137 : decode cX1_plant 137 = .ok (.aaload, 1) := by decide +kernel
theorem dX1_plant_138 : decode cX1_plant 138 = .ok (.putfield 17, 3) := by decide +kernel
theorem dX1_plant_141 : decode cX1_plant 141 = .ok (.return_, 1) := by decide +kernel
theorem dX1_sync_0 : decode cX1_sync 0 = .ok (.aload_n 0, 1) := by decide +kernel
theorem dX1_sync_1 : decode cX1_sync 1 = .ok (.getfield 126, 3) := by decide +kernel
theorem dX1_sync_4 : decode cX1_sync 4 = .ok (.aload_n 0, 1) := by decide +kernel
theorem dX1_sync_5 : decode cX1_sync 5 = .ok (.getfield 207, 3) := by decide +kernel
theorem dX1_sync_8 : decode cX1_sync 8 = .ok (.isub, 1) := by decide +kernel
theorem dX1_sync_9 : decode cX1_sync 9 = .ok (.istore_n 1, 1) := by decide +kernel
theorem dX1_sync_10 : decode cX1_sync 10 = .ok (.aload_n 0, 1) := by decide +kernel
theorem dX1_sync_11 : decode cX1_sync 11 = .ok (.aload_n 0, 1) := by decide +kernel
theorem dX1_sync_12 : decode cX1_sync 12 = .ok (.getfield 126, 3) := by decide +kernel
theorem dX1_sync_15 : decode cX1_sync 15 = .ok (.putfield 207, 3) := by decide +kernel
theorem dX1_sync_18 : decode cX1_sync 18 = .ok (.aload_n 0, 1) := by decide +kernel
theorem dX1_sync_19 : decode cX1_sync 19 = .ok (.aload_n 0, 1) := by decide +kernel
theorem dX1_sync_20 : decode cX1_sync 20 = .ok (.getfield 17, 3) := by decide +kernel
theorem dX1_sync_23 : decode cX1_sync 23 = .ok (.putfield 36, 3) := by decide +kernel
theorem dX1_sync_26 : decode cX1_sync 26 = .ok (.aload_n 0, 1) := by decide +kernel
theorem dX1_sync_27 : decode cX1_sync 27 = .ok (.dup, 1) := by decide +kernel
theorem dX1_sync_28 : decode cX1_sync 28 = .ok (.getfield 106, 3) := by decide +kernel
theorem dX1_sync_31 : decode cX1_sync 31 = .ok (.iconst 1, 1) := by decide +kernel
theorem dX1_sync_32 : decode cX1_sync 32 = .ok (.iadd, 1) := by decide +kernel
theorem dX1_sync_33 : decode cX1_sync 33 = .ok (.putfield 106, 3) := by decide +kernel
theorem dX1_sync_36 : decode cX1_sync 36 = .ok (.iload_n 1, 1) := by decide +kernel
theorem dX1_sync_37 : decode cX1_sync 37 = .ok (.ireturn, 1) := by decide +kernel
theorem dX1_checkpoint_0 : decode cX1_checkpoint 0 = .ok (.aload_n 0, 1) := by decide +kernel
theorem dX1_checkpoint_1 : decode cX1_checkpoint 1 = .ok (.invokevirtual 210, 3) := by decide +kernel
theorem dX1_checkpoint_4 : decode cX1_checkpoint 4 = .ok (.aload_n 0, 1) := by decide +kernel
theorem dX1_checkpoint_5 : decode cX1_checkpoint 5 = .ok (.invokevirtual 212, 3) := by decide +kernel
theorem dX1_checkpoint_8 : decode cX1_checkpoint 8 = .ok (.ireturn, 1) := by decide +kernel
theorem dX1_crash_0 : decode cX1_crash 0 = .ok (.aload_n 0, 1) := by decide +kernel
theorem dX1_crash_1 : decode cX1_crash 1 = .ok (.getfield 126, 3) := by decide +kernel
theorem dX1_crash_4 : decode cX1_crash 4 = .ok (.aload_n 0, 1) := by decide +kernel
theorem dX1_crash_5 : decode cX1_crash 5 = .ok (.getfield 207, 3) := by decide +kernel
theorem dX1_crash_8 : decode cX1_crash 8 = .ok (.isub, 1) := by decide +kernel
theorem dX1_crash_9 : decode cX1_crash 9 = .ok (.istore_n 1, 1) := by decide +kernel
theorem dX1_crash_10 : decode cX1_crash 10 = .ok (.aload_n 0, 1) := by decide +kernel
theorem dX1_crash_11 : decode cX1_crash 11 = .ok (.aload_n 0, 1) := by decide +kernel
theorem dX1_crash_12 : decode cX1_crash 12 = .ok (.getfield 207, 3) := by decide +kernel
theorem dX1_crash_15 : decode cX1_crash 15 = .ok (.putfield 126, 3) := by decide +kernel
theorem dX1_crash_18 : decode cX1_crash 18 = .ok (.aload_n 0, 1) := by decide +kernel
theorem dX1_crash_19 : decode cX1_crash 19 = .ok (.aload_n 0, 1) := by decide +kernel
theorem dX1_crash_20 : decode cX1_crash 20 = .ok (.getfield 36, 3) := by decide +kernel
theorem dX1_crash_23 : decode cX1_crash 23 = .ok (.putfield 17, 3) := by decide +kernel
theorem dX1_crash_26 : decode cX1_crash 26 = .ok (.aload_n 0, 1) := by decide +kernel
theorem dX1_crash_27 : decode cX1_crash 27 = .ok (.dup, 1) := by decide +kernel
theorem dX1_crash_28 : decode cX1_crash 28 = .ok (.getfield 106, 3) := by decide +kernel
theorem dX1_crash_31 : decode cX1_crash 31 = .ok (.iconst 1, 1) := by decide +kernel
theorem dX1_crash_32 : decode cX1_crash 32 = .ok (.iadd, 1) := by decide +kernel
theorem dX1_crash_33 : decode cX1_crash 33 = .ok (.putfield 106, 3) := by decide +kernel
theorem dX1_crash_36 : decode cX1_crash 36 = .ok (.iconst 0, 1) := by decide +kernel
theorem dX1_crash_37 : decode cX1_crash 37 = .ok (.istore_n 2, 1) := by decide +kernel
theorem dX1_crash_38 : decode cX1_crash 38 = .ok (.iload_n 2, 1) := by decide +kernel
theorem dX1_crash_39 : decode cX1_crash 39 = .ok (.iconst 4, 1) := by decide +kernel
theorem dX1_crash_40 : decode cX1_crash 40 = .ok (.if_icmp .ge 16, 3) := by decide +kernel
theorem dX1_crash_43 : decode cX1_crash 43 = .ok (.aload_n 0, 1) := by decide +kernel
theorem dX1_crash_44 : decode cX1_crash 44 = .ok (.getfield 32, 3) := by decide +kernel
theorem dX1_crash_47 : decode cX1_crash 47 = .ok (.iload_n 2, 1) := by decide +kernel
theorem dX1_crash_48 : decode cX1_crash 48 = .ok (.aconst_null, 1) := by decide +kernel
theorem dX1_crash_49 : decode cX1_crash 49 = .ok (.aastore, 1) := by decide +kernel
theorem dX1_crash_50 : decode cX1_crash 50 = .ok (.iinc 2 1, 3) := by decide +kernel
theorem dX1_crash_53 : decode cX1_crash 53 = .ok (.goto (-15), 3) := by decide +kernel
theorem dX1_crash_56 : decode cX1_crash 56 = .ok (.aload_n 0, 1) := by decide +kernel
theorem dX1_crash_57 : decode cX1_crash 57 = .ok (.aload_n 0, 1) := by decide +kernel
theorem dX1_crash_58 : decode cX1_crash 58 = .ok (.aload_n 0, 1) := by decide +kernel
theorem dX1_crash_59 : decode cX1_crash 59 = .ok (.getfield 17, 3) := by decide +kernel
theorem dX1_crash_62 : decode cX1_crash 62 = .ok (.ldc 116, 2) := by decide +kernel
theorem dX1_crash_64 : decode cX1_crash 64 = .ok (.ldc 117, 2) := by decide +kernel
theorem dX1_crash_66 : decode cX1_crash 66 = .ok (.invokevirtual 173, 3) := by decide +kernel
theorem dX1_crash_69 : decode cX1_crash 69 = .ok (.getfield 77, 3) := by decide +kernel
theorem dX1_crash_72 : decode cX1_crash 72 = .ok (.putfield 141, 3) := by decide +kernel
theorem dX1_crash_75 : decode cX1_crash 75 = .ok (.iload_n 1, 1) := by decide +kernel
theorem dX1_crash_76 : decode cX1_crash 76 = .ok (.ireturn, 1) := by decide +kernel
theorem dX1_row_0 : decode cX1_row 0 = .ok (.aload_n 0, 1) := by decide +kernel
theorem dX1_row_1 : decode cX1_row 1 = .ok (.aload_n 0, 1) := by decide +kernel
theorem dX1_row_2 : decode cX1_row 2 = .ok (.getfield 53, 3) := by decide +kernel
theorem dX1_row_5 : decode cX1_row 5 = .ok (.aload_n 1, 1) := by decide +kernel
theorem dX1_row_6 : decode cX1_row 6 = .ok (.iload_n 2, 1) := by decide +kernel
theorem dX1_row_7 : decode cX1_row 7 = .ok (.iload_n 3, 1) := by decide +kernel
theorem dX1_row_8 : decode cX1_row 8 = .ok (.invokevirtual 85, 3) := by decide +kernel
theorem dX1_row_11 : decode cX1_row 11 = .ok (.areturn, 1) := by decide +kernel
theorem dX1_fill_0 : decode cX1_fill 0 = .ok (.aload_n 1, 1) := by decide +kernel
theorem dX1_fill_1 : decode cX1_fill 1 = .ok (.iconst 0, 1) := by decide +kernel
theorem dX1_fill_2 : decode cX1_fill 2 = .ok (.putfield 77, 3) := by decide +kernel
theorem dX1_fill_5 : decode cX1_fill 5 = .ok (.aload_n 2, 1) := by decide +kernel
theorem dX1_fill_6 : decode cX1_fill 6 = .ok (.iload_n 3, 1) := by decide +kernel
theorem dX1_fill_7 : decode cX1_fill 7 = .ok (.iload 4, 2) := by decide +kernel
theorem dX1_fill_9 : decode cX1_fill 9 = .ok (.aload_n 1, 1) := by decide +kernel
theorem dX1_fill_10 : decode cX1_fill 10 = .ok (.aload_n 0, 1) := by decide +kernel
theorem dX1_fill_11 : decode cX1_fill 11 = .ok (.getfield 42, 3) := by decide +kernel
theorem dX1_fill_14 : decode cX1_fill 14 = .ok (.iconst 0, 1) := by decide +kernel
theorem dX1_fill_15 : decode cX1_fill 15 = .ok (.invokevirtual 81, 3) := by decide +kernel
theorem dX1_fill_18 : decode cX1_fill 18 = .ok (.aload_n 1, 1) := by decide +kernel
theorem dX1_fill_19 : decode cX1_fill 19 = .ok (.areturn, 1) := by decide +kernel
theorem dX1_isSound_0 : decode cX1_isSound 0 = .ok (.aload_n 0, 1) := by decide +kernel
theorem dX1_isSound_1 : decode cX1_isSound 1 = .ok (.getfield 17, 3) := by decide +kernel
theorem dX1_isSound_4 : decode cX1_isSound 4 = .ok (.ldc 116, 2) := by decide +kernel
theorem dX1_isSound_6 : decode cX1_isSound 6 = .ok (.ldc 117, 2) := by decide +kernel
theorem dX1_isSound_8 : decode cX1_isSound 8 = .ok (.invokevirtual 216, 3) := by decide +kernel
theorem dX1_isSound_11 : decode cX1_isSound 11 = .ok (.ireturn, 1) := by decide +kernel
theorem dX1_put_0 : decode cX1_put 0 = .ok (.aload_n 0, 1) := by decide +kernel
theorem dX1_put_1 : decode cX1_put 1 = .ok (.iload_n 1, 1) := by decide +kernel
theorem dX1_put_2 : decode cX1_put 2 = .ok (.invokevirtual 158, 3) := by decide +kernel
theorem dX1_put_5 : decode cX1_put 5 = .ok (.invokestatic 162, 3) := by decide +kernel
theorem dX1_put_8 : decode cX1_put 8 = .ok (.aload_n 0, 1) := by decide +kernel
theorem dX1_put_9 : decode cX1_put 9 = .ok (.iconst 0, 1) := by decide +kernel
theorem dX1_put_10 : decode cX1_put 10 = .ok (.iload_n 1, 1) := by decide +kernel
theorem dX1_put_11 : decode cX1_put 11 = .ok (.lload_n 2, 1) := by decide +kernel
theorem dX1_put_12 : decode cX1_put 12 = .ok (.invokevirtual 166, 3) := by decide +kernel
theorem dX1_put_15 : decode cX1_put 15 = .ok (.pop2, 1) := by decide +kernel
theorem dX1_put_16 : decode cX1_put 16 = .ok (.aload_n 0, 1) := by decide +kernel
theorem dX1_put_17 : decode cX1_put 17 = .ok (.getfield 126, 3) := by decide +kernel
theorem dX1_put_20 : decode cX1_put 20 = .ok (.ireturn, 1) := by decide +kernel
theorem dX1_isRoom_0 : decode cX1_isRoom 0 = .ok (.aload_n 0, 1) := by decide +kernel
theorem dX1_isRoom_1 : decode cX1_isRoom 1 = .ok (.getfield 126, 3) := by decide +kernel
theorem dX1_isRoom_4 : decode cX1_isRoom 4 = .ok (.sipush 2500, 3) := by decide +kernel
theorem dX1_isRoom_7 : decode cX1_isRoom 7 = .ok (.if_icmp .ge 32, 3) := by decide +kernel
theorem dX1_isRoom_10 : decode cX1_isRoom 10 = .ok (.aload_n 0, 1) := by decide +kernel
theorem dX1_isRoom_11 : decode cX1_isRoom 11 = .ok (.getfield 141, 3) := by decide +kernel
theorem dX1_isRoom_14 : decode cX1_isRoom 14 = .ok (.sipush 600, 3) := by decide +kernel
theorem dX1_isRoom_17 : decode cX1_isRoom 17 = .ok (.if_icmp .lt 18, 3) := by decide +kernel
theorem dX1_isRoom_20 : decode cX1_isRoom 20 = .ok (.aload_n 0, 1) := by decide +kernel
theorem dX1_isRoom_21 : decode cX1_isRoom 21 = .ok (.aload_n 0, 1) := by decide +kernel
theorem dX1_isRoom_22 : decode cX1_isRoom 22 = .ok (.getfield 17, 3) := by decide +kernel
theorem dX1_isRoom_25 : decode cX1_isRoom 25 = .ok (.iload_n 1, 1) := by decide +kernel
theorem dX1_isRoom_26 : decode cX1_isRoom 26 = .ok (.invokevirtual 144, 3) := by decide +kernel
theorem dX1_isRoom_29 : decode cX1_isRoom 29 = .ok (.getfield 147, 3) := by decide +kernel
theorem dX1_isRoom_32 : decode cX1_isRoom 32 = .ok (.ifCond .eq 7, 3) := by decide +kernel
theorem dX1_isRoom_35 : decode cX1_isRoom 35 = .ok (.iconst 1, 1) := by decide +kernel
theorem dX1_isRoom_36 : decode cX1_isRoom 36 = .ok (.goto 4, 3) := by decide +kernel
theorem dX1_isRoom_39 : decode cX1_isRoom 39 = .ok (.iconst 0, 1) := by decide +kernel
theorem dX1_isRoom_40 : decode cX1_isRoom 40 = .ok (.ireturn, 1) := by decide +kernel
theorem dX1_read_0 : decode cX1_read 0 = .ok (.aload_n 1, 1) := by decide +kernel
theorem dX1_read_1 : decode cX1_read 1 = .ok (.iload_n 2, 1) := by decide +kernel
theorem dX1_read_2 : decode cX1_read 2 = .ok (.aload_n 0, 1) := by decide +kernel
theorem dX1_read_3 : decode cX1_read 3 = .ok (.getfield 26, 3) := by decide +kernel
theorem dX1_read_6 : decode cX1_read 6 = .ok (.invokevirtual 137, 3) := by decide +kernel
theorem dX1_read_9 : decode cX1_read 9 = .ok (.aload_n 0, 1) := by decide +kernel
theorem dX1_read_10 : decode cX1_read 10 = .ok (.getfield 26, 3) := by decide +kernel
theorem dX1_read_13 : decode cX1_read 13 = .ok (.areturn, 1) := by decide +kernel
theorem dX1_room_0 : decode cX1_room 0 = .ok (.iload_n 0, 1) := by decide +kernel
theorem dX1_room_1 : decode cX1_room 1 = .ok (.ifCond .ne 13, 3) := by decide +kernel
theorem dX1_room_4 : decode cX1_room 4 = .ok (.new 72, 3) := by decide +kernel
theorem dX1_room_7 : decode cX1_room 7 = .ok (.dup, 1) := by decide +kernel
theorem dX1_room_8 : decode cX1_room 8 = .ok (.ldc 74, 2) := by decide +kernel
theorem dX1_room_10 : decode cX1_room 10 = .ok (.invokespecial 76, 3) := by decide +kernel
theorem dX1_room_13 : decode cX1_room 13 = .ok (.athrow, 1) := by decide +kernel
theorem dX1_room_14 : decode cX1_room 14 = .ok (.return_, 1) := by decide +kernel
theorem dX1_single_0 : decode cX1_single 0 = .ok (.aload_n 0, 1) := by decide +kernel
theorem dX1_single_1 : decode cX1_single 1 = .ok (.dup, 1) := by decide +kernel
theorem dX1_single_2 : decode cX1_single 2 = .ok (.getfield 141, 3) := by decide +kernel
theorem dX1_single_5 : decode cX1_single 5 = .ok (.aload_n 0, 1) := by decide +kernel
theorem dX1_single_6 : decode cX1_single 6 = .ok (.aload_n 0, 1) := by decide +kernel
theorem dX1_single_7 : decode cX1_single 7 = .ok (.getfield 17, 3) := by decide +kernel
theorem dX1_single_10 : decode cX1_single 10 = .ok (.iload_n 2, 1) := by decide +kernel
theorem dX1_single_11 : decode cX1_single 11 = .ok (.invokevirtual 144, 3) := by decide +kernel
theorem dX1_single_14 : decode cX1_single 14 = .ok (.getfield 147, 3) := by decide +kernel
theorem dX1_single_17 : decode cX1_single 17 = .ok (.ifCond .eq 7, 3) := by decide +kernel
theorem dX1_single_20 : decode cX1_single 20 = .ok (.iconst 0, 1) := by decide +kernel
theorem dX1_single_21 : decode cX1_single 21 = .ok (.goto 4, 3) := by decide +kernel
theorem dX1_single_24 : decode cX1_single 24 = .ok (.iconst 1, 1) := by decide +kernel
theorem dX1_single_25 : decode cX1_single 25 = .ok (.iadd, 1) := by decide +kernel
theorem dX1_single_26 : decode cX1_single 26 = .ok (.putfield 141, 3) := by decide +kernel
theorem dX1_single_29 : decode cX1_single 29 = .ok (.aload_n 0, 1) := by decide +kernel
theorem dX1_single_30 : decode cX1_single 30 = .ok (.iload_n 1, 1) := by decide +kernel
theorem dX1_single_31 : decode cX1_single 31 = .ok (.iload_n 2, 1) := by decide +kernel
theorem dX1_single_32 : decode cX1_single 32 = .ok (.iload_n 2, 1) := by decide +kernel
theorem dX1_single_33 : decode cX1_single 33 = .ok (.lload_n 3, 1) := by decide +kernel
theorem dX1_single_34 : decode cX1_single 34 = .ok (.invokevirtual 151, 3) := by decide +kernel
theorem dX1_single_37 : decode cX1_single 37 = .ok (.aload_n 0, 1) := by decide +kernel
theorem dX1_single_38 : decode cX1_single 38 = .ok (.aload_n 0, 1) := by decide +kernel
theorem dX1_single_39 : decode cX1_single 39 = .ok (.getfield 17, 3) := by decide +kernel
theorem dX1_single_42 : decode cX1_single 42 = .ok (.iload_n 2, 1) := by decide +kernel
theorem dX1_single_43 : decode cX1_single 43 = .ok (.invokevirtual 144, 3) := by decide +kernel
theorem dX1_single_46 : decode cX1_single 46 = .ok (.getfield 154, 3) := by decide +kernel
theorem dX1_single_49 : decode cX1_single 49 = .ok (.lreturn, 1) := by decide +kernel
theorem dX1_accept_0 : decode cX1_accept 0 = .ok (.aload_n 0, 1) := by decide +kernel
theorem dX1_accept_1 : decode cX1_accept 1 = .ok (.dup, 1) := by decide +kernel
theorem dX1_accept_2 : decode cX1_accept 2 = .ok (.getfield 126, 3) := by decide +kernel
theorem dX1_accept_5 : decode cX1_accept 5 = .ok (.iconst 1, 1) := by decide +kernel
theorem dX1_accept_6 : decode cX1_accept 6 = .ok (.iadd, 1) := by decide +kernel
theorem dX1_accept_7 : decode cX1_accept 7 = .ok (.putfield 126, 3) := by decide +kernel
theorem dX1_accept_10 : decode cX1_accept 10 = .ok (.aload_n 0, 1) := by decide +kernel
theorem dX1_accept_11 : decode cX1_accept 11 = .ok (.new 129, 3) := by decide +kernel
theorem dX1_accept_14 : decode cX1_accept 14 = .ok (.dup, 1) := by decide +kernel
theorem dX1_accept_15 : decode cX1_accept 15 = .ok (.iload_n 1, 1) := by decide +kernel
theorem dX1_accept_16 : decode cX1_accept 16 = .ok (.iload_n 2, 1) := by decide +kernel
theorem dX1_accept_17 : decode cX1_accept 17 = .ok (.iload_n 3, 1) := by decide +kernel
theorem dX1_accept_18 : decode cX1_accept 18 = .ok (.lload 4, 2) := by decide +kernel
theorem dX1_accept_20 : decode cX1_accept 20 = .ok (.invokespecial 131, 3) := by decide +kernel
theorem dX1_accept_23 : decode cX1_accept 23 = .ok (.invokevirtual 134, 3) := by decide +kernel
theorem dX1_accept_26 : decode cX1_accept 26 = .ok (.return_, 1) := by decide +kernel
theorem dX1_send_0 : decode cX1_send 0 = .ok (.aload_n 0, 1) := by decide +kernel
theorem dX1_send_1 : decode cX1_send 1 = .ok (.getfield 49, 3) := by decide +kernel
theorem dX1_send_4 : decode cX1_send 4 = .ok (.iconst 0, 1) := by decide +kernel
theorem dX1_send_5 : decode cX1_send 5 = .ok (.putfield 112, 3) := by decide +kernel
theorem dX1_send_8 : decode cX1_send 8 = .ok (.aload_n 0, 1) := by decide +kernel
theorem dX1_send_9 : decode cX1_send 9 = .ok (.getfield 49, 3) := by decide +kernel
theorem dX1_send_12 : decode cX1_send 12 = .ok (.aload_n 1, 1) := by decide +kernel
theorem dX1_send_13 : decode cX1_send 13 = .ok (.invokevirtual 113, 3) := by decide +kernel
theorem dX1_send_16 : decode cX1_send 16 = .ok (.aload_n 0, 1) := by decide +kernel
theorem dX1_send_17 : decode cX1_send 17 = .ok (.aload_n 0, 1) := by decide +kernel
theorem dX1_send_18 : decode cX1_send 18 = .ok (.getfield 17, 3) := by decide +kernel
theorem dX1_send_21 : decode cX1_send 21 = .ok (.aload_n 0, 1) := by decide +kernel
theorem dX1_send_22 : decode cX1_send 22 = .ok (.getfield 49, 3) := by decide +kernel
theorem dX1_send_25 : decode cX1_send 25 = .ok (.aload_n 0, 1) := by decide +kernel
theorem dX1_send_26 : decode cX1_send 26 = .ok (.getfield 106, 3) := by decide +kernel
theorem dX1_send_29 : decode cX1_send 29 = .ok (.ldc 116, 2) := by decide +kernel
theorem dX1_send_31 : decode cX1_send 31 = .ok (.ldc 117, 2) := by decide +kernel
theorem dX1_send_33 : decode cX1_send 33 = .ok (.aload_n 0, 1) := by decide +kernel
theorem dX1_send_34 : decode cX1_send 34 = .ok (.getfield 42, 3) := by decide +kernel
theorem dX1_send_37 : decode cX1_send 37 = .ok (.iconst 0, 1) := by decide +kernel
theorem dX1_send_38 : decode cX1_send 38 = .ok (.invokevirtual 118, 3) := by decide +kernel
theorem dX1_send_41 : decode cX1_send 41 = .ok (.invokevirtual 122, 3) := by decide +kernel
theorem dX1_send_44 : decode cX1_send 44 = .ok (.return_, 1) := by decide +kernel
theorem dX1_add_0 : decode cX1_add 0 = .ok (.aload_n 0, 1) := by decide +kernel
theorem dX1_add_1 : decode cX1_add 1 = .ok (.iload_n 1, 1) := by decide +kernel
theorem dX1_add_2 : decode cX1_add 2 = .ok (.invokevirtual 158, 3) := by decide +kernel
theorem dX1_add_5 : decode cX1_add 5 = .ok (.invokestatic 162, 3) := by decide +kernel
theorem dX1_add_8 : decode cX1_add 8 = .ok (.aload_n 0, 1) := by decide +kernel
theorem dX1_add_9 : decode cX1_add 9 = .ok (.iconst 2, 1) := by decide +kernel
theorem dX1_add_10 : decode cX1_add 10 = .ok (.iload_n 1, 1) := by decide +kernel
theorem dX1_add_11 : decode cX1_add 11 = .ok (.lload_n 2, 1) := by decide +kernel
theorem dX1_add_12 : decode cX1_add 12 = .ok (.invokevirtual 166, 3) := by decide +kernel
theorem dX1_add_15 : decode cX1_add 15 = .ok (.lreturn, 1) := by decide +kernel
theorem dX1_most_0 : decode cX1_most 0 = .ok (.aload_n 0, 1) := by decide +kernel
theorem dX1_most_1 : decode cX1_most 1 = .ok (.iload_n 1, 1) := by decide +kernel
theorem dX1_most_2 : decode cX1_most 2 = .ok (.invokevirtual 158, 3) := by decide +kernel
theorem dX1_most_5 : decode cX1_most 5 = .ok (.invokestatic 162, 3) := by decide +kernel
theorem dX1_most_8 : decode cX1_most 8 = .ok (.aload_n 0, 1) := by decide +kernel
theorem dX1_most_9 : decode cX1_most 9 = .ok (.iconst 3, 1) := by decide +kernel
theorem dX1_most_10 : decode cX1_most 10 = .ok (.iload_n 1, 1) := by decide +kernel
theorem dX1_most_11 : decode cX1_most 11 = .ok (.lload_n 2, 1) := by decide +kernel
theorem dX1_most_12 : decode cX1_most 12 = .ok (.invokevirtual 166, 3) := by decide +kernel
theorem dX1_most_15 : decode cX1_most 15 = .ok (.lreturn, 1) := by decide +kernel
theorem dX1_delete_0 : decode cX1_delete 0 = .ok (.iload_n 1, 1) := by decide +kernel
theorem dX1_delete_1 : decode cX1_delete 1 = .ok (.iload_n 2, 1) := by decide +kernel
theorem dX1_delete_2 : decode cX1_delete 2 = .ok (.if_icmp .gt 7, 3) := by decide +kernel
theorem dX1_delete_5 : decode cX1_delete 5 = .ok (.iconst 1, 1) := by decide +kernel
theorem dX1_delete_6 : decode cX1_delete 6 = .ok (.goto 4, 3) := by decide +kernel
theorem dX1_delete_9 : decode cX1_delete 9 = .ok (.iconst 0, 1) := by decide +kernel
theorem dX1_delete_10 : decode cX1_delete 10 = .ok (.invokestatic 170, 3) := by decide +kernel
theorem dX1_delete_13 : decode cX1_delete 13 = .ok (.aload_n 0, 1) := by decide +kernel
theorem dX1_delete_14 : decode cX1_delete 14 = .ok (.getfield 126, 3) := by decide +kernel
theorem dX1_delete_17 : decode cX1_delete 17 = .ok (.sipush 2500, 3) := by decide +kernel
theorem dX1_delete_20 : decode cX1_delete 20 = .ok (.if_icmp .ge 7, 3) := by decide +kernel
theorem dX1_delete_23 : decode cX1_delete 23 = .ok (.iconst 1, 1) := by decide +kernel
theorem dX1_delete_24 : decode cX1_delete 24 = .ok (.goto 4, 3) := by decide +kernel
theorem dX1_delete_27 : decode cX1_delete 27 = .ok (.iconst 0, 1) := by decide +kernel
theorem dX1_delete_28 : decode cX1_delete 28 = .ok (.invokestatic 162, 3) := by decide +kernel
theorem dX1_delete_31 : decode cX1_delete 31 = .ok (.aload_n 0, 1) := by decide +kernel
theorem dX1_delete_32 : decode cX1_delete 32 = .ok (.aload_n 0, 1) := by decide +kernel
theorem dX1_delete_33 : decode cX1_delete 33 = .ok (.getfield 17, 3) := by decide +kernel
theorem dX1_delete_36 : decode cX1_delete 36 = .ok (.iload_n 1, 1) := by decide +kernel
theorem dX1_delete_37 : decode cX1_delete 37 = .ok (.iload_n 2, 1) := by decide +kernel
theorem dX1_delete_38 : decode cX1_delete 38 = .ok (.invokevirtual 173, 3) := by decide +kernel
theorem dX1_delete_41 : decode cX1_delete 41 = .ok (.getfield 77, 3) := by decide +kernel
theorem dX1_delete_44 : decode cX1_delete 44 = .ok (.istore_n 3, 1) := by decide +kernel
theorem dX1_delete_45 : decode cX1_delete 45 = .ok (.aload_n 0, 1) := by decide +kernel
theorem dX1_delete_46 : decode cX1_delete 46 = .ok (.dup, 1) := by decide +kernel
theorem dX1_delete_47 : decode cX1_delete 47 = .ok (.getfield 141, 3) := by decide +kernel
theorem dX1_delete_50 : decode cX1_delete 50 = .ok (.iload_n 3, 1) := by decide +kernel
theorem dX1_delete_51 : decode cX1_delete 51 = .ok (.isub, 1) := by decide +kernel
theorem dX1_delete_52 : decode cX1_delete 52 = .ok (.putfield 141, 3) := by decide +kernel
theorem dX1_delete_55 : decode cX1_delete 55 = .ok (.aload_n 0, 1) := by decide +kernel
theorem dX1_delete_56 : decode cX1_delete 56 = .ok (.iconst 1, 1) := by decide +kernel
theorem dX1_delete_57 : decode cX1_delete 57 = .ok (.iload_n 1, 1) := by decide +kernel
theorem dX1_delete_58 : decode cX1_delete 58 = .ok (.iload_n 2, 1) := by decide +kernel
theorem dX1_delete_59 : decode cX1_delete 59 = .ok (.lconst 0, 1) := by decide +kernel
theorem dX1_delete_60 : decode cX1_delete 60 = .ok (.invokevirtual 151, 3) := by decide +kernel
theorem dX1_delete_63 : decode cX1_delete 63 = .ok (.iload_n 3, 1) := by decide +kernel
theorem dX1_delete_64 : decode cX1_delete 64 = .ok (.ireturn, 1) := by decide +kernel
theorem dX1_need_0 : decode cX1_need 0 = .ok (.iload_n 0, 1) := by decide +kernel
theorem dX1_need_1 : decode cX1_need 1 = .ok (.ifCond .ne 13, 3) := by decide +kernel
theorem dX1_need_4 : decode cX1_need 4 = .ok (.new 60, 3) := by decide +kernel
theorem dX1_need_7 : decode cX1_need 7 = .ok (.dup, 1) := by decide +kernel
theorem dX1_need_8 : decode cX1_need 8 = .ok (.ldc 62, 2) := by decide +kernel
theorem dX1_need_10 : decode cX1_need 10 = .ok (.invokespecial 64, 3) := by decide +kernel
theorem dX1_need_13 : decode cX1_need 13 = .ok (.athrow, 1) := by decide +kernel
theorem dX1_need_14 : decode cX1_need 14 = .ok (.return_, 1) := by decide +kernel
theorem dX1_raise_0 : decode cX1_raise 0 = .ok (.iload_n 1, 1) := by decide +kernel
theorem dX1_raise_1 : decode cX1_raise 1 = .ok (.iload_n 2, 1) := by decide +kernel
theorem dX1_raise_2 : decode cX1_raise 2 = .ok (.if_icmp .gt 7, 3) := by decide +kernel
theorem dX1_raise_5 : decode cX1_raise 5 = .ok (.iconst 1, 1) := by decide +kernel
theorem dX1_raise_6 : decode cX1_raise 6 = .ok (.goto 4, 3) := by decide +kernel
theorem dX1_raise_9 : decode cX1_raise 9 = .ok (.iconst 0, 1) := by decide +kernel
theorem dX1_raise_10 : decode cX1_raise 10 = .ok (.invokestatic 170, 3) := by decide +kernel
theorem dX1_raise_13 : decode cX1_raise 13 = .ok (.aload_n 0, 1) := by decide +kernel
theorem dX1_raise_14 : decode cX1_raise 14 = .ok (.getfield 126, 3) := by decide +kernel
theorem dX1_raise_17 : decode cX1_raise 17 = .ok (.sipush 2500, 3) := by decide +kernel
theorem dX1_raise_20 : decode cX1_raise 20 = .ok (.if_icmp .ge 7, 3) := by decide +kernel
theorem dX1_raise_23 : decode cX1_raise 23 = .ok (.iconst 1, 1) := by decide +kernel
theorem dX1_raise_24 : decode cX1_raise 24 = .ok (.goto 4, 3) := by decide +kernel
theorem dX1_raise_27 : decode cX1_raise 27 = .ok (.iconst 0, 1) := by decide +kernel
theorem dX1_raise_28 : decode cX1_raise 28 = .ok (.invokestatic 162, 3) := by decide +kernel
theorem dX1_raise_31 : decode cX1_raise 31 = .ok (.aload_n 0, 1) := by decide +kernel
theorem dX1_raise_32 : decode cX1_raise 32 = .ok (.iconst 4, 1) := by decide +kernel
theorem dX1_raise_33 : decode cX1_raise 33 = .ok (.iload_n 1, 1) := by decide +kernel
theorem dX1_raise_34 : decode cX1_raise 34 = .ok (.iload_n 2, 1) := by decide +kernel
theorem dX1_raise_35 : decode cX1_raise 35 = .ok (.lload_n 3, 1) := by decide +kernel
theorem dX1_raise_36 : decode cX1_raise 36 = .ok (.invokevirtual 151, 3) := by decide +kernel
theorem dX1_raise_39 : decode cX1_raise 39 = .ok (.aload_n 0, 1) := by decide +kernel
theorem dX1_raise_40 : decode cX1_raise 40 = .ok (.aload_n 0, 1) := by decide +kernel
theorem dX1_raise_41 : decode cX1_raise 41 = .ok (.getfield 17, 3) := by decide +kernel
theorem dX1_raise_44 : decode cX1_raise 44 = .ok (.iload_n 1, 1) := by decide +kernel
theorem dX1_raise_45 : decode cX1_raise 45 = .ok (.iload_n 2, 1) := by decide +kernel
theorem dX1_raise_46 : decode cX1_raise 46 = .ok (.invokevirtual 173, 3) := by decide +kernel
theorem dX1_raise_49 : decode cX1_raise 49 = .ok (.getfield 77, 3) := by decide +kernel
theorem dX1_raise_52 : decode cX1_raise 52 = .ok (.ireturn, 1) := by decide +kernel
theorem dX1_putAll_0 : decode cX1_putAll 0 = .ok (.iload 7, 2) := by decide +kernel
theorem dX1_putAll_2 : decode cX1_putAll 2 = .ok (.ifCond .lt 15, 3) := by decide +kernel
theorem dX1_putAll_5 : decode cX1_putAll 5 = .ok (.iload 7, 2) := by decide +kernel
theorem dX1_putAll_7 : decode cX1_putAll 7 = .ok (.sipush 300, 3) := by decide +kernel
theorem dX1_putAll_10 : decode cX1_putAll 10 = .ok (.if_icmp .gt 7, 3) := by decide +kernel
theorem dX1_putAll_13 : decode cX1_putAll 13 = .ok (.iconst 1, 1) := by decide +kernel
theorem dX1_putAll_14 : decode cX1_putAll 14 = .ok (.goto 4, 3) := by decide +kernel
theorem dX1_putAll_17 : decode cX1_putAll 17 = .ok (.iconst 0, 1) := by decide +kernel
theorem dX1_putAll_18 : decode cX1_putAll 18 = .ok (.invokestatic 170, 3) := by decide +kernel
theorem dX1_putAll_21 : decode cX1_putAll 21 = .ok (.aload_n 0, 1) := by decide +kernel
theorem dX1_putAll_22 : decode cX1_putAll 22 = .ok (.getfield 49, 3) := by decide +kernel
theorem dX1_putAll_25 : decode cX1_putAll 25 = .ok (.astore 8, 2) := by decide +kernel
theorem dX1_putAll_27 : decode cX1_putAll 27 = .ok (.aload 8, 2) := by decide +kernel
theorem dX1_putAll_29 : decode cX1_putAll 29 = .ok (.iconst 0, 1) := by decide +kernel
theorem dX1_putAll_30 : decode cX1_putAll 30 = .ok (.putfield 112, 3) := by decide +kernel
theorem dX1_putAll_33 : decode cX1_putAll 33 = .ok (.aload 8, 2) := by decide +kernel
theorem dX1_putAll_35 : decode cX1_putAll 35 = .ok (.getfield 112, 3) := by decide +kernel
theorem dX1_putAll_38 : decode cX1_putAll 38 = .ok (.iload 7, 2) := by decide +kernel
theorem dX1_putAll_40 : decode cX1_putAll 40 = .ok (.if_icmp .ge 88, 3) := by decide +kernel
theorem dX1_putAll_43 : decode cX1_putAll 43 = .ok (.aload_n 0, 1) := by decide +kernel
theorem dX1_putAll_44 : decode cX1_putAll 44 = .ok (.aload 8, 2) := by decide +kernel
theorem dX1_putAll_46 : decode cX1_putAll 46 = .ok (.iload_n 1, 1) := by decide +kernel
theorem dX1_putAll_47 : decode cX1_putAll 47 = .ok (.aload 8, 2) := by decide +kernel
theorem dX1_putAll_49 : decode cX1_putAll 49 = .ok (.getfield 112, 3) := by decide +kernel
theorem dX1_putAll_52 : decode cX1_putAll 52 = .ok (.iload_n 2, 1) := by decide +kernel
theorem dX1_putAll_53 : decode cX1_putAll 53 = .ok (.imul, 1) := by decide +kernel
theorem dX1_putAll_54 : decode cX1_putAll 54 = .ok (.iadd, 1) := by decide +kernel
theorem dX1_putAll_55 : decode cX1_putAll 55 = .ok (.invokevirtual 187, 3) := by decide +kernel
theorem dX1_putAll_58 : decode cX1_putAll 58 = .ok (.ifCond .eq 70, 3) := by decide +kernel
theorem dX1_putAll_61 : decode cX1_putAll 61 = .ok (.iload_n 1, 1) := by decide +kernel
theorem dX1_putAll_62 : decode cX1_putAll 62 = .ok (.aload 8, 2) := by decide +kernel
theorem dX1_putAll_64 : decode cX1_putAll 64 = .ok (.getfield 112, 3) := by decide +kernel
theorem dX1_putAll_67 : decode cX1_putAll 67 = .ok (.iload_n 2, 1) := by decide +kernel
theorem dX1_putAll_68 : decode cX1_putAll 68 = .ok (.imul, 1) := by decide +kernel
theorem dX1_putAll_69 : decode cX1_putAll 69 = .ok (.iadd, 1) := by decide +kernel
theorem dX1_putAll_70 : decode cX1_putAll 70 = .ok (.istore 9, 2) := by decide +kernel
theorem dX1_putAll_72 : decode cX1_putAll 72 = .ok (.aload_n 0, 1) := by decide +kernel
theorem dX1_putAll_73 : decode cX1_putAll 73 = .ok (.dup, 1) := by decide +kernel
theorem dX1_putAll_74 : decode cX1_putAll 74 = .ok (.getfield 141, 3) := by decide +kernel
theorem dX1_putAll_77 : decode cX1_putAll 77 = .ok (.aload_n 0, 1) := by decide +kernel
theorem dX1_putAll_78 : decode cX1_putAll 78 = .ok (.aload 8, 2) := by decide +kernel
theorem dX1_putAll_80 : decode cX1_putAll 80 = .ok (.iload 9, 2) := by decide +kernel
theorem dX1_putAll_82 : decode cX1_putAll 82 = .ok (.invokevirtual 183, 3) := by decide +kernel
theorem dX1_putAll_85 : decode cX1_putAll 85 = .ok (.ifCond .eq 7, 3) := by decide +kernel
theorem dX1_putAll_88 : decode cX1_putAll 88 = .ok (.iconst 0, 1) := by decide +kernel
theorem dX1_putAll_89 : decode cX1_putAll 89 = .ok (.goto 4, 3) := by decide +kernel
theorem dX1_putAll_92 : decode cX1_putAll 92 = .ok (.iconst 1, 1) := by decide +kernel
theorem dX1_putAll_93 : decode cX1_putAll 93 = .ok (.iadd, 1) := by decide +kernel
theorem dX1_putAll_94 : decode cX1_putAll 94 = .ok (.putfield 141, 3) := by decide +kernel
theorem dX1_putAll_97 : decode cX1_putAll 97 = .ok (.aload 8, 2) := by decide +kernel
theorem dX1_putAll_99 : decode cX1_putAll 99 = .ok (.new 129, 3) := by decide +kernel
theorem dX1_putAll_102 : decode cX1_putAll 102 = .ok (.dup, 1) := by decide +kernel
theorem dX1_putAll_103 : decode cX1_putAll 103 = .ok (.iconst 0, 1) := by decide +kernel
theorem dX1_putAll_104 : decode cX1_putAll 104 = .ok (.iload 9, 2) := by decide +kernel
theorem dX1_putAll_106 : decode cX1_putAll 106 = .ok (.iload 9, 2) := by decide +kernel
theorem dX1_putAll_108 : decode cX1_putAll 108 = .ok (.lload_n 3, 1) := by decide +kernel
theorem dX1_putAll_109 : decode cX1_putAll 109 = .ok (.aload 8, 2) := by decide +kernel
theorem dX1_putAll_111 : decode cX1_putAll 111 = .ok (.getfield 112, 3) := by decide +kernel
theorem dX1_putAll_114 : decode cX1_putAll 114 = .ok (.i2l, 1) := by decide +kernel
theorem dX1_putAll_115 : decode cX1_putAll 115 = .ok (.lload 5, 2) := by decide +kernel
theorem dX1_putAll_117 : decode cX1_putAll 117 = .ok (.lmul, 1) := by decide +kernel
theorem dX1_putAll_118 : decode cX1_putAll 118 = .ok (.ladd, 1) := by decide +kernel
theorem dX1_putAll_119 : decode cX1_putAll 119 = .ok (.invokespecial 131, 3) := by decide +kernel
theorem dX1_putAll_122 : decode cX1_putAll 122 = .ok (.invokevirtual 113, 3) := by decide +kernel
theorem dX1_putAll_125 : decode cX1_putAll 125 = .ok (.goto (-92), 3) := by decide +kernel
theorem dX1_putAll_128 : decode cX1_putAll 128 = .ok (.aload_n 0, 1) := by decide +kernel
theorem dX1_putAll_129 : decode cX1_putAll 129 = .ok (.dup, 1) := by decide +kernel
theorem dX1_putAll_130 : decode cX1_putAll 130 = .ok (.getfield 126, 3) := by decide +kernel
theorem dX1_putAll_133 : decode cX1_putAll 133 = .ok (.aload 8, 2) := by decide +kernel
theorem dX1_putAll_135 : decode cX1_putAll 135 = .ok (.getfield 112, 3) := by decide +kernel
theorem dX1_putAll_138 : decode cX1_putAll 138 = .ok (.iadd, 1) := by decide +kernel
theorem dX1_putAll_139 : decode cX1_putAll 139 = .ok (.putfield 126, 3) := by decide +kernel
theorem dX1_putAll_142 : decode cX1_putAll 142 = .ok (.aload 8, 2) := by decide +kernel
theorem dX1_putAll_144 : decode cX1_putAll 144 = .ok (.getfield 112, 3) := by decide +kernel
theorem dX1_putAll_147 : decode cX1_putAll 147 = .ok (.ifCond .le 29, 3) := by decide +kernel
theorem dX1_putAll_150 : decode cX1_putAll 150 = .ok (.aload_n 0, 1) := by decide +kernel
theorem dX1_putAll_151 : decode cX1_putAll 151 = .ok (.aload_n 0, 1) := by decide +kernel
theorem dX1_putAll_152 : decode cX1_putAll 152 = .ok (.getfield 17, 3) := by decide +kernel
theorem dX1_putAll_155 : decode cX1_putAll 155 = .ok (.aload 8, 2) := by decide +kernel
theorem dX1_putAll_157 : decode cX1_putAll 157 = .ok (.aload_n 0, 1) := by decide +kernel
theorem dX1_putAll_158 : decode cX1_putAll 158 = .ok (.getfield 106, 3) := by decide +kernel
theorem dX1_putAll_161 : decode cX1_putAll 161 = .ok (.ldc 116, 2) := by decide +kernel
theorem dX1_putAll_163 : decode cX1_putAll 163 = .ok (.ldc 117, 2) := by decide +kernel
theorem dX1_putAll_165 : decode cX1_putAll 165 = .ok (.aload_n 0, 1) := by decide +kernel
theorem dX1_putAll_166 : decode cX1_putAll 166 = .ok (.getfield 42, 3) := by decide +kernel
theorem dX1_putAll_169 : decode cX1_putAll 169 = .ok (.iconst 0, 1) := by decide +kernel
theorem dX1_putAll_170 : decode cX1_putAll 170 = .ok (.invokevirtual 118, 3) := by decide +kernel
theorem dX1_putAll_173 : decode cX1_putAll 173 = .ok (.invokevirtual 122, 3) := by decide +kernel
theorem dX1_putAll_176 : decode cX1_putAll 176 = .ok (.aload 8, 2) := by decide +kernel
theorem dX1_putAll_178 : decode cX1_putAll 178 = .ok (.getfield 112, 3) := by decide +kernel
theorem dX1_putAll_181 : decode cX1_putAll 181 = .ok (.ireturn, 1) := by decide +kernel
theorem dX1_isRoomBehind_0 : decode cX1_isRoomBehind 0 = .ok (.aload_n 0, 1) := by decide +kernel
theorem dX1_isRoomBehind_1 : decode cX1_isRoomBehind 1 = .ok (.getfield 126, 3) := by decide +kernel
theorem dX1_isRoomBehind_4 : decode cX1_isRoomBehind 4 = .ok (.aload_n 1, 1) := by decide +kernel
theorem dX1_isRoomBehind_5 : decode cX1_isRoomBehind 5 = .ok (.getfield 112, 3) := by decide +kernel
theorem dX1_isRoomBehind_8 : decode cX1_isRoomBehind 8 = .ok (.iadd, 1) := by decide +kernel
theorem dX1_isRoomBehind_9 : decode cX1_isRoomBehind 9 = .ok (.sipush 2500, 3) := by decide +kernel
theorem dX1_isRoomBehind_12 : decode cX1_isRoomBehind 12 = .ok (.if_icmp .ge 26, 3) := by decide +kernel
theorem dX1_isRoomBehind_15 : decode cX1_isRoomBehind 15 = .ok (.aload_n 0, 1) := by decide +kernel
theorem dX1_isRoomBehind_16 : decode cX1_isRoomBehind 16 = .ok (.getfield 141, 3) := by decide +kernel
theorem dX1_isRoomBehind_19 : decode cX1_isRoomBehind 19 = .ok (.sipush 600, 3) := by decide +kernel
theorem dX1_isRoomBehind_22 : decode cX1_isRoomBehind 22 = .ok (.if_icmp .lt 12, 3) := by decide +kernel
theorem dX1_isRoomBehind_25 : decode cX1_isRoomBehind 25 = .ok (.aload_n 0, 1) := by decide +kernel
theorem dX1_isRoomBehind_26 : decode cX1_isRoomBehind 26 = .ok (.aload_n 1, 1) := by decide +kernel
theorem dX1_isRoomBehind_27 : decode cX1_isRoomBehind 27 = .ok (.iload_n 2, 1) := by decide +kernel
theorem dX1_isRoomBehind_28 : decode cX1_isRoomBehind 28 = .ok (.invokevirtual 183, 3) := by decide +kernel
theorem dX1_isRoomBehind_31 : decode cX1_isRoomBehind 31 = .ok (.ifCond .eq 7, 3) := by decide +kernel
theorem dX1_isRoomBehind_34 : decode cX1_isRoomBehind 34 = .ok (.iconst 1, 1) := by decide +kernel
theorem dX1_isRoomBehind_35 : decode cX1_isRoomBehind 35 = .ok (.goto 4, 3) := by decide +kernel
theorem dX1_isRoomBehind_38 : decode cX1_isRoomBehind 38 = .ok (.iconst 0, 1) := by decide +kernel
theorem dX1_isRoomBehind_39 : decode cX1_isRoomBehind 39 = .ok (.ireturn, 1) := by decide +kernel
theorem dX1_isThere_0 : decode cX1_isThere 0 = .ok (.aload_n 0, 1) := by decide +kernel
theorem dX1_isThere_1 : decode cX1_isThere 1 = .ok (.aload_n 0, 1) := by decide +kernel
theorem dX1_isThere_2 : decode cX1_isThere 2 = .ok (.getfield 17, 3) := by decide +kernel
theorem dX1_isThere_5 : decode cX1_isThere 5 = .ok (.iload_n 2, 1) := by decide +kernel
theorem dX1_isThere_6 : decode cX1_isThere 6 = .ok (.invokevirtual 144, 3) := by decide +kernel
theorem dX1_isThere_9 : decode cX1_isThere 9 = .ok (.getfield 147, 3) := by decide +kernel
theorem dX1_isThere_12 : decode cX1_isThere 12 = .ok (.istore_n 3, 1) := by decide +kernel
theorem dX1_isThere_13 : decode cX1_isThere 13 = .ok (.iconst 0, 1) := by decide +kernel
theorem dX1_isThere_14 : decode cX1_isThere 14 = .ok (.istore 4, 2) := by decide +kernel
theorem dX1_isThere_16 : decode cX1_isThere 16 = .ok (.iload 4, 2) := by decide +kernel
theorem dX1_isThere_18 : decode cX1_isThere 18 = .ok (.aload_n 1, 1) := by decide +kernel
theorem dX1_isThere_19 : decode cX1_isThere 19 = .ok (.getfield 112, 3) := by decide +kernel
theorem dX1_isThere_22 : decode cX1_isThere 22 = .ok (.if_icmp .ge 33, 3) := by decide +kernel
theorem dX1_isThere_25 : decode cX1_isThere 25 = .ok (.iload_n 3, 1) := by decide +kernel
theorem dX1_isThere_26 : decode cX1_isThere 26 = .ok (.ifCond .ne 29, 3) := by decide +kernel
theorem dX1_isThere_29 : decode cX1_isThere 29 = .ok (.aload_n 1, 1) := by decide +kernel
theorem dX1_isThere_30 : decode cX1_isThere 30 = .ok (.getfield 177, 3) := by decide +kernel
theorem dX1_isThere_33 : decode cX1_isThere 33 = .ok (.iload 4, 2) := by decide +kernel
theorem dX1_isThere_35 : decode cX1_isThere 35 = .ok (.aaload, 1) := by decide +kernel
theorem dX1_isThere_36 : decode cX1_isThere 36 = .ok (.getfield 180, 3) := by decide +kernel
theorem dX1_isThere_39 : decode cX1_isThere 39 = .ok (.iload_n 2, 1) := by decide +kernel
theorem dX1_isThere_40 : decode cX1_isThere 40 = .ok (.if_icmp .ne 7, 3) := by decide +kernel
theorem dX1_isThere_43 : decode cX1_isThere 43 = .ok (.iconst 1, 1) := by decide +kernel
theorem dX1_isThere_44 : decode cX1_isThere 44 = .ok (.goto 4, 3) := by decide +kernel
theorem dX1_isThere_47 : decode cX1_isThere 47 = .ok (.iconst 0, 1) := by decide +kernel
theorem dX1_isThere_48 : decode cX1_isThere 48 = .ok (.istore_n 3, 1) := by decide +kernel
theorem dX1_isThere_49 : decode cX1_isThere 49 = .ok (.iinc 4 1, 3) := by decide +kernel
theorem dX1_isThere_52 : decode cX1_isThere 52 = .ok (.goto (-36), 3) := by decide +kernel
theorem dX1_isThere_55 : decode cX1_isThere 55 = .ok (.iload_n 3, 1) := by decide +kernel
theorem dX1_isThere_56 : decode cX1_isThere 56 = .ok (.ireturn, 1) := by decide +kernel
theorem dX1_has_0 : decode cX1_has 0 = .ok (.aload_n 0, 1) := by decide +kernel
theorem dX1_has_1 : decode cX1_has 1 = .ok (.aload_n 0, 1) := by decide +kernel
theorem dX1_has_2 : decode cX1_has 2 = .ok (.iload_n 1, 1) := by decide +kernel
theorem dX1_has_3 : decode cX1_has 3 = .ok (.invokevirtual 192, 3) := by decide +kernel
theorem dX1_has_6 : decode cX1_has 6 = .ok (.iload_n 2, 1) := by decide +kernel
theorem dX1_has_7 : decode cX1_has 7 = .ok (.invokevirtual 144, 3) := by decide +kernel
theorem dX1_has_10 : decode cX1_has 10 = .ok (.getfield 147, 3) := by decide +kernel
theorem dX1_has_13 : decode cX1_has 13 = .ok (.ireturn, 1) := by decide +kernel
theorem dX1_page_0 : decode cX1_page 0 = .ok (.iload_n 1, 1) := by decide +kernel
theorem dX1_page_1 : decode cX1_page 1 = .ok (.iconst (-1), 1) := by decide +kernel
theorem dX1_page_2 : decode cX1_page 2 = .ok (.if_icmp .eq 21, 3) := by decide +kernel
theorem dX1_page_5 : decode cX1_page 5 = .ok (.iload_n 1, 1) := by decide +kernel
theorem dX1_page_6 : decode cX1_page 6 = .ok (.ifCond .lt 21, 3) := by decide +kernel
theorem dX1_page_9 : decode cX1_page 9 = .ok (.iload_n 1, 1) := by decide +kernel
theorem dX1_page_10 : decode cX1_page 10 = .ok (.iconst 4, 1) := by decide +kernel
theorem dX1_page_11 : decode cX1_page 11 = .ok (.if_icmp .ge 16, 3) := by decide +kernel
theorem dX1_page_14 : decode cX1_page 14 = .ok (.aload_n 0, 1) := by decide +kernel
theorem dX1_page_15 : decode cX1_page 15 = .ok (.getfield 32, 3) := by decide +kernel
theorem dX1_page_18 : decode cX1_page 18 = .ok (.iload_n 1, 1) := by decide +kernel
theorem dX1_page_19 : decode cX1_page 19 = .ok (.aaload, 1) := by decide +kernel
theorem dX1_page_20 : decode cX1_page 20 = .ok (.ifnull 7, 3) := by decide +kernel
theorem dX1_page_23 : decode cX1_page 23 = .ok (.iconst 1, 1) := by decide +kernel
theorem dX1_page_24 : decode cX1_page 24 = .ok (.goto 4, 3) := by decide +kernel
theorem dX1_page_27 : decode cX1_page 27 = .ok (.iconst 0, 1) := by decide +kernel
theorem dX1_page_28 : decode cX1_page 28 = .ok (.invokestatic 190, 3) := by decide +kernel
theorem dX1_page_31 : decode cX1_page 31 = .ok (.iload_n 1, 1) := by decide +kernel
theorem dX1_page_32 : decode cX1_page 32 = .ok (.iconst (-1), 1) := by decide +kernel
theorem dX1_page_33 : decode cX1_page 33 = .ok (.if_icmp .ne 10, 3) := by decide +kernel
theorem dX1_page_36 : decode cX1_page 36 = .ok (.aload_n 0, 1) := by decide +kernel
theorem dX1_page_37 : decode cX1_page 37 = .ok (.getfield 17, 3) := by decide +kernel
theorem dX1_page_40 : decode cX1_page 40 = .ok (.goto 9, 3) := by decide +kernel
theorem dX1_page_43 : decode cX1_page 43 = .ok (.aload_n 0, 1) := by decide +kernel
theorem dX1_page_44 : decode cX1_page 44 = .ok (.getfield 32, 3) := by decide +kernel
theorem dX1_page_47 : decode cX1_page 47 = .ok (.iload_n 1, 1) := by decide +kernel
theorem dX1_page_48 : decode cX1_page 48 = .ok (.aaload, 1) := by decide +kernel
theorem dX1_page_49 : decode cX1_page 49 = .ok (.areturn, 1) := by decide +kernel
theorem dX1_there_0 : decode cX1_there 0 = .ok (.iload_n 0, 1) := by decide +kernel
theorem dX1_there_1 : decode cX1_there 1 = .ok (.ifCond .ne 13, 3) := by decide +kernel
theorem dX1_there_4 : decode cX1_there 4 = .ok (.new 67, 3) := by decide +kernel
theorem dX1_there_7 : decode cX1_there 7 = .ok (.dup, 1) := by decide +kernel
theorem dX1_there_8 : decode cX1_there 8 = .ok (.ldc 69, 2) := by decide +kernel
theorem dX1_there_10 : decode cX1_there 10 = .ok (.invokespecial 71, 3) := by decide +kernel
theorem dX1_there_13 : decode cX1_there 13 = .ok (.athrow, 1) := by decide +kernel
theorem dX1_there_14 : decode cX1_there 14 = .ok (.return_, 1) := by decide +kernel
theorem dX1_get_0 : decode cX1_get 0 = .ok (.aload_n 0, 1) := by decide +kernel
theorem dX1_get_1 : decode cX1_get 1 = .ok (.aload_n 0, 1) := by decide +kernel
theorem dX1_get_2 : decode cX1_get 2 = .ok (.iload_n 1, 1) := by decide +kernel
theorem dX1_get_3 : decode cX1_get 3 = .ok (.invokevirtual 192, 3) := by decide +kernel
theorem dX1_get_6 : decode cX1_get 6 = .ok (.iload_n 2, 1) := by decide +kernel
theorem dX1_get_7 : decode cX1_get 7 = .ok (.invokevirtual 144, 3) := by decide +kernel
theorem dX1_get_10 : decode cX1_get 10 = .ok (.astore_n 3, 1) := by decide +kernel
theorem dX1_get_11 : decode cX1_get 11 = .ok (.aload_n 3, 1) := by decide +kernel
theorem dX1_get_12 : decode cX1_get 12 = .ok (.getfield 147, 3) := by decide +kernel
theorem dX1_get_15 : decode cX1_get 15 = .ok (.ifCond .eq 10, 3) := by decide +kernel
theorem dX1_get_18 : decode cX1_get 18 = .ok (.aload_n 3, 1) := by decide +kernel
theorem dX1_get_19 : decode cX1_get 19 = .ok (.getfield 154, 3) := by decide +kernel
theorem dX1_get_22 : decode cX1_get 22 = .ok (.goto 4, 3) := by decide +kernel
theorem dX1_get_25 : decode cX1_get 25 = .ok (.lconst 0, 1) := by decide +kernel
theorem dX1_get_26 : decode cX1_get 26 = .ok (.lreturn, 1) := by decide +kernel
theorem dX1_count_0 : decode cX1_count 0 = .ok (.aload_n 0, 1) := by decide +kernel
theorem dX1_count_1 : decode cX1_count 1 = .ok (.iload_n 1, 1) := by decide +kernel
theorem dX1_count_2 : decode cX1_count 2 = .ok (.invokevirtual 192, 3) := by decide +kernel
theorem dX1_count_5 : decode cX1_count 5 = .ok (.astore 4, 2) := by decide +kernel
theorem dX1_count_7 : decode cX1_count 7 = .ok (.iload_n 2, 1) := by decide +kernel
theorem dX1_count_8 : decode cX1_count 8 = .ok (.iload_n 3, 1) := by decide +kernel
theorem dX1_count_9 : decode cX1_count 9 = .ok (.if_icmp .gt 7, 3) := by decide +kernel
theorem dX1_count_12 : decode cX1_count 12 = .ok (.iconst 1, 1) := by decide +kernel
theorem dX1_count_13 : decode cX1_count 13 = .ok (.goto 4, 3) := by decide +kernel
theorem dX1_count_16 : decode cX1_count 16 = .ok (.iconst 0, 1) := by decide +kernel
theorem dX1_count_17 : decode cX1_count 17 = .ok (.invokestatic 170, 3) := by decide +kernel
theorem dX1_count_20 : decode cX1_count 20 = .ok (.aload_n 0, 1) := by decide +kernel
theorem dX1_count_21 : decode cX1_count 21 = .ok (.aload 4, 2) := by decide +kernel
theorem dX1_count_23 : decode cX1_count 23 = .ok (.iload_n 2, 1) := by decide +kernel
theorem dX1_count_24 : decode cX1_count 24 = .ok (.iload_n 3, 1) := by decide +kernel
theorem dX1_count_25 : decode cX1_count 25 = .ok (.invokevirtual 173, 3) := by decide +kernel
theorem dX1_count_28 : decode cX1_count 28 = .ok (.getfield 77, 3) := by decide +kernel
theorem dX1_count_31 : decode cX1_count 31 = .ok (.ireturn, 1) := by decide +kernel
theorem dX1_sum_0 : decode cX1_sum 0 = .ok (.aload_n 0, 1) := by decide +kernel
theorem dX1_sum_1 : decode cX1_sum 1 = .ok (.iload_n 1, 1) := by decide +kernel
theorem dX1_sum_2 : decode cX1_sum 2 = .ok (.invokevirtual 192, 3) := by decide +kernel
theorem dX1_sum_5 : decode cX1_sum 5 = .ok (.astore 4, 2) := by decide +kernel
theorem dX1_sum_7 : decode cX1_sum 7 = .ok (.iload_n 2, 1) := by decide +kernel
theorem dX1_sum_8 : decode cX1_sum 8 = .ok (.iload_n 3, 1) := by decide +kernel
theorem dX1_sum_9 : decode cX1_sum 9 = .ok (.if_icmp .gt 7, 3) := by decide +kernel
theorem dX1_sum_12 : decode cX1_sum 12 = .ok (.iconst 1, 1) := by decide +kernel
theorem dX1_sum_13 : decode cX1_sum 13 = .ok (.goto 4, 3) := by decide +kernel
theorem dX1_sum_16 : decode cX1_sum 16 = .ok (.iconst 0, 1) := by decide +kernel
theorem dX1_sum_17 : decode cX1_sum 17 = .ok (.invokestatic 170, 3) := by decide +kernel
theorem dX1_sum_20 : decode cX1_sum 20 = .ok (.aload_n 0, 1) := by decide +kernel
theorem dX1_sum_21 : decode cX1_sum 21 = .ok (.aload 4, 2) := by decide +kernel
theorem dX1_sum_23 : decode cX1_sum 23 = .ok (.iload_n 2, 1) := by decide +kernel
theorem dX1_sum_24 : decode cX1_sum 24 = .ok (.iload_n 3, 1) := by decide +kernel
theorem dX1_sum_25 : decode cX1_sum 25 = .ok (.invokevirtual 173, 3) := by decide +kernel
theorem dX1_sum_28 : decode cX1_sum 28 = .ok (.astore 5, 2) := by decide +kernel
theorem dX1_sum_30 : decode cX1_sum 30 = .ok (.lconst 0, 1) := by decide +kernel
theorem dX1_sum_31 : decode cX1_sum 31 = .ok (.lstore 6, 2) := by decide +kernel
theorem dX1_sum_33 : decode cX1_sum 33 = .ok (.iconst 0, 1) := by decide +kernel
theorem dX1_sum_34 : decode cX1_sum 34 = .ok (.istore 8, 2) := by decide +kernel
theorem dX1_sum_36 : decode cX1_sum 36 = .ok (.iload 8, 2) := by decide +kernel
theorem dX1_sum_38 : decode cX1_sum 38 = .ok (.aload 5, 2) := by decide +kernel
theorem dX1_sum_40 : decode cX1_sum 40 = .ok (.getfield 77, 3) := by decide +kernel
theorem dX1_sum_43 : decode cX1_sum 43 = .ok (.if_icmp .ge 22, 3) := by decide +kernel
theorem dX1_sum_46 : decode cX1_sum 46 = .ok (.lload 6, 2) := by decide +kernel
theorem dX1_sum_48 : decode cX1_sum 48 = .ok (.aload 5, 2) := by decide +kernel
theorem dX1_sum_50 : decode cX1_sum 50 = .ok (.getfield 196, 3) := by decide +kernel
theorem dX1_sum_53 : decode cX1_sum 53 = .ok (.iload 8, 2) := by decide +kernel
theorem dX1_sum_55 : decode cX1_sum 55 = .ok (.laload, 1) := by decide +kernel
theorem dX1_sum_56 : decode cX1_sum 56 = .ok (.ladd, 1) := by decide +kernel
theorem dX1_sum_57 : decode cX1_sum 57 = .ok (.lstore 6, 2) := by decide +kernel
theorem dX1_sum_59 : decode cX1_sum 59 = .ok (.iinc 8 1, 3) := by decide +kernel
theorem dX1_sum_62 : decode cX1_sum 62 = .ok (.goto (-26), 3) := by decide +kernel
theorem dX1_sum_65 : decode cX1_sum 65 = .ok (.lload 6, 2) := by decide +kernel
theorem dX1_sum_67 : decode cX1_sum 67 = .ok (.lreturn, 1) := by decide +kernel
theorem dX1_key_0 : decode cX1_key 0 = .ok (.aload_n 0, 1) := by decide +kernel
theorem dX1_key_1 : decode cX1_key 1 = .ok (.aload_n 0, 1) := by decide +kernel
theorem dX1_key_2 : decode cX1_key 2 = .ok (.iload_n 1, 1) := by decide +kernel
theorem dX1_key_3 : decode cX1_key 3 = .ok (.invokevirtual 192, 3) := by decide +kernel
theorem dX1_key_6 : decode cX1_key 6 = .ok (.iload_n 2, 1) := by decide +kernel
theorem dX1_key_7 : decode cX1_key 7 = .ok (.ldc 117, 2) := by decide +kernel
theorem dX1_key_9 : decode cX1_key 9 = .ok (.invokevirtual 173, 3) := by decide +kernel
theorem dX1_key_12 : decode cX1_key 12 = .ok (.astore 4, 2) := by decide +kernel
theorem dX1_key_14 : decode cX1_key 14 = .ok (.iload_n 3, 1) := by decide +kernel
theorem dX1_key_15 : decode cX1_key 15 = .ok (.ifCond .lt 16, 3) := by decide +kernel
theorem dX1_key_18 : decode cX1_key 18 = .ok (.iload_n 3, 1) := by decide +kernel
theorem dX1_key_19 : decode cX1_key 19 = .ok (.aload 4, 2) := by decide +kernel
theorem dX1_key_21 : decode cX1_key 21 = .ok (.getfield 77, 3) := by decide +kernel
theorem dX1_key_24 : decode cX1_key 24 = .ok (.if_icmp .ge 7, 3) := by decide +kernel
theorem dX1_key_27 : decode cX1_key 27 = .ok (.iconst 1, 1) := by decide +kernel
theorem dX1_key_28 : decode cX1_key 28 = .ok (.goto 4, 3) := by decide +kernel
theorem dX1_key_31 : decode cX1_key 31 = .ok (.iconst 0, 1) := by decide +kernel
theorem dX1_key_32 : decode cX1_key 32 = .ok (.invokestatic 170, 3) := by decide +kernel
theorem dX1_key_35 : decode cX1_key 35 = .ok (.aload 4, 2) := by decide +kernel
theorem dX1_key_37 : decode cX1_key 37 = .ok (.getfield 200, 3) := by decide +kernel
theorem dX1_key_40 : decode cX1_key 40 = .ok (.iload_n 3, 1) := by decide +kernel
theorem dX1_key_41 : decode cX1_key 41 = .ok (.iaload, 1) := by decide +kernel
theorem dX1_key_42 : decode cX1_key 42 = .ok (.ireturn, 1) := by decide +kernel
theorem dX1_save_0 : decode cX1_save 0 = .ok (.iload_n 1, 1) := by decide +kernel
theorem dX1_save_1 : decode cX1_save 1 = .ok (.ifCond .lt 12, 3) := by decide +kernel
theorem dX1_save_4 : decode cX1_save 4 = .ok (.iload_n 1, 1) := by decide +kernel
theorem dX1_save_5 : decode cX1_save 5 = .ok (.iconst 4, 1) := by decide +kernel
theorem dX1_save_6 : decode cX1_save 6 = .ok (.if_icmp .ge 7, 3) := by decide +kernel
theorem dX1_save_9 : decode cX1_save 9 = .ok (.iconst 1, 1) := by decide +kernel
theorem dX1_save_10 : decode cX1_save 10 = .ok (.goto 4, 3) := by decide +kernel
theorem dX1_save_13 : decode cX1_save 13 = .ok (.iconst 0, 1) := by decide +kernel
theorem dX1_save_14 : decode cX1_save 14 = .ok (.invokestatic 190, 3) := by decide +kernel
theorem dX1_save_17 : decode cX1_save 17 = .ok (.aload_n 0, 1) := by decide +kernel
theorem dX1_save_18 : decode cX1_save 18 = .ok (.getfield 32, 3) := by decide +kernel
theorem dX1_save_21 : decode cX1_save 21 = .ok (.iload_n 1, 1) := by decide +kernel
theorem dX1_save_22 : decode cX1_save 22 = .ok (.aload_n 0, 1) := by decide +kernel
theorem dX1_save_23 : decode cX1_save 23 = .ok (.getfield 17, 3) := by decide +kernel
theorem dX1_save_26 : decode cX1_save 26 = .ok (.aastore, 1) := by decide +kernel
theorem dX1_save_27 : decode cX1_save 27 = .ok (.aload_n 0, 1) := by decide +kernel
theorem dX1_save_28 : decode cX1_save 28 = .ok (.dup, 1) := by decide +kernel
theorem dX1_save_29 : decode cX1_save 29 = .ok (.getfield 106, 3) := by decide +kernel
theorem dX1_save_32 : decode cX1_save 32 = .ok (.iconst 1, 1) := by decide +kernel
theorem dX1_save_33 : decode cX1_save 33 = .ok (.iadd, 1) := by decide +kernel
theorem dX1_save_34 : decode cX1_save 34 = .ok (.putfield 106, 3) := by decide +kernel
theorem dX1_save_37 : decode cX1_save 37 = .ok (.return_, 1) := by decide +kernel
theorem dX1_drop_0 : decode cX1_drop 0 = .ok (.iload_n 1, 1) := by decide +kernel
theorem dX1_drop_1 : decode cX1_drop 1 = .ok (.ifCond .lt 12, 3) := by decide +kernel
theorem dX1_drop_4 : decode cX1_drop 4 = .ok (.iload_n 1, 1) := by decide +kernel
theorem dX1_drop_5 : decode cX1_drop 5 = .ok (.iconst 4, 1) := by decide +kernel
theorem dX1_drop_6 : decode cX1_drop 6 = .ok (.if_icmp .ge 7, 3) := by decide +kernel
theorem dX1_drop_9 : decode cX1_drop 9 = .ok (.iconst 1, 1) := by decide +kernel
theorem dX1_drop_10 : decode cX1_drop 10 = .ok (.goto 4, 3) := by decide +kernel
theorem dX1_drop_13 : decode cX1_drop 13 = .ok (.iconst 0, 1) := by decide +kernel
theorem dX1_drop_14 : decode cX1_drop 14 = .ok (.invokestatic 190, 3) := by decide +kernel
theorem dX1_drop_17 : decode cX1_drop 17 = .ok (.aload_n 0, 1) := by decide +kernel
theorem dX1_drop_18 : decode cX1_drop 18 = .ok (.getfield 32, 3) := by decide +kernel
theorem dX1_drop_21 : decode cX1_drop 21 = .ok (.iload_n 1, 1) := by decide +kernel
theorem dX1_drop_22 : decode cX1_drop 22 = .ok (.aaload, 1) := by decide +kernel
theorem dX1_drop_23 : decode cX1_drop 23 = .ok (.ifnull 7, 3) := by decide +kernel
theorem dX1_drop_26 : decode cX1_drop 26 = .ok (.iconst 1, 1) := by decide +kernel
theorem dX1_drop_27 : decode cX1_drop 27 = .ok (.goto 4, 3) := by decide +kernel
theorem dX1_drop_30 : decode cX1_drop 30 = .ok (.iconst 0, 1) := by decide +kernel
theorem dX1_drop_31 : decode cX1_drop 31 = .ok (.istore_n 2, 1) := by decide +kernel
theorem dX1_drop_32 : decode cX1_drop 32 = .ok (.aload_n 0, 1) := by decide +kernel
theorem dX1_drop_33 : decode cX1_drop 33 = .ok (.getfield 32, 3) := by decide +kernel
theorem dX1_drop_36 : decode cX1_drop 36 = .ok (.iload_n 1, 1) := by decide +kernel
theorem dX1_drop_37 : decode cX1_drop 37 = .ok (.aconst_null, 1) := by decide +kernel
theorem dX1_drop_38 : decode cX1_drop 38 = .ok (.aastore, 1) := by decide +kernel
theorem dX1_drop_39 : decode cX1_drop 39 = .ok (.iload_n 2, 1) := by decide +kernel
theorem dX1_drop_40 : decode cX1_drop 40 = .ok (.ireturn, 1) := by decide +kernel
theorem dX1_restore_0 : decode cX1_restore 0 = .ok (.iload_n 1, 1) := by decide +kernel
theorem dX1_restore_1 : decode cX1_restore 1 = .ok (.ifCond .lt 21, 3) := by decide +kernel
theorem dX1_restore_4 : decode cX1_restore 4 = .ok (.iload_n 1, 1) := by decide +kernel
theorem dX1_restore_5 : decode cX1_restore 5 = .ok (.iconst 4, 1) := by decide +kernel
theorem dX1_restore_6 : decode cX1_restore 6 = .ok (.if_icmp .ge 16, 3) := by decide +kernel
theorem dX1_restore_9 : decode cX1_restore 9 = .ok (.aload_n 0, 1) := by decide +kernel
theorem dX1_restore_10 : decode cX1_restore 10 = .ok (.getfield 32, 3) := by decide +kernel
theorem dX1_restore_13 : decode cX1_restore 13 = .ok (.iload_n 1, 1) := by decide +kernel
theorem dX1_restore_14 : decode cX1_restore 14 = .ok (.aaload, 1) := by decide +kernel
theorem dX1_restore_15 : decode cX1_restore 15 = .ok (.ifnull 7, 3) := by decide +kernel
theorem dX1_restore_18 : decode cX1_restore 18 = .ok (.iconst 1, 1) := by decide +kernel
theorem dX1_restore_19 : decode cX1_restore 19 = .ok (.goto 4, 3) := by decide +kernel
theorem dX1_restore_22 : decode cX1_restore 22 = .ok (.iconst 0, 1) := by decide +kernel
theorem dX1_restore_23 : decode cX1_restore 23 = .ok (.invokestatic 190, 3) := by decide +kernel
theorem dX1_restore_26 : decode cX1_restore 26 = .ok (.aload_n 0, 1) := by decide +kernel
theorem dX1_restore_27 : decode cX1_restore 27 = .ok (.aload_n 0, 1) := by decide +kernel
theorem dX1_restore_28 : decode cX1_restore 28 = .ok (.getfield 32, 3) := by decide +kernel
theorem dX1_restore_31 : decode cX1_restore 31 = .ok (.iload_n 1, 1) := by decide +kernel
theorem dX1_restore_32 : decode cX1_restore 32 = .ok (.aaload, 1) := by decide +kernel
theorem dX1_restore_33 : decode cX1_restore 33 = .ok (.ldc 116, 2) := by decide +kernel
theorem dX1_restore_35 : decode cX1_restore 35 = .ok (.ldc 117, 2) := by decide +kernel
theorem dX1_restore_37 : decode cX1_restore 37 = .ok (.invokevirtual 173, 3) := by decide +kernel
theorem dX1_restore_40 : decode cX1_restore 40 = .ok (.astore_n 2, 1) := by decide +kernel
theorem dX1_restore_41 : decode cX1_restore 41 = .ok (.aload_n 0, 1) := by decide +kernel
theorem dX1_restore_42 : decode cX1_restore 42 = .ok (.getfield 126, 3) := by decide +kernel
theorem dX1_restore_45 : decode cX1_restore 45 = .ok (.iconst 1, 1) := by decide +kernel
theorem dX1_restore_46 : decode cX1_restore 46 = .ok (.iadd, 1) := by decide +kernel
theorem dX1_restore_47 : decode cX1_restore 47 = .ok (.aload_n 2, 1) := by decide +kernel
theorem dX1_restore_48 : decode cX1_restore 48 = .ok (.getfield 77, 3) := by decide +kernel
theorem dX1_restore_51 : decode cX1_restore 51 = .ok (.iadd, 1) := by decide +kernel
theorem dX1_restore_52 : decode cX1_restore 52 = .ok (.sipush 2500, 3) := by decide +kernel
theorem dX1_restore_55 : decode cX1_restore 55 = .ok (.if_icmp .gt 7, 3) := by decide +kernel
theorem dX1_restore_58 : decode cX1_restore 58 = .ok (.iconst 1, 1) := by decide +kernel
theorem dX1_restore_59 : decode cX1_restore 59 = .ok (.goto 4, 3) := by decide +kernel
theorem dX1_restore_62 : decode cX1_restore 62 = .ok (.iconst 0, 1) := by decide +kernel
theorem dX1_restore_63 : decode cX1_restore 63 = .ok (.invokestatic 162, 3) := by decide +kernel
theorem dX1_restore_66 : decode cX1_restore 66 = .ok (.aload_n 0, 1) := by decide +kernel
theorem dX1_restore_67 : decode cX1_restore 67 = .ok (.aload_n 0, 1) := by decide +kernel
theorem dX1_restore_68 : decode cX1_restore 68 = .ok (.getfield 32, 3) := by decide +kernel
theorem dX1_restore_71 : decode cX1_restore 71 = .ok (.iload_n 1, 1) := by decide +kernel
theorem dX1_restore_72 : decode cX1_restore 72 = .ok (.aaload, 1) := by decide +kernel
theorem dX1_restore_73 : decode cX1_restore 73 = .ok (.putfield 17, 3) := by decide +kernel
theorem dX1_restore_76 : decode cX1_restore 76 = .ok (.aload_n 0, 1) := by decide +kernel
theorem dX1_restore_77 : decode cX1_restore 77 = .ok (.dup, 1) := by decide +kernel
theorem dX1_restore_78 : decode cX1_restore 78 = .ok (.getfield 106, 3) := by decide +kernel
theorem dX1_restore_81 : decode cX1_restore 81 = .ok (.iconst 1, 1) := by decide +kernel
theorem dX1_restore_82 : decode cX1_restore 82 = .ok (.iadd, 1) := by decide +kernel
theorem dX1_restore_83 : decode cX1_restore 83 = .ok (.putfield 106, 3) := by decide +kernel
theorem dX1_restore_86 : decode cX1_restore 86 = .ok (.aload_n 0, 1) := by decide +kernel
theorem dX1_restore_87 : decode cX1_restore 87 = .ok (.dup, 1) := by decide +kernel
theorem dX1_restore_88 : decode cX1_restore 88 = .ok (.getfield 126, 3) := by decide +kernel
theorem dX1_restore_91 : decode cX1_restore 91 = .ok (.iconst 1, 1) := by decide +kernel
theorem dX1_restore_92 : decode cX1_restore 92 = .ok (.aload_n 2, 1) := by decide +kernel
theorem dX1_restore_93 : decode cX1_restore 93 = .ok (.getfield 77, 3) := by decide +kernel
theorem dX1_restore_96 : decode cX1_restore 96 = .ok (.iadd, 1) := by decide +kernel
theorem dX1_restore_97 : decode cX1_restore 97 = .ok (.iadd, 1) := by decide +kernel
theorem dX1_restore_98 : decode cX1_restore 98 = .ok (.putfield 126, 3) := by decide +kernel
theorem dX1_restore_101 : decode cX1_restore 101 = .ok (.aload_n 0, 1) := by decide +kernel
theorem dX1_restore_102 : decode cX1_restore 102 = .ok (.aload_n 2, 1) := by decide +kernel
theorem dX1_restore_103 : decode cX1_restore 103 = .ok (.getfield 77, 3) := by decide +kernel
theorem dX1_restore_106 : decode cX1_restore 106 = .ok (.putfield 141, 3) := by decide +kernel
theorem dX1_restore_109 : decode cX1_restore 109 = .ok (.aload_n 0, 1) := by decide +kernel
theorem dX1_restore_110 : decode cX1_restore 110 = .ok (.getfield 126, 3) := by decide +kernel
theorem dX1_restore_113 : decode cX1_restore 113 = .ok (.ireturn, 1) := by decide +kernel
theorem dX1_differ_0 : decode cX1_differ 0 = .ok (.aload_n 0, 1) := by decide +kernel
theorem dX1_differ_1 : decode cX1_differ 1 = .ok (.aload_n 0, 1) := by decide +kernel
theorem dX1_differ_2 : decode cX1_differ 2 = .ok (.iload_n 1, 1) := by decide +kernel
theorem dX1_differ_3 : decode cX1_differ 3 = .ok (.invokevirtual 192, 3) := by decide +kernel
theorem dX1_differ_6 : decode cX1_differ 6 = .ok (.ldc 116, 2) := by decide +kernel
theorem dX1_differ_8 : decode cX1_differ 8 = .ok (.ldc 117, 2) := by decide +kernel
theorem dX1_differ_10 : decode cX1_differ 10 = .ok (.invokevirtual 173, 3) := by decide +kernel
theorem dX1_differ_13 : decode cX1_differ 13 = .ok (.astore_n 3, 1) := by decide +kernel
theorem dX1_differ_14 : decode cX1_differ 14 = .ok (.aload_n 0, 1) := by decide +kernel
theorem dX1_differ_15 : decode cX1_differ 15 = .ok (.aload_n 0, 1) := by decide +kernel
theorem dX1_differ_16 : decode cX1_differ 16 = .ok (.getfield 57, 3) := by decide +kernel
theorem dX1_differ_19 : decode cX1_differ 19 = .ok (.aload_n 0, 1) := by decide +kernel
theorem dX1_differ_20 : decode cX1_differ 20 = .ok (.iload_n 2, 1) := by decide +kernel
theorem dX1_differ_21 : decode cX1_differ 21 = .ok (.invokevirtual 192, 3) := by decide +kernel
theorem dX1_differ_24 : decode cX1_differ 24 = .ok (.ldc 116, 2) := by decide +kernel
theorem dX1_differ_26 : decode cX1_differ 26 = .ok (.ldc 117, 2) := by decide +kernel
theorem dX1_differ_28 : decode cX1_differ 28 = .ok (.invokevirtual 85, 3) := by decide +kernel
theorem dX1_differ_31 : decode cX1_differ 31 = .ok (.astore 4, 2) := by decide +kernel
theorem dX1_differ_33 : decode cX1_differ 33 = .ok (.iconst 0, 1) := by decide +kernel
theorem dX1_differ_34 : decode cX1_differ 34 = .ok (.istore 5, 2) := by decide +kernel
theorem dX1_differ_36 : decode cX1_differ 36 = .ok (.iconst 0, 1) := by decide +kernel
theorem dX1_differ_37 : decode cX1_differ 37 = .ok (.istore 6, 2) := by decide +kernel
theorem dX1_differ_39 : decode cX1_differ 39 = .ok (.iconst 0, 1) := by decide +kernel
theorem dX1_differ_40 : decode cX1_differ 40 = .ok (.istore 7, 2) := by decide +kernel
theorem dX1_differ_42 : decode cX1_differ 42 = .ok (.iload 5, 2) := by decide +kernel
theorem dX1_differ_44 : decode cX1_differ 44 = .ok (.aload_n 3, 1) := by decide +kernel
theorem dX1_differ_45 : decode cX1_differ 45 = .ok (.getfield 77, 3) := by decide +kernel
theorem dX1_differ_48 : decode cX1_differ 48 = .ok (.if_icmp .lt 13, 3) := by decide +kernel
theorem dX1_differ_51 : decode cX1_differ 51 = .ok (.iload 6, 2) := by decide +kernel
theorem dX1_differ_53 : decode cX1_differ 53 = .ok (.aload 4, 2) := by decide +kernel
theorem dX1_differ_55 : decode cX1_differ 55 = .ok (.getfield 77, 3) := by decide +kernel
theorem dX1_differ_58 : decode cX1_differ 58 = .ok (.if_icmp .ge 163, 3) := by decide +kernel
theorem dX1_differ_61 : decode cX1_differ 61 = .ok (.iload 5, 2) := by decide +kernel
theorem dX1_differ_63 : decode cX1_differ 63 = .ok (.aload_n 3, 1) := by decide +kernel
theorem dX1_differ_64 : decode cX1_differ 64 = .ok (.getfield 77, 3) := by decide +kernel
theorem dX1_differ_67 : decode cX1_differ 67 = .ok (.if_icmp .ge 35, 3) := by decide +kernel
theorem dX1_differ_70 : decode cX1_differ 70 = .ok (.iload 6, 2) := by decide +kernel
theorem dX1_differ_72 : decode cX1_differ 72 = .ok (.aload 4, 2) := by decide +kernel
theorem dX1_differ_74 : decode cX1_differ 74 = .ok (.getfield 77, 3) := by decide +kernel
theorem dX1_differ_77 : decode cX1_differ 77 = .ok (.if_icmp .eq 21, 3) := by decide +kernel
theorem dX1_differ_80 : decode cX1_differ 80 = .ok (.aload_n 3, 1) := by decide +kernel
theorem dX1_differ_81 : decode cX1_differ 81 = .ok (.getfield 200, 3) := by decide +kernel
theorem dX1_differ_84 : decode cX1_differ 84 = .ok (.iload 5, 2) := by decide +kernel
theorem dX1_differ_86 : decode cX1_differ 86 = .ok (.iaload, 1) := by decide +kernel
theorem dX1_differ_87 : decode cX1_differ 87 = .ok (.aload 4, 2) := by decide +kernel
theorem dX1_differ_89 : decode cX1_differ 89 = .ok (.getfield 200, 3) := by decide +kernel
theorem dX1_differ_92 : decode cX1_differ 92 = .ok (.iload 6, 2) := by decide +kernel
theorem dX1_differ_94 : decode cX1_differ 94 = .ok (.iaload, 1) := by decide +kernel
theorem dX1_differ_95 : decode cX1_differ 95 = .ok (.if_icmp .gt 7, 3) := by decide +kernel
theorem dX1_differ_98 : decode cX1_differ 98 = .ok (.iconst 1, 1) := by decide +kernel
theorem dX1_differ_99 : decode cX1_differ 99 = .ok (.goto 4, 3) := by decide +kernel
theorem dX1_differ_102 : decode cX1_differ 102 = .ok (.iconst 0, 1) := by decide +kernel
theorem dX1_differ_103 : decode cX1_differ 103 = .ok (.istore 8, 2) := by decide +kernel
theorem dX1_differ_105 : decode cX1_differ 105 = .ok (.iload 6, 2) := by decide +kernel
theorem dX1_differ_107 : decode cX1_differ 107 = .ok (.aload 4, 2) := by decide +kernel
theorem dX1_differ_109 : decode cX1_differ 109 = .ok (.getfield 77, 3) := by decide +kernel
theorem dX1_differ_112 : decode cX1_differ 112 = .ok (.if_icmp .ge 34, 3) := by decide +kernel
theorem dX1_differ_115 : decode cX1_differ 115 = .ok (.iload 5, 2) := by decide +kernel
theorem dX1_differ_117 : decode cX1_differ 117 = .ok (.aload_n 3, 1) := by decide +kernel
theorem dX1_differ_118 : decode cX1_differ 118 = .ok (.getfield 77, 3) := by decide +kernel
theorem dX1_differ_121 : decode cX1_differ 121 = .ok (.if_icmp .eq 21, 3) := by decide +kernel
theorem dX1_differ_124 : decode cX1_differ 124 = .ok (.aload 4, 2) := by decide +kernel
theorem dX1_differ_126 : decode cX1_differ 126 = .ok (.getfield 200, 3) := by decide +kernel
theorem dX1_differ_129 : decode cX1_differ 129 = .ok (.iload 6, 2) := by decide +kernel
theorem dX1_differ_131 : decode cX1_differ 131 = .ok (.iaload, 1) := by decide +kernel
theorem dX1_differ_132 : decode cX1_differ 132 = .ok (.aload_n 3, 1) := by decide +kernel
theorem dX1_differ_133 : decode cX1_differ 133 = .ok (.getfield 200, 3) := by decide +kernel
theorem dX1_differ_136 : decode cX1_differ 136 = .ok (.iload 5, 2) := by decide +kernel
theorem dX1_differ_138 : decode cX1_differ 138 = .ok (.iaload, 1) := by decide +kernel
theorem dX1_differ_139 : decode cX1_differ 139 = .ok (.if_icmp .gt 7, 3) := by decide +kernel
theorem dX1_differ_142 : decode cX1_differ 142 = .ok (.iconst 1, 1) := by decide +kernel
theorem dX1_differ_143 : decode cX1_differ 143 = .ok (.goto 4, 3) := by decide +kernel
theorem dX1_differ_146 : decode cX1_differ 146 = .ok (.iconst 0, 1) := by decide +kernel
theorem dX1_differ_147 : decode cX1_differ 147 = .ok (.istore 9, 2) := by decide +kernel
theorem dX1_differ_149 : decode cX1_differ 149 = .ok (.iload 7, 2) := by decide +kernel
theorem dX1_differ_151 : decode cX1_differ 151 = .ok (.iload 8, 2) := by decide +kernel
theorem dX1_differ_153 : decode cX1_differ 153 = .ok (.ifCond .eq 31, 3) := by decide +kernel
theorem dX1_differ_156 : decode cX1_differ 156 = .ok (.iload 9, 2) := by decide +kernel
theorem dX1_differ_158 : decode cX1_differ 158 = .ok (.ifCond .eq 26, 3) := by decide +kernel
theorem dX1_differ_161 : decode cX1_differ 161 = .ok (.aload_n 3, 1) := by decide +kernel
theorem dX1_differ_162 : decode cX1_differ 162 = .ok (.getfield 196, 3) := by decide +kernel
theorem dX1_differ_165 : decode cX1_differ 165 = .ok (.iload 5, 2) := by decide +kernel
theorem dX1_differ_167 : decode cX1_differ 167 = .ok (.laload, 1) := by decide +kernel
theorem dX1_differ_168 : decode cX1_differ 168 = .ok (.aload 4, 2) := by decide +kernel
theorem dX1_differ_170 : decode cX1_differ 170 = .ok (.getfield 196, 3) := by decide +kernel
theorem dX1_differ_173 : decode cX1_differ 173 = .ok (.iload 6, 2) := by decide +kernel
theorem dX1_differ_175 : decode cX1_differ 175 = .ok (.laload, 1) := by decide +kernel
theorem dX1_differ_176 : decode cX1_differ 176 = .ok (.lcmp, 1) := by decide +kernel
theorem dX1_differ_177 : decode cX1_differ 177 = .ok (.ifCond .ne 7, 3) := by decide +kernel
theorem dX1_differ_180 : decode cX1_differ 180 = .ok (.iconst 0, 1) := by decide +kernel
theorem dX1_differ_181 : decode cX1_differ 181 = .ok (.goto 4, 3) := by decide +kernel
theorem dX1_differ_184 : decode cX1_differ 184 = .ok (.iconst 1, 1) := by decide +kernel
theorem dX1_differ_185 : decode cX1_differ 185 = .ok (.iadd, 1) := by decide +kernel
theorem dX1_differ_186 : decode cX1_differ 186 = .ok (.istore 7, 2) := by decide +kernel
theorem dX1_differ_188 : decode cX1_differ 188 = .ok (.iload 5, 2) := by decide +kernel
theorem dX1_differ_190 : decode cX1_differ 190 = .ok (.iload 8, 2) := by decide +kernel
theorem dX1_differ_192 : decode cX1_differ 192 = .ok (.ifCond .eq 7, 3) := by decide +kernel
theorem dX1_differ_195 : decode cX1_differ 195 = .ok (.iconst 1, 1) := by decide +kernel
theorem dX1_differ_196 : decode cX1_differ 196 = .ok (.goto 4, 3) := by decide +kernel
theorem dX1_differ_199 : decode cX1_differ 199 = .ok (.iconst 0, 1) := by decide +kernel
theorem dX1_differ_200 : decode cX1_differ 200 = .ok (.iadd, 1) := by decide +kernel
theorem dX1_differ_201 : decode cX1_differ 201 = .ok (.istore 5, 2) := by decide +kernel
theorem dX1_differ_203 : decode cX1_differ 203 = .ok (.iload 6, 2) := by decide +kernel
theorem dX1_differ_205 : decode cX1_differ 205 = .ok (.iload 9, 2) := by decide +kernel
theorem dX1_differ_207 : decode cX1_differ 207 = .ok (.ifCond .eq 7, 3) := by decide +kernel
theorem dX1_differ_210 : decode cX1_differ 210 = .ok (.iconst 1, 1) := by decide +kernel
theorem dX1_differ_211 : decode cX1_differ 211 = .ok (.goto 4, 3) := by decide +kernel
theorem dX1_differ_214 : decode cX1_differ 214 = .ok (.iconst 0, 1) := by decide +kernel
theorem dX1_differ_215 : decode cX1_differ 215 = .ok (.iadd, 1) := by decide +kernel
theorem dX1_differ_216 : decode cX1_differ 216 = .ok (.istore 6, 2) := by decide +kernel
theorem dX1_differ_218 : decode cX1_differ 218 = .ok (.goto (-176), 3) := by decide +kernel
theorem dX1_differ_221 : decode cX1_differ 221 = .ok (.iload 7, 2) := by decide +kernel
theorem dX1_differ_223 : decode cX1_differ 223 = .ok (.ireturn, 1) := by decide +kernel
theorem dX1_total_0 : decode cX1_total 0 = .ok (.iload_n 1, 1) := by decide +kernel
theorem dX1_total_1 : decode cX1_total 1 = .ok (.ifCond .lt 12, 3) := by decide +kernel
theorem dX1_total_4 : decode cX1_total 4 = .ok (.iload_n 1, 1) := by decide +kernel
theorem dX1_total_5 : decode cX1_total 5 = .ok (.iconst 2, 1) := by decide +kernel
theorem dX1_total_6 : decode cX1_total 6 = .ok (.if_icmp .gt 7, 3) := by decide +kernel
theorem dX1_total_9 : decode cX1_total 9 = .ok (.iconst 1, 1) := by decide +kernel
theorem dX1_total_10 : decode cX1_total 10 = .ok (.goto 4, 3) := by decide +kernel
theorem dX1_total_13 : decode cX1_total 13 = .ok (.iconst 0, 1) := by decide +kernel
theorem dX1_total_14 : decode cX1_total 14 = .ok (.invokestatic 170, 3) := by decide +kernel
theorem dX1_total_17 : decode cX1_total 17 = .ok (.iload_n 1, 1) := by decide +kernel
theorem dX1_total_18 : decode cX1_total 18 = .ok (.iconst 2, 1) := by decide +kernel
theorem dX1_total_19 : decode cX1_total 19 = .ok (.if_icmp .ge 19, 3) := by decide +kernel
theorem dX1_total_22 : decode cX1_total 22 = .ok (.iload_n 1, 1) := by decide +kernel
theorem dX1_total_23 : decode cX1_total 23 = .ok (.ifCond .ne 10, 3) := by decide +kernel
theorem dX1_total_26 : decode cX1_total 26 = .ok (.aload_n 0, 1) := by decide +kernel
theorem dX1_total_27 : decode cX1_total 27 = .ok (.getfield 126, 3) := by decide +kernel
theorem dX1_total_30 : decode cX1_total 30 = .ok (.goto 7, 3) := by decide +kernel
theorem dX1_total_33 : decode cX1_total 33 = .ok (.aload_n 0, 1) := by decide +kernel
theorem dX1_total_34 : decode cX1_total 34 = .ok (.getfield 207, 3) := by decide +kernel
theorem dX1_total_37 : decode cX1_total 37 = .ok (.ireturn, 1) := by decide +kernel
theorem dX1_total_38 : decode cX1_total 38 = .ok (.iconst 0, 1) := by decide +kernel
theorem dX1_total_39 : decode cX1_total 39 = .ok (.istore_n 2, 1) := by decide +kernel
theorem dX1_total_40 : decode cX1_total 40 = .ok (.aload_n 0, 1) := by decide +kernel
theorem dX1_total_41 : decode cX1_total 41 = .ok (.getfield 32, 3) := by decide +kernel
theorem dX1_total_44 : decode cX1_total 44 = .ok (.astore_n 3, 1) := by decide +kernel
theorem dX1_total_45 : decode cX1_total 45 = .ok (.aload_n 3, 1) := by decide +kernel
theorem dX1_total_46 : decode cX1_total 46 = .ok (.arraylength, 1) := by decide +kernel
theorem dX1_total_47 : decode cX1_total 47 = .ok (.istore 4, 2) := by decide +kernel
theorem dX1_total_49 : decode cX1_total 49 = .ok (.iconst 0, 1) := by decide +kernel
theorem dX1_total_50 : decode cX1_total 50 = .ok (.istore 5, 2) := by decide +kernel
theorem dX1_total_52 : decode cX1_total 52 = .ok (.iload 5, 2) := by decide +kernel
theorem dX1_total_54 : decode cX1_total 54 = .ok (.iload 4, 2) := by decide +kernel
theorem dX1_total_56 : decode cX1_total 56 = .ok (.if_icmp .ge 28, 3) := by decide +kernel
theorem dX1_total_59 : decode cX1_total 59 = .ok (.aload_n 3, 1) := by decide +kernel
theorem dX1_total_60 : decode cX1_total 60 = .ok (.iload 5, 2) := by decide +kernel
theorem dX1_total_62 : decode cX1_total 62 = .ok (.aaload, 1) := by decide +kernel
theorem dX1_total_63 : decode cX1_total 63 = .ok (.astore 6, 2) := by decide +kernel
theorem dX1_total_65 : decode cX1_total 65 = .ok (.iload_n 2, 1) := by decide +kernel
theorem dX1_total_66 : decode cX1_total 66 = .ok (.aload 6, 2) := by decide +kernel
theorem dX1_total_68 : decode cX1_total 68 = .ok (.ifnull 7, 3) := by decide +kernel
theorem dX1_total_71 : decode cX1_total 71 = .ok (.iconst 1, 1) := by decide +kernel
theorem dX1_total_72 : decode cX1_total 72 = .ok (.goto 4, 3) := by decide +kernel
theorem dX1_total_75 : decode cX1_total 75 = .ok (.iconst 0, 1) := by decide +kernel
theorem dX1_total_76 : decode cX1_total 76 = .ok (.iadd, 1) := by decide +kernel
theorem dX1_total_77 : decode cX1_total 77 = .ok (.istore_n 2, 1) := by decide +kernel
theorem dX1_total_78 : decode cX1_total 78 = .ok (.iinc 5 1, 3) := by decide +kernel
theorem dX1_total_81 : decode cX1_total 81 = .ok (.goto (-29), 3) := by decide +kernel
theorem dX1_total_84 : decode cX1_total 84 = .ok (.iload_n 2, 1) := by decide +kernel
theorem dX1_total_85 : decode cX1_total 85 = .ok (.ireturn, 1) := by decide +kernel
