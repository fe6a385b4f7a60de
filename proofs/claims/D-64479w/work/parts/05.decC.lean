set_option maxRecDepth 100000
theorem dX8_init_0 : decode cX8_init 0 = .ok (.aload_n 0, 1) := by decide +kernel
theorem dX8_init_1 : decode cX8_init 1 = .ok (.invokespecial 1, 3) := by decide +kernel
theorem dX8_init_4 : decode cX8_init 4 = .ok (.aload_n 0, 1) := by decide +kernel
theorem dX8_init_5 : decode cX8_init 5 = .ok (.sipush 3000, 3) := by decide +kernel
theorem dX8_init_8 : decode cX8_init 8 = .ok (.newarray .int, 2) := by decide +kernel
theorem dX8_init_10 : decode cX8_init 10 = .ok (.putfield 7, 3) := by decide +kernel
theorem dX8_init_13 : decode cX8_init 13 = .ok (.aload_n 0, 1) := by decide +kernel
theorem dX8_init_14 : decode cX8_init 14 = .ok (.sipush 3000, 3) := by decide +kernel
theorem dX8_init_17 : decode cX8_init 17 = .ok (.newarray .long, 2) := by decide +kernel
theorem dX8_init_19 : decode cX8_init 19 = .ok (.putfield 13, 3) := by decide +kernel
theorem dX8_init_22 : decode cX8_init 22 = .ok (.aload_n 0, 1) := by decide +kernel
theorem dX8_init_23 : decode cX8_init 23 = .ok (.iconst 5, 1) := by decide +kernel
theorem dX8_init_24 : decode cX8_init 24 = .ok (.newarray .int, 2) := by decide +kernel
theorem dX8_init_26 : decode cX8_init 26 = .ok (.putfield 17, 3) := by decide +kernel
theorem dX8_init_29 : decode cX8_init 29 = .ok (.aload_n 0, 1) := by decide +kernel
theorem dX8_init_30 : decode cX8_init 30 = .ok (.iconst 4, 1) := by decide +kernel
theorem dX8_init_31 : decode cX8_init 31 = .ok (.newarray .boolean, 2) := by decide +kernel
theorem dX8_init_33 : decode cX8_init 33 = .ok (.putfield 20, 3) := by decide +kernel
theorem dX8_init_36 : decode cX8_init 36 = .ok (.aload_n 0, 1) := by decide +kernel
theorem dX8_init_37 : decode cX8_init 37 = .ok (.sipush 2500, 3) := by decide +kernel
theorem dX8_init_40 : decode cX8_init 40 = .ok (.newarray .byte, 2) := by decide +kernel
theorem dX8_init_42 : decode cX8_init 42 = .ok (.putfield 24, 3) := by decide +kernel
theorem dX8_init_45 : decode cX8_init 45 = .ok (.aload_n 0, 1) := by decide +kernel
theorem dX8_init_46 : decode cX8_init 46 = .ok (.sipush 2500, 3) := by decide +kernel
theorem dX8_init_49 : decode cX8_init 49 = .ok (.newarray .int, 2) := by decide +kernel
theorem dX8_init_51 : decode cX8_init 51 = .ok (.putfield 28, 3) := by decide +kernel
theorem dX8_init_54 : decode cX8_init 54 = .ok (.aload_n 0, 1) := by decide +kernel
theorem dX8_init_55 : decode cX8_init 55 = .ok (.sipush 2500, 3) := by decide +kernel
theorem dX8_init_58 : decode cX8_init 58 = .ok (.newarray .int, 2) := by decide +kernel
theorem dX8_init_60 : decode cX8_init 60 = .ok (.putfield 31, 3) := by decide +kernel
theorem dX8_init_63 : decode cX8_init 63 = .ok (.aload_n 0, 1) := by decide +kernel
theorem dX8_init_64 : decode cX8_init 64 = .ok (.sipush 2500, 3) := by decide +kernel
theorem dX8_init_67 : decode cX8_init 67 = .ok (.newarray .long, 2) := by decide +kernel
theorem dX8_init_69 : decode cX8_init 69 = .ok (.putfield 34, 3) := by decide +kernel
theorem dX8_init_72 : decode cX8_init 72 = .ok (.return_, 1) := by decide +kernel
theorem dX8_thrown_0 : decode cX8_thrown 0 = .ok (.aload_n 0, 1) := by decide +kernel
theorem dX8_thrown_1 : decode cX8_thrown 1 = .ok (.getfield 37, 3) := by decide +kernel
theorem dX8_thrown_4 : decode cX8_thrown 4 = .ok (.ireturn, 1) := by decide +kernel
theorem dX8_put_0 : decode cX8_put 0 = .ok (.aload_n 0, 1) := by decide +kernel
theorem dX8_put_1 : decode cX8_put 1 = .ok (.aload_n 0, 1) := by decide +kernel
theorem dX8_put_2 : decode cX8_put 2 = .ok (.iload_n 1, 1) := by decide +kernel
theorem dX8_put_3 : decode cX8_put 3 = .ok (.invokevirtual 72, 3) := by decide +kernel
theorem dX8_put_6 : decode cX8_put 6 = .ok (.ifCond .eq 7, 3) := by decide +kernel
theorem dX8_put_9 : decode cX8_put 9 = .ok (.iconst 1, 1) := by decide +kernel
theorem dX8_put_10 : decode cX8_put 10 = .ok (.goto 4, 3) := by decide +kernel
theorem dX8_put_13 : decode cX8_put 13 = .ok (.iconst 0, 1) := by decide +kernel
theorem dX8_put_14 : decode cX8_put 14 = .ok (.putfield 37, 3) := by decide +kernel
theorem dX8_put_17 : decode cX8_put 17 = .ok (.aload_n 0, 1) := by decide +kernel
theorem dX8_put_18 : decode cX8_put 18 = .ok (.getfield 37, 3) := by decide +kernel
theorem dX8_put_21 : decode cX8_put 21 = .ok (.ifCond .le 5, 3) := by decide +kernel
theorem dX8_put_24 : decode cX8_put 24 = .ok (.iconst 0, 1) := by decide +kernel
theorem dX8_put_25 : decode cX8_put 25 = .ok (.ireturn, 1) := by decide +kernel
theorem dX8_put_26 : decode cX8_put 26 = .ok (.aload_n 0, 1) := by decide +kernel
theorem dX8_put_27 : decode cX8_put 27 = .ok (.iconst 0, 1) := by decide +kernel
theorem dX8_put_28 : decode cX8_put 28 = .ok (.iload_n 1, 1) := by decide +kernel
theorem dX8_put_29 : decode cX8_put 29 = .ok (.iload_n 1, 1) := by decide +kernel
theorem dX8_put_30 : decode cX8_put 30 = .ok (.lload_n 2, 1) := by decide +kernel
theorem dX8_put_31 : decode cX8_put 31 = .ok (.invokevirtual 76, 3) := by decide +kernel
theorem dX8_put_34 : decode cX8_put 34 = .ok (.pop2, 1) := by decide +kernel
theorem dX8_put_35 : decode cX8_put 35 = .ok (.aload_n 0, 1) := by decide +kernel
theorem dX8_put_36 : decode cX8_put 36 = .ok (.getfield 65, 3) := by decide +kernel
theorem dX8_put_39 : decode cX8_put 39 = .ok (.ireturn, 1) := by decide +kernel
theorem dX8_isRefused_0 : decode cX8_isRefused 0 = .ok (.aload_n 0, 1) := by decide +kernel
theorem dX8_isRefused_1 : decode cX8_isRefused 1 = .ok (.getfield 65, 3) := by decide +kernel
theorem dX8_isRefused_4 : decode cX8_isRefused 4 = .ok (.sipush 2500, 3) := by decide +kernel
theorem dX8_isRefused_7 : decode cX8_isRefused 7 = .ok (.if_icmp .eq 24, 3) := by decide +kernel
theorem dX8_isRefused_10 : decode cX8_isRefused 10 = .ok (.aload_n 0, 1) := by decide +kernel
theorem dX8_isRefused_11 : decode cX8_isRefused 11 = .ok (.iconst 4, 1) := by decide +kernel
theorem dX8_isRefused_12 : decode cX8_isRefused 12 = .ok (.iload_n 1, 1) := by decide +kernel
theorem dX8_isRefused_13 : decode cX8_isRefused 13 = .ok (.invokevirtual 45, 3) := by decide +kernel
theorem dX8_isRefused_16 : decode cX8_isRefused 16 = .ok (.ifCond .ne 19, 3) := by decide +kernel
theorem dX8_isRefused_19 : decode cX8_isRefused 19 = .ok (.aload_n 0, 1) := by decide +kernel
theorem dX8_isRefused_20 : decode cX8_isRefused 20 = .ok (.getfield 17, 3) := by decide +kernel
theorem dX8_isRefused_23 : decode cX8_isRefused 23 = .ok (.iconst 4, 1) := by decide +kernel
theorem dX8_isRefused_24 : decode cX8_isRefused 24 = .ok (.iaload, 1) := by decide +kernel
theorem dX8_isRefused_25 : decode cX8_isRefused 25 = .ok (.sipush 600, 3) := by decide +kernel
theorem dX8_isRefused_28 : decode cX8_isRefused 28 = .ok (.if_icmp .ne 7, 3) := by decide +kernel
theorem dX8_isRefused_31 : decode cX8_isRefused 31 = .ok (.iconst 1, 1) := by decide +kernel
theorem dX8_isRefused_32 : decode cX8_isRefused 32 = .ok (.goto 4, 3) := by decide +kernel
theorem dX8_isRefused_35 : decode cX8_isRefused 35 = .ok (.iconst 0, 1) := by decide +kernel
theorem dX8_isRefused_36 : decode cX8_isRefused 36 = .ok (.ireturn, 1) := by decide +kernel
theorem dX8_isIn_0 : decode cX8_isIn 0 = .ok (.aload_n 0, 1) := by decide +kernel
theorem dX8_isIn_1 : decode cX8_isIn 1 = .ok (.iload_n 1, 1) := by decide +kernel
theorem dX8_isIn_2 : decode cX8_isIn 2 = .ok (.iload_n 2, 1) := by decide +kernel
theorem dX8_isIn_3 : decode cX8_isIn 3 = .ok (.i2l, 1) := by decide +kernel
theorem dX8_isIn_4 : decode cX8_isIn 4 = .ok (.invokevirtual 41, 3) := by decide +kernel
theorem dX8_isIn_7 : decode cX8_isIn 7 = .ok (.istore_n 3, 1) := by decide +kernel
theorem dX8_isIn_8 : decode cX8_isIn 8 = .ok (.iload_n 3, 1) := by decide +kernel
theorem dX8_isIn_9 : decode cX8_isIn 9 = .ok (.aload_n 0, 1) := by decide +kernel
theorem dX8_isIn_10 : decode cX8_isIn 10 = .ok (.getfield 17, 3) := by decide +kernel
theorem dX8_isIn_13 : decode cX8_isIn 13 = .ok (.iload_n 1, 1) := by decide +kernel
theorem dX8_isIn_14 : decode cX8_isIn 14 = .ok (.iaload, 1) := by decide +kernel
theorem dX8_isIn_15 : decode cX8_isIn 15 = .ok (.if_icmp .ge 23, 3) := by decide +kernel
theorem dX8_isIn_18 : decode cX8_isIn 18 = .ok (.aload_n 0, 1) := by decide +kernel
theorem dX8_isIn_19 : decode cX8_isIn 19 = .ok (.getfield 7, 3) := by decide +kernel
theorem dX8_isIn_22 : decode cX8_isIn 22 = .ok (.sipush 600, 3) := by decide +kernel
theorem dX8_isIn_25 : decode cX8_isIn 25 = .ok (.iload_n 1, 1) := by decide +kernel
theorem dX8_isIn_26 : decode cX8_isIn 26 = .ok (.imul, 1) := by decide +kernel
theorem dX8_isIn_27 : decode cX8_isIn 27 = .ok (.iload_n 3, 1) := by decide +kernel
theorem dX8_isIn_28 : decode cX8_isIn 28 = .ok (.iadd, 1) := by decide +kernel
theorem dX8_isIn_29 : decode cX8_isIn 29 = .ok (.iaload, 1) := by decide +kernel
theorem dX8_isIn_30 : decode cX8_isIn 30 = .ok (.iload_n 2, 1) := by decide +kernel
theorem dX8_isIn_31 : decode cX8_isIn 31 = .ok (.if_icmp .ne 7, 3) := by decide +kernel
theorem dX8_isIn_34 : decode cX8_isIn 34 = .ok (.iconst 1, 1) := by decide +kernel
theorem dX8_isIn_35 : decode cX8_isIn 35 = .ok (.goto 4, 3) := by decide +kernel
theorem dX8_isIn_38 : decode cX8_isIn 38 = .ok (.iconst 0, 1) := by decide +kernel
theorem dX8_isIn_39 : decode cX8_isIn 39 = .ok (.ireturn, 1) := by decide +kernel
theorem dX8_below_0 : decode cX8_below 0 = .ok (.iconst 0, 1) := by decide +kernel
theorem dX8_below_1 : decode cX8_below 1 = .ok (.istore 4, 2) := by decide +kernel
theorem dX8_below_3 : decode cX8_below 3 = .ok (.iload 4, 2) := by decide +kernel
theorem dX8_below_5 : decode cX8_below 5 = .ok (.aload_n 0, 1) := by decide +kernel
theorem dX8_below_6 : decode cX8_below 6 = .ok (.getfield 17, 3) := by decide +kernel
theorem dX8_below_9 : decode cX8_below 9 = .ok (.iload_n 1, 1) := by decide +kernel
theorem dX8_below_10 : decode cX8_below 10 = .ok (.iaload, 1) := by decide +kernel
theorem dX8_below_11 : decode cX8_below 11 = .ok (.if_icmp .ge 28, 3) := by decide +kernel
theorem dX8_below_14 : decode cX8_below 14 = .ok (.aload_n 0, 1) := by decide +kernel
theorem dX8_below_15 : decode cX8_below 15 = .ok (.getfield 7, 3) := by decide +kernel
theorem dX8_below_18 : decode cX8_below 18 = .ok (.sipush 600, 3) := by decide +kernel
theorem dX8_below_21 : decode cX8_below 21 = .ok (.iload_n 1, 1) := by decide +kernel
theorem dX8_below_22 : decode cX8_below 22 = .ok (.imul, 1) := by decide +kernel
theorem dX8_below_23 : decode cX8_below 23 = .ok (.iload 4, 2) := by decide +kernel
theorem dX8_below_25 : decode cX8_below 25 = .ok (.iadd, 1) := by decide +kernel
theorem dX8_below_26 : decode cX8_below 26 = .ok (.iaload, 1) := by decide +kernel
theorem dX8_below_27 : decode cX8_below 27 = .ok (.i2l, 1) := by decide +kernel
theorem dX8_below_28 : decode cX8_below 28 = .ok (.lload_n 2, 1) := by decide +kernel
theorem dX8_below_29 : decode cX8_below 29 = .ok (.lcmp, 1) := by decide +kernel
theorem dX8_below_30 : decode cX8_below 30 = .ok (.ifCond .ge 9, 3) := by decide +kernel
theorem dX8_below_33 : decode cX8_below 33 = .ok (.iinc 4 1, 3) := by decide +kernel
theorem dX8_below_36 : decode cX8_below 36 = .ok (.goto (-33), 3) := by decide +kernel
theorem dX8_below_39 : decode cX8_below 39 = .ok (.iload 4, 2) := by decide +kernel
theorem dX8_below_41 : decode cX8_below 41 = .ok (.ireturn, 1) := by decide +kernel
theorem dX8_message_0 : decode cX8_message 0 = .ok (.aload_n 0, 1) := by decide +kernel
theorem dX8_message_1 : decode cX8_message 1 = .ok (.getfield 24, 3) := by decide +kernel
theorem dX8_message_4 : decode cX8_message 4 = .ok (.aload_n 0, 1) := by decide +kernel
theorem dX8_message_5 : decode cX8_message 5 = .ok (.getfield 65, 3) := by decide +kernel
theorem dX8_message_8 : decode cX8_message 8 = .ok (.iload_n 1, 1) := by decide +kernel
theorem dX8_message_9 : decode cX8_message 9 = .ok (.i2b, 1) := by decide +kernel
theorem dX8_message_10 : decode cX8_message 10 = .ok (.bastore, 1) := by decide +kernel
theorem dX8_message_11 : decode cX8_message 11 = .ok (.aload_n 0, 1) := by decide +kernel
theorem dX8_message_12 : decode cX8_message 12 = .ok (.getfield 28, 3) := by decide +kernel
theorem dX8_message_15 : decode cX8_message 15 = .ok (.aload_n 0, 1) := by decide +kernel
theorem dX8_message_16 : decode cX8_message 16 = .ok (.getfield 65, 3) := by decide +kernel
theorem dX8_message_19 : decode cX8_message 19 = .ok (.iload_n 2, 1) := by decide +kernel
theorem dX8_message_20 : decode cX8_message 20 = .ok (.iastore, 1) := by decide +kernel
theorem dX8_message_21 : decode cX8_message 21 = .ok (.aload_n 0, 1) := by decide +kernel
theorem dX8_message_22 : decode cX8_message 22 = .ok (.getfield 31, 3) := by decide +kernel
theorem dX8_message_25 : decode cX8_message 25 = .ok (.aload_n 0, 1) := by decide +kernel
theorem dX8_message_26 : decode cX8_message 26 = .ok (.getfield 65, 3) := by decide +kernel
theorem dX8_message_29 : decode cX8_message 29 = .ok (.iload_n 3, 1) := by decide +kernel
theorem dX8_message_30 : decode cX8_message 30 = .ok (.iastore, 1) := by decide +kernel
theorem dX8_message_31 : decode cX8_message 31 = .ok (.aload_n 0, 1) := by decide +kernel
theorem dX8_message_32 : decode cX8_message 32 = .ok (.getfield 34, 3) := by decide +kernel
theorem dX8_message_35 : decode cX8_message 35 = .ok (.aload_n 0, 1) := by decide +kernel
theorem dX8_message_36 : decode cX8_message 36 = .ok (.getfield 65, 3) := by decide +kernel
theorem dX8_message_39 : decode cX8_message 39 = .ok (.lload 4, 2) := by decide +kernel
theorem dX8_message_41 : decode cX8_message 41 = .ok (.lastore, 1) := by decide +kernel
theorem dX8_message_42 : decode cX8_message 42 = .ok (.aload_n 0, 1) := by decide +kernel
theorem dX8_message_43 : decode cX8_message 43 = .ok (.dup, 1) := by decide +kernel
theorem dX8_message_44 : decode cX8_message 44 = .ok (.getfield 65, 3) := by decide +kernel
theorem dX8_message_47 : decode cX8_message 47 = .ok (.iconst 1, 1) := by decide +kernel
theorem dX8_message_48 : decode cX8_message 48 = .ok (.iadd, 1) := by decide +kernel
theorem dX8_message_49 : decode cX8_message 49 = .ok (.putfield 65, 3) := by decide +kernel
theorem dX8_message_52 : decode cX8_message 52 = .ok (.aload_n 0, 1) := by decide +kernel
theorem dX8_message_53 : decode cX8_message 53 = .ok (.iload_n 1, 1) := by decide +kernel
theorem dX8_message_54 : decode cX8_message 54 = .ok (.iload_n 2, 1) := by decide +kernel
theorem dX8_message_55 : decode cX8_message 55 = .ok (.iload_n 3, 1) := by decide +kernel
theorem dX8_message_56 : decode cX8_message 56 = .ok (.lload 4, 2) := by decide +kernel
theorem dX8_message_58 : decode cX8_message 58 = .ok (.invokevirtual 68, 3) := by decide +kernel
theorem dX8_message_61 : decode cX8_message 61 = .ok (.lreturn, 1) := by decide +kernel
theorem dX8_done_0 : decode cX8_done 0 = .ok (.iload_n 1, 1) := by decide +kernel
theorem dX8_done_1 : decode cX8_done 1 = .ok (.iconst 3, 1) := by decide +kernel
theorem dX8_done_2 : decode cX8_done 2 = .ok (.if_icmp .ne 11, 3) := by decide +kernel
theorem dX8_done_5 : decode cX8_done 5 = .ok (.aload_n 0, 1) := by decide +kernel
theorem dX8_done_6 : decode cX8_done 6 = .ok (.iload_n 2, 1) := by decide +kernel
theorem dX8_done_7 : decode cX8_done 7 = .ok (.iload_n 3, 1) := by decide +kernel
theorem dX8_done_8 : decode cX8_done 8 = .ok (.invokevirtual 49, 3) := by decide +kernel
theorem dX8_done_11 : decode cX8_done 11 = .ok (.i2l, 1) := by decide +kernel
theorem dX8_done_12 : decode cX8_done 12 = .ok (.lreturn, 1) := by decide +kernel
theorem dX8_done_13 : decode cX8_done 13 = .ok (.iload_n 1, 1) := by decide +kernel
theorem dX8_done_14 : decode cX8_done 14 = .ok (.iconst 4, 1) := by decide +kernel
theorem dX8_done_15 : decode cX8_done 15 = .ok (.if_icmp .ne 13, 3) := by decide +kernel
theorem dX8_done_18 : decode cX8_done 18 = .ok (.aload_n 0, 1) := by decide +kernel
theorem dX8_done_19 : decode cX8_done 19 = .ok (.iload_n 2, 1) := by decide +kernel
theorem dX8_done_20 : decode cX8_done 20 = .ok (.iload_n 3, 1) := by decide +kernel
theorem dX8_done_21 : decode cX8_done 21 = .ok (.lload 4, 2) := by decide +kernel
theorem dX8_done_23 : decode cX8_done 23 = .ok (.invokevirtual 53, 3) := by decide +kernel
theorem dX8_done_26 : decode cX8_done 26 = .ok (.i2l, 1) := by decide +kernel
theorem dX8_done_27 : decode cX8_done 27 = .ok (.lreturn, 1) := by decide +kernel
theorem dX8_done_28 : decode cX8_done 28 = .ok (.aload_n 0, 1) := by decide +kernel
theorem dX8_done_29 : decode cX8_done 29 = .ok (.iconst 4, 1) := by decide +kernel
theorem dX8_done_30 : decode cX8_done 30 = .ok (.iload_n 2, 1) := by decide +kernel
theorem dX8_done_31 : decode cX8_done 31 = .ok (.invokevirtual 57, 3) := by decide +kernel
theorem dX8_done_34 : decode cX8_done 34 = .ok (.lstore 6, 2) := by decide +kernel
theorem dX8_done_36 : decode cX8_done 36 = .ok (.iload_n 1, 1) := by decide +kernel
theorem dX8_done_37 : decode cX8_done 37 = .ok (.ifCond .ne 8, 3) := by decide +kernel
theorem dX8_done_40 : decode cX8_done 40 = .ok (.lload 4, 2) := by decide +kernel
theorem dX8_done_42 : decode cX8_done 42 = .ok (.goto 40, 3) := by decide +kernel
theorem dX8_done_45 : decode cX8_done 45 = .ok (.iload_n 1, 1) := by decide +kernel
theorem dX8_done_46 : decode cX8_done 46 = .ok (.iconst 1, 1) := by decide +kernel
theorem dX8_done_47 : decode cX8_done 47 = .ok (.if_icmp .ne 11, 3) := by decide +kernel
theorem dX8_done_50 : decode cX8_done 50 = .ok (.lload 6, 2) := by decide +kernel
theorem dX8_done_52 : decode cX8_done 52 = .ok (.lload 4, 2) := by decide +kernel
theorem dX8_done_54 : decode cX8_done 54 = .ok (.ladd, 1) := by decide +kernel
theorem dX8_done_55 : decode cX8_done 55 = .ok (.goto 27, 3) := by decide +kernel
theorem dX8_done_58 : decode cX8_done 58 = .ok (.aload_n 0, 1) := by decide +kernel
theorem dX8_done_59 : decode cX8_done 59 = .ok (.iconst 4, 1) := by decide +kernel
theorem dX8_done_60 : decode cX8_done 60 = .ok (.iload_n 2, 1) := by decide +kernel
theorem dX8_done_61 : decode cX8_done 61 = .ok (.invokevirtual 45, 3) := by decide +kernel
theorem dX8_done_64 : decode cX8_done 64 = .ok (.ifCond .eq 16, 3) := by decide +kernel
theorem dX8_done_67 : decode cX8_done 67 = .ok (.lload 6, 2) := by decide +kernel
theorem dX8_done_69 : decode cX8_done 69 = .ok (.lload 4, 2) := by decide +kernel
theorem dX8_done_71 : decode cX8_done 71 = .ok (.lcmp, 1) := by decide +kernel
theorem dX8_done_72 : decode cX8_done 72 = .ok (.ifCond .le 8, 3) := by decide +kernel
theorem dX8_done_75 : decode cX8_done 75 = .ok (.lload 6, 2) := by decide +kernel
theorem dX8_done_77 : decode cX8_done 77 = .ok (.goto 5, 3) := by decide +kernel
theorem dX8_done_80 : decode cX8_done 80 = .ok (.lload 4, 2) := by decide +kernel
theorem dX8_done_82 : decode cX8_done 82 = .ok (.lstore 8, 2) := by decide +kernel
theorem dX8_done_84 : decode cX8_done 84 = .ok (.aload_n 0, 1) := by decide +kernel
theorem dX8_done_85 : decode cX8_done 85 = .ok (.iload_n 2, 1) := by decide +kernel
theorem dX8_done_86 : decode cX8_done 86 = .ok (.lload 8, 2) := by decide +kernel
theorem dX8_done_88 : decode cX8_done 88 = .ok (.invokevirtual 61, 3) := by decide +kernel
theorem dX8_done_91 : decode cX8_done 91 = .ok (.lload 8, 2) := by decide +kernel
theorem dX8_done_93 : decode cX8_done 93 = .ok (.lreturn, 1) := by decide +kernel
theorem dX8_doDelete_0 : decode cX8_doDelete 0 = .ok (.aload_n 0, 1) := by decide +kernel
theorem dX8_doDelete_1 : decode cX8_doDelete 1 = .ok (.iconst 4, 1) := by decide +kernel
theorem dX8_doDelete_2 : decode cX8_doDelete 2 = .ok (.iload_n 1, 1) := by decide +kernel
theorem dX8_doDelete_3 : decode cX8_doDelete 3 = .ok (.i2l, 1) := by decide +kernel
theorem dX8_doDelete_4 : decode cX8_doDelete 4 = .ok (.invokevirtual 41, 3) := by decide +kernel
theorem dX8_doDelete_7 : decode cX8_doDelete 7 = .ok (.istore_n 3, 1) := by decide +kernel
theorem dX8_doDelete_8 : decode cX8_doDelete 8 = .ok (.aload_n 0, 1) := by decide +kernel
theorem dX8_doDelete_9 : decode cX8_doDelete 9 = .ok (.iconst 4, 1) := by decide +kernel
theorem dX8_doDelete_10 : decode cX8_doDelete 10 = .ok (.iload_n 2, 1) := by decide +kernel
theorem dX8_doDelete_11 : decode cX8_doDelete 11 = .ok (.i2l, 1) := by decide +kernel
theorem dX8_doDelete_12 : decode cX8_doDelete 12 = .ok (.lconst 1, 1) := by decide +kernel
theorem dX8_doDelete_13 : decode cX8_doDelete 13 = .ok (.ladd, 1) := by decide +kernel
theorem dX8_doDelete_14 : decode cX8_doDelete 14 = .ok (.invokevirtual 41, 3) := by decide +kernel
theorem dX8_doDelete_17 : decode cX8_doDelete 17 = .ok (.istore 4, 2) := by decide +kernel
theorem dX8_doDelete_19 : decode cX8_doDelete 19 = .ok (.iload 4, 2) := by decide +kernel
theorem dX8_doDelete_21 : decode cX8_doDelete 21 = .ok (.istore 5, 2) := by decide +kernel
theorem dX8_doDelete_23 : decode cX8_doDelete 23 = .ok (.iload 5, 2) := by decide +kernel
theorem dX8_doDelete_25 : decode cX8_doDelete 25 = .ok (.aload_n 0, 1) := by decide +kernel
theorem dX8_doDelete_26 : decode cX8_doDelete 26 = .ok (.getfield 17, 3) := by decide +kernel
theorem dX8_doDelete_29 : decode cX8_doDelete 29 = .ok (.iconst 4, 1) := by decide +kernel
theorem dX8_doDelete_30 : decode cX8_doDelete 30 = .ok (.iaload, 1) := by decide +kernel
theorem dX8_doDelete_31 : decode cX8_doDelete 31 = .ok (.if_icmp .ge 63, 3) := by decide +kernel
theorem dX8_doDelete_34 : decode cX8_doDelete 34 = .ok (.aload_n 0, 1) := by decide +kernel
theorem dX8_doDelete_35 : decode cX8_doDelete 35 = .ok (.getfield 7, 3) := by decide +kernel
theorem dX8_doDelete_38 : decode cX8_doDelete 38 = .ok (.sipush 2400, 3) := by decide +kernel
theorem dX8_doDelete_41 : decode cX8_doDelete 41 = .ok (.iload_n 3, 1) := by decide +kernel
theorem dX8_doDelete_42 : decode cX8_doDelete 42 = .ok (.iadd, 1) := by decide +kernel
theorem dX8_doDelete_43 : decode cX8_doDelete 43 = .ok (.iload 5, 2) := by decide +kernel
theorem dX8_doDelete_45 : decode cX8_doDelete 45 = .ok (.iadd, 1) := by decide +kernel
theorem dX8_doDelete_46 : decode cX8_doDelete 46 = .ok (.iload 4, 2) := by decide +kernel
theorem dX8_doDelete_48 : decode cX8_doDelete 48 = .ok (.isub, 1) := by decide +kernel
theorem dX8_doDelete_49 : decode cX8_doDelete 49 = .ok (.aload_n 0, 1) := by decide +kernel
theorem dX8_doDelete_50 : decode cX8_doDelete 50 = .ok (.getfield 7, 3) := by decide +kernel
theorem dX8_doDelete_53 : decode cX8_doDelete 53 = .ok (.sipush 2400, 3) := by decide +kernel
theorem dX8_doDelete_56 : decode cX8_doDelete 56 = .ok (.iload 5, 2) := by decide +kernel
theorem dX8_doDelete_58 : decode cX8_doDelete 58 = .ok (.iadd, 1) := by decide +kernel
theorem dX8_doDelete_59 : decode cX8_doDelete 59 = .ok (.iaload, 1) := by decide +kernel
theorem dX8_doDelete_60 : decode cX8_doDelete 60 = .ok (.iastore, 1) := by decide +kernel
theorem dX8_doDelete_61 : decode cX8_doDelete 61 = .ok (.aload_n 0, 1) := by decide +kernel
theorem dX8_doDelete_62 : decode cX8_doDelete 62 = .ok (.getfield 13, 3) := by decide +kernel
theorem dX8_doDelete_65 : decode cX8_doDelete 65 = .ok (.sipush 2400, 3) := by decide +kernel
theorem dX8_doDelete_68 : decode cX8_doDelete 68 = .ok (.iload_n 3, 1) := by decide +kernel
theorem dX8_doDelete_69 : decode cX8_doDelete 69 = .ok (.iadd, 1) := by decide +kernel
theorem dX8_doDelete_70 : decode cX8_doDelete 70 = .ok (.iload 5, 2) := by decide +kernel
theorem dX8_doDelete_72 : decode cX8_doDelete 72 = .ok (.iadd, 1) := by decide +kernel
theorem dX8_doDelete_73 : decode cX8_doDelete 73 = .ok (.iload 4, 2) := by decide +kernel
theorem dX8_doDelete_75 : decode cX8_doDelete 75 = .ok (.isub, 1) := by decide +kernel
theorem dX8_doDelete_76 : decode cX8_doDelete 76 = .ok (.aload_n 0, 1) := by decide +kernel
theorem dX8_doDelete_77 : decode cX8_doDelete 77 = .ok (.getfield 13, 3) := by decide +kernel
theorem dX8_doDelete_80 : decode cX8_doDelete 80 = .ok (.sipush 2400, 3) := by decide +kernel
theorem dX8_doDelete_83 : decode cX8_doDelete 83 = .ok (.iload 5, 2) := by decide +kernel
theorem dX8_doDelete_85 : decode cX8_doDelete 85 = .ok (.iadd, 1) := by decide +kernel
theorem dX8_doDelete_86 : decode cX8_doDelete 86 = .ok (.laload, 1) := by decide +kernel
theorem dX8_doDelete_87 : decode cX8_doDelete 87 = .ok (.lastore, 1) := by decide +kernel
theorem dX8_doDelete_88 : decode cX8_doDelete 88 = .ok (.iinc 5 1, 3) := by decide +kernel
theorem dX8_doDelete_91 : decode cX8_doDelete 91 = .ok (.goto (-68), 3) := by decide +kernel
theorem dX8_doDelete_94 : decode cX8_doDelete 94 = .ok (.aload_n 0, 1) := by decide +kernel
theorem dX8_doDelete_95 : decode cX8_doDelete 95 = .ok (.getfield 17, 3) := by decide +kernel
theorem dX8_doDelete_98 : decode cX8_doDelete 98 = .ok (.iconst 4, 1) := by decide +kernel
theorem dX8_doDelete_99 : decode cX8_doDelete 99 = .ok (.aload_n 0, 1) := by decide +kernel
theorem dX8_doDelete_100 : decode cX8_doDelete 100 = .ok (.getfield 17, 3) := by decide +kernel
theorem dX8_doDelete_103 : decode cX8_doDelete 103 = .ok (.iconst 4, 1) := by decide +kernel
theorem dX8_doDelete_104 : decode cX8_doDelete 104 = .ok (.iaload, 1) := by decide +kernel
theorem dX8_doDelete_105 : decode cX8_doDelete 105 = .ok (.iload 4, 2) := by decide +kernel
theorem dX8_doDelete_107 : decode cX8_doDelete 107 = .ok (.iload_n 3, 1) := by decide +kernel
theorem dX8_doDelete_108 : decode cX8_doDelete 108 = .ok (.isub, 1) := by decide +kernel
theorem dX8_doDelete_109 : decode cX8_doDelete 109 = .ok (.isub, 1) := by decide +kernel
theorem dX8_doDelete_110 : decode cX8_doDelete 110 = .ok (.iastore, 1) := by decide +kernel
theorem dX8_doDelete_111 : decode cX8_doDelete 111 = .ok (.iload 4, 2) := by decide +kernel
theorem dX8_doDelete_113 : decode cX8_doDelete 113 = .ok (.iload_n 3, 1) := by decide +kernel
theorem dX8_doDelete_114 : decode cX8_doDelete 114 = .ok (.isub, 1) := by decide +kernel
theorem dX8_doDelete_115 : decode cX8_doDelete 115 = .ok (.ireturn, 1) := by decide +kernel
theorem dX8_doRaise_0 : decode cX8_doRaise 0 = .ok (.aload_n 0, 1) := by decide +kernel
theorem dX8_doRaise_1 : decode cX8_doRaise 1 = .ok (.iconst 4, 1) := by decide +kernel
theorem dX8_doRaise_2 : decode cX8_doRaise 2 = .ok (.iload_n 1, 1) := by decide +kernel
theorem dX8_doRaise_3 : decode cX8_doRaise 3 = .ok (.i2l, 1) := by decide +kernel
theorem dX8_doRaise_4 : decode cX8_doRaise 4 = .ok (.invokevirtual 41, 3) := by decide +kernel
theorem dX8_doRaise_7 : decode cX8_doRaise 7 = .ok (.istore 5, 2) := by decide +kernel
theorem dX8_doRaise_9 : decode cX8_doRaise 9 = .ok (.aload_n 0, 1) := by decide +kernel
theorem dX8_doRaise_10 : decode cX8_doRaise 10 = .ok (.iconst 4, 1) := by decide +kernel
theorem dX8_doRaise_11 : decode cX8_doRaise 11 = .ok (.iload_n 2, 1) := by decide +kernel
theorem dX8_doRaise_12 : decode cX8_doRaise 12 = .ok (.i2l, 1) := by decide +kernel
theorem dX8_doRaise_13 : decode cX8_doRaise 13 = .ok (.lconst 1, 1) := by decide +kernel
theorem dX8_doRaise_14 : decode cX8_doRaise 14 = .ok (.ladd, 1) := by decide +kernel
theorem dX8_doRaise_15 : decode cX8_doRaise 15 = .ok (.invokevirtual 41, 3) := by decide +kernel
theorem dX8_doRaise_18 : decode cX8_doRaise 18 = .ok (.istore 6, 2) := by decide +kernel
theorem dX8_doRaise_20 : decode cX8_doRaise 20 = .ok (.iload 5, 2) := by decide +kernel
theorem dX8_doRaise_22 : decode cX8_doRaise 22 = .ok (.istore 7, 2) := by decide +kernel
theorem dX8_doRaise_24 : decode cX8_doRaise 24 = .ok (.iload 7, 2) := by decide +kernel
theorem dX8_doRaise_26 : decode cX8_doRaise 26 = .ok (.iload 6, 2) := by decide +kernel
theorem dX8_doRaise_28 : decode cX8_doRaise 28 = .ok (.if_icmp .ge 24, 3) := by decide +kernel
theorem dX8_doRaise_31 : decode cX8_doRaise 31 = .ok (.aload_n 0, 1) := by decide +kernel
theorem dX8_doRaise_32 : decode cX8_doRaise 32 = .ok (.getfield 13, 3) := by decide +kernel
theorem dX8_doRaise_35 : decode cX8_doRaise 35 = .ok (.sipush 2400, 3) := by decide +kernel
theorem dX8_doRaise_38 : decode cX8_doRaise 38 = .ok (.iload 7, 2) := by decide +kernel
theorem dX8_doRaise_40 : decode cX8_doRaise 40 = .ok (.iadd, 1) := by decide +kernel
theorem dX8_doRaise_41 : decode cX8_doRaise 41 = .ok (.dup2, 1) := by decide +kernel
theorem dX8_doRaise_42 : decode cX8_doRaise 42 = .ok (.laload, 1) := by decide +kernel
theorem dX8_doRaise_43 : decode cX8_doRaise 43 = .ok (.lload_n 3, 1) := by decide +kernel
theorem dX8_doRaise_44 : decode cX8_doRaise 44 = .ok (.ladd, 1) := by decide +kernel
theorem dX8_doRaise_45 : decode cX8_doRaise 45 = .ok (.lastore, 1) := by decide +kernel
theorem dX8_doRaise_46 : decode cX8_doRaise 46 = .ok (.iinc 7 1, 3) := by decide +kernel
theorem dX8_doRaise_49 : decode cX8_doRaise 49 = .ok (.goto (-25), 3) := by decide +kernel
theorem dX8_doRaise_52 : decode cX8_doRaise 52 = .ok (.iload 6, 2) := by decide +kernel
theorem dX8_doRaise_54 : decode cX8_doRaise 54 = .ok (.iload 5, 2) := by decide +kernel
theorem dX8_doRaise_56 : decode cX8_doRaise 56 = .ok (.isub, 1) := by decide +kernel
theorem dX8_doRaise_57 : decode cX8_doRaise 57 = .ok (.ireturn, 1) := by decide +kernel
theorem dX8_valueIn_0 : decode cX8_valueIn 0 = .ok (.aload_n 0, 1) := by decide +kernel
theorem dX8_valueIn_1 : decode cX8_valueIn 1 = .ok (.iload_n 1, 1) := by decide +kernel
theorem dX8_valueIn_2 : decode cX8_valueIn 2 = .ok (.iload_n 2, 1) := by decide +kernel
theorem dX8_valueIn_3 : decode cX8_valueIn 3 = .ok (.invokevirtual 45, 3) := by decide +kernel
theorem dX8_valueIn_6 : decode cX8_valueIn 6 = .ok (.ifCond .eq 24, 3) := by decide +kernel
theorem dX8_valueIn_9 : decode cX8_valueIn 9 = .ok (.aload_n 0, 1) := by decide +kernel
theorem dX8_valueIn_10 : decode cX8_valueIn 10 = .ok (.getfield 13, 3) := by decide +kernel
theorem dX8_valueIn_13 : decode cX8_valueIn 13 = .ok (.sipush 600, 3) := by decide +kernel
theorem dX8_valueIn_16 : decode cX8_valueIn 16 = .ok (.iload_n 1, 1) := by decide +kernel
theorem dX8_valueIn_17 : decode cX8_valueIn 17 = .ok (.imul, 1) := by decide +kernel
theorem dX8_valueIn_18 : decode cX8_valueIn 18 = .ok (.aload_n 0, 1) := by decide +kernel
theorem dX8_valueIn_19 : decode cX8_valueIn 19 = .ok (.iload_n 1, 1) := by decide +kernel
theorem dX8_valueIn_20 : decode cX8_valueIn 20 = .ok (.iload_n 2, 1) := by decide +kernel
theorem dX8_valueIn_21 : decode cX8_valueIn 21 = .ok (.i2l, 1) := by decide +kernel
theorem dX8_valueIn_22 : decode cX8_valueIn 22 = .ok (.invokevirtual 41, 3) := by decide +kernel
theorem dX8_valueIn_25 : decode cX8_valueIn 25 = .ok (.iadd, 1) := by decide +kernel
theorem dX8_valueIn_26 : decode cX8_valueIn 26 = .ok (.laload, 1) := by decide +kernel
theorem dX8_valueIn_27 : decode cX8_valueIn 27 = .ok (.goto 4, 3) := by decide +kernel
theorem dX8_valueIn_30 : decode cX8_valueIn 30 = .ok (.lconst 0, 1) := by decide +kernel
theorem dX8_valueIn_31 : decode cX8_valueIn 31 = .ok (.lreturn, 1) := by decide +kernel
theorem dX8_enter_0 : decode cX8_enter 0 = .ok (.sipush 2400, 3) := by decide +kernel
theorem dX8_enter_3 : decode cX8_enter 3 = .ok (.aload_n 0, 1) := by decide +kernel
theorem dX8_enter_4 : decode cX8_enter 4 = .ok (.iconst 4, 1) := by decide +kernel
theorem dX8_enter_5 : decode cX8_enter 5 = .ok (.iload_n 1, 1) := by decide +kernel
theorem dX8_enter_6 : decode cX8_enter 6 = .ok (.i2l, 1) := by decide +kernel
theorem dX8_enter_7 : decode cX8_enter 7 = .ok (.invokevirtual 41, 3) := by decide +kernel
theorem dX8_enter_10 : decode cX8_enter 10 = .ok (.iadd, 1) := by decide +kernel
theorem dX8_enter_11 : decode cX8_enter 11 = .ok (.istore 4, 2) := by decide +kernel
theorem dX8_enter_13 : decode cX8_enter 13 = .ok (.aload_n 0, 1) := by decide +kernel
theorem dX8_enter_14 : decode cX8_enter 14 = .ok (.iconst 4, 1) := by decide +kernel
theorem dX8_enter_15 : decode cX8_enter 15 = .ok (.iload_n 1, 1) := by decide +kernel
theorem dX8_enter_16 : decode cX8_enter 16 = .ok (.invokevirtual 45, 3) := by decide +kernel
theorem dX8_enter_19 : decode cX8_enter 19 = .ok (.ifCond .ne 70, 3) := by decide +kernel
theorem dX8_enter_22 : decode cX8_enter 22 = .ok (.sipush 2400, 3) := by decide +kernel
theorem dX8_enter_25 : decode cX8_enter 25 = .ok (.aload_n 0, 1) := by decide +kernel
theorem dX8_enter_26 : decode cX8_enter 26 = .ok (.getfield 17, 3) := by decide +kernel
theorem dX8_enter_29 : decode cX8_enter 29 = .ok (.iconst 4, 1) := by decide +kernel
theorem dX8_enter_30 : decode cX8_enter 30 = .ok (.iaload, 1) := by decide +kernel
theorem dX8_enter_31 : decode cX8_enter 31 = .ok (.iadd, 1) := by decide +kernel
theorem dX8_enter_32 : decode cX8_enter 32 = .ok (.istore 5, 2) := by decide +kernel
theorem dX8_enter_34 : decode cX8_enter 34 = .ok (.iload 5, 2) := by decide +kernel
theorem dX8_enter_36 : decode cX8_enter 36 = .ok (.iload 4, 2) := by decide +kernel
theorem dX8_enter_38 : decode cX8_enter 38 = .ok (.if_icmp .le 41, 3) := by decide +kernel
theorem dX8_enter_41 : decode cX8_enter 41 = .ok (.aload_n 0, 1) := by decide +kernel
theorem dX8_enter_42 : decode cX8_enter 42 = .ok (.getfield 7, 3) := by decide +kernel
theorem dX8_enter_45 : decode cX8_enter 45 = .ok (.iload 5, 2) := by decide +kernel
theorem dX8_enter_47 : decode cX8_enter 47 = .ok (.aload_n 0, 1) := by decide +kernel
theorem dX8_enter_48 : decode cX8_enter 48 = .ok (.getfield 7, 3) := by decide +kernel
theorem dX8_enter_51 : decode cX8_enter 51 = .ok (.iload 5, 2) := by decide +kernel
theorem dX8_enter_53 : decode cX8_enter 53 = .ok (.iconst 1, 1) := by decide +kernel
theorem dX8_enter_54 : decode cX8_enter 54 = .ok (.isub, 1) := by decide +kernel
theorem dX8_enter_55 : decode cX8_enter 55 = .ok (.iaload, 1) := by decide +kernel
theorem dX8_enter_56 : decode cX8_enter 56 = .ok (.iastore, 1) := by decide +kernel
theorem dX8_enter_57 : decode cX8_enter 57 = .ok (.aload_n 0, 1) := by decide +kernel
theorem dX8_enter_58 : decode cX8_enter 58 = .ok (.getfield 13, 3) := by decide +kernel
theorem dX8_enter_61 : decode cX8_enter 61 = .ok (.iload 5, 2) := by decide +kernel
theorem dX8_enter_63 : decode cX8_enter 63 = .ok (.aload_n 0, 1) := by decide +kernel
theorem dX8_enter_64 : decode cX8_enter 64 = .ok (.getfield 13, 3) := by decide +kernel
theorem dX8_enter_67 : decode cX8_enter 67 = .ok (.iload 5, 2) := by decide +kernel
theorem dX8_enter_69 : decode cX8_enter 69 = .ok (.iconst 1, 1) := by decide +kernel
theorem dX8_enter_70 : decode cX8_enter 70 = .ok (.isub, 1) := by decide +kernel
theorem dX8_enter_71 : decode cX8_enter 71 = .ok (.laload, 1) := by decide +kernel
theorem dX8_enter_72 : decode cX8_enter 72 = .ok (.lastore, 1) := by decide +kernel
theorem dX8_enter_73 : decode cX8_enter 73 = .ok (.iinc 5 (-1), 3) := by decide +kernel
theorem dX8_enter_76 : decode cX8_enter 76 = .ok (.goto (-42), 3) := by decide +kernel
theorem dX8_enter_79 : decode cX8_enter 79 = .ok (.aload_n 0, 1) := by decide +kernel
theorem dX8_enter_80 : decode cX8_enter 80 = .ok (.getfield 17, 3) := by decide +kernel
theorem dX8_enter_83 : decode cX8_enter 83 = .ok (.iconst 4, 1) := by decide +kernel
theorem dX8_enter_84 : decode cX8_enter 84 = .ok (.dup2, 1) := by decide +kernel
theorem dX8_enter_85 : decode cX8_enter 85 = .ok (.iaload, 1) := by decide +kernel
theorem dX8_enter_86 : decode cX8_enter 86 = .ok (.iconst 1, 1) := by decide +kernel
theorem dX8_enter_87 : decode cX8_enter 87 = .ok (.iadd, 1) := by decide +kernel
theorem dX8_enter_88 : decode cX8_enter 88 = .ok (.iastore, 1) := by decide +kernel
theorem dX8_enter_89 : decode cX8_enter 89 = .ok (.aload_n 0, 1) := by decide +kernel
theorem dX8_enter_90 : decode cX8_enter 90 = .ok (.getfield 7, 3) := by decide +kernel
theorem dX8_enter_93 : decode cX8_enter 93 = .ok (.iload 4, 2) := by decide +kernel
theorem dX8_enter_95 : decode cX8_enter 95 = .ok (.iload_n 1, 1) := by decide +kernel
theorem dX8_enter_96 : decode cX8_enter 96 = .ok (.iastore, 1) := by decide +kernel
theorem dX8_enter_97 : decode cX8_enter 97 = .ok (.aload_n 0, 1) := by decide +kernel
theorem dX8_enter_98 : decode cX8_enter 98 = .ok (.getfield 13, 3) := by decide +kernel
theorem dX8_enter_101 : decode cX8_enter 101 = .ok (.iload 4, 2) := by decide +kernel
theorem dX8_enter_103 : decode cX8_enter 103 = .ok (.lload_n 2, 1) := by decide +kernel
theorem dX8_enter_104 : decode cX8_enter 104 = .ok (.lastore, 1) := by decide +kernel
theorem dX8_enter_105 : decode cX8_enter 105 = .ok (.return_, 1) := by decide +kernel
theorem dX8_add_0 : decode cX8_add 0 = .ok (.aload_n 0, 1) := by decide +kernel
theorem dX8_add_1 : decode cX8_add 1 = .ok (.aload_n 0, 1) := by decide +kernel
theorem dX8_add_2 : decode cX8_add 2 = .ok (.iload_n 1, 1) := by decide +kernel
theorem dX8_add_3 : decode cX8_add 3 = .ok (.invokevirtual 72, 3) := by decide +kernel
theorem dX8_add_6 : decode cX8_add 6 = .ok (.ifCond .eq 7, 3) := by decide +kernel
theorem dX8_add_9 : decode cX8_add 9 = .ok (.iconst 1, 1) := by decide +kernel
theorem dX8_add_10 : decode cX8_add 10 = .ok (.goto 4, 3) := by decide +kernel
theorem dX8_add_13 : decode cX8_add 13 = .ok (.iconst 0, 1) := by decide +kernel
theorem dX8_add_14 : decode cX8_add 14 = .ok (.putfield 37, 3) := by decide +kernel
theorem dX8_add_17 : decode cX8_add 17 = .ok (.aload_n 0, 1) := by decide +kernel
theorem dX8_add_18 : decode cX8_add 18 = .ok (.getfield 37, 3) := by decide +kernel
theorem dX8_add_21 : decode cX8_add 21 = .ok (.ifCond .le 7, 3) := by decide +kernel
theorem dX8_add_24 : decode cX8_add 24 = .ok (.lconst 0, 1) := by decide +kernel
theorem dX8_add_25 : decode cX8_add 25 = .ok (.goto 11, 3) := by decide +kernel
theorem dX8_add_28 : decode cX8_add 28 = .ok (.aload_n 0, 1) := by decide +kernel
theorem dX8_add_29 : decode cX8_add 29 = .ok (.iconst 1, 1) := by decide +kernel
theorem dX8_add_30 : decode cX8_add 30 = .ok (.iload_n 1, 1) := by decide +kernel
theorem dX8_add_31 : decode cX8_add 31 = .ok (.iload_n 1, 1) := by decide +kernel
theorem dX8_add_32 : decode cX8_add 32 = .ok (.lload_n 2, 1) := by decide +kernel
theorem dX8_add_33 : decode cX8_add 33 = .ok (.invokevirtual 76, 3) := by decide +kernel
theorem dX8_add_36 : decode cX8_add 36 = .ok (.lreturn, 1) := by decide +kernel
theorem dX8_most_0 : decode cX8_most 0 = .ok (.aload_n 0, 1) := by decide +kernel
theorem dX8_most_1 : decode cX8_most 1 = .ok (.aload_n 0, 1) := by decide +kernel
theorem dX8_most_2 : decode cX8_most 2 = .ok (.iload_n 1, 1) := by decide +kernel
theorem dX8_most_3 : decode cX8_most 3 = .ok (.invokevirtual 72, 3) := by decide +kernel
theorem dX8_most_6 : decode cX8_most 6 = .ok (.ifCond .eq 7, 3) := by decide +kernel
theorem dX8_most_9 : decode cX8_most 9 = .ok (.iconst 1, 1) := by decide +kernel
theorem dX8_most_10 : decode cX8_most 10 = .ok (.goto 4, 3) := by decide +kernel
theorem dX8_most_13 : decode cX8_most 13 = .ok (.iconst 0, 1) := by decide +kernel
theorem dX8_most_14 : decode cX8_most 14 = .ok (.putfield 37, 3) := by decide +kernel
theorem dX8_most_17 : decode cX8_most 17 = .ok (.aload_n 0, 1) := by decide +kernel
theorem dX8_most_18 : decode cX8_most 18 = .ok (.getfield 37, 3) := by decide +kernel
theorem dX8_most_21 : decode cX8_most 21 = .ok (.ifCond .le 7, 3) := by decide +kernel
theorem dX8_most_24 : decode cX8_most 24 = .ok (.lconst 0, 1) := by decide +kernel
theorem dX8_most_25 : decode cX8_most 25 = .ok (.goto 11, 3) := by decide +kernel
theorem dX8_most_28 : decode cX8_most 28 = .ok (.aload_n 0, 1) := by decide +kernel
theorem dX8_most_29 : decode cX8_most 29 = .ok (.iconst 2, 1) := by decide +kernel
theorem dX8_most_30 : decode cX8_most 30 = .ok (.iload_n 1, 1) := by decide +kernel
theorem dX8_most_31 : decode cX8_most 31 = .ok (.iload_n 1, 1) := by decide +kernel
theorem dX8_most_32 : decode cX8_most 32 = .ok (.lload_n 2, 1) := by decide +kernel
theorem dX8_most_33 : decode cX8_most 33 = .ok (.invokevirtual 76, 3) := by decide +kernel
theorem dX8_most_36 : decode cX8_most 36 = .ok (.lreturn, 1) := by decide +kernel
theorem dX8_delete_0 : decode cX8_delete 0 = .ok (.aload_n 0, 1) := by decide +kernel
theorem dX8_delete_1 : decode cX8_delete 1 = .ok (.iload_n 1, 1) := by decide +kernel
theorem dX8_delete_2 : decode cX8_delete 2 = .ok (.iload_n 2, 1) := by decide +kernel
theorem dX8_delete_3 : decode cX8_delete 3 = .ok (.if_icmp .le 7, 3) := by decide +kernel
theorem dX8_delete_6 : decode cX8_delete 6 = .ok (.iconst 1, 1) := by decide +kernel
theorem dX8_delete_7 : decode cX8_delete 7 = .ok (.goto 18, 3) := by decide +kernel
theorem dX8_delete_10 : decode cX8_delete 10 = .ok (.aload_n 0, 1) := by decide +kernel
theorem dX8_delete_11 : decode cX8_delete 11 = .ok (.getfield 65, 3) := by decide +kernel
theorem dX8_delete_14 : decode cX8_delete 14 = .ok (.sipush 2500, 3) := by decide +kernel
theorem dX8_delete_17 : decode cX8_delete 17 = .ok (.if_icmp .ne 7, 3) := by decide +kernel
theorem dX8_delete_20 : decode cX8_delete 20 = .ok (.iconst 2, 1) := by decide +kernel
theorem dX8_delete_21 : decode cX8_delete 21 = .ok (.goto 4, 3) := by decide +kernel
theorem dX8_delete_24 : decode cX8_delete 24 = .ok (.iconst 0, 1) := by decide +kernel
theorem dX8_delete_25 : decode cX8_delete 25 = .ok (.putfield 37, 3) := by decide +kernel
theorem dX8_delete_28 : decode cX8_delete 28 = .ok (.aload_n 0, 1) := by decide +kernel
theorem dX8_delete_29 : decode cX8_delete 29 = .ok (.getfield 37, 3) := by decide +kernel
theorem dX8_delete_32 : decode cX8_delete 32 = .ok (.ifCond .le 7, 3) := by decide +kernel
theorem dX8_delete_35 : decode cX8_delete 35 = .ok (.iconst 0, 1) := by decide +kernel
theorem dX8_delete_36 : decode cX8_delete 36 = .ok (.goto 12, 3) := by decide +kernel
theorem dX8_delete_39 : decode cX8_delete 39 = .ok (.aload_n 0, 1) := by decide +kernel
theorem dX8_delete_40 : decode cX8_delete 40 = .ok (.iconst 3, 1) := by decide +kernel
theorem dX8_delete_41 : decode cX8_delete 41 = .ok (.iload_n 1, 1) := by decide +kernel
theorem dX8_delete_42 : decode cX8_delete 42 = .ok (.iload_n 2, 1) := by decide +kernel
theorem dX8_delete_43 : decode cX8_delete 43 = .ok (.lconst 0, 1) := by decide +kernel
theorem dX8_delete_44 : decode cX8_delete 44 = .ok (.invokevirtual 76, 3) := by decide +kernel
theorem dX8_delete_47 : decode cX8_delete 47 = .ok (.l2i, 1) := by decide +kernel
theorem dX8_delete_48 : decode cX8_delete 48 = .ok (.ireturn, 1) := by decide +kernel
theorem dX8_raise_0 : decode cX8_raise 0 = .ok (.aload_n 0, 1) := by decide +kernel
theorem dX8_raise_1 : decode cX8_raise 1 = .ok (.iload_n 1, 1) := by decide +kernel
theorem dX8_raise_2 : decode cX8_raise 2 = .ok (.iload_n 2, 1) := by decide +kernel
theorem dX8_raise_3 : decode cX8_raise 3 = .ok (.if_icmp .le 7, 3) := by decide +kernel
theorem dX8_raise_6 : decode cX8_raise 6 = .ok (.iconst 1, 1) := by decide +kernel
theorem dX8_raise_7 : decode cX8_raise 7 = .ok (.goto 18, 3) := by decide +kernel
theorem dX8_raise_10 : decode cX8_raise 10 = .ok (.aload_n 0, 1) := by decide +kernel
theorem dX8_raise_11 : decode cX8_raise 11 = .ok (.getfield 65, 3) := by decide +kernel
theorem dX8_raise_14 : decode cX8_raise 14 = .ok (.sipush 2500, 3) := by decide +kernel
theorem dX8_raise_17 : decode cX8_raise 17 = .ok (.if_icmp .ne 7, 3) := by decide +kernel
theorem dX8_raise_20 : decode cX8_raise 20 = .ok (.iconst 2, 1) := by decide +kernel
theorem dX8_raise_21 : decode cX8_raise 21 = .ok (.goto 4, 3) := by decide +kernel
theorem dX8_raise_24 : decode cX8_raise 24 = .ok (.iconst 0, 1) := by decide +kernel
theorem dX8_raise_25 : decode cX8_raise 25 = .ok (.putfield 37, 3) := by decide +kernel
theorem dX8_raise_28 : decode cX8_raise 28 = .ok (.aload_n 0, 1) := by decide +kernel
theorem dX8_raise_29 : decode cX8_raise 29 = .ok (.getfield 37, 3) := by decide +kernel
theorem dX8_raise_32 : decode cX8_raise 32 = .ok (.ifCond .le 7, 3) := by decide +kernel
theorem dX8_raise_35 : decode cX8_raise 35 = .ok (.iconst 0, 1) := by decide +kernel
theorem dX8_raise_36 : decode cX8_raise 36 = .ok (.goto 12, 3) := by decide +kernel
theorem dX8_raise_39 : decode cX8_raise 39 = .ok (.aload_n 0, 1) := by decide +kernel
theorem dX8_raise_40 : decode cX8_raise 40 = .ok (.iconst 4, 1) := by decide +kernel
theorem dX8_raise_41 : decode cX8_raise 41 = .ok (.iload_n 1, 1) := by decide +kernel
theorem dX8_raise_42 : decode cX8_raise 42 = .ok (.iload_n 2, 1) := by decide +kernel
theorem dX8_raise_43 : decode cX8_raise 43 = .ok (.lload_n 3, 1) := by decide +kernel
theorem dX8_raise_44 : decode cX8_raise 44 = .ok (.invokevirtual 76, 3) := by decide +kernel
theorem dX8_raise_47 : decode cX8_raise 47 = .ok (.l2i, 1) := by decide +kernel
theorem dX8_raise_48 : decode cX8_raise 48 = .ok (.ireturn, 1) := by decide +kernel
theorem dX8_putAll_0 : decode cX8_putAll 0 = .ok (.aload_n 0, 1) := by decide +kernel
theorem dX8_putAll_1 : decode cX8_putAll 1 = .ok (.iload 7, 2) := by decide +kernel
theorem dX8_putAll_3 : decode cX8_putAll 3 = .ok (.ifCond .lt 11, 3) := by decide +kernel
theorem dX8_putAll_6 : decode cX8_putAll 6 = .ok (.iload 7, 2) := by decide +kernel
theorem dX8_putAll_8 : decode cX8_putAll 8 = .ok (.sipush 300, 3) := by decide +kernel
theorem dX8_putAll_11 : decode cX8_putAll 11 = .ok (.if_icmp .le 7, 3) := by decide +kernel
theorem dX8_putAll_14 : decode cX8_putAll 14 = .ok (.iconst 1, 1) := by decide +kernel
theorem dX8_putAll_15 : decode cX8_putAll 15 = .ok (.goto 4, 3) := by decide +kernel
theorem dX8_putAll_18 : decode cX8_putAll 18 = .ok (.iconst 0, 1) := by decide +kernel
theorem dX8_putAll_19 : decode cX8_putAll 19 = .ok (.putfield 37, 3) := by decide +kernel
theorem dX8_putAll_22 : decode cX8_putAll 22 = .ok (.aload_n 0, 1) := by decide +kernel
theorem dX8_putAll_23 : decode cX8_putAll 23 = .ok (.getfield 37, 3) := by decide +kernel
theorem dX8_putAll_26 : decode cX8_putAll 26 = .ok (.ifCond .le 5, 3) := by decide +kernel
theorem dX8_putAll_29 : decode cX8_putAll 29 = .ok (.iconst 0, 1) := by decide +kernel
theorem dX8_putAll_30 : decode cX8_putAll 30 = .ok (.ireturn, 1) := by decide +kernel
theorem dX8_putAll_31 : decode cX8_putAll 31 = .ok (.iconst 0, 1) := by decide +kernel
theorem dX8_putAll_32 : decode cX8_putAll 32 = .ok (.istore 8, 2) := by decide +kernel
theorem dX8_putAll_34 : decode cX8_putAll 34 = .ok (.iload_n 1, 1) := by decide +kernel
theorem dX8_putAll_35 : decode cX8_putAll 35 = .ok (.istore 9, 2) := by decide +kernel
theorem dX8_putAll_37 : decode cX8_putAll 37 = .ok (.lload_n 3, 1) := by decide +kernel
theorem dX8_putAll_38 : decode cX8_putAll 38 = .ok (.lstore 10, 2) := by decide +kernel
theorem dX8_putAll_40 : decode cX8_putAll 40 = .ok (.iload 8, 2) := by decide +kernel
theorem dX8_putAll_42 : decode cX8_putAll 42 = .ok (.iload 7, 2) := by decide +kernel
theorem dX8_putAll_44 : decode cX8_putAll 44 = .ok (.if_icmp .ge 43, 3) := by decide +kernel
theorem dX8_putAll_47 : decode cX8_putAll 47 = .ok (.aload_n 0, 1) := by decide +kernel
theorem dX8_putAll_48 : decode cX8_putAll 48 = .ok (.iload 9, 2) := by decide +kernel
theorem dX8_putAll_50 : decode cX8_putAll 50 = .ok (.invokevirtual 72, 3) := by decide +kernel
theorem dX8_putAll_53 : decode cX8_putAll 53 = .ok (.ifCond .ne 34, 3) := by decide +kernel
theorem dX8_putAll_56 : decode cX8_putAll 56 = .ok (.aload_n 0, 1) := by decide +kernel
theorem dX8_putAll_57 : decode cX8_putAll 57 = .ok (.iconst 0, 1) := by decide +kernel
theorem dX8_putAll_58 : decode cX8_putAll 58 = .ok (.iload 9, 2) := by decide +kernel
theorem dX8_putAll_60 : decode cX8_putAll 60 = .ok (.iload 9, 2) := by decide +kernel
theorem dX8_putAll_62 : decode cX8_putAll 62 = .ok (.lload 10, 2) := by decide +kernel
theorem dX8_putAll_64 : decode cX8_putAll 64 = .ok (.invokevirtual 76, 3) := by decide +kernel
theorem dX8_putAll_67 : decode cX8_putAll 67 = .ok (.pop2, 1) := by decide +kernel
theorem dX8_putAll_68 : decode cX8_putAll 68 = .ok (.iload 9, 2) := by decide +kernel
theorem dX8_putAll_70 : decode cX8_putAll 70 = .ok (.iload_n 2, 1) := by decide +kernel
theorem dX8_putAll_71 : decode cX8_putAll 71 = .ok (.iadd, 1) := by decide +kernel
theorem dX8_putAll_72 : decode cX8_putAll 72 = .ok (.istore 9, 2) := by decide +kernel
theorem dX8_putAll_74 : decode cX8_putAll 74 = .ok (.lload 10, 2) := by decide +kernel
theorem dX8_putAll_76 : decode cX8_putAll 76 = .ok (.lload 5, 2) := by decide +kernel
theorem dX8_putAll_78 : decode cX8_putAll 78 = .ok (.ladd, 1) := by decide +kernel
theorem dX8_putAll_79 : decode cX8_putAll 79 = .ok (.lstore 10, 2) := by decide +kernel
theorem dX8_putAll_81 : decode cX8_putAll 81 = .ok (.iinc 8 1, 3) := by decide +kernel
theorem dX8_putAll_84 : decode cX8_putAll 84 = .ok (.goto (-44), 3) := by decide +kernel
theorem dX8_putAll_87 : decode cX8_putAll 87 = .ok (.iload 8, 2) := by decide +kernel
theorem dX8_putAll_89 : decode cX8_putAll 89 = .ok (.ireturn, 1) := by decide +kernel
theorem dX8_has_0 : decode cX8_has 0 = .ok (.aload_n 0, 1) := by decide +kernel
theorem dX8_has_1 : decode cX8_has 1 = .ok (.iload_n 1, 1) := by decide +kernel
theorem dX8_has_2 : decode cX8_has 2 = .ok (.invokevirtual 79, 3) := by decide +kernel
theorem dX8_has_5 : decode cX8_has 5 = .ok (.istore_n 3, 1) := by decide +kernel
theorem dX8_has_6 : decode cX8_has 6 = .ok (.aload_n 0, 1) := by decide +kernel
theorem dX8_has_7 : decode cX8_has 7 = .ok (.iload_n 3, 1) := by decide +kernel
theorem dX8_has_8 : decode cX8_has 8 = .ok (.ifCond .ge 7, 3) := by decide +kernel
theorem dX8_has_11 : decode cX8_has 11 = .ok (.iconst 1, 1) := by decide +kernel
theorem dX8_has_12 : decode cX8_has 12 = .ok (.goto 4, 3) := by decide +kernel
theorem dX8_has_15 : decode cX8_has 15 = .ok (.iconst 0, 1) := by decide +kernel
theorem dX8_has_16 : decode cX8_has 16 = .ok (.putfield 37, 3) := by decide +kernel
theorem dX8_has_19 : decode cX8_has 19 = .ok (.aload_n 0, 1) := by decide +kernel
theorem dX8_has_20 : decode cX8_has 20 = .ok (.getfield 37, 3) := by decide +kernel
theorem dX8_has_23 : decode cX8_has 23 = .ok (.ifCond .ne 16, 3) := by decide +kernel
theorem dX8_has_26 : decode cX8_has 26 = .ok (.aload_n 0, 1) := by decide +kernel
theorem dX8_has_27 : decode cX8_has 27 = .ok (.iload_n 3, 1) := by decide +kernel
theorem dX8_has_28 : decode cX8_has 28 = .ok (.iload_n 2, 1) := by decide +kernel
theorem dX8_has_29 : decode cX8_has 29 = .ok (.invokevirtual 45, 3) := by decide +kernel
theorem dX8_has_32 : decode cX8_has 32 = .ok (.ifCond .eq 7, 3) := by decide +kernel
theorem dX8_has_35 : decode cX8_has 35 = .ok (.iconst 1, 1) := by decide +kernel
theorem dX8_has_36 : decode cX8_has 36 = .ok (.goto 4, 3) := by decide +kernel
theorem dX8_has_39 : decode cX8_has 39 = .ok (.iconst 0, 1) := by decide +kernel
theorem dX8_has_40 : decode cX8_has 40 = .ok (.ireturn, 1) := by decide +kernel
theorem dX8_rowOf_0 : decode cX8_rowOf 0 = .ok (.iload_n 1, 1) := by decide +kernel
theorem dX8_rowOf_1 : decode cX8_rowOf 1 = .ok (.iconst (-1), 1) := by decide +kernel
theorem dX8_rowOf_2 : decode cX8_rowOf 2 = .ok (.if_icmp .ne 7, 3) := by decide +kernel
theorem dX8_rowOf_5 : decode cX8_rowOf 5 = .ok (.iconst 4, 1) := by decide +kernel
theorem dX8_rowOf_6 : decode cX8_rowOf 6 = .ok (.goto 26, 3) := by decide +kernel
theorem dX8_rowOf_9 : decode cX8_rowOf 9 = .ok (.iload_n 1, 1) := by decide +kernel
theorem dX8_rowOf_10 : decode cX8_rowOf 10 = .ok (.ifCond .lt 21, 3) := by decide +kernel
theorem dX8_rowOf_13 : decode cX8_rowOf 13 = .ok (.iload_n 1, 1) := by decide +kernel
theorem dX8_rowOf_14 : decode cX8_rowOf 14 = .ok (.iconst 4, 1) := by decide +kernel
theorem dX8_rowOf_15 : decode cX8_rowOf 15 = .ok (.if_icmp .ge 16, 3) := by decide +kernel
theorem dX8_rowOf_18 : decode cX8_rowOf 18 = .ok (.aload_n 0, 1) := by decide +kernel
theorem dX8_rowOf_19 : decode cX8_rowOf 19 = .ok (.getfield 20, 3) := by decide +kernel
theorem dX8_rowOf_22 : decode cX8_rowOf 22 = .ok (.iload_n 1, 1) := by decide +kernel
theorem dX8_rowOf_23 : decode cX8_rowOf 23 = .ok (.baload, 1) := by decide +kernel
theorem dX8_rowOf_24 : decode cX8_rowOf 24 = .ok (.ifCond .eq 7, 3) := by decide +kernel
theorem dX8_rowOf_27 : decode cX8_rowOf 27 = .ok (.iload_n 1, 1) := by decide +kernel
theorem dX8_rowOf_28 : decode cX8_rowOf 28 = .ok (.goto 4, 3) := by decide +kernel
theorem dX8_rowOf_31 : decode cX8_rowOf 31 = .ok (.iconst (-1), 1) := by decide +kernel
theorem dX8_rowOf_32 : decode cX8_rowOf 32 = .ok (.ireturn, 1) := by decide +kernel
theorem dX8_get_0 : decode cX8_get 0 = .ok (.aload_n 0, 1) := by decide +kernel
theorem dX8_get_1 : decode cX8_get 1 = .ok (.iload_n 1, 1) := by decide +kernel
theorem dX8_get_2 : decode cX8_get 2 = .ok (.invokevirtual 79, 3) := by decide +kernel
theorem dX8_get_5 : decode cX8_get 5 = .ok (.istore_n 3, 1) := by decide +kernel
theorem dX8_get_6 : decode cX8_get 6 = .ok (.aload_n 0, 1) := by decide +kernel
theorem dX8_get_7 : decode cX8_get 7 = .ok (.iload_n 3, 1) := by decide +kernel
theorem dX8_get_8 : decode cX8_get 8 = .ok (.ifCond .ge 7, 3) := by decide +kernel
theorem dX8_get_11 : decode cX8_get 11 = .ok (.iconst 1, 1) := by decide +kernel
theorem dX8_get_12 : decode cX8_get 12 = .ok (.goto 4, 3) := by decide +kernel
theorem dX8_get_15 : decode cX8_get 15 = .ok (.iconst 0, 1) := by decide +kernel
theorem dX8_get_16 : decode cX8_get 16 = .ok (.putfield 37, 3) := by decide +kernel
theorem dX8_get_19 : decode cX8_get 19 = .ok (.aload_n 0, 1) := by decide +kernel
theorem dX8_get_20 : decode cX8_get 20 = .ok (.getfield 37, 3) := by decide +kernel
theorem dX8_get_23 : decode cX8_get 23 = .ok (.ifCond .le 7, 3) := by decide +kernel
theorem dX8_get_26 : decode cX8_get 26 = .ok (.lconst 0, 1) := by decide +kernel
theorem dX8_get_27 : decode cX8_get 27 = .ok (.goto 9, 3) := by decide +kernel
theorem dX8_get_30 : decode cX8_get 30 = .ok (.aload_n 0, 1) := by decide +kernel
theorem dX8_get_31 : decode cX8_get 31 = .ok (.iload_n 3, 1) := by decide +kernel
theorem dX8_get_32 : decode cX8_get 32 = .ok (.iload_n 2, 1) := by decide +kernel
theorem dX8_get_33 : decode cX8_get 33 = .ok (.invokevirtual 57, 3) := by decide +kernel
theorem dX8_get_36 : decode cX8_get 36 = .ok (.lreturn, 1) := by decide +kernel
theorem dX8_count_0 : decode cX8_count 0 = .ok (.aload_n 0, 1) := by decide +kernel
theorem dX8_count_1 : decode cX8_count 1 = .ok (.iload_n 1, 1) := by decide +kernel
theorem dX8_count_2 : decode cX8_count 2 = .ok (.invokevirtual 79, 3) := by decide +kernel
theorem dX8_count_5 : decode cX8_count 5 = .ok (.istore 4, 2) := by decide +kernel
theorem dX8_count_7 : decode cX8_count 7 = .ok (.aload_n 0, 1) := by decide +kernel
theorem dX8_count_8 : decode cX8_count 8 = .ok (.iload 4, 2) := by decide +kernel
theorem dX8_count_10 : decode cX8_count 10 = .ok (.ifCond .ge 7, 3) := by decide +kernel
theorem dX8_count_13 : decode cX8_count 13 = .ok (.iconst 1, 1) := by decide +kernel
theorem dX8_count_14 : decode cX8_count 14 = .ok (.goto 13, 3) := by decide +kernel
theorem dX8_count_17 : decode cX8_count 17 = .ok (.iload_n 2, 1) := by decide +kernel
theorem dX8_count_18 : decode cX8_count 18 = .ok (.iload_n 3, 1) := by decide +kernel
theorem dX8_count_19 : decode cX8_count 19 = .ok (.if_icmp .le 7, 3) := by decide +kernel
theorem dX8_count_22 : decode cX8_count 22 = .ok (.iconst 2, 1) := by decide +kernel
theorem dX8_count_23 : decode cX8_count 23 = .ok (.goto 4, 3) := by decide +kernel
theorem dX8_count_26 : decode cX8_count 26 = .ok (.iconst 0, 1) := by decide +kernel
theorem dX8_count_27 : decode cX8_count 27 = .ok (.putfield 37, 3) := by decide +kernel
theorem dX8_count_30 : decode cX8_count 30 = .ok (.aload_n 0, 1) := by decide +kernel
theorem dX8_count_31 : decode cX8_count 31 = .ok (.getfield 37, 3) := by decide +kernel
theorem dX8_count_34 : decode cX8_count 34 = .ok (.ifCond .le 7, 3) := by decide +kernel
theorem dX8_count_37 : decode cX8_count 37 = .ok (.iconst 0, 1) := by decide +kernel
theorem dX8_count_38 : decode cX8_count 38 = .ok (.goto 22, 3) := by decide +kernel
theorem dX8_count_41 : decode cX8_count 41 = .ok (.aload_n 0, 1) := by decide +kernel
theorem dX8_count_42 : decode cX8_count 42 = .ok (.iload 4, 2) := by decide +kernel
theorem dX8_count_44 : decode cX8_count 44 = .ok (.iload_n 3, 1) := by decide +kernel
theorem dX8_count_45 : decode cX8_count 45 = .ok (.i2l, 1) := by decide +kernel
theorem dX8_count_46 : decode cX8_count 46 = .ok (.lconst 1, 1) := by decide +kernel
theorem dX8_count_47 : decode cX8_count 47 = .ok (.ladd, 1) := by decide +kernel
theorem dX8_count_48 : decode cX8_count 48 = .ok (.invokevirtual 41, 3) := by decide +kernel
theorem dX8_count_51 : decode cX8_count 51 = .ok (.aload_n 0, 1) := by decide +kernel
theorem dX8_count_52 : decode cX8_count 52 = .ok (.iload 4, 2) := by decide +kernel
theorem dX8_count_54 : decode cX8_count 54 = .ok (.iload_n 2, 1) := by decide +kernel
theorem dX8_count_55 : decode cX8_count 55 = .ok (.i2l, 1) := by decide +kernel
theorem dX8_count_56 : decode cX8_count 56 = .ok (.invokevirtual 41, 3) := by decide +kernel
theorem dX8_count_59 : decode cX8_count 59 = .ok (.isub, 1) := by decide +kernel
theorem dX8_count_60 : decode cX8_count 60 = .ok (.ireturn, 1) := by decide +kernel
theorem dX8_sum_0 : decode cX8_sum 0 = .ok (.aload_n 0, 1) := by decide +kernel
theorem dX8_sum_1 : decode cX8_sum 1 = .ok (.iload_n 1, 1) := by decide +kernel
theorem dX8_sum_2 : decode cX8_sum 2 = .ok (.invokevirtual 79, 3) := by decide +kernel
theorem dX8_sum_5 : decode cX8_sum 5 = .ok (.istore 4, 2) := by decide +kernel
theorem dX8_sum_7 : decode cX8_sum 7 = .ok (.aload_n 0, 1) := by decide +kernel
theorem dX8_sum_8 : decode cX8_sum 8 = .ok (.iload 4, 2) := by decide +kernel
theorem dX8_sum_10 : decode cX8_sum 10 = .ok (.ifCond .ge 7, 3) := by decide +kernel
theorem dX8_sum_13 : decode cX8_sum 13 = .ok (.iconst 1, 1) := by decide +kernel
theorem dX8_sum_14 : decode cX8_sum 14 = .ok (.goto 13, 3) := by decide +kernel
theorem dX8_sum_17 : decode cX8_sum 17 = .ok (.iload_n 2, 1) := by decide +kernel
theorem dX8_sum_18 : decode cX8_sum 18 = .ok (.iload_n 3, 1) := by decide +kernel
theorem dX8_sum_19 : decode cX8_sum 19 = .ok (.if_icmp .le 7, 3) := by decide +kernel
theorem dX8_sum_22 : decode cX8_sum 22 = .ok (.iconst 2, 1) := by decide +kernel
theorem dX8_sum_23 : decode cX8_sum 23 = .ok (.goto 4, 3) := by decide +kernel
theorem dX8_sum_26 : decode cX8_sum 26 = .ok (.iconst 0, 1) := by decide +kernel
theorem dX8_sum_27 : decode cX8_sum 27 = .ok (.putfield 37, 3) := by decide +kernel
theorem dX8_sum_30 : decode cX8_sum 30 = .ok (.lconst 0, 1) := by decide +kernel
theorem dX8_sum_31 : decode cX8_sum 31 = .ok (.lstore 5, 2) := by decide +kernel
theorem dX8_sum_33 : decode cX8_sum 33 = .ok (.iconst 0, 1) := by decide +kernel
theorem dX8_sum_34 : decode cX8_sum 34 = .ok (.istore 7, 2) := by decide +kernel
theorem dX8_sum_36 : decode cX8_sum 36 = .ok (.aload_n 0, 1) := by decide +kernel
theorem dX8_sum_37 : decode cX8_sum 37 = .ok (.getfield 37, 3) := by decide +kernel
theorem dX8_sum_40 : decode cX8_sum 40 = .ok (.ifCond .ne 73, 3) := by decide +kernel
theorem dX8_sum_43 : decode cX8_sum 43 = .ok (.iload 7, 2) := by decide +kernel
theorem dX8_sum_45 : decode cX8_sum 45 = .ok (.aload_n 0, 1) := by decide +kernel
theorem dX8_sum_46 : decode cX8_sum 46 = .ok (.getfield 17, 3) := by decide +kernel
theorem dX8_sum_49 : decode cX8_sum 49 = .ok (.iload 4, 2) := by decide +kernel
theorem dX8_sum_51 : decode cX8_sum 51 = .ok (.iaload, 1) := by decide +kernel
theorem dX8_sum_52 : decode cX8_sum 52 = .ok (.if_icmp .ge 61, 3) := by decide +kernel
theorem dX8_sum_55 : decode cX8_sum 55 = .ok (.aload_n 0, 1) := by decide +kernel
theorem dX8_sum_56 : decode cX8_sum 56 = .ok (.getfield 7, 3) := by decide +kernel
theorem dX8_sum_59 : decode cX8_sum 59 = .ok (.sipush 600, 3) := by decide +kernel
theorem dX8_sum_62 : decode cX8_sum 62 = .ok (.iload 4, 2) := by decide +kernel
theorem dX8_sum_64 : decode cX8_sum 64 = .ok (.imul, 1) := by decide +kernel
theorem dX8_sum_65 : decode cX8_sum 65 = .ok (.iload 7, 2) := by decide +kernel
theorem dX8_sum_67 : decode cX8_sum 67 = .ok (.iadd, 1) := by decide +kernel
theorem dX8_sum_68 : decode cX8_sum 68 = .ok (.iaload, 1) := by decide +kernel
theorem dX8_sum_69 : decode cX8_sum 69 = .ok (.istore 8, 2) := by decide +kernel
theorem dX8_sum_71 : decode cX8_sum 71 = .ok (.iload 8, 2) := by decide +kernel
theorem dX8_sum_73 : decode cX8_sum 73 = .ok (.iload_n 2, 1) := by decide +kernel
theorem dX8_sum_74 : decode cX8_sum 74 = .ok (.if_icmp .lt 29, 3) := by decide +kernel
theorem dX8_sum_77 : decode cX8_sum 77 = .ok (.iload 8, 2) := by decide +kernel
theorem dX8_sum_79 : decode cX8_sum 79 = .ok (.iload_n 3, 1) := by decide +kernel
theorem dX8_sum_80 : decode cX8_sum 80 = .ok (.if_icmp .gt 23, 3) := by decide +kernel
theorem dX8_sum_83 : decode cX8_sum 83 = .ok (.lload 5, 2) := by decide +kernel
theorem dX8_sum_85 : decode cX8_sum 85 = .ok (.aload_n 0, 1) := by decide +kernel
theorem dX8_sum_86 : decode cX8_sum 86 = .ok (.getfield 13, 3) := by decide +kernel
theorem dX8_sum_89 : decode cX8_sum 89 = .ok (.sipush 600, 3) := by decide +kernel
theorem dX8_sum_92 : decode cX8_sum 92 = .ok (.iload 4, 2) := by decide +kernel
theorem dX8_sum_94 : decode cX8_sum 94 = .ok (.imul, 1) := by decide +kernel
theorem dX8_sum_95 : decode cX8_sum 95 = .ok (.iload 7, 2) := by decide +kernel
theorem dX8_sum_97 : decode cX8_sum 97 = .ok (.iadd, 1) := by decide +kernel
theorem dX8_sum_98 : decode cX8_sum 98 = .ok (.laload, 1) := by decide +kernel
theorem dX8_sum_99 : decode cX8_sum 99 = .ok (.ladd, 1) := by decide +kernel
theorem dX8_sum_100 : decode cX8_sum 100 = .ok (.goto 5, 3) := by decide +kernel
theorem dX8_sum_103 : decode cX8_sum 103 = .ok (.lload 5, 2) := by decide +kernel
theorem dX8_sum_105 : decode cX8_sum 105 = .ok (.lstore 5, 2) := by decide +kernel
theorem dX8_sum_107 : decode cX8_sum 107 = .ok (.iinc 7 1, 3) := by decide +kernel
theorem dX8_sum_110 : decode cX8_sum 110 = .ok (.goto (-74), 3) := by decide +kernel
theorem dX8_sum_113 : decode cX8_sum 113 = .ok (.lload 5, 2) := by decide +kernel
theorem dX8_sum_115 : decode cX8_sum 115 = .ok (.lreturn, 1) := by decide +kernel
theorem dX8_key_0 : decode cX8_key 0 = .ok (.aload_n 0, 1) := by decide +kernel
theorem dX8_key_1 : decode cX8_key 1 = .ok (.iload_n 1, 1) := by decide +kernel
theorem dX8_key_2 : decode cX8_key 2 = .ok (.invokevirtual 79, 3) := by decide +kernel
theorem dX8_key_5 : decode cX8_key 5 = .ok (.istore 4, 2) := by decide +kernel
theorem dX8_key_7 : decode cX8_key 7 = .ok (.aload_n 0, 1) := by decide +kernel
theorem dX8_key_8 : decode cX8_key 8 = .ok (.iload 4, 2) := by decide +kernel
theorem dX8_key_10 : decode cX8_key 10 = .ok (.ifCond .ge 7, 3) := by decide +kernel
theorem dX8_key_13 : decode cX8_key 13 = .ok (.iconst 1, 1) := by decide +kernel
theorem dX8_key_14 : decode cX8_key 14 = .ok (.goto 32, 3) := by decide +kernel
theorem dX8_key_17 : decode cX8_key 17 = .ok (.iload_n 3, 1) := by decide +kernel
theorem dX8_key_18 : decode cX8_key 18 = .ok (.ifCond .lt 23, 3) := by decide +kernel
theorem dX8_key_21 : decode cX8_key 21 = .ok (.iload_n 3, 1) := by decide +kernel
theorem dX8_key_22 : decode cX8_key 22 = .ok (.aload_n 0, 1) := by decide +kernel
theorem dX8_key_23 : decode cX8_key 23 = .ok (.getfield 17, 3) := by decide +kernel
theorem dX8_key_26 : decode cX8_key 26 = .ok (.iload 4, 2) := by decide +kernel
theorem dX8_key_28 : decode cX8_key 28 = .ok (.iaload, 1) := by decide +kernel
theorem dX8_key_29 : decode cX8_key 29 = .ok (.aload_n 0, 1) := by decide +kernel
theorem dX8_key_30 : decode cX8_key 30 = .ok (.iload 4, 2) := by decide +kernel
theorem dX8_key_32 : decode cX8_key 32 = .ok (.iload_n 2, 1) := by decide +kernel
theorem dX8_key_33 : decode cX8_key 33 = .ok (.i2l, 1) := by decide +kernel
theorem dX8_key_34 : decode cX8_key 34 = .ok (.invokevirtual 41, 3) := by decide +kernel
theorem dX8_key_37 : decode cX8_key 37 = .ok (.isub, 1) := by decide +kernel
theorem dX8_key_38 : decode cX8_key 38 = .ok (.if_icmp .lt 7, 3) := by decide +kernel
theorem dX8_key_41 : decode cX8_key 41 = .ok (.iconst 2, 1) := by decide +kernel
theorem dX8_key_42 : decode cX8_key 42 = .ok (.goto 4, 3) := by decide +kernel
theorem dX8_key_45 : decode cX8_key 45 = .ok (.iconst 0, 1) := by decide +kernel
theorem dX8_key_46 : decode cX8_key 46 = .ok (.putfield 37, 3) := by decide +kernel
theorem dX8_key_49 : decode cX8_key 49 = .ok (.aload_n 0, 1) := by decide +kernel
theorem dX8_key_50 : decode cX8_key 50 = .ok (.getfield 37, 3) := by decide +kernel
theorem dX8_key_53 : decode cX8_key 53 = .ok (.ifCond .le 7, 3) := by decide +kernel
theorem dX8_key_56 : decode cX8_key 56 = .ok (.iconst 0, 1) := by decide +kernel
theorem dX8_key_57 : decode cX8_key 57 = .ok (.goto 25, 3) := by decide +kernel
theorem dX8_key_60 : decode cX8_key 60 = .ok (.aload_n 0, 1) := by decide +kernel
theorem dX8_key_61 : decode cX8_key 61 = .ok (.getfield 7, 3) := by decide +kernel
theorem dX8_key_64 : decode cX8_key 64 = .ok (.sipush 600, 3) := by decide +kernel
theorem dX8_key_67 : decode cX8_key 67 = .ok (.iload 4, 2) := by decide +kernel
theorem dX8_key_69 : decode cX8_key 69 = .ok (.imul, 1) := by decide +kernel
theorem dX8_key_70 : decode cX8_key 70 = .ok (.aload_n 0, 1) := by decide +kernel
theorem dX8_key_71 : decode cX8_key 71 = .ok (.iload 4, 2) := by decide +kernel
theorem dX8_key_73 : decode cX8_key 73 = .ok (.iload_n 2, 1) := by decide +kernel
theorem dX8_key_74 : decode cX8_key 74 = .ok (.i2l, 1) := by decide +kernel
theorem dX8_key_75 : decode cX8_key 75 = .ok (.invokevirtual 41, 3) := by decide +kernel
theorem dX8_key_78 : decode cX8_key 78 = .ok (.iadd, 1) := by decide +kernel
theorem dX8_key_79 : decode cX8_key 79 = .ok (.iload_n 3, 1) := by decide +kernel
theorem dX8_key_80 : decode cX8_key 80 = .ok (.iadd, 1) := by decide +kernel
theorem dX8_key_81 : decode cX8_key 81 = .ok (.iaload, 1) := by decide +kernel
theorem dX8_key_82 : decode cX8_key 82 = .ok (.ireturn, 1) := by decide +kernel
theorem dX8_save_0 : decode cX8_save 0 = .ok (.aload_n 0, 1) := by decide +kernel
theorem dX8_save_1 : decode cX8_save 1 = .ok (.iload_n 1, 1) := by decide +kernel
theorem dX8_save_2 : decode cX8_save 2 = .ok (.invokestatic 83, 3) := by decide +kernel
theorem dX8_save_5 : decode cX8_save 5 = .ok (.ifCond .eq 7, 3) := by decide +kernel
theorem dX8_save_8 : decode cX8_save 8 = .ok (.iconst 0, 1) := by decide +kernel
theorem dX8_save_9 : decode cX8_save 9 = .ok (.goto 4, 3) := by decide +kernel
theorem dX8_save_12 : decode cX8_save 12 = .ok (.iconst 1, 1) := by decide +kernel
theorem dX8_save_13 : decode cX8_save 13 = .ok (.putfield 37, 3) := by decide +kernel
theorem dX8_save_16 : decode cX8_save 16 = .ok (.aload_n 0, 1) := by decide +kernel
theorem dX8_save_17 : decode cX8_save 17 = .ok (.getfield 37, 3) := by decide +kernel
theorem dX8_save_20 : decode cX8_save 20 = .ok (.ifCond .le 4, 3) := by decide +kernel
theorem dX8_save_23 : decode cX8_save 23 = .ok (.return_, 1) := by decide +kernel
theorem dX8_save_24 : decode cX8_save 24 = .ok (.aload_n 0, 1) := by decide +kernel
theorem dX8_save_25 : decode cX8_save 25 = .ok (.getfield 20, 3) := by decide +kernel
theorem dX8_save_28 : decode cX8_save 28 = .ok (.iload_n 1, 1) := by decide +kernel
theorem dX8_save_29 : decode cX8_save 29 = .ok (.iconst 1, 1) := by decide +kernel
theorem dX8_save_30 : decode cX8_save 30 = .ok (.bastore, 1) := by decide +kernel
theorem dX8_save_31 : decode cX8_save 31 = .ok (.aload_n 0, 1) := by decide +kernel
theorem dX8_save_32 : decode cX8_save 32 = .ok (.getfield 17, 3) := by decide +kernel
theorem dX8_save_35 : decode cX8_save 35 = .ok (.iload_n 1, 1) := by decide +kernel
theorem dX8_save_36 : decode cX8_save 36 = .ok (.aload_n 0, 1) := by decide +kernel
theorem dX8_save_37 : decode cX8_save 37 = .ok (.getfield 17, 3) := by decide +kernel
theorem dX8_save_40 : decode cX8_save 40 = .ok (.iconst 4, 1) := by decide +kernel
theorem dX8_save_41 : decode cX8_save 41 = .ok (.iaload, 1) := by decide +kernel
theorem dX8_save_42 : decode cX8_save 42 = .ok (.iastore, 1) := by decide +kernel
theorem dX8_save_43 : decode cX8_save 43 = .ok (.iconst 0, 1) := by decide +kernel
theorem dX8_save_44 : decode cX8_save 44 = .ok (.istore_n 2, 1) := by decide +kernel
theorem dX8_save_45 : decode cX8_save 45 = .ok (.iload_n 2, 1) := by decide +kernel
theorem dX8_save_46 : decode cX8_save 46 = .ok (.aload_n 0, 1) := by decide +kernel
theorem dX8_save_47 : decode cX8_save 47 = .ok (.getfield 17, 3) := by decide +kernel
theorem dX8_save_50 : decode cX8_save 50 = .ok (.iconst 4, 1) := by decide +kernel
theorem dX8_save_51 : decode cX8_save 51 = .ok (.iaload, 1) := by decide +kernel
theorem dX8_save_52 : decode cX8_save 52 = .ok (.if_icmp .ge 53, 3) := by decide +kernel
theorem dX8_save_55 : decode cX8_save 55 = .ok (.aload_n 0, 1) := by decide +kernel
theorem dX8_save_56 : decode cX8_save 56 = .ok (.getfield 7, 3) := by decide +kernel
theorem dX8_save_59 : decode cX8_save 59 = .ok (.sipush 600, 3) := by decide +kernel
theorem dX8_save_62 : decode cX8_save 62 = .ok (.iload_n 1, 1) := by decide +kernel
theorem dX8_save_63 : decode cX8_save 63 = .ok (.imul, 1) := by decide +kernel
theorem dX8_save_64 : decode cX8_save 64 = .ok (.iload_n 2, 1) := by decide +kernel
theorem dX8_save_65 : decode cX8_save 65 = .ok (.iadd, 1) := by decide +kernel
theorem dX8_save_66 : decode cX8_save 66 = .ok (.aload_n 0, 1) := by decide +kernel
theorem dX8_save_67 : decode cX8_save 67 = .ok (.getfield 7, 3) := by decide +kernel
theorem dX8_save_70 : decode cX8_save 70 = .ok (.sipush 2400, 3) := by decide +kernel
theorem dX8_save_73 : decode cX8_save 73 = .ok (.iload_n 2, 1) := by decide +kernel
theorem dX8_save_74 : decode cX8_save 74 = .ok (.iadd, 1) := by decide +kernel
theorem dX8_save_75 : decode cX8_save 75 = .ok (.iaload, 1) := by decide +kernel
theorem dX8_save_76 : decode cX8_save 76 = .ok (.iastore, 1) := by decide +kernel
theorem dX8_save_77 : decode cX8_save 77 = .ok (.aload_n 0, 1) := by decide +kernel
theorem dX8_save_78 : decode cX8_save 78 = .ok (.getfield 13, 3) := by decide +kernel
theorem dX8_save_81 : decode cX8_save 81 = .ok (.sipush 600, 3) := by decide +kernel
theorem dX8_save_84 : decode cX8_save 84 = .ok (.iload_n 1, 1) := by decide +kernel
theorem dX8_save_85 : decode cX8_save 85 = .ok (.imul, 1) := by decide +kernel
theorem dX8_save_86 : decode cX8_save 86 = .ok (.iload_n 2, 1) := by decide +kernel
theorem dX8_save_87 : decode cX8_save 87 = .ok (.iadd, 1) := by decide +kernel
theorem dX8_save_88 : decode cX8_save 88 = .ok (.aload_n 0, 1) := by decide +kernel
theorem dX8_save_89 : decode cX8_save 89 = .ok (.getfield 13, 3) := by decide +kernel
theorem dX8_save_92 : decode cX8_save 92 = .ok (.sipush 2400, 3) := by decide +kernel
theorem dX8_save_95 : decode cX8_save 95 = .ok (.iload_n 2, 1) := by decide +kernel
theorem dX8_save_96 : decode cX8_save 96 = .ok (.iadd, 1) := by decide +kernel
theorem dX8_save_97 : decode cX8_save 97 = .ok (.laload, 1) := by decide +kernel
theorem dX8_save_98 : decode cX8_save 98 = .ok (.lastore, 1) := by decide +kernel
theorem dX8_save_99 : decode cX8_save 99 = .ok (.iinc 2 1, 3) := by decide +kernel
theorem dX8_save_102 : decode cX8_save 102 = .ok (.goto (-57), 3) := by decide +kernel
theorem dX8_save_105 : decode cX8_save 105 = .ok (.return_, 1) := by decide +kernel
theorem dX8_isView_0 : decode cX8_isView 0 = .ok (.iload_n 0, 1) := by decide +kernel
theorem dX8_isView_1 : decode cX8_isView 1 = .ok (.ifCond .lt 12, 3) := by decide +kernel
theorem dX8_isView_4 : decode cX8_isView 4 = .ok (.iload_n 0, 1) := by decide +kernel
theorem dX8_isView_5 : decode cX8_isView 5 = .ok (.iconst 4, 1) := by decide +kernel
theorem dX8_isView_6 : decode cX8_isView 6 = .ok (.if_icmp .ge 7, 3) := by decide +kernel
theorem dX8_isView_9 : decode cX8_isView 9 = .ok (.iconst 1, 1) := by decide +kernel
theorem dX8_isView_10 : decode cX8_isView 10 = .ok (.goto 4, 3) := by decide +kernel
theorem dX8_isView_13 : decode cX8_isView 13 = .ok (.iconst 0, 1) := by decide +kernel
theorem dX8_isView_14 : decode cX8_isView 14 = .ok (.ireturn, 1) := by decide +kernel
theorem dX8_drop_0 : decode cX8_drop 0 = .ok (.aload_n 0, 1) := by decide +kernel
theorem dX8_drop_1 : decode cX8_drop 1 = .ok (.iload_n 1, 1) := by decide +kernel
theorem dX8_drop_2 : decode cX8_drop 2 = .ok (.invokestatic 83, 3) := by decide +kernel
theorem dX8_drop_5 : decode cX8_drop 5 = .ok (.ifCond .eq 7, 3) := by decide +kernel
theorem dX8_drop_8 : decode cX8_drop 8 = .ok (.iconst 0, 1) := by decide +kernel
theorem dX8_drop_9 : decode cX8_drop 9 = .ok (.goto 4, 3) := by decide +kernel
theorem dX8_drop_12 : decode cX8_drop 12 = .ok (.iconst 1, 1) := by decide +kernel
theorem dX8_drop_13 : decode cX8_drop 13 = .ok (.putfield 37, 3) := by decide +kernel
theorem dX8_drop_16 : decode cX8_drop 16 = .ok (.aload_n 0, 1) := by decide +kernel
theorem dX8_drop_17 : decode cX8_drop 17 = .ok (.getfield 37, 3) := by decide +kernel
theorem dX8_drop_20 : decode cX8_drop 20 = .ok (.ifCond .le 5, 3) := by decide +kernel
theorem dX8_drop_23 : decode cX8_drop 23 = .ok (.iconst 0, 1) := by decide +kernel
theorem dX8_drop_24 : decode cX8_drop 24 = .ok (.ireturn, 1) := by decide +kernel
theorem dX8_drop_25 : decode cX8_drop 25 = .ok (.aload_n 0, 1) := by decide +kernel
theorem dX8_drop_26 : decode cX8_drop 26 = .ok (.getfield 20, 3) := by decide +kernel
theorem dX8_drop_29 : decode cX8_drop 29 = .ok (.iload_n 1, 1) := by decide +kernel
theorem dX8_drop_30 : decode cX8_drop 30 = .ok (.baload, 1) := by decide +kernel
theorem dX8_drop_31 : decode cX8_drop 31 = .ok (.istore_n 2, 1) := by decide +kernel
theorem dX8_drop_32 : decode cX8_drop 32 = .ok (.aload_n 0, 1) := by decide +kernel
theorem dX8_drop_33 : decode cX8_drop 33 = .ok (.getfield 20, 3) := by decide +kernel
theorem dX8_drop_36 : decode cX8_drop 36 = .ok (.iload_n 1, 1) := by decide +kernel
theorem dX8_drop_37 : decode cX8_drop 37 = .ok (.iconst 0, 1) := by decide +kernel
theorem dX8_drop_38 : decode cX8_drop 38 = .ok (.bastore, 1) := by decide +kernel
theorem dX8_drop_39 : decode cX8_drop 39 = .ok (.iload_n 2, 1) := by decide +kernel
theorem dX8_drop_40 : decode cX8_drop 40 = .ok (.ireturn, 1) := by decide +kernel
theorem dX8_restore_0 : decode cX8_restore 0 = .ok (.iload_n 1, 1) := by decide +kernel
theorem dX8_restore_1 : decode cX8_restore 1 = .ok (.invokestatic 83, 3) := by decide +kernel
theorem dX8_restore_4 : decode cX8_restore 4 = .ok (.ifCond .eq 16, 3) := by decide +kernel
theorem dX8_restore_7 : decode cX8_restore 7 = .ok (.aload_n 0, 1) := by decide +kernel
theorem dX8_restore_8 : decode cX8_restore 8 = .ok (.getfield 20, 3) := by decide +kernel
theorem dX8_restore_11 : decode cX8_restore 11 = .ok (.iload_n 1, 1) := by decide +kernel
theorem dX8_restore_12 : decode cX8_restore 12 = .ok (.baload, 1) := by decide +kernel
theorem dX8_restore_13 : decode cX8_restore 13 = .ok (.ifCond .eq 7, 3) := by decide +kernel
theorem dX8_restore_16 : decode cX8_restore 16 = .ok (.iconst 1, 1) := by decide +kernel
theorem dX8_restore_17 : decode cX8_restore 17 = .ok (.goto 4, 3) := by decide +kernel
theorem dX8_restore_20 : decode cX8_restore 20 = .ok (.iconst 0, 1) := by decide +kernel
theorem dX8_restore_21 : decode cX8_restore 21 = .ok (.istore_n 2, 1) := by decide +kernel
theorem dX8_restore_22 : decode cX8_restore 22 = .ok (.aload_n 0, 1) := by decide +kernel
theorem dX8_restore_23 : decode cX8_restore 23 = .ok (.iload_n 2, 1) := by decide +kernel
theorem dX8_restore_24 : decode cX8_restore 24 = .ok (.ifCond .ne 7, 3) := by decide +kernel
theorem dX8_restore_27 : decode cX8_restore 27 = .ok (.iconst 1, 1) := by decide +kernel
theorem dX8_restore_28 : decode cX8_restore 28 = .ok (.goto 27, 3) := by decide +kernel
theorem dX8_restore_31 : decode cX8_restore 31 = .ok (.aload_n 0, 1) := by decide +kernel
theorem dX8_restore_32 : decode cX8_restore 32 = .ok (.getfield 65, 3) := by decide +kernel
theorem dX8_restore_35 : decode cX8_restore 35 = .ok (.iconst 1, 1) := by decide +kernel
theorem dX8_restore_36 : decode cX8_restore 36 = .ok (.iadd, 1) := by decide +kernel
theorem dX8_restore_37 : decode cX8_restore 37 = .ok (.aload_n 0, 1) := by decide +kernel
theorem dX8_restore_38 : decode cX8_restore 38 = .ok (.getfield 17, 3) := by decide +kernel
theorem dX8_restore_41 : decode cX8_restore 41 = .ok (.iload_n 1, 1) := by decide +kernel
theorem dX8_restore_42 : decode cX8_restore 42 = .ok (.iaload, 1) := by decide +kernel
theorem dX8_restore_43 : decode cX8_restore 43 = .ok (.iadd, 1) := by decide +kernel
theorem dX8_restore_44 : decode cX8_restore 44 = .ok (.sipush 2500, 3) := by decide +kernel
theorem dX8_restore_47 : decode cX8_restore 47 = .ok (.if_icmp .le 7, 3) := by decide +kernel
theorem dX8_restore_50 : decode cX8_restore 50 = .ok (.iconst 2, 1) := by decide +kernel
theorem dX8_restore_51 : decode cX8_restore 51 = .ok (.goto 4, 3) := by decide +kernel
theorem dX8_restore_54 : decode cX8_restore 54 = .ok (.iconst 0, 1) := by decide +kernel
theorem dX8_restore_55 : decode cX8_restore 55 = .ok (.putfield 37, 3) := by decide +kernel
theorem dX8_restore_58 : decode cX8_restore 58 = .ok (.aload_n 0, 1) := by decide +kernel
theorem dX8_restore_59 : decode cX8_restore 59 = .ok (.getfield 37, 3) := by decide +kernel
theorem dX8_restore_62 : decode cX8_restore 62 = .ok (.ifCond .le 5, 3) := by decide +kernel
theorem dX8_restore_65 : decode cX8_restore 65 = .ok (.iconst 0, 1) := by decide +kernel
theorem dX8_restore_66 : decode cX8_restore 66 = .ok (.ireturn, 1) := by decide +kernel
theorem dX8_restore_67 : decode cX8_restore 67 = .ok (.aload_n 0, 1) := by decide +kernel
theorem dX8_restore_68 : decode cX8_restore 68 = .ok (.iconst 3, 1) := by decide +kernel
theorem dX8_restore_69 : decode cX8_restore 69 = .ok (.ldc 86, 2) := by decide +kernel
theorem dX8_restore_71 : decode cX8_restore 71 = .ok (.ldc 87, 2) := by decide +kernel
theorem dX8_restore_73 : decode cX8_restore 73 = .ok (.lconst 0, 1) := by decide +kernel
theorem dX8_restore_74 : decode cX8_restore 74 = .ok (.invokevirtual 76, 3) := by decide +kernel
theorem dX8_restore_77 : decode cX8_restore 77 = .ok (.pop2, 1) := by decide +kernel
theorem dX8_restore_78 : decode cX8_restore 78 = .ok (.iconst 0, 1) := by decide +kernel
theorem dX8_restore_79 : decode cX8_restore 79 = .ok (.istore_n 3, 1) := by decide +kernel
theorem dX8_restore_80 : decode cX8_restore 80 = .ok (.iload_n 3, 1) := by decide +kernel
theorem dX8_restore_81 : decode cX8_restore 81 = .ok (.aload_n 0, 1) := by decide +kernel
theorem dX8_restore_82 : decode cX8_restore 82 = .ok (.getfield 17, 3) := by decide +kernel
theorem dX8_restore_85 : decode cX8_restore 85 = .ok (.iload_n 1, 1) := by decide +kernel
theorem dX8_restore_86 : decode cX8_restore 86 = .ok (.iaload, 1) := by decide +kernel
theorem dX8_restore_87 : decode cX8_restore 87 = .ok (.if_icmp .ge 51, 3) := by decide +kernel
theorem dX8_restore_90 : decode cX8_restore 90 = .ok (.aload_n 0, 1) := by decide +kernel
theorem dX8_restore_91 : decode cX8_restore 91 = .ok (.iconst 0, 1) := by decide +kernel
theorem dX8_restore_92 : decode cX8_restore 92 = .ok (.aload_n 0, 1) := by decide +kernel
theorem dX8_restore_93 : decode cX8_restore 93 = .ok (.getfield 7, 3) := by decide +kernel
theorem dX8_restore_96 : decode cX8_restore 96 = .ok (.sipush 600, 3) := by decide +kernel
theorem dX8_restore_99 : decode cX8_restore 99 = .ok (.iload_n 1, 1) := by decide +kernel
theorem dX8_restore_100 : decode cX8_restore 100 = .ok (.imul, 1) := by decide +kernel
theorem dX8_restore_101 : decode cX8_restore 101 = .ok (.iload_n 3, 1) := by decide +kernel
theorem dX8_restore_102 : decode cX8_restore 102 = .ok (.iadd, 1) := by decide +kernel
theorem dX8_restore_103 : decode cX8_restore 103 = .ok (.iaload, 1) := by decide +kernel
theorem dX8_restore_104 : decode cX8_restore 104 = .ok (.aload_n 0, 1) := by decide +kernel
theorem dX8_restore_105 : decode cX8_restore 105 = .ok (.getfield 7, 3) := by decide +kernel
theorem dX8_restore_108 : decode cX8_restore 108 = .ok (.sipush 600, 3) := by decide +kernel
theorem dX8_restore_111 : decode cX8_restore 111 = .ok (.iload_n 1, 1) := by decide +kernel
theorem dX8_restore_112 : decode cX8_restore 112 = .ok (.imul, 1) := by decide +kernel
theorem dX8_restore_113 : decode cX8_restore 113 = .ok (.iload_n 3, 1) := by decide +kernel
theorem dX8_restore_114 : decode cX8_restore 114 = .ok (.iadd, 1) := by decide +kernel
theorem dX8_restore_115 : decode cX8_restore 115 = .ok (.iaload, 1) := by decide +kernel
theorem dX8_restore_116 : decode cX8_restore 116 = .ok (.aload_n 0, 1) := by decide +kernel
theorem dX8_restore_117 : decode cX8_restore 117 = .ok (.getfield 13, 3) := by decide +kernel
theorem dX8_restore_120 : decode cX8_restore 120 = .ok (.sipush 600, 3) := by decide +kernel
theorem dX8_restore_123 : decode cX8_restore 123 = .ok (.iload_n 1, 1) := by decide +kernel
theorem dX8_restore_124 : decode cX8_restore 124 = .ok (.imul, 1) := by decide +kernel
theorem dX8_restore_125 : decode cX8_restore 125 = .ok (.iload_n 3, 1) := by decide +kernel
theorem dX8_restore_126 : decode cX8_restore 126 = .ok (.iadd, 1) := by decide +kernel
theorem dX8_restore_127 : decode cX8_restore 127 = .ok (.laload, 1) := by decide +kernel
theorem dX8_restore_128 : decode cX8_restore 128 = .ok (.invokevirtual 76, 3) := by decide +kernel
theorem dX8_restore_131 : decode cX8_restore 131 = .ok (.pop2, 1) := by decide +kernel
theorem dX8_restore_132 : decode cX8_restore 132 = .ok (.iinc 3 1, 3) := by decide +kernel
theorem dX8_restore_135 : decode cX8_restore 135 = .ok (.goto (-55), 3) := by decide +kernel
theorem dX8_restore_138 : decode cX8_restore 138 = .ok (.aload_n 0, 1) := by decide +kernel
theorem dX8_restore_139 : decode cX8_restore 139 = .ok (.getfield 65, 3) := by decide +kernel
theorem dX8_restore_142 : decode cX8_restore 142 = .ok (.ireturn, 1) := by decide +kernel
theorem dX8_differ_0 : decode cX8_differ 0 = .ok (.aload_n 0, 1) := by decide +kernel
theorem dX8_differ_1 : decode cX8_differ 1 = .ok (.iload_n 1, 1) := by decide +kernel
theorem dX8_differ_2 : decode cX8_differ 2 = .ok (.invokevirtual 79, 3) := by decide +kernel
theorem dX8_differ_5 : decode cX8_differ 5 = .ok (.istore_n 3, 1) := by decide +kernel
theorem dX8_differ_6 : decode cX8_differ 6 = .ok (.aload_n 0, 1) := by decide +kernel
theorem dX8_differ_7 : decode cX8_differ 7 = .ok (.iload_n 2, 1) := by decide +kernel
theorem dX8_differ_8 : decode cX8_differ 8 = .ok (.invokevirtual 79, 3) := by decide +kernel
theorem dX8_differ_11 : decode cX8_differ 11 = .ok (.istore 4, 2) := by decide +kernel
theorem dX8_differ_13 : decode cX8_differ 13 = .ok (.aload_n 0, 1) := by decide +kernel
theorem dX8_differ_14 : decode cX8_differ 14 = .ok (.iload_n 3, 1) := by decide +kernel
theorem dX8_differ_15 : decode cX8_differ 15 = .ok (.ifCond .lt 8, 3) := by decide +kernel
theorem dX8_differ_18 : decode cX8_differ 18 = .ok (.iload 4, 2) := by decide +kernel
theorem dX8_differ_20 : decode cX8_differ 20 = .ok (.ifCond .ge 7, 3) := by decide +kernel
theorem dX8_differ_23 : decode cX8_differ 23 = .ok (.iconst 1, 1) := by decide +kernel
theorem dX8_differ_24 : decode cX8_differ 24 = .ok (.goto 4, 3) := by decide +kernel
theorem dX8_differ_27 : decode cX8_differ 27 = .ok (.iconst 0, 1) := by decide +kernel
theorem dX8_differ_28 : decode cX8_differ 28 = .ok (.putfield 37, 3) := by decide +kernel
theorem dX8_differ_31 : decode cX8_differ 31 = .ok (.aload_n 0, 1) := by decide +kernel
theorem dX8_differ_32 : decode cX8_differ 32 = .ok (.getfield 37, 3) := by decide +kernel
theorem dX8_differ_35 : decode cX8_differ 35 = .ok (.ifCond .le 5, 3) := by decide +kernel
theorem dX8_differ_38 : decode cX8_differ 38 = .ok (.iconst 0, 1) := by decide +kernel
theorem dX8_differ_39 : decode cX8_differ 39 = .ok (.ireturn, 1) := by decide +kernel
theorem dX8_differ_40 : decode cX8_differ 40 = .ok (.iconst 0, 1) := by decide +kernel
theorem dX8_differ_41 : decode cX8_differ 41 = .ok (.istore 5, 2) := by decide +kernel
theorem dX8_differ_43 : decode cX8_differ 43 = .ok (.iconst 0, 1) := by decide +kernel
theorem dX8_differ_44 : decode cX8_differ 44 = .ok (.istore 6, 2) := by decide +kernel
theorem dX8_differ_46 : decode cX8_differ 46 = .ok (.iload 6, 2) := by decide +kernel
theorem dX8_differ_48 : decode cX8_differ 48 = .ok (.aload_n 0, 1) := by decide +kernel
theorem dX8_differ_49 : decode cX8_differ 49 = .ok (.getfield 17, 3) := by decide +kernel
theorem dX8_differ_52 : decode cX8_differ 52 = .ok (.iload_n 3, 1) := by decide +kernel
theorem dX8_differ_53 : decode cX8_differ 53 = .ok (.iaload, 1) := by decide +kernel
theorem dX8_differ_54 : decode cX8_differ 54 = .ok (.if_icmp .ge 71, 3) := by decide +kernel
theorem dX8_differ_57 : decode cX8_differ 57 = .ok (.aload_n 0, 1) := by decide +kernel
theorem dX8_differ_58 : decode cX8_differ 58 = .ok (.getfield 7, 3) := by decide +kernel
theorem dX8_differ_61 : decode cX8_differ 61 = .ok (.sipush 600, 3) := by decide +kernel
theorem dX8_differ_64 : decode cX8_differ 64 = .ok (.iload_n 3, 1) := by decide +kernel
theorem dX8_differ_65 : decode cX8_differ 65 = .ok (.imul, 1) := by decide +kernel
theorem dX8_differ_66 : decode cX8_differ 66 = .ok (.iload 6, 2) := by decide +kernel
theorem dX8_differ_68 : decode cX8_differ 68 = .ok (.iadd, 1) := by decide +kernel
theorem dX8_differ_69 : decode cX8_differ 69 = .ok (.iaload, 1) := by decide +kernel
theorem dX8_differ_70 : decode cX8_differ 70 = .ok (.istore 7, 2) := by decide +kernel
theorem dX8_differ_72 : decode cX8_differ 72 = .ok (.aload_n 0, 1) := by decide +kernel
theorem dX8_differ_73 : decode cX8_differ 73 = .ok (.iload 4, 2) := by decide +kernel
theorem dX8_differ_75 : decode cX8_differ 75 = .ok (.iload 7, 2) := by decide +kernel
theorem dX8_differ_77 : decode cX8_differ 77 = .ok (.invokevirtual 45, 3) := by decide +kernel
theorem dX8_differ_80 : decode cX8_differ 80 = .ok (.ifCond .eq 28, 3) := by decide +kernel
theorem dX8_differ_83 : decode cX8_differ 83 = .ok (.aload_n 0, 1) := by decide +kernel
theorem dX8_differ_84 : decode cX8_differ 84 = .ok (.iload 4, 2) := by decide +kernel
theorem dX8_differ_86 : decode cX8_differ 86 = .ok (.iload 7, 2) := by decide +kernel
theorem dX8_differ_88 : decode cX8_differ 88 = .ok (.invokevirtual 57, 3) := by decide +kernel
theorem dX8_differ_91 : decode cX8_differ 91 = .ok (.aload_n 0, 1) := by decide +kernel
theorem dX8_differ_92 : decode cX8_differ 92 = .ok (.getfield 13, 3) := by decide +kernel
theorem dX8_differ_95 : decode cX8_differ 95 = .ok (.sipush 600, 3) := by decide +kernel
theorem dX8_differ_98 : decode cX8_differ 98 = .ok (.iload_n 3, 1) := by decide +kernel
theorem dX8_differ_99 : decode cX8_differ 99 = .ok (.imul, 1) := by decide +kernel
theorem dX8_differ_100 : decode cX8_differ 100 = .ok (.iload 6, 2) := by decide +kernel
theorem dX8_differ_102 : decode cX8_differ 102 = .ok (.iadd, 1) := by decide +kernel
theorem dX8_differ_103 : decode cX8_differ 103 = .ok (.laload, 1) := by decide +kernel
theorem dX8_differ_104 : decode cX8_differ 104 = .ok (.lcmp, 1) := by decide +kernel
theorem dX8_differ_105 : decode cX8_differ 105 = .ok (.ifCond .eq 10, 3) := by decide +kernel
theorem dX8_differ_108 : decode cX8_differ 108 = .ok (.iload 5, 2) := by decide +kernel
theorem dX8_differ_110 : decode cX8_differ 110 = .ok (.iconst 1, 1) := by decide +kernel
theorem dX8_differ_111 : decode cX8_differ 111 = .ok (.iadd, 1) := by decide +kernel
theorem dX8_differ_112 : decode cX8_differ 112 = .ok (.goto 5, 3) := by decide +kernel
theorem dX8_differ_115 : decode cX8_differ 115 = .ok (.iload 5, 2) := by decide +kernel
theorem dX8_differ_117 : decode cX8_differ 117 = .ok (.istore 5, 2) := by decide +kernel
theorem dX8_differ_119 : decode cX8_differ 119 = .ok (.iinc 6 1, 3) := by decide +kernel
theorem dX8_differ_122 : decode cX8_differ 122 = .ok (.goto (-76), 3) := by decide +kernel
theorem dX8_differ_125 : decode cX8_differ 125 = .ok (.iconst 0, 1) := by decide +kernel
theorem dX8_differ_126 : decode cX8_differ 126 = .ok (.istore 6, 2) := by decide +kernel
theorem dX8_differ_128 : decode cX8_differ 128 = .ok (.iload 6, 2) := by decide +kernel
theorem dX8_differ_130 : decode cX8_differ 130 = .ok (.aload_n 0, 1) := by decide +kernel
theorem dX8_differ_131 : decode cX8_differ 131 = .ok (.getfield 17, 3) := by decide +kernel
theorem dX8_differ_134 : decode cX8_differ 134 = .ok (.iload 4, 2) := by decide +kernel
theorem dX8_differ_136 : decode cX8_differ 136 = .ok (.iaload, 1) := by decide +kernel
theorem dX8_differ_137 : decode cX8_differ 137 = .ok (.if_icmp .ge 42, 3) := by decide +kernel
theorem dX8_differ_140 : decode cX8_differ 140 = .ok (.aload_n 0, 1) := by decide +kernel
theorem dX8_differ_141 : decode cX8_differ 141 = .ok (.iload_n 3, 1) := by decide +kernel
theorem dX8_differ_142 : decode cX8_differ 142 = .ok (.aload_n 0, 1) := by decide +kernel
theorem dX8_differ_143 : decode cX8_differ 143 = .ok (.getfield 7, 3) := by decide +kernel
theorem dX8_differ_146 : decode cX8_differ 146 = .ok (.sipush 600, 3) := by decide +kernel
theorem dX8_differ_149 : decode cX8_differ 149 = .ok (.iload 4, 2) := by decide +kernel
theorem dX8_differ_151 : decode cX8_differ 151 = .ok (.imul, 1) := by decide +kernel
theorem dX8_differ_152 : decode cX8_differ 152 = .ok (.iload 6, 2) := by decide +kernel
theorem dX8_differ_154 : decode cX8_differ 154 = .ok (.iadd, 1) := by decide +kernel
theorem dX8_differ_155 : decode cX8_differ 155 = .ok (.iaload, 1) := by decide +kernel
theorem dX8_differ_156 : decode cX8_differ 156 = .ok (.invokevirtual 45, 3) := by decide +kernel
theorem dX8_differ_159 : decode cX8_differ 159 = .ok (.ifCond .eq 8, 3) := by decide +kernel
theorem dX8_differ_162 : decode cX8_differ 162 = .ok (.iload 5, 2) := by decide +kernel
theorem dX8_differ_164 : decode cX8_differ 164 = .ok (.goto 7, 3) := by decide +kernel
theorem dX8_differ_167 : decode cX8_differ 167 = .ok (.iload 5, 2) := by decide +kernel
theorem dX8_differ_169 : decode cX8_differ 169 = .ok (.iconst 1, 1) := by decide +kernel
theorem dX8_differ_170 : decode cX8_differ 170 = .ok (.iadd, 1) := by decide +kernel
theorem dX8_differ_171 : decode cX8_differ 171 = .ok (.istore 5, 2) := by decide +kernel
theorem dX8_differ_173 : decode cX8_differ 173 = .ok (.iinc 6 1, 3) := by decide +kernel
theorem dX8_differ_176 : decode cX8_differ 176 = .ok (.goto (-48), 3) := by decide +kernel
theorem dX8_differ_179 : decode cX8_differ 179 = .ok (.iload 5, 2) := by decide +kernel
theorem dX8_differ_181 : decode cX8_differ 181 = .ok (.ireturn, 1) := by decide +kernel
theorem dX8_settle_0 : decode cX8_settle 0 = .ok (.aload_n 0, 1) := by decide +kernel
theorem dX8_settle_1 : decode cX8_settle 1 = .ok (.iconst 0, 1) := by decide +kernel
theorem dX8_settle_2 : decode cX8_settle 2 = .ok (.putfield 37, 3) := by decide +kernel
theorem dX8_settle_5 : decode cX8_settle 5 = .ok (.return_, 1) := by decide +kernel
theorem dX8_sync_0 : decode cX8_sync 0 = .ok (.aload_n 0, 1) := by decide +kernel
theorem dX8_sync_1 : decode cX8_sync 1 = .ok (.iconst 0, 1) := by decide +kernel
theorem dX8_sync_2 : decode cX8_sync 2 = .ok (.putfield 37, 3) := by decide +kernel
theorem dX8_sync_5 : decode cX8_sync 5 = .ok (.aload_n 0, 1) := by decide +kernel
theorem dX8_sync_6 : decode cX8_sync 6 = .ok (.getfield 65, 3) := by decide +kernel
theorem dX8_sync_9 : decode cX8_sync 9 = .ok (.aload_n 0, 1) := by decide +kernel
theorem dX8_sync_10 : decode cX8_sync 10 = .ok (.getfield 88, 3) := by decide +kernel
theorem dX8_sync_13 : decode cX8_sync 13 = .ok (.isub, 1) := by decide +kernel
theorem dX8_sync_14 : decode cX8_sync 14 = .ok (.istore_n 1, 1) := by decide +kernel
theorem dX8_sync_15 : decode cX8_sync 15 = .ok (.aload_n 0, 1) := by decide +kernel
theorem dX8_sync_16 : decode cX8_sync 16 = .ok (.aload_n 0, 1) := by decide +kernel
theorem dX8_sync_17 : decode cX8_sync 17 = .ok (.getfield 65, 3) := by decide +kernel
theorem dX8_sync_20 : decode cX8_sync 20 = .ok (.putfield 88, 3) := by decide +kernel
theorem dX8_sync_23 : decode cX8_sync 23 = .ok (.iload_n 1, 1) := by decide +kernel
theorem dX8_sync_24 : decode cX8_sync 24 = .ok (.ireturn, 1) := by decide +kernel
theorem dX8_checkpoint_0 : decode cX8_checkpoint 0 = .ok (.aload_n 0, 1) := by decide +kernel
theorem dX8_checkpoint_1 : decode cX8_checkpoint 1 = .ok (.invokevirtual 91, 3) := by decide +kernel
theorem dX8_checkpoint_4 : decode cX8_checkpoint 4 = .ok (.ireturn, 1) := by decide +kernel
theorem dX8_crash_0 : decode cX8_crash 0 = .ok (.aload_n 0, 1) := by decide +kernel
theorem dX8_crash_1 : decode cX8_crash 1 = .ok (.iconst 0, 1) := by decide +kernel
theorem dX8_crash_2 : decode cX8_crash 2 = .ok (.putfield 37, 3) := by decide +kernel
theorem dX8_crash_5 : decode cX8_crash 5 = .ok (.aload_n 0, 1) := by decide +kernel
theorem dX8_crash_6 : decode cX8_crash 6 = .ok (.getfield 65, 3) := by decide +kernel
theorem dX8_crash_9 : decode cX8_crash 9 = .ok (.aload_n 0, 1) := by decide +kernel
theorem dX8_crash_10 : decode cX8_crash 10 = .ok (.getfield 88, 3) := by decide +kernel
theorem dX8_crash_13 : decode cX8_crash 13 = .ok (.isub, 1) := by decide +kernel
theorem dX8_crash_14 : decode cX8_crash 14 = .ok (.istore_n 1, 1) := by decide +kernel
theorem dX8_crash_15 : decode cX8_crash 15 = .ok (.aload_n 0, 1) := by decide +kernel
theorem dX8_crash_16 : decode cX8_crash 16 = .ok (.aload_n 0, 1) := by decide +kernel
theorem dX8_crash_17 : decode cX8_crash 17 = .ok (.getfield 88, 3) := by decide +kernel
theorem dX8_crash_20 : decode cX8_crash 20 = .ok (.putfield 65, 3) := by decide +kernel
theorem dX8_crash_23 : decode cX8_crash 23 = .ok (.aload_n 0, 1) := by decide +kernel
theorem dX8_crash_24 : decode cX8_crash 24 = .ok (.getfield 17, 3) := by decide +kernel
theorem dX8_crash_27 : decode cX8_crash 27 = .ok (.iconst 4, 1) := by decide +kernel
theorem dX8_crash_28 : decode cX8_crash 28 = .ok (.iconst 0, 1) := by decide +kernel
theorem dX8_crash_29 : decode cX8_crash 29 = .ok (.iastore, 1) := by decide +kernel
theorem dX8_crash_30 : decode cX8_crash 30 = .ok (.iconst 0, 1) := by decide +kernel
theorem dX8_crash_31 : decode cX8_crash 31 = .ok (.istore_n 2, 1) := by decide +kernel
theorem dX8_crash_32 : decode cX8_crash 32 = .ok (.iload_n 2, 1) := by decide +kernel
theorem dX8_crash_33 : decode cX8_crash 33 = .ok (.aload_n 0, 1) := by decide +kernel
theorem dX8_crash_34 : decode cX8_crash 34 = .ok (.getfield 88, 3) := by decide +kernel
theorem dX8_crash_37 : decode cX8_crash 37 = .ok (.if_icmp .ge 38, 3) := by decide +kernel
theorem dX8_crash_40 : decode cX8_crash 40 = .ok (.aload_n 0, 1) := by decide +kernel
theorem dX8_crash_41 : decode cX8_crash 41 = .ok (.aload_n 0, 1) := by decide +kernel
theorem dX8_crash_42 : decode cX8_crash 42 = .ok (.getfield 24, 3) := by decide +kernel
theorem dX8_crash_45 : decode cX8_crash 45 = .ok (.iload_n 2, 1) := by decide +kernel
theorem dX8_crash_46 : decode cX8_crash 46 = .ok (.baload, 1) := by decide +kernel
theorem dX8_crash_47 : decode cX8_crash 47 = .ok (.aload_n 0, 1) := by decide +kernel
theorem dX8_crash_48 : decode cX8_crash 48 = .ok (.getfield 28, 3) := by decide +kernel
theorem dX8_crash_51 : decode cX8_crash 51 = .ok (.iload_n 2, 1) := by decide +kernel
theorem dX8_crash_52 : decode cX8_crash 52 = .ok (.iaload, 1) := by decide +kernel
theorem dX8_crash_53 : decode cX8_crash 53 = .ok (.aload_n 0, 1) := by decide +kernel
theorem dX8_crash_54 : decode cX8_crash 54 = .ok (.getfield 31, 3) := by decide +kernel
theorem dX8_crash_57 : decode cX8_crash 57 = .ok (.iload_n 2, 1) := by decide +kernel
theorem dX8_crash_58 : decode cX8_crash 58 = .ok (.iaload, 1) := by decide +kernel
theorem dX8_crash_59 : decode cX8_crash 59 = .ok (.aload_n 0, 1) := by decide +kernel
theorem dX8_crash_60 : decode cX8_crash 60 = .ok (.getfield 34, 3) := by decide +kernel
theorem dX8_crash_63 : decode cX8_crash 63 = .ok (.iload_n 2, 1) := by decide +kernel
theorem dX8_crash_64 : decode cX8_crash 64 = .ok (.laload, 1) := by decide +kernel
theorem dX8_crash_65 : decode cX8_crash 65 = .ok (.invokevirtual 68, 3) := by decide +kernel
theorem dX8_crash_68 : decode cX8_crash 68 = .ok (.pop2, 1) := by decide +kernel
theorem dX8_crash_69 : decode cX8_crash 69 = .ok (.iinc 2 1, 3) := by decide +kernel
theorem dX8_crash_72 : decode cX8_crash 72 = .ok (.goto (-40), 3) := by decide +kernel
theorem dX8_crash_75 : decode cX8_crash 75 = .ok (.iconst 0, 1) := by decide +kernel
theorem dX8_crash_76 : decode cX8_crash 76 = .ok (.istore_n 2, 1) := by decide +kernel
theorem dX8_crash_77 : decode cX8_crash 77 = .ok (.iload_n 2, 1) := by decide +kernel
theorem dX8_crash_78 : decode cX8_crash 78 = .ok (.iconst 4, 1) := by decide +kernel
theorem dX8_crash_79 : decode cX8_crash 79 = .ok (.if_icmp .ge 16, 3) := by decide +kernel
theorem dX8_crash_82 : decode cX8_crash 82 = .ok (.aload_n 0, 1) := by decide +kernel
theorem dX8_crash_83 : decode cX8_crash 83 = .ok (.getfield 20, 3) := by decide +kernel
theorem dX8_crash_86 : decode cX8_crash 86 = .ok (.iload_n 2, 1) := by decide +kernel
theorem dX8_crash_87 : decode cX8_crash 87 = .ok (.iconst 0, 1) := by decide +kernel
theorem dX8_crash_88 : decode cX8_crash 88 = .ok (.bastore, 1) := by decide +kernel
theorem dX8_crash_89 : decode cX8_crash 89 = .ok (.iinc 2 1, 3) := by decide +kernel
theorem dX8_crash_92 : decode cX8_crash 92 = .ok (.goto (-15), 3) := by decide +kernel
theorem dX8_crash_95 : decode cX8_crash 95 = .ok (.iload_n 1, 1) := by decide +kernel
theorem dX8_crash_96 : decode cX8_crash 96 = .ok (.ireturn, 1) := by decide +kernel
theorem dX8_total_0 : decode cX8_total 0 = .ok (.aload_n 0, 1) := by decide +kernel
theorem dX8_total_1 : decode cX8_total 1 = .ok (.iload_n 1, 1) := by decide +kernel
theorem dX8_total_2 : decode cX8_total 2 = .ok (.ifCond .lt 12, 3) := by decide +kernel
theorem dX8_total_5 : decode cX8_total 5 = .ok (.iload_n 1, 1) := by decide +kernel
theorem dX8_total_6 : decode cX8_total 6 = .ok (.iconst 2, 1) := by decide +kernel
theorem dX8_total_7 : decode cX8_total 7 = .ok (.if_icmp .gt 7, 3) := by decide +kernel
theorem dX8_total_10 : decode cX8_total 10 = .ok (.iconst 0, 1) := by decide +kernel
theorem dX8_total_11 : decode cX8_total 11 = .ok (.goto 4, 3) := by decide +kernel
theorem dX8_total_14 : decode cX8_total 14 = .ok (.iconst 1, 1) := by decide +kernel
theorem dX8_total_15 : decode cX8_total 15 = .ok (.putfield 37, 3) := by decide +kernel
theorem dX8_total_18 : decode cX8_total 18 = .ok (.aload_n 0, 1) := by decide +kernel
theorem dX8_total_19 : decode cX8_total 19 = .ok (.getfield 37, 3) := by decide +kernel
theorem dX8_total_22 : decode cX8_total 22 = .ok (.ifCond .le 5, 3) := by decide +kernel
theorem dX8_total_25 : decode cX8_total 25 = .ok (.iconst 0, 1) := by decide +kernel
theorem dX8_total_26 : decode cX8_total 26 = .ok (.ireturn, 1) := by decide +kernel
theorem dX8_total_27 : decode cX8_total 27 = .ok (.iconst 0, 1) := by decide +kernel
theorem dX8_total_28 : decode cX8_total 28 = .ok (.istore_n 2, 1) := by decide +kernel
theorem dX8_total_29 : decode cX8_total 29 = .ok (.iconst 0, 1) := by decide +kernel
theorem dX8_total_30 : decode cX8_total 30 = .ok (.istore_n 3, 1) := by decide +kernel
theorem dX8_total_31 : decode cX8_total 31 = .ok (.iload_n 3, 1) := by decide +kernel
theorem dX8_total_32 : decode cX8_total 32 = .ok (.iconst 4, 1) := by decide +kernel
theorem dX8_total_33 : decode cX8_total 33 = .ok (.if_icmp .ge 26, 3) := by decide +kernel
theorem dX8_total_36 : decode cX8_total 36 = .ok (.aload_n 0, 1) := by decide +kernel
theorem dX8_total_37 : decode cX8_total 37 = .ok (.getfield 20, 3) := by decide +kernel
theorem dX8_total_40 : decode cX8_total 40 = .ok (.iload_n 3, 1) := by decide +kernel
theorem dX8_total_41 : decode cX8_total 41 = .ok (.baload, 1) := by decide +kernel
theorem dX8_total_42 : decode cX8_total 42 = .ok (.ifCond .eq 9, 3) := by decide +kernel
theorem dX8_total_45 : decode cX8_total 45 = .ok (.iload_n 2, 1) := by decide +kernel
theorem dX8_total_46 : decode cX8_total 46 = .ok (.iconst 1, 1) := by decide +kernel
theorem dX8_total_47 : decode cX8_total 47 = .ok (.iadd, 1) := by decide +kernel
theorem dX8_total_48 : decode cX8_total 48 = .ok (.goto 4, 3) := by decide +kernel
theorem dX8_total_51 : decode cX8_total 51 = .ok (.iload_n 2, 1) := by decide +kernel
theorem dX8_total_52 : decode cX8_total 52 = .ok (.istore_n 2, 1) := by decide +kernel
theorem dX8_total_53 : decode cX8_total 53 = .ok (.iinc 3 1, 3) := by decide +kernel
theorem dX8_total_56 : decode cX8_total 56 = .ok (.goto (-25), 3) := by decide +kernel
theorem dX8_total_59 : decode cX8_total 59 = .ok (.iload_n 1, 1) := by decide +kernel
theorem dX8_total_60 : decode cX8_total 60 = .ok (.ifCond .ne 10, 3) := by decide +kernel
theorem dX8_total_63 : decode cX8_total 63 = .ok (.aload_n 0, 1) := by decide +kernel
theorem dX8_total_64 : decode cX8_total 64 = .ok (.getfield 65, 3) := by decide +kernel
theorem dX8_total_67 : decode cX8_total 67 = .ok (.goto 16, 3) := by decide +kernel
theorem dX8_total_70 : decode cX8_total 70 = .ok (.iload_n 1, 1) := by decide +kernel
theorem dX8_total_71 : decode cX8_total 71 = .ok (.iconst 1, 1) := by decide +kernel
theorem dX8_total_72 : decode cX8_total 72 = .ok (.if_icmp .ne 10, 3) := by decide +kernel
theorem dX8_total_75 : decode cX8_total 75 = .ok (.aload_n 0, 1) := by decide +kernel
theorem dX8_total_76 : decode cX8_total 76 = .ok (.getfield 88, 3) := by decide +kernel
theorem dX8_total_79 : decode cX8_total 79 = .ok (.goto 4, 3) := by decide +kernel
theorem dX8_total_82 : decode cX8_total 82 = .ok (.iload_n 2, 1) := by decide +kernel
theorem dX8_total_83 : decode cX8_total 83 = .ok (.ireturn, 1) := by decide +kernel
theorem dX8_isSound_0 : decode cX8_isSound 0 = .ok (.aload_n 0, 1) := by decide +kernel
theorem dX8_isSound_1 : decode cX8_isSound 1 = .ok (.iconst 0, 1) := by decide +kernel
theorem dX8_isSound_2 : decode cX8_isSound 2 = .ok (.putfield 37, 3) := by decide +kernel
theorem dX8_isSound_5 : decode cX8_isSound 5 = .ok (.iconst 1, 1) := by decide +kernel
theorem dX8_isSound_6 : decode cX8_isSound 6 = .ok (.ireturn, 1) := by decide +kernel
theorem dX0_put_0 : decode cX0_put 0 = .ok (.aload 4, 2) := by decide +kernel
theorem dX0_put_2 : decode cX0_put 2 = .ok (.iconst 0, 1) := by decide +kernel
theorem dX0_put_3 : decode cX0_put 3 = .ok (.aload_n 0, 1) := by decide +kernel
theorem dX0_put_4 : decode cX0_put 4 = .ok (.iload_n 1, 1) := by decide +kernel
theorem dX0_put_5 : decode cX0_put 5 = .ok (.lload_n 2, 1) := by decide +kernel
theorem dX0_put_6 : decode cX0_put 6 = .ok (.invokevirtual 7, 3) := by decide +kernel
theorem dX0_put_9 : decode cX0_put 9 = .ok (.i2l, 1) := by decide +kernel
theorem dX0_put_10 : decode cX0_put 10 = .ok (.lastore, 1) := by decide +kernel
theorem dX0_put_11 : decode cX0_put 11 = .ok (.goto 7, 3) := by decide +kernel
theorem dX0_put_14 : decode cX0_put 14 = .ok (.astore 5, 2) := by decide +kernel
theorem dX0_put_16 : decode cX0_put 16 = .ok (.iconst 1, 1) := by decide +kernel
theorem dX0_put_17 : decode cX0_put 17 = .ok (.ireturn, 1) := by decide +kernel
theorem dX0_put_18 : decode cX0_put 18 = .ok (.iconst 0, 1) := by decide +kernel
theorem dX0_put_19 : decode cX0_put 19 = .ok (.ireturn, 1) := by decide +kernel
theorem dX0_add_0 : decode cX0_add 0 = .ok (.aload 4, 2) := by decide +kernel
theorem dX0_add_2 : decode cX0_add 2 = .ok (.iconst 0, 1) := by decide +kernel
theorem dX0_add_3 : decode cX0_add 3 = .ok (.aload_n 0, 1) := by decide +kernel
theorem dX0_add_4 : decode cX0_add 4 = .ok (.iload_n 1, 1) := by decide +kernel
theorem dX0_add_5 : decode cX0_add 5 = .ok (.lload_n 2, 1) := by decide +kernel
theorem dX0_add_6 : decode cX0_add 6 = .ok (.invokevirtual 15, 3) := by decide +kernel
theorem dX0_add_9 : decode cX0_add 9 = .ok (.lastore, 1) := by decide +kernel
theorem dX0_add_10 : decode cX0_add 10 = .ok (.goto 7, 3) := by decide +kernel
theorem dX0_add_13 : decode cX0_add 13 = .ok (.astore 5, 2) := by decide +kernel
theorem dX0_add_15 : decode cX0_add 15 = .ok (.iconst 1, 1) := by decide +kernel
theorem dX0_add_16 : decode cX0_add 16 = .ok (.ireturn, 1) := by decide +kernel
theorem dX0_add_17 : decode cX0_add 17 = .ok (.iconst 0, 1) := by decide +kernel
theorem dX0_add_18 : decode cX0_add 18 = .ok (.ireturn, 1) := by decide +kernel
theorem dX0_most_0 : decode cX0_most 0 = .ok (.aload 4, 2) := by decide +kernel
theorem dX0_most_2 : decode cX0_most 2 = .ok (.iconst 0, 1) := by decide +kernel
theorem dX0_most_3 : decode cX0_most 3 = .ok (.aload_n 0, 1) := by decide +kernel
theorem dX0_most_4 : decode cX0_most 4 = .ok (.iload_n 1, 1) := by decide +kernel
theorem dX0_most_5 : decode cX0_most 5 = .ok (.lload_n 2, 1) := by decide +kernel
theorem dX0_most_6 : decode cX0_most 6 = .ok (.invokevirtual 19, 3) := by decide +kernel
theorem dX0_most_9 : decode cX0_most 9 = .ok (.lastore, 1) := by decide +kernel
theorem dX0_most_10 : decode cX0_most 10 = .ok (.goto 7, 3) := by decide +kernel
theorem dX0_most_13 : decode cX0_most 13 = .ok (.astore 5, 2) := by decide +kernel
theorem dX0_most_15 : decode cX0_most 15 = .ok (.iconst 1, 1) := by decide +kernel
theorem dX0_most_16 : decode cX0_most 16 = .ok (.ireturn, 1) := by decide +kernel
theorem dX0_most_17 : decode cX0_most 17 = .ok (.iconst 0, 1) := by decide +kernel
theorem dX0_most_18 : decode cX0_most 18 = .ok (.ireturn, 1) := by decide +kernel
theorem dX0_delete_0 : decode cX0_delete 0 = .ok (.aload_n 3, 1) := by decide +kernel
theorem dX0_delete_1 : decode cX0_delete 1 = .ok (.iconst 0, 1) := by decide +kernel
theorem dX0_delete_2 : decode cX0_delete 2 = .ok (.aload_n 0, 1) := by decide +kernel
theorem dX0_delete_3 : decode cX0_delete 3 = .ok (.iload_n 1, 1) := by decide +kernel
theorem dX0_delete_4 : decode cX0_delete 4 = .ok (.iload_n 2, 1) := by decide +kernel
theorem dX0_delete_5 : decode cX0_delete 5 = .ok (.invokevirtual 22, 3) := by decide +kernel
theorem dX0_delete_8 : decode cX0_delete 8 = .ok (.i2l, 1) := by decide +kernel
theorem dX0_delete_9 : decode cX0_delete 9 = .ok (.lastore, 1) := by decide +kernel
theorem dX0_delete_10 : decode cX0_delete 10 = .ok (.goto 11, 3) := by decide +kernel
theorem dX0_delete_13 : decode cX0_delete 13 = .ok (.astore 4, 2) := by decide +kernel
theorem dX0_delete_15 : decode cX0_delete 15 = .ok (.iconst 1, 1) := by decide +kernel
theorem dX0_delete_16 : decode cX0_delete 16 = .ok (.ireturn, 1) := by decide +kernel
theorem dX0_delete_17 : decode cX0_delete 17 = .ok (.astore 4, 2) := by decide +kernel
theorem dX0_delete_19 : decode cX0_delete 19 = .ok (.iconst 2, 1) := by decide +kernel
theorem dX0_delete_20 : decode cX0_delete 20 = .ok (.ireturn, 1) := by decide +kernel
theorem dX0_delete_21 : decode cX0_delete 21 = .ok (.iconst 0, 1) := by decide +kernel
theorem dX0_delete_22 : decode cX0_delete 22 = .ok (.ireturn, 1) := by decide +kernel
theorem dX0_raise_0 : decode cX0_raise 0 = .ok (.aload 5, 2) := by decide +kernel
theorem dX0_raise_2 : decode cX0_raise 2 = .ok (.iconst 0, 1) := by decide +kernel
theorem dX0_raise_3 : decode cX0_raise 3 = .ok (.aload_n 0, 1) := by decide +kernel
theorem dX0_raise_4 : decode cX0_raise 4 = .ok (.iload_n 1, 1) := by decide +kernel
theorem dX0_raise_5 : decode cX0_raise 5 = .ok (.iload_n 2, 1) := by decide +kernel
theorem dX0_raise_6 : decode cX0_raise 6 = .ok (.lload_n 3, 1) := by decide +kernel
theorem dX0_raise_7 : decode cX0_raise 7 = .ok (.invokevirtual 28, 3) := by decide +kernel
theorem dX0_raise_10 : decode cX0_raise 10 = .ok (.i2l, 1) := by decide +kernel
theorem dX0_raise_11 : decode cX0_raise 11 = .ok (.lastore, 1) := by decide +kernel
theorem dX0_raise_12 : decode cX0_raise 12 = .ok (.goto 11, 3) := by decide +kernel
theorem dX0_raise_15 : decode cX0_raise 15 = .ok (.astore 6, 2) := by decide +kernel
theorem dX0_raise_17 : decode cX0_raise 17 = .ok (.iconst 1, 1) := by decide +kernel
theorem dX0_raise_18 : decode cX0_raise 18 = .ok (.ireturn, 1) := by decide +kernel
theorem dX0_raise_19 : decode cX0_raise 19 = .ok (.astore 6, 2) := by decide +kernel
theorem dX0_raise_21 : decode cX0_raise 21 = .ok (.iconst 2, 1) := by decide +kernel
theorem dX0_raise_22 : decode cX0_raise 22 = .ok (.ireturn, 1) := by decide +kernel
theorem dX0_raise_23 : decode cX0_raise 23 = .ok (.iconst 0, 1) := by decide +kernel
theorem dX0_raise_24 : decode cX0_raise 24 = .ok (.ireturn, 1) := by decide +kernel
theorem dX0_putAll_0 : decode cX0_putAll 0 = .ok (.aload 8, 2) := by decide +kernel
theorem dX0_putAll_2 : decode cX0_putAll 2 = .ok (.iconst 0, 1) := by decide +kernel
theorem dX0_putAll_3 : decode cX0_putAll 3 = .ok (.aload_n 0, 1) := by decide +kernel
theorem dX0_putAll_4 : decode cX0_putAll 4 = .ok (.iload_n 1, 1) := by decide +kernel
theorem dX0_putAll_5 : decode cX0_putAll 5 = .ok (.iload_n 2, 1) := by decide +kernel
theorem dX0_putAll_6 : decode cX0_putAll 6 = .ok (.lload_n 3, 1) := by decide +kernel
theorem dX0_putAll_7 : decode cX0_putAll 7 = .ok (.lload 5, 2) := by decide +kernel
theorem dX0_putAll_9 : decode cX0_putAll 9 = .ok (.iload 7, 2) := by decide +kernel
theorem dX0_putAll_11 : decode cX0_putAll 11 = .ok (.invokevirtual 32, 3) := by decide +kernel
theorem dX0_putAll_14 : decode cX0_putAll 14 = .ok (.i2l, 1) := by decide +kernel
theorem dX0_putAll_15 : decode cX0_putAll 15 = .ok (.lastore, 1) := by decide +kernel
theorem dX0_putAll_16 : decode cX0_putAll 16 = .ok (.goto 7, 3) := by decide +kernel
theorem dX0_putAll_19 : decode cX0_putAll 19 = .ok (.astore 9, 2) := by decide +kernel
theorem dX0_putAll_21 : decode cX0_putAll 21 = .ok (.iconst 1, 1) := by decide +kernel
theorem dX0_putAll_22 : decode cX0_putAll 22 = .ok (.ireturn, 1) := by decide +kernel
theorem dX0_putAll_23 : decode cX0_putAll 23 = .ok (.iconst 0, 1) := by decide +kernel
theorem dX0_putAll_24 : decode cX0_putAll 24 = .ok (.ireturn, 1) := by decide +kernel
theorem dX0_has_0 : decode cX0_has 0 = .ok (.aload_n 3, 1) := by decide +kernel
theorem dX0_has_1 : decode cX0_has 1 = .ok (.iconst 0, 1) := by decide +kernel
theorem dX0_has_2 : decode cX0_has 2 = .ok (.aload_n 0, 1) := by decide +kernel
theorem dX0_has_3 : decode cX0_has 3 = .ok (.iload_n 1, 1) := by decide +kernel
theorem dX0_has_4 : decode cX0_has 4 = .ok (.iload_n 2, 1) := by decide +kernel
theorem dX0_has_5 : decode cX0_has 5 = .ok (.invokevirtual 36, 3) := by decide +kernel
theorem dX0_has_8 : decode cX0_has 8 = .ok (.ifCond .eq 7, 3) := by decide +kernel
theorem dX0_has_11 : decode cX0_has 11 = .ok (.lconst 1, 1) := by decide +kernel
theorem dX0_has_12 : decode cX0_has 12 = .ok (.goto 4, 3) := by decide +kernel
theorem dX0_has_15 : decode cX0_has 15 = .ok (.lconst 0, 1) := by decide +kernel
theorem dX0_has_16 : decode cX0_has 16 = .ok (.lastore, 1) := by decide +kernel
theorem dX0_has_17 : decode cX0_has 17 = .ok (.goto 7, 3) := by decide +kernel
theorem dX0_has_20 : decode cX0_has 20 = .ok (.astore 4, 2) := by decide +kernel
theorem dX0_has_22 : decode cX0_has 22 = .ok (.iconst 1, 1) := by decide +kernel
theorem dX0_has_23 : decode cX0_has 23 = .ok (.ireturn, 1) := by decide +kernel
theorem dX0_has_24 : decode cX0_has 24 = .ok (.iconst 0, 1) := by decide +kernel
theorem dX0_has_25 : decode cX0_has 25 = .ok (.ireturn, 1) := by decide +kernel
theorem dX0_get_0 : decode cX0_get 0 = .ok (.aload_n 3, 1) := by decide +kernel
theorem dX0_get_1 : decode cX0_get 1 = .ok (.iconst 0, 1) := by decide +kernel
theorem dX0_get_2 : decode cX0_get 2 = .ok (.aload_n 0, 1) := by decide +kernel
theorem dX0_get_3 : decode cX0_get 3 = .ok (.iload_n 1, 1) := by decide +kernel
theorem dX0_get_4 : decode cX0_get 4 = .ok (.iload_n 2, 1) := by decide +kernel
theorem dX0_get_5 : decode cX0_get 5 = .ok (.invokevirtual 42, 3) := by decide +kernel
theorem dX0_get_8 : decode cX0_get 8 = .ok (.lastore, 1) := by decide +kernel
theorem dX0_get_9 : decode cX0_get 9 = .ok (.goto 7, 3) := by decide +kernel
theorem dX0_get_12 : decode cX0_get 12 = .ok (.astore 4, 2) := by decide +kernel
theorem dX0_get_14 : decode cX0_get 14 = .ok (.iconst 1, 1) := by decide +kernel
theorem dX0_get_15 : decode cX0_get 15 = .ok (.ireturn, 1) := by decide +kernel
theorem dX0_get_16 : decode cX0_get 16 = .ok (.iconst 0, 1) := by decide +kernel
theorem dX0_get_17 : decode cX0_get 17 = .ok (.ireturn, 1) := by decide +kernel
theorem dX0_count_0 : decode cX0_count 0 = .ok (.aload 4, 2) := by decide +kernel
theorem dX0_count_2 : decode cX0_count 2 = .ok (.iconst 0, 1) := by decide +kernel
theorem dX0_count_3 : decode cX0_count 3 = .ok (.aload_n 0, 1) := by decide +kernel
theorem dX0_count_4 : decode cX0_count 4 = .ok (.iload_n 1, 1) := by decide +kernel
theorem dX0_count_5 : decode cX0_count 5 = .ok (.iload_n 2, 1) := by decide +kernel
theorem dX0_count_6 : decode cX0_count 6 = .ok (.iload_n 3, 1) := by decide +kernel
theorem dX0_count_7 : decode cX0_count 7 = .ok (.invokevirtual 46, 3) := by decide +kernel
theorem dX0_count_10 : decode cX0_count 10 = .ok (.i2l, 1) := by decide +kernel
theorem dX0_count_11 : decode cX0_count 11 = .ok (.lastore, 1) := by decide +kernel
theorem dX0_count_12 : decode cX0_count 12 = .ok (.goto 11, 3) := by decide +kernel
theorem dX0_count_15 : decode cX0_count 15 = .ok (.astore 5, 2) := by decide +kernel
theorem dX0_count_17 : decode cX0_count 17 = .ok (.iconst 1, 1) := by decide +kernel
theorem dX0_count_18 : decode cX0_count 18 = .ok (.ireturn, 1) := by decide +kernel
theorem dX0_count_19 : decode cX0_count 19 = .ok (.astore 5, 2) := by decide +kernel
theorem dX0_count_21 : decode cX0_count 21 = .ok (.iconst 2, 1) := by decide +kernel
theorem dX0_count_22 : decode cX0_count 22 = .ok (.ireturn, 1) := by decide +kernel
theorem dX0_count_23 : decode cX0_count 23 = .ok (.iconst 0, 1) := by decide +kernel
theorem dX0_count_24 : decode cX0_count 24 = .ok (.ireturn, 1) := by decide +kernel
theorem dX0_sum_0 : decode cX0_sum 0 = .ok (.aload 4, 2) := by decide +kernel
theorem dX0_sum_2 : decode cX0_sum 2 = .ok (.iconst 0, 1) := by decide +kernel
theorem dX0_sum_3 : decode cX0_sum 3 = .ok (.aload_n 0, 1) := by decide +kernel
theorem dX0_sum_4 : decode cX0_sum 4 = .ok (.iload_n 1, 1) := by decide +kernel
theorem dX0_sum_5 : decode cX0_sum 5 = .ok (.iload_n 2, 1) := by decide +kernel
theorem dX0_sum_6 : decode cX0_sum 6 = .ok (.iload_n 3, 1) := by decide +kernel
theorem dX0_sum_7 : decode cX0_sum 7 = .ok (.invokevirtual 50, 3) := by decide +kernel
theorem dX0_sum_10 : decode cX0_sum 10 = .ok (.lastore, 1) := by decide +kernel
theorem dX0_sum_11 : decode cX0_sum 11 = .ok (.goto 11, 3) := by decide +kernel
theorem dX0_sum_14 : decode cX0_sum 14 = .ok (.astore 5, 2) := by decide +kernel
theorem dX0_sum_16 : decode cX0_sum 16 = .ok (.iconst 1, 1) := by decide +kernel
theorem dX0_sum_17 : decode cX0_sum 17 = .ok (.ireturn, 1) := by decide +kernel
theorem dX0_sum_18 : decode cX0_sum 18 = .ok (.astore 5, 2) := by decide +kernel
theorem dX0_sum_20 : decode cX0_sum 20 = .ok (.iconst 2, 1) := by decide +kernel
theorem dX0_sum_21 : decode cX0_sum 21 = .ok (.ireturn, 1) := by decide +kernel
theorem dX0_sum_22 : decode cX0_sum 22 = .ok (.iconst 0, 1) := by decide +kernel
theorem dX0_sum_23 : decode cX0_sum 23 = .ok (.ireturn, 1) := by decide +kernel
theorem dX0_key_0 : decode cX0_key 0 = .ok (.aload 4, 2) := by decide +kernel
theorem dX0_key_2 : decode cX0_key 2 = .ok (.iconst 0, 1) := by decide +kernel
theorem dX0_key_3 : decode cX0_key 3 = .ok (.aload_n 0, 1) := by decide +kernel
theorem dX0_key_4 : decode cX0_key 4 = .ok (.iload_n 1, 1) := by decide +kernel
theorem dX0_key_5 : decode cX0_key 5 = .ok (.iload_n 2, 1) := by decide +kernel
theorem dX0_key_6 : decode cX0_key 6 = .ok (.iload_n 3, 1) := by decide +kernel
theorem dX0_key_7 : decode cX0_key 7 = .ok (.invokevirtual 54, 3) := by decide +kernel
theorem dX0_key_10 : decode cX0_key 10 = .ok (.i2l, 1) := by decide +kernel
theorem dX0_key_11 : decode cX0_key 11 = .ok (.lastore, 1) := by decide +kernel
theorem dX0_key_12 : decode cX0_key 12 = .ok (.goto 11, 3) := by decide +kernel
theorem dX0_key_15 : decode cX0_key 15 = .ok (.astore 5, 2) := by decide +kernel
theorem dX0_key_17 : decode cX0_key 17 = .ok (.iconst 1, 1) := by decide +kernel
theorem dX0_key_18 : decode cX0_key 18 = .ok (.ireturn, 1) := by decide +kernel
theorem dX0_key_19 : decode cX0_key 19 = .ok (.astore 5, 2) := by decide +kernel
theorem dX0_key_21 : decode cX0_key 21 = .ok (.iconst 2, 1) := by decide +kernel
theorem dX0_key_22 : decode cX0_key 22 = .ok (.ireturn, 1) := by decide +kernel
theorem dX0_key_23 : decode cX0_key 23 = .ok (.iconst 0, 1) := by decide +kernel
theorem dX0_key_24 : decode cX0_key 24 = .ok (.ireturn, 1) := by decide +kernel
theorem dX0_save_0 : decode cX0_save 0 = .ok (.aload_n 0, 1) := by decide +kernel
theorem dX0_save_1 : decode cX0_save 1 = .ok (.iload_n 1, 1) := by decide +kernel
theorem dX0_save_2 : decode cX0_save 2 = .ok (.invokevirtual 57, 3) := by decide +kernel
theorem dX0_save_5 : decode cX0_save 5 = .ok (.goto 6, 3) := by decide +kernel
theorem dX0_save_8 : decode cX0_save 8 = .ok (.astore_n 2, 1) := by decide +kernel
theorem dX0_save_9 : decode cX0_save 9 = .ok (.iconst 1, 1) := by decide +kernel
theorem dX0_save_10 : decode cX0_save 10 = .ok (.ireturn, 1) := by decide +kernel
theorem dX0_save_11 : decode cX0_save 11 = .ok (.iconst 0, 1) := by decide +kernel
theorem dX0_save_12 : decode cX0_save 12 = .ok (.ireturn, 1) := by decide +kernel
theorem dX0_drop_0 : decode cX0_drop 0 = .ok (.aload_n 2, 1) := by decide +kernel
theorem dX0_drop_1 : decode cX0_drop 1 = .ok (.iconst 0, 1) := by decide +kernel
theorem dX0_drop_2 : decode cX0_drop 2 = .ok (.aload_n 0, 1) := by decide +kernel
theorem dX0_drop_3 : decode cX0_drop 3 = .ok (.iload_n 1, 1) := by decide +kernel
theorem dX0_drop_4 : decode cX0_drop 4 = .ok (.invokevirtual 61, 3) := by decide +kernel
theorem dX0_drop_7 : decode cX0_drop 7 = .ok (.ifCond .eq 7, 3) := by decide +kernel
theorem dX0_drop_10 : decode cX0_drop 10 = .ok (.lconst 1, 1) := by decide +kernel
theorem dX0_drop_11 : decode cX0_drop 11 = .ok (.goto 4, 3) := by decide +kernel
theorem dX0_drop_14 : decode cX0_drop 14 = .ok (.lconst 0, 1) := by decide +kernel
theorem dX0_drop_15 : decode cX0_drop 15 = .ok (.lastore, 1) := by decide +kernel
theorem dX0_drop_16 : decode cX0_drop 16 = .ok (.goto 6, 3) := by decide +kernel
theorem dX0_drop_19 : decode cX0_drop 19 = .ok (.astore_n 3, 1) := by decide +kernel
theorem dX0_drop_20 : decode cX0_drop 20 = .ok (.iconst 1, 1) := by decide +kernel
theorem dX0_drop_21 : decode cX0_drop 21 = .ok (.ireturn, 1) := by decide +kernel
theorem dX0_drop_22 : decode cX0_drop 22 = .ok (.iconst 0, 1) := by decide +kernel
theorem dX0_drop_23 : decode cX0_drop 23 = .ok (.ireturn, 1) := by decide +kernel
theorem dX0_restore_0 : decode cX0_restore 0 = .ok (.aload_n 2, 1) := by decide +kernel
theorem dX0_restore_1 : decode cX0_restore 1 = .ok (.iconst 0, 1) := by decide +kernel
theorem dX0_restore_2 : decode cX0_restore 2 = .ok (.aload_n 0, 1) := by decide +kernel
theorem dX0_restore_3 : decode cX0_restore 3 = .ok (.iload_n 1, 1) := by decide +kernel
theorem dX0_restore_4 : decode cX0_restore 4 = .ok (.invokevirtual 65, 3) := by decide +kernel
theorem dX0_restore_7 : decode cX0_restore 7 = .ok (.i2l, 1) := by decide +kernel
theorem dX0_restore_8 : decode cX0_restore 8 = .ok (.lastore, 1) := by decide +kernel
theorem dX0_restore_9 : decode cX0_restore 9 = .ok (.goto 9, 3) := by decide +kernel
theorem dX0_restore_12 : decode cX0_restore 12 = .ok (.astore_n 3, 1) := by decide +kernel
theorem dX0_restore_13 : decode cX0_restore 13 = .ok (.iconst 1, 1) := by decide +kernel
theorem dX0_restore_14 : decode cX0_restore 14 = .ok (.ireturn, 1) := by decide +kernel
theorem dX0_restore_15 : decode cX0_restore 15 = .ok (.astore_n 3, 1) := by decide +kernel
theorem dX0_restore_16 : decode cX0_restore 16 = .ok (.iconst 2, 1) := by decide +kernel
theorem dX0_restore_17 : decode cX0_restore 17 = .ok (.ireturn, 1) := by decide +kernel
theorem dX0_restore_18 : decode cX0_restore 18 = .ok (.iconst 0, 1) := by decide +kernel
theorem dX0_restore_19 : decode cX0_restore 19 = .ok (.ireturn, 1) := by decide +kernel
theorem dX0_differ_0 : decode cX0_differ 0 = .ok (.aload_n 3, 1) := by decide +kernel
theorem dX0_differ_1 : decode cX0_differ 1 = .ok (.iconst 0, 1) := by decide +kernel
theorem dX0_differ_2 : decode cX0_differ 2 = .ok (.aload_n 0, 1) := by decide +kernel
theorem dX0_differ_3 : decode cX0_differ 3 = .ok (.iload_n 1, 1) := by decide +kernel
theorem dX0_differ_4 : decode cX0_differ 4 = .ok (.iload_n 2, 1) := by decide +kernel
theorem dX0_differ_5 : decode cX0_differ 5 = .ok (.invokevirtual 69, 3) := by decide +kernel
theorem dX0_differ_8 : decode cX0_differ 8 = .ok (.i2l, 1) := by decide +kernel
theorem dX0_differ_9 : decode cX0_differ 9 = .ok (.lastore, 1) := by decide +kernel
theorem dX0_differ_10 : decode cX0_differ 10 = .ok (.goto 7, 3) := by decide +kernel
theorem dX0_differ_13 : decode cX0_differ 13 = .ok (.astore 4, 2) := by decide +kernel
theorem dX0_differ_15 : decode cX0_differ 15 = .ok (.iconst 1, 1) := by decide +kernel
theorem dX0_differ_16 : decode cX0_differ 16 = .ok (.ireturn, 1) := by decide +kernel
theorem dX0_differ_17 : decode cX0_differ 17 = .ok (.iconst 0, 1) := by decide +kernel
theorem dX0_differ_18 : decode cX0_differ 18 = .ok (.ireturn, 1) := by decide +kernel
theorem dX0_total_0 : decode cX0_total 0 = .ok (.aload_n 2, 1) := by decide +kernel
theorem dX0_total_1 : decode cX0_total 1 = .ok (.iconst 0, 1) := by decide +kernel
theorem dX0_total_2 : decode cX0_total 2 = .ok (.aload_n 0, 1) := by decide +kernel
theorem dX0_total_3 : decode cX0_total 3 = .ok (.iload_n 1, 1) := by decide +kernel
theorem dX0_total_4 : decode cX0_total 4 = .ok (.invokevirtual 72, 3) := by decide +kernel
theorem dX0_total_7 : decode cX0_total 7 = .ok (.i2l, 1) := by decide +kernel
theorem dX0_total_8 : decode cX0_total 8 = .ok (.lastore, 1) := by decide +kernel
theorem dX0_total_9 : decode cX0_total 9 = .ok (.goto 6, 3) := by decide +kernel
theorem dX0_total_12 : decode cX0_total 12 = .ok (.astore_n 3, 1) := by decide +kernel
theorem dX0_total_13 : decode cX0_total 13 = .ok (.iconst 1, 1) := by decide +kernel
theorem dX0_total_14 : decode cX0_total 14 = .ok (.ireturn, 1) := by decide +kernel
theorem dX0_total_15 : decode cX0_total 15 = .ok (.iconst 0, 1) := by decide +kernel
theorem dX0_total_16 : decode cX0_total 16 = .ok (.ireturn, 1) := by decide +kernel
