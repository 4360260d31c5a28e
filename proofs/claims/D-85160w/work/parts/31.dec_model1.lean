/-! decode rows -/
theorem dX10_feed_0 : decode prog_37_method_3_code 0 = .ok (.aload_n 0, 1) := by decide +kernel
theorem dX10_feed_1 : decode prog_37_method_3_code 1 = .ok (.getfield 252, 3) := by decide +kernel
theorem dX10_feed_4 : decode prog_37_method_3_code 4 = .ok (.sipush 1600, 3) := by decide +kernel
theorem dX10_feed_7 : decode prog_37_method_3_code 7 = .ok (.if_icmp .le 5, 3) := by decide +kernel
theorem dX10_feed_10 : decode prog_37_method_3_code 10 = .ok (.iconst (-1), 1) := by decide +kernel
theorem dX10_feed_11 : decode prog_37_method_3_code 11 = .ok (.ireturn, 1) := by decide +kernel
theorem dX10_feed_12 : decode prog_37_method_3_code 12 = .ok (.aload_n 0, 1) := by decide +kernel
theorem dX10_feed_13 : decode prog_37_method_3_code 13 = .ok (.iload_n 1, 1) := by decide +kernel
theorem dX10_feed_14 : decode prog_37_method_3_code 14 = .ok (.invokevirtual 255, 3) := by decide +kernel
theorem dX10_feed_17 : decode prog_37_method_3_code 17 = .ok (.aload_n 0, 1) := by decide +kernel
theorem dX10_feed_18 : decode prog_37_method_3_code 18 = .ok (.iload_n 2, 1) := by decide +kernel
theorem dX10_feed_19 : decode prog_37_method_3_code 19 = .ok (.invokevirtual 255, 3) := by decide +kernel
theorem dX10_feed_22 : decode prog_37_method_3_code 22 = .ok (.aload_n 0, 1) := by decide +kernel
theorem dX10_feed_23 : decode prog_37_method_3_code 23 = .ok (.iload_n 3, 1) := by decide +kernel
theorem dX10_feed_24 : decode prog_37_method_3_code 24 = .ok (.invokevirtual 255, 3) := by decide +kernel
theorem dX10_feed_27 : decode prog_37_method_3_code 27 = .ok (.aload_n 0, 1) := by decide +kernel
theorem dX10_feed_28 : decode prog_37_method_3_code 28 = .ok (.iload 4, 2) := by decide +kernel
theorem dX10_feed_30 : decode prog_37_method_3_code 30 = .ok (.invokevirtual 255, 3) := by decide +kernel
theorem dX10_feed_33 : decode prog_37_method_3_code 33 = .ok (.aload_n 0, 1) := by decide +kernel
theorem dX10_feed_34 : decode prog_37_method_3_code 34 = .ok (.iload 5, 2) := by decide +kernel
theorem dX10_feed_36 : decode prog_37_method_3_code 36 = .ok (.invokevirtual 255, 3) := by decide +kernel
theorem dX10_feed_39 : decode prog_37_method_3_code 39 = .ok (.aload_n 0, 1) := by decide +kernel
theorem dX10_feed_40 : decode prog_37_method_3_code 40 = .ok (.getfield 252, 3) := by decide +kernel
theorem dX10_feed_43 : decode prog_37_method_3_code 43 = .ok (.ireturn, 1) := by decide +kernel
theorem dX10_four_0 : decode prog_37_method_2_code 0 = .ok (.bipush 24, 2) := by decide +kernel
theorem dX10_four_2 : decode prog_37_method_2_code 2 = .ok (.istore_n 2, 1) := by decide +kernel
theorem dX10_four_3 : decode prog_37_method_2_code 3 = .ok (.iload_n 2, 1) := by decide +kernel
theorem dX10_four_4 : decode prog_37_method_2_code 4 = .ok (.ifCond .lt 32, 3) := by decide +kernel
theorem dX10_four_7 : decode prog_37_method_2_code 7 = .ok (.aload_n 0, 1) := by decide +kernel
theorem dX10_four_8 : decode prog_37_method_2_code 8 = .ok (.getfield 99, 3) := by decide +kernel
theorem dX10_four_11 : decode prog_37_method_2_code 11 = .ok (.aload_n 0, 1) := by decide +kernel
theorem dX10_four_12 : decode prog_37_method_2_code 12 = .ok (.getfield 252, 3) := by decide +kernel
theorem dX10_four_15 : decode prog_37_method_2_code 15 = .ok (.iload_n 1, 1) := by decide +kernel
theorem dX10_four_16 : decode prog_37_method_2_code 16 = .ok (.iload_n 2, 1) := by decide +kernel
theorem dX10_four_17 : decode prog_37_method_2_code 17 = .ok (.ishr, 1) := by decide +kernel
theorem dX10_four_18 : decode prog_37_method_2_code 18 = .ok (.i2b, 1) := by decide +kernel
theorem dX10_four_19 : decode prog_37_method_2_code 19 = .ok (.bastore, 1) := by decide +kernel
theorem dX10_four_20 : decode prog_37_method_2_code 20 = .ok (.aload_n 0, 1) := by decide +kernel
theorem dX10_four_21 : decode prog_37_method_2_code 21 = .ok (.dup, 1) := by decide +kernel
theorem dX10_four_22 : decode prog_37_method_2_code 22 = .ok (.getfield 252, 3) := by decide +kernel
theorem dX10_four_25 : decode prog_37_method_2_code 25 = .ok (.iconst 1, 1) := by decide +kernel
theorem dX10_four_26 : decode prog_37_method_2_code 26 = .ok (.iadd, 1) := by decide +kernel
theorem dX10_four_27 : decode prog_37_method_2_code 27 = .ok (.putfield 252, 3) := by decide +kernel
theorem dX10_four_30 : decode prog_37_method_2_code 30 = .ok (.iinc 2 (-8), 3) := by decide +kernel
theorem dX10_four_33 : decode prog_37_method_2_code 33 = .ok (.goto (-30), 3) := by decide +kernel
theorem dX10_four_36 : decode prog_37_method_2_code 36 = .ok (.return_, 1) := by decide +kernel
theorem dX10_load_0 : decode prog_37_method_44_code 0 = .ok (.iload_n 1, 1) := by decide +kernel
theorem dX10_load_1 : decode prog_37_method_44_code 1 = .ok (.ifCond .lt 11, 3) := by decide +kernel
theorem dX10_load_4 : decode prog_37_method_44_code 4 = .ok (.iload_n 1, 1) := by decide +kernel
theorem dX10_load_5 : decode prog_37_method_44_code 5 = .ok (.aload_n 0, 1) := by decide +kernel
theorem dX10_load_6 : decode prog_37_method_44_code 6 = .ok (.getfield 252, 3) := by decide +kernel
theorem dX10_load_9 : decode prog_37_method_44_code 9 = .ok (.if_icmp .le 6, 3) := by decide +kernel
theorem dX10_load_12 : decode prog_37_method_44_code 12 = .ok (.bipush (-2), 2) := by decide +kernel
theorem dX10_load_14 : decode prog_37_method_44_code 14 = .ok (.ireturn, 1) := by decide +kernel
theorem dX10_load_15 : decode prog_37_method_44_code 15 = .ok (.aload_n 0, 1) := by decide +kernel
theorem dX10_load_16 : decode prog_37_method_44_code 16 = .ok (.iconst 0, 1) := by decide +kernel
theorem dX10_load_17 : decode prog_37_method_44_code 17 = .ok (.putfield 252, 3) := by decide +kernel
theorem dX10_load_20 : decode prog_37_method_44_code 20 = .ok (.aload_n 0, 1) := by decide +kernel
theorem dX10_load_21 : decode prog_37_method_44_code 21 = .ok (.iload_n 1, 1) := by decide +kernel
theorem dX10_load_22 : decode prog_37_method_44_code 22 = .ok (.putfield 259, 3) := by decide +kernel
theorem dX10_load_25 : decode prog_37_method_44_code 25 = .ok (.aload_n 0, 1) := by decide +kernel
theorem dX10_load_26 : decode prog_37_method_44_code 26 = .ok (.iconst 0, 1) := by decide +kernel
theorem dX10_load_27 : decode prog_37_method_44_code 27 = .ok (.putfield 311, 3) := by decide +kernel
theorem dX10_load_30 : decode prog_37_method_44_code 30 = .ok (.aload_n 0, 1) := by decide +kernel
theorem dX10_load_31 : decode prog_37_method_44_code 31 = .ok (.iconst (-1), 1) := by decide +kernel
theorem dX10_load_32 : decode prog_37_method_44_code 32 = .ok (.putfield 314, 3) := by decide +kernel
theorem dX10_load_35 : decode prog_37_method_44_code 35 = .ok (.aload_n 0, 1) := by decide +kernel
theorem dX10_load_36 : decode prog_37_method_44_code 36 = .ok (.iconst 0, 1) := by decide +kernel
theorem dX10_load_37 : decode prog_37_method_44_code 37 = .ok (.putfield 328, 3) := by decide +kernel
theorem dX10_load_40 : decode prog_37_method_44_code 40 = .ok (.aload_n 0, 1) := by decide +kernel
theorem dX10_load_41 : decode prog_37_method_44_code 41 = .ok (.iconst 0, 1) := by decide +kernel
theorem dX10_load_42 : decode prog_37_method_44_code 42 = .ok (.putfield 380, 3) := by decide +kernel
theorem dX10_load_45 : decode prog_37_method_44_code 45 = .ok (.aload_n 0, 1) := by decide +kernel
theorem dX10_load_46 : decode prog_37_method_44_code 46 = .ok (.iconst 0, 1) := by decide +kernel
theorem dX10_load_47 : decode prog_37_method_44_code 47 = .ok (.putfield 343, 3) := by decide +kernel
theorem dX10_load_50 : decode prog_37_method_44_code 50 = .ok (.aload_n 0, 1) := by decide +kernel
theorem dX10_load_51 : decode prog_37_method_44_code 51 = .ok (.iconst 0, 1) := by decide +kernel
theorem dX10_load_52 : decode prog_37_method_44_code 52 = .ok (.putfield 346, 3) := by decide +kernel
theorem dX10_load_55 : decode prog_37_method_44_code 55 = .ok (.iload_n 1, 1) := by decide +kernel
theorem dX10_load_56 : decode prog_37_method_44_code 56 = .ok (.sipush 1600, 3) := by decide +kernel
theorem dX10_load_59 : decode prog_37_method_44_code 59 = .ok (.if_icmp .le 14, 3) := by decide +kernel
theorem dX10_load_62 : decode prog_37_method_44_code 62 = .ok (.aload_n 0, 1) := by decide +kernel
theorem dX10_load_63 : decode prog_37_method_44_code 63 = .ok (.iconst 1, 1) := by decide +kernel
theorem dX10_load_64 : decode prog_37_method_44_code 64 = .ok (.sipush 1600, 3) := by decide +kernel
theorem dX10_load_67 : decode prog_37_method_44_code 67 = .ok (.invokevirtual 317, 3) := by decide +kernel
theorem dX10_load_70 : decode prog_37_method_44_code 70 = .ok (.goto 23, 3) := by decide +kernel
theorem dX10_load_73 : decode prog_37_method_44_code 73 = .ok (.aload_n 0, 1) := by decide +kernel
theorem dX10_load_74 : decode prog_37_method_44_code 74 = .ok (.iconst 0, 1) := by decide +kernel
theorem dX10_load_75 : decode prog_37_method_44_code 75 = .ok (.invokevirtual 308, 3) := by decide +kernel
theorem dX10_load_78 : decode prog_37_method_44_code 78 = .ok (.aload_n 0, 1) := by decide +kernel
theorem dX10_load_79 : decode prog_37_method_44_code 79 = .ok (.invokevirtual 448, 3) := by decide +kernel
theorem dX10_load_82 : decode prog_37_method_44_code 82 = .ok (.aload_n 0, 1) := by decide +kernel
theorem dX10_load_83 : decode prog_37_method_44_code 83 = .ok (.getfield 311, 3) := by decide +kernel
theorem dX10_load_86 : decode prog_37_method_44_code 86 = .ok (.ifCond .ne 7, 3) := by decide +kernel
theorem dX10_load_89 : decode prog_37_method_44_code 89 = .ok (.aload_n 0, 1) := by decide +kernel
theorem dX10_load_90 : decode prog_37_method_44_code 90 = .ok (.invokevirtual 451, 3) := by decide +kernel
theorem dX10_load_93 : decode prog_37_method_44_code 93 = .ok (.aload_n 0, 1) := by decide +kernel
theorem dX10_load_94 : decode prog_37_method_44_code 94 = .ok (.aload_n 0, 1) := by decide +kernel
theorem dX10_load_95 : decode prog_37_method_44_code 95 = .ok (.getfield 311, 3) := by decide +kernel
theorem dX10_load_98 : decode prog_37_method_44_code 98 = .ok (.putfield 175, 3) := by decide +kernel
theorem dX10_load_101 : decode prog_37_method_44_code 101 = .ok (.aload_n 0, 1) := by decide +kernel
theorem dX10_load_102 : decode prog_37_method_44_code 102 = .ok (.aload_n 0, 1) := by decide +kernel
theorem dX10_load_103 : decode prog_37_method_44_code 103 = .ok (.getfield 311, 3) := by decide +kernel
theorem dX10_load_106 : decode prog_37_method_44_code 106 = .ok (.ifCond .ne 7, 3) := by decide +kernel
theorem dX10_load_109 : decode prog_37_method_44_code 109 = .ok (.iconst (-1), 1) := by decide +kernel
theorem dX10_load_110 : decode prog_37_method_44_code 110 = .ok (.goto 7, 3) := by decide +kernel
theorem dX10_load_113 : decode prog_37_method_44_code 113 = .ok (.aload_n 0, 1) := by decide +kernel
theorem dX10_load_114 : decode prog_37_method_44_code 114 = .ok (.getfield 314, 3) := by decide +kernel
theorem dX10_load_117 : decode prog_37_method_44_code 117 = .ok (.putfield 179, 3) := by decide +kernel
theorem dX10_load_120 : decode prog_37_method_44_code 120 = .ok (.aload_n 0, 1) := by decide +kernel
theorem dX10_load_121 : decode prog_37_method_44_code 121 = .ok (.getfield 311, 3) := by decide +kernel
theorem dX10_load_124 : decode prog_37_method_44_code 124 = .ok (.ifCond .le 5, 3) := by decide +kernel
theorem dX10_load_127 : decode prog_37_method_44_code 127 = .ok (.iconst (-1), 1) := by decide +kernel
theorem dX10_load_128 : decode prog_37_method_44_code 128 = .ok (.ireturn, 1) := by decide +kernel
theorem dX10_load_129 : decode prog_37_method_44_code 129 = .ok (.aload_n 0, 1) := by decide +kernel
theorem dX10_load_130 : decode prog_37_method_44_code 130 = .ok (.iconst 1, 1) := by decide +kernel
theorem dX10_load_131 : decode prog_37_method_44_code 131 = .ok (.aload_n 0, 1) := by decide +kernel
theorem dX10_load_132 : decode prog_37_method_44_code 132 = .ok (.getfield 340, 3) := by decide +kernel
theorem dX10_load_135 : decode prog_37_method_44_code 135 = .ok (.isub, 1) := by decide +kernel
theorem dX10_load_136 : decode prog_37_method_44_code 136 = .ok (.putfield 340, 3) := by decide +kernel
theorem dX10_load_139 : decode prog_37_method_44_code 139 = .ok (.aload_n 0, 1) := by decide +kernel
theorem dX10_load_140 : decode prog_37_method_44_code 140 = .ok (.aload_n 0, 1) := by decide +kernel
theorem dX10_load_141 : decode prog_37_method_44_code 141 = .ok (.getfield 380, 3) := by decide +kernel
theorem dX10_load_144 : decode prog_37_method_44_code 144 = .ok (.putfield 454, 3) := by decide +kernel
theorem dX10_load_147 : decode prog_37_method_44_code 147 = .ok (.aload_n 0, 1) := by decide +kernel
theorem dX10_load_148 : decode prog_37_method_44_code 148 = .ok (.iconst 1, 1) := by decide +kernel
theorem dX10_load_149 : decode prog_37_method_44_code 149 = .ok (.putfield 457, 3) := by decide +kernel
theorem dX10_load_152 : decode prog_37_method_44_code 152 = .ok (.aload_n 0, 1) := by decide +kernel
theorem dX10_load_153 : decode prog_37_method_44_code 153 = .ok (.getfield 380, 3) := by decide +kernel
theorem dX10_load_156 : decode prog_37_method_44_code 156 = .ok (.ireturn, 1) := by decide +kernel
theorem dX10_breaks_0 : decode prog_37_method_11_code 0 = .ok (.aload_n 0, 1) := by decide +kernel
theorem dX10_breaks_1 : decode prog_37_method_11_code 1 = .ok (.getfield 311, 3) := by decide +kernel
theorem dX10_breaks_4 : decode prog_37_method_11_code 4 = .ok (.ifCond .le 4, 3) := by decide +kernel
theorem dX10_breaks_7 : decode prog_37_method_11_code 7 = .ok (.return_, 1) := by decide +kernel
theorem dX10_breaks_8 : decode prog_37_method_11_code 8 = .ok (.aload_n 0, 1) := by decide +kernel
theorem dX10_breaks_9 : decode prog_37_method_11_code 9 = .ok (.iload_n 1, 1) := by decide +kernel
theorem dX10_breaks_10 : decode prog_37_method_11_code 10 = .ok (.putfield 311, 3) := by decide +kernel
theorem dX10_breaks_13 : decode prog_37_method_11_code 13 = .ok (.aload_n 0, 1) := by decide +kernel
theorem dX10_breaks_14 : decode prog_37_method_11_code 14 = .ok (.iload_n 2, 1) := by decide +kernel
theorem dX10_breaks_15 : decode prog_37_method_11_code 15 = .ok (.putfield 314, 3) := by decide +kernel
theorem dX10_breaks_18 : decode prog_37_method_11_code 18 = .ok (.return_, 1) := by decide +kernel
theorem dX10_token_0 : decode prog_37_method_8_code 0 = .ok (.aload_n 0, 1) := by decide +kernel
theorem dX10_token_1 : decode prog_37_method_8_code 1 = .ok (.aload_n 0, 1) := by decide +kernel
theorem dX10_token_2 : decode prog_37_method_8_code 2 = .ok (.iload_n 1, 1) := by decide +kernel
theorem dX10_token_3 : decode prog_37_method_8_code 3 = .ok (.invokevirtual 266, 3) := by decide +kernel
theorem dX10_token_6 : decode prog_37_method_8_code 6 = .ok (.putfield 269, 3) := by decide +kernel
theorem dX10_token_9 : decode prog_37_method_8_code 9 = .ok (.aload_n 0, 1) := by decide +kernel
theorem dX10_token_10 : decode prog_37_method_8_code 10 = .ok (.lconst 0, 1) := by decide +kernel
theorem dX10_token_11 : decode prog_37_method_8_code 11 = .ok (.putfield 272, 3) := by decide +kernel
theorem dX10_token_14 : decode prog_37_method_8_code 14 = .ok (.aload_n 0, 1) := by decide +kernel
theorem dX10_token_15 : decode prog_37_method_8_code 15 = .ok (.aload_n 0, 1) := by decide +kernel
theorem dX10_token_16 : decode prog_37_method_8_code 16 = .ok (.getfield 269, 3) := by decide +kernel
theorem dX10_token_19 : decode prog_37_method_8_code 19 = .ok (.invokevirtual 262, 3) := by decide +kernel
theorem dX10_token_22 : decode prog_37_method_8_code 22 = .ok (.istore_n 2, 1) := by decide +kernel
theorem dX10_token_23 : decode prog_37_method_8_code 23 = .ok (.aload_n 0, 1) := by decide +kernel
theorem dX10_token_24 : decode prog_37_method_8_code 24 = .ok (.getfield 269, 3) := by decide +kernel
theorem dX10_token_27 : decode prog_37_method_8_code 27 = .ok (.istore_n 3, 1) := by decide +kernel
theorem dX10_token_28 : decode prog_37_method_8_code 28 = .ok (.aload_n 0, 1) := by decide +kernel
theorem dX10_token_29 : decode prog_37_method_8_code 29 = .ok (.getfield 269, 3) := by decide +kernel
theorem dX10_token_32 : decode prog_37_method_8_code 32 = .ok (.aload_n 0, 1) := by decide +kernel
theorem dX10_token_33 : decode prog_37_method_8_code 33 = .ok (.getfield 259, 3) := by decide +kernel
theorem dX10_token_36 : decode prog_37_method_8_code 36 = .ok (.if_icmp .lt 11, 3) := by decide +kernel
theorem dX10_token_39 : decode prog_37_method_8_code 39 = .ok (.aload_n 0, 1) := by decide +kernel
theorem dX10_token_40 : decode prog_37_method_8_code 40 = .ok (.iconst 0, 1) := by decide +kernel
theorem dX10_token_41 : decode prog_37_method_8_code 41 = .ok (.putfield 276, 3) := by decide +kernel
theorem dX10_token_44 : decode prog_37_method_8_code 44 = .ok (.goto 182, 3) := by decide +kernel
theorem dX10_token_47 : decode prog_37_method_8_code 47 = .ok (.iload_n 2, 1) := by decide +kernel
theorem dX10_token_48 : decode prog_37_method_8_code 48 = .ok (.invokestatic 279, 3) := by decide +kernel
theorem dX10_token_51 : decode prog_37_method_8_code 51 = .ok (.ifCond .eq 77, 3) := by decide +kernel
theorem dX10_token_54 : decode prog_37_method_8_code 54 = .ok (.aload_n 0, 1) := by decide +kernel
theorem dX10_token_55 : decode prog_37_method_8_code 55 = .ok (.iload_n 3, 1) := by decide +kernel
theorem dX10_token_56 : decode prog_37_method_8_code 56 = .ok (.invokevirtual 262, 3) := by decide +kernel
theorem dX10_token_59 : decode prog_37_method_8_code 59 = .ok (.invokestatic 279, 3) := by decide +kernel
theorem dX10_token_62 : decode prog_37_method_8_code 62 = .ok (.ifCond .eq 43, 3) := by decide +kernel
theorem dX10_token_65 : decode prog_37_method_8_code 65 = .ok (.iload_n 3, 1) := by decide +kernel
theorem dX10_token_66 : decode prog_37_method_8_code 66 = .ok (.aload_n 0, 1) := by decide +kernel
theorem dX10_token_67 : decode prog_37_method_8_code 67 = .ok (.getfield 269, 3) := by decide +kernel
theorem dX10_token_70 : decode prog_37_method_8_code 70 = .ok (.isub, 1) := by decide +kernel
theorem dX10_token_71 : decode prog_37_method_8_code 71 = .ok (.bipush 8, 2) := by decide +kernel
theorem dX10_token_73 : decode prog_37_method_8_code 73 = .ok (.if_icmp .ge 26, 3) := by decide +kernel
theorem dX10_token_76 : decode prog_37_method_8_code 76 = .ok (.aload_n 0, 1) := by decide +kernel
theorem dX10_token_77 : decode prog_37_method_8_code 77 = .ok (.ldc2_w 283, 3) := by decide +kernel
theorem dX10_token_80 : decode prog_37_method_8_code 80 = .ok (.aload_n 0, 1) := by decide +kernel
theorem dX10_token_81 : decode prog_37_method_8_code 81 = .ok (.getfield 272, 3) := by decide +kernel
theorem dX10_token_84 : decode prog_37_method_8_code 84 = .ok (.lmul, 1) := by decide +kernel
theorem dX10_token_85 : decode prog_37_method_8_code 85 = .ok (.aload_n 0, 1) := by decide +kernel
theorem dX10_token_86 : decode prog_37_method_8_code 86 = .ok (.iload_n 3, 1) := by decide +kernel
theorem dX10_token_87 : decode prog_37_method_8_code 87 = .ok (.invokevirtual 262, 3) := by decide +kernel
theorem dX10_token_90 : decode prog_37_method_8_code 90 = .ok (.i2l, 1) := by decide +kernel
theorem dX10_token_91 : decode prog_37_method_8_code 91 = .ok (.ladd, 1) := by decide +kernel
theorem dX10_token_92 : decode prog_37_method_8_code 92 = .ok (.ldc2_w 285, 3) := by decide +kernel
theorem dX10_token_95 : decode prog_37_method_8_code 95 = .ok (.lsub, 1) := by decide +kernel
theorem dX10_token_96 : decode prog_37_method_8_code 96 = .ok (.putfield 272, 3) := by decide +kernel
theorem dX10_token_99 : decode prog_37_method_8_code 99 = .ok (.iinc 3 1, 3) := by decide +kernel
theorem dX10_token_102 : decode prog_37_method_8_code 102 = .ok (.goto (-48), 3) := by decide +kernel
theorem dX10_token_105 : decode prog_37_method_8_code 105 = .ok (.aload_n 0, 1) := by decide +kernel
theorem dX10_token_106 : decode prog_37_method_8_code 106 = .ok (.iload_n 3, 1) := by decide +kernel
theorem dX10_token_107 : decode prog_37_method_8_code 107 = .ok (.aload_n 0, 1) := by decide +kernel
theorem dX10_token_108 : decode prog_37_method_8_code 108 = .ok (.getfield 269, 3) := by decide +kernel
theorem dX10_token_111 : decode prog_37_method_8_code 111 = .ok (.isub, 1) := by decide +kernel
theorem dX10_token_112 : decode prog_37_method_8_code 112 = .ok (.bipush 8, 2) := by decide +kernel
theorem dX10_token_114 : decode prog_37_method_8_code 114 = .ok (.if_icmp .le 7, 3) := by decide +kernel
theorem dX10_token_117 : decode prog_37_method_8_code 117 = .ok (.iconst 4, 1) := by decide +kernel
theorem dX10_token_118 : decode prog_37_method_8_code 118 = .ok (.goto 4, 3) := by decide +kernel
theorem dX10_token_121 : decode prog_37_method_8_code 121 = .ok (.iconst 1, 1) := by decide +kernel
theorem dX10_token_122 : decode prog_37_method_8_code 122 = .ok (.putfield 276, 3) := by decide +kernel
theorem dX10_token_125 : decode prog_37_method_8_code 125 = .ok (.goto 101, 3) := by decide +kernel
theorem dX10_token_128 : decode prog_37_method_8_code 128 = .ok (.iload_n 2, 1) := by decide +kernel
theorem dX10_token_129 : decode prog_37_method_8_code 129 = .ok (.invokestatic 287, 3) := by decide +kernel
theorem dX10_token_132 : decode prog_37_method_8_code 132 = .ok (.ifCond .eq 88, 3) := by decide +kernel
theorem dX10_token_135 : decode prog_37_method_8_code 135 = .ok (.aload_n 0, 1) := by decide +kernel
theorem dX10_token_136 : decode prog_37_method_8_code 136 = .ok (.iload_n 3, 1) := by decide +kernel
theorem dX10_token_137 : decode prog_37_method_8_code 137 = .ok (.invokevirtual 262, 3) := by decide +kernel
theorem dX10_token_140 : decode prog_37_method_8_code 140 = .ok (.invokestatic 287, 3) := by decide +kernel
theorem dX10_token_143 : decode prog_37_method_8_code 143 = .ok (.ifCond .eq 43, 3) := by decide +kernel
theorem dX10_token_146 : decode prog_37_method_8_code 146 = .ok (.iload_n 3, 1) := by decide +kernel
theorem dX10_token_147 : decode prog_37_method_8_code 147 = .ok (.aload_n 0, 1) := by decide +kernel
theorem dX10_token_148 : decode prog_37_method_8_code 148 = .ok (.getfield 269, 3) := by decide +kernel
theorem dX10_token_151 : decode prog_37_method_8_code 151 = .ok (.isub, 1) := by decide +kernel
theorem dX10_token_152 : decode prog_37_method_8_code 152 = .ok (.bipush 10, 2) := by decide +kernel
theorem dX10_token_154 : decode prog_37_method_8_code 154 = .ok (.if_icmp .ge 26, 3) := by decide +kernel
theorem dX10_token_157 : decode prog_37_method_8_code 157 = .ok (.aload_n 0, 1) := by decide +kernel
theorem dX10_token_158 : decode prog_37_method_8_code 158 = .ok (.ldc2_w 290, 3) := by decide +kernel
theorem dX10_token_161 : decode prog_37_method_8_code 161 = .ok (.aload_n 0, 1) := by decide +kernel
theorem dX10_token_162 : decode prog_37_method_8_code 162 = .ok (.getfield 272, 3) := by decide +kernel
theorem dX10_token_165 : decode prog_37_method_8_code 165 = .ok (.lmul, 1) := by decide +kernel
theorem dX10_token_166 : decode prog_37_method_8_code 166 = .ok (.aload_n 0, 1) := by decide +kernel
theorem dX10_token_167 : decode prog_37_method_8_code 167 = .ok (.iload_n 3, 1) := by decide +kernel
theorem dX10_token_168 : decode prog_37_method_8_code 168 = .ok (.invokevirtual 262, 3) := by decide +kernel
theorem dX10_token_171 : decode prog_37_method_8_code 171 = .ok (.i2l, 1) := by decide +kernel
theorem dX10_token_172 : decode prog_37_method_8_code 172 = .ok (.ladd, 1) := by decide +kernel
theorem dX10_token_173 : decode prog_37_method_8_code 173 = .ok (.ldc2_w 292, 3) := by decide +kernel
theorem dX10_token_176 : decode prog_37_method_8_code 176 = .ok (.lsub, 1) := by decide +kernel
theorem dX10_token_177 : decode prog_37_method_8_code 177 = .ok (.putfield 272, 3) := by decide +kernel
theorem dX10_token_180 : decode prog_37_method_8_code 180 = .ok (.iinc 3 1, 3) := by decide +kernel
theorem dX10_token_183 : decode prog_37_method_8_code 183 = .ok (.goto (-48), 3) := by decide +kernel
theorem dX10_token_186 : decode prog_37_method_8_code 186 = .ok (.aload_n 0, 1) := by decide +kernel
theorem dX10_token_187 : decode prog_37_method_8_code 187 = .ok (.iload_n 3, 1) := by decide +kernel
theorem dX10_token_188 : decode prog_37_method_8_code 188 = .ok (.aload_n 0, 1) := by decide +kernel
theorem dX10_token_189 : decode prog_37_method_8_code 189 = .ok (.getfield 269, 3) := by decide +kernel
theorem dX10_token_192 : decode prog_37_method_8_code 192 = .ok (.isub, 1) := by decide +kernel
theorem dX10_token_193 : decode prog_37_method_8_code 193 = .ok (.bipush 10, 2) := by decide +kernel
theorem dX10_token_195 : decode prog_37_method_8_code 195 = .ok (.if_icmp .gt 14, 3) := by decide +kernel
theorem dX10_token_198 : decode prog_37_method_8_code 198 = .ok (.aload_n 0, 1) := by decide +kernel
theorem dX10_token_199 : decode prog_37_method_8_code 199 = .ok (.getfield 272, 3) := by decide +kernel
theorem dX10_token_202 : decode prog_37_method_8_code 202 = .ok (.ldc2_w 294, 3) := by decide +kernel
theorem dX10_token_205 : decode prog_37_method_8_code 205 = .ok (.lcmp, 1) := by decide +kernel
theorem dX10_token_206 : decode prog_37_method_8_code 206 = .ok (.ifCond .le 7, 3) := by decide +kernel
theorem dX10_token_209 : decode prog_37_method_8_code 209 = .ok (.iconst 4, 1) := by decide +kernel
theorem dX10_token_210 : decode prog_37_method_8_code 210 = .ok (.goto 4, 3) := by decide +kernel
theorem dX10_token_213 : decode prog_37_method_8_code 213 = .ok (.iconst 2, 1) := by decide +kernel
theorem dX10_token_214 : decode prog_37_method_8_code 214 = .ok (.putfield 276, 3) := by decide +kernel
theorem dX10_token_217 : decode prog_37_method_8_code 217 = .ok (.goto 9, 3) := by decide +kernel
theorem dX10_token_220 : decode prog_37_method_8_code 220 = .ok (.aload_n 0, 1) := by decide +kernel
theorem dX10_token_221 : decode prog_37_method_8_code 221 = .ok (.iload_n 2, 1) := by decide +kernel
theorem dX10_token_222 : decode prog_37_method_8_code 222 = .ok (.invokevirtual 296, 3) := by decide +kernel
theorem dX10_token_225 : decode prog_37_method_8_code 225 = .ok (.istore_n 3, 1) := by decide +kernel
theorem dX10_token_226 : decode prog_37_method_8_code 226 = .ok (.aload_n 0, 1) := by decide +kernel
theorem dX10_token_227 : decode prog_37_method_8_code 227 = .ok (.iload_n 3, 1) := by decide +kernel
theorem dX10_token_228 : decode prog_37_method_8_code 228 = .ok (.putfield 299, 3) := by decide +kernel
theorem dX10_token_231 : decode prog_37_method_8_code 231 = .ok (.return_, 1) := by decide +kernel
theorem dX10_begin_0 : decode prog_37_method_7_code 0 = .ok (.iload_n 1, 1) := by decide +kernel
theorem dX10_begin_1 : decode prog_37_method_7_code 1 = .ok (.istore_n 2, 1) := by decide +kernel
theorem dX10_begin_2 : decode prog_37_method_7_code 2 = .ok (.iconst 1, 1) := by decide +kernel
theorem dX10_begin_3 : decode prog_37_method_7_code 3 = .ok (.istore_n 3, 1) := by decide +kernel
theorem dX10_begin_4 : decode prog_37_method_7_code 4 = .ok (.iload_n 3, 1) := by decide +kernel
theorem dX10_begin_5 : decode prog_37_method_7_code 5 = .ok (.ifCond .eq 74, 3) := by decide +kernel
theorem dX10_begin_8 : decode prog_37_method_7_code 8 = .ok (.iload_n 2, 1) := by decide +kernel
theorem dX10_begin_9 : decode prog_37_method_7_code 9 = .ok (.aload_n 0, 1) := by decide +kernel
theorem dX10_begin_10 : decode prog_37_method_7_code 10 = .ok (.getfield 259, 3) := by decide +kernel
theorem dX10_begin_13 : decode prog_37_method_7_code 13 = .ok (.if_icmp .ge 66, 3) := by decide +kernel
theorem dX10_begin_16 : decode prog_37_method_7_code 16 = .ok (.aload_n 0, 1) := by decide +kernel
theorem dX10_begin_17 : decode prog_37_method_7_code 17 = .ok (.iload_n 2, 1) := by decide +kernel
theorem dX10_begin_18 : decode prog_37_method_7_code 18 = .ok (.invokevirtual 262, 3) := by decide +kernel
theorem dX10_begin_21 : decode prog_37_method_7_code 21 = .ok (.istore 4, 2) := by decide +kernel
theorem dX10_begin_23 : decode prog_37_method_7_code 23 = .ok (.iload 4, 2) := by decide +kernel
theorem dX10_begin_25 : decode prog_37_method_7_code 25 = .ok (.bipush 35, 2) := by decide +kernel
theorem dX10_begin_27 : decode prog_37_method_7_code 27 = .ok (.if_icmp .ne 27, 3) := by decide +kernel
theorem dX10_begin_30 : decode prog_37_method_7_code 30 = .ok (.iload_n 2, 1) := by decide +kernel
theorem dX10_begin_31 : decode prog_37_method_7_code 31 = .ok (.aload_n 0, 1) := by decide +kernel
theorem dX10_begin_32 : decode prog_37_method_7_code 32 = .ok (.getfield 259, 3) := by decide +kernel
theorem dX10_begin_35 : decode prog_37_method_7_code 35 = .ok (.if_icmp .ge 41, 3) := by decide +kernel
theorem dX10_begin_38 : decode prog_37_method_7_code 38 = .ok (.aload_n 0, 1) := by decide +kernel
theorem dX10_begin_39 : decode prog_37_method_7_code 39 = .ok (.iload_n 2, 1) := by decide +kernel
theorem dX10_begin_40 : decode prog_37_method_7_code 40 = .ok (.invokevirtual 262, 3) := by decide +kernel
theorem dX10_begin_43 : decode prog_37_method_7_code 43 = .ok (.bipush 10, 2) := by decide +kernel
theorem dX10_begin_45 : decode prog_37_method_7_code 45 = .ok (.if_icmp .eq 31, 3) := by decide +kernel
theorem dX10_begin_48 : decode prog_37_method_7_code 48 = .ok (.iinc 2 1, 3) := by decide +kernel
theorem dX10_begin_51 : decode prog_37_method_7_code 51 = .ok (.goto (-21), 3) := by decide +kernel
theorem dX10_begin_54 : decode prog_37_method_7_code 54 = .ok (.iload 4, 2) := by decide +kernel
theorem dX10_begin_56 : decode prog_37_method_7_code 56 = .ok (.bipush 32, 2) := by decide +kernel
theorem dX10_begin_58 : decode prog_37_method_7_code 58 = .ok (.if_icmp .eq 10, 3) := by decide +kernel
theorem dX10_begin_61 : decode prog_37_method_7_code 61 = .ok (.iload 4, 2) := by decide +kernel
theorem dX10_begin_63 : decode prog_37_method_7_code 63 = .ok (.bipush 10, 2) := by decide +kernel
theorem dX10_begin_65 : decode prog_37_method_7_code 65 = .ok (.if_icmp .ne 9, 3) := by decide +kernel
theorem dX10_begin_68 : decode prog_37_method_7_code 68 = .ok (.iinc 2 1, 3) := by decide +kernel
theorem dX10_begin_71 : decode prog_37_method_7_code 71 = .ok (.goto 5, 3) := by decide +kernel
theorem dX10_begin_74 : decode prog_37_method_7_code 74 = .ok (.iconst 0, 1) := by decide +kernel
theorem dX10_begin_75 : decode prog_37_method_7_code 75 = .ok (.istore_n 3, 1) := by decide +kernel
theorem dX10_begin_76 : decode prog_37_method_7_code 76 = .ok (.goto (-72), 3) := by decide +kernel
theorem dX10_begin_79 : decode prog_37_method_7_code 79 = .ok (.iload_n 2, 1) := by decide +kernel
theorem dX10_begin_80 : decode prog_37_method_7_code 80 = .ok (.ireturn, 1) := by decide +kernel
theorem dX10_byteAt_0 : decode prog_37_method_4_code 0 = .ok (.iload_n 1, 1) := by decide +kernel
theorem dX10_byteAt_1 : decode prog_37_method_4_code 1 = .ok (.aload_n 0, 1) := by decide +kernel
theorem dX10_byteAt_2 : decode prog_37_method_4_code 2 = .ok (.getfield 259, 3) := by decide +kernel
theorem dX10_byteAt_5 : decode prog_37_method_4_code 5 = .ok (.if_icmp .ge 16, 3) := by decide +kernel
theorem dX10_byteAt_8 : decode prog_37_method_4_code 8 = .ok (.aload_n 0, 1) := by decide +kernel
theorem dX10_byteAt_9 : decode prog_37_method_4_code 9 = .ok (.getfield 99, 3) := by decide +kernel
theorem dX10_byteAt_12 : decode prog_37_method_4_code 12 = .ok (.iload_n 1, 1) := by decide +kernel
theorem dX10_byteAt_13 : decode prog_37_method_4_code 13 = .ok (.baload, 1) := by decide +kernel
theorem dX10_byteAt_14 : decode prog_37_method_4_code 14 = .ok (.sipush 255, 3) := by decide +kernel
theorem dX10_byteAt_17 : decode prog_37_method_4_code 17 = .ok (.iand, 1) := by decide +kernel
theorem dX10_byteAt_18 : decode prog_37_method_4_code 18 = .ok (.goto 4, 3) := by decide +kernel
theorem dX10_byteAt_21 : decode prog_37_method_4_code 21 = .ok (.iconst 0, 1) := by decide +kernel
theorem dX10_byteAt_22 : decode prog_37_method_4_code 22 = .ok (.ireturn, 1) := by decide +kernel
theorem dX10_isLetter_0 : decode prog_37_method_5_code 0 = .ok (.iload_n 0, 1) := by decide +kernel
theorem dX10_isLetter_1 : decode prog_37_method_5_code 1 = .ok (.bipush 97, 2) := by decide +kernel
theorem dX10_isLetter_3 : decode prog_37_method_5_code 3 = .ok (.if_icmp .lt 13, 3) := by decide +kernel
theorem dX10_isLetter_6 : decode prog_37_method_5_code 6 = .ok (.iload_n 0, 1) := by decide +kernel
theorem dX10_isLetter_7 : decode prog_37_method_5_code 7 = .ok (.bipush 122, 2) := by decide +kernel
theorem dX10_isLetter_9 : decode prog_37_method_5_code 9 = .ok (.if_icmp .gt 7, 3) := by decide +kernel
theorem dX10_isLetter_12 : decode prog_37_method_5_code 12 = .ok (.iconst 1, 1) := by decide +kernel
theorem dX10_isLetter_13 : decode prog_37_method_5_code 13 = .ok (.goto 4, 3) := by decide +kernel
theorem dX10_isLetter_16 : decode prog_37_method_5_code 16 = .ok (.iconst 0, 1) := by decide +kernel
theorem dX10_isLetter_17 : decode prog_37_method_5_code 17 = .ok (.ireturn, 1) := by decide +kernel
theorem dX10_isDigit_0 : decode prog_37_method_6_code 0 = .ok (.iload_n 0, 1) := by decide +kernel
theorem dX10_isDigit_1 : decode prog_37_method_6_code 1 = .ok (.bipush 48, 2) := by decide +kernel
theorem dX10_isDigit_3 : decode prog_37_method_6_code 3 = .ok (.if_icmp .lt 13, 3) := by decide +kernel
theorem dX10_isDigit_6 : decode prog_37_method_6_code 6 = .ok (.iload_n 0, 1) := by decide +kernel
theorem dX10_isDigit_7 : decode prog_37_method_6_code 7 = .ok (.bipush 57, 2) := by decide +kernel
theorem dX10_isDigit_9 : decode prog_37_method_6_code 9 = .ok (.if_icmp .gt 7, 3) := by decide +kernel
theorem dX10_isDigit_12 : decode prog_37_method_6_code 12 = .ok (.iconst 1, 1) := by decide +kernel
theorem dX10_isDigit_13 : decode prog_37_method_6_code 13 = .ok (.goto 4, 3) := by decide +kernel
theorem dX10_isDigit_16 : decode prog_37_method_6_code 16 = .ok (.iconst 0, 1) := by decide +kernel
theorem dX10_isDigit_17 : decode prog_37_method_6_code 17 = .ok (.ireturn, 1) := by decide +kernel
theorem dX10_signAt_0 : decode prog_37_method_9_code 0 = .ok (.aload_n 0, 1) := by decide +kernel
theorem dX10_signAt_1 : decode prog_37_method_9_code 1 = .ok (.iconst 3, 1) := by decide +kernel
theorem dX10_signAt_2 : decode prog_37_method_9_code 2 = .ok (.putfield 276, 3) := by decide +kernel
theorem dX10_signAt_5 : decode prog_37_method_9_code 5 = .ok (.aload_n 0, 1) := by decide +kernel
theorem dX10_signAt_6 : decode prog_37_method_9_code 6 = .ok (.aload_n 0, 1) := by decide +kernel
theorem dX10_signAt_7 : decode prog_37_method_9_code 7 = .ok (.getfield 269, 3) := by decide +kernel
theorem dX10_signAt_10 : decode prog_37_method_9_code 10 = .ok (.iconst 1, 1) := by decide +kernel
theorem dX10_signAt_11 : decode prog_37_method_9_code 11 = .ok (.iadd, 1) := by decide +kernel
theorem dX10_signAt_12 : decode prog_37_method_9_code 12 = .ok (.invokevirtual 262, 3) := by decide +kernel
theorem dX10_signAt_15 : decode prog_37_method_9_code 15 = .ok (.bipush 61, 2) := by decide +kernel
theorem dX10_signAt_17 : decode prog_37_method_9_code 17 = .ok (.if_icmp .ne 7, 3) := by decide +kernel
theorem dX10_signAt_20 : decode prog_37_method_9_code 20 = .ok (.iconst 1, 1) := by decide +kernel
theorem dX10_signAt_21 : decode prog_37_method_9_code 21 = .ok (.goto 4, 3) := by decide +kernel
theorem dX10_signAt_24 : decode prog_37_method_9_code 24 = .ok (.iconst 0, 1) := by decide +kernel
theorem dX10_signAt_25 : decode prog_37_method_9_code 25 = .ok (.istore_n 2, 1) := by decide +kernel
theorem dX10_signAt_26 : decode prog_37_method_9_code 26 = .ok (.iload_n 2, 1) := by decide +kernel
theorem dX10_signAt_27 : decode prog_37_method_9_code 27 = .ok (.ifCond .eq 77, 3) := by decide +kernel
theorem dX10_signAt_30 : decode prog_37_method_9_code 30 = .ok (.iload_n 1, 1) := by decide +kernel
theorem dX10_signAt_31 : decode prog_37_method_9_code 31 = .ok (.bipush 61, 2) := by decide +kernel
theorem dX10_signAt_33 : decode prog_37_method_9_code 33 = .ok (.if_icmp .eq 21, 3) := by decide +kernel
theorem dX10_signAt_36 : decode prog_37_method_9_code 36 = .ok (.iload_n 1, 1) := by decide +kernel
theorem dX10_signAt_37 : decode prog_37_method_9_code 37 = .ok (.bipush 33, 2) := by decide +kernel
theorem dX10_signAt_39 : decode prog_37_method_9_code 39 = .ok (.if_icmp .eq 15, 3) := by decide +kernel
theorem dX10_signAt_42 : decode prog_37_method_9_code 42 = .ok (.iload_n 1, 1) := by decide +kernel
theorem dX10_signAt_43 : decode prog_37_method_9_code 43 = .ok (.bipush 60, 2) := by decide +kernel
theorem dX10_signAt_45 : decode prog_37_method_9_code 45 = .ok (.if_icmp .eq 9, 3) := by decide +kernel
theorem dX10_signAt_48 : decode prog_37_method_9_code 48 = .ok (.iload_n 1, 1) := by decide +kernel
theorem dX10_signAt_49 : decode prog_37_method_9_code 49 = .ok (.bipush 62, 2) := by decide +kernel
theorem dX10_signAt_51 : decode prog_37_method_9_code 51 = .ok (.if_icmp .ne 53, 3) := by decide +kernel
theorem dX10_signAt_54 : decode prog_37_method_9_code 54 = .ok (.aload_n 0, 1) := by decide +kernel
theorem dX10_signAt_55 : decode prog_37_method_9_code 55 = .ok (.iload_n 1, 1) := by decide +kernel
theorem dX10_signAt_56 : decode prog_37_method_9_code 56 = .ok (.bipush 61, 2) := by decide +kernel
theorem dX10_signAt_58 : decode prog_37_method_9_code 58 = .ok (.if_icmp .ne 9, 3) := by decide +kernel
theorem dX10_signAt_61 : decode prog_37_method_9_code 61 = .ok (.ldc2_w 302, 3) := by decide +kernel
theorem dX10_signAt_64 : decode prog_37_method_9_code 64 = .ok (.goto 30, 3) := by decide +kernel
theorem dX10_signAt_67 : decode prog_37_method_9_code 67 = .ok (.iload_n 1, 1) := by decide +kernel
theorem dX10_signAt_68 : decode prog_37_method_9_code 68 = .ok (.bipush 33, 2) := by decide +kernel
theorem dX10_signAt_70 : decode prog_37_method_9_code 70 = .ok (.if_icmp .ne 9, 3) := by decide +kernel
theorem dX10_signAt_73 : decode prog_37_method_9_code 73 = .ok (.ldc2_w 17, 3) := by decide +kernel
theorem dX10_signAt_76 : decode prog_37_method_9_code 76 = .ok (.goto 18, 3) := by decide +kernel
theorem dX10_signAt_79 : decode prog_37_method_9_code 79 = .ok (.iload_n 1, 1) := by decide +kernel
theorem dX10_signAt_80 : decode prog_37_method_9_code 80 = .ok (.bipush 60, 2) := by decide +kernel
theorem dX10_signAt_82 : decode prog_37_method_9_code 82 = .ok (.if_icmp .ne 9, 3) := by decide +kernel
theorem dX10_signAt_85 : decode prog_37_method_9_code 85 = .ok (.ldc2_w 304, 3) := by decide +kernel
theorem dX10_signAt_88 : decode prog_37_method_9_code 88 = .ok (.goto 6, 3) := by decide +kernel
theorem dX10_signAt_91 : decode prog_37_method_9_code 91 = .ok (.ldc2_w 306, 3) := by decide +kernel
theorem dX10_signAt_94 : decode prog_37_method_9_code 94 = .ok (.putfield 272, 3) := by decide +kernel
theorem dX10_signAt_97 : decode prog_37_method_9_code 97 = .ok (.aload_n 0, 1) := by decide +kernel
theorem dX10_signAt_98 : decode prog_37_method_9_code 98 = .ok (.getfield 269, 3) := by decide +kernel
theorem dX10_signAt_101 : decode prog_37_method_9_code 101 = .ok (.iconst 2, 1) := by decide +kernel
theorem dX10_signAt_102 : decode prog_37_method_9_code 102 = .ok (.iadd, 1) := by decide +kernel
theorem dX10_signAt_103 : decode prog_37_method_9_code 103 = .ok (.ireturn, 1) := by decide +kernel
theorem dX10_signAt_104 : decode prog_37_method_9_code 104 = .ok (.iload_n 1, 1) := by decide +kernel
theorem dX10_signAt_105 : decode prog_37_method_9_code 105 = .ok (.bipush 123, 2) := by decide +kernel
theorem dX10_signAt_107 : decode prog_37_method_9_code 107 = .ok (.if_icmp .eq 111, 3) := by decide +kernel
theorem dX10_signAt_110 : decode prog_37_method_9_code 110 = .ok (.iload_n 1, 1) := by decide +kernel
theorem dX10_signAt_111 : decode prog_37_method_9_code 111 = .ok (.bipush 125, 2) := by decide +kernel
theorem dX10_signAt_113 : decode prog_37_method_9_code 113 = .ok (.if_icmp .eq 105, 3) := by decide +kernel
theorem dX10_signAt_116 : decode prog_37_method_9_code 116 = .ok (.iload_n 1, 1) := by decide +kernel
theorem dX10_signAt_117 : decode prog_37_method_9_code 117 = .ok (.bipush 40, 2) := by decide +kernel
theorem dX10_signAt_119 : decode prog_37_method_9_code 119 = .ok (.if_icmp .eq 99, 3) := by decide +kernel
theorem dX10_signAt_122 : decode prog_37_method_9_code 122 = .ok (.iload_n 1, 1) := by decide +kernel
theorem dX10_signAt_123 : decode prog_37_method_9_code 123 = .ok (.bipush 41, 2) := by decide +kernel
theorem dX10_signAt_125 : decode prog_37_method_9_code 125 = .ok (.if_icmp .eq 93, 3) := by decide +kernel
theorem dX10_signAt_128 : decode prog_37_method_9_code 128 = .ok (.iload_n 1, 1) := by decide +kernel
theorem dX10_signAt_129 : decode prog_37_method_9_code 129 = .ok (.bipush 91, 2) := by decide +kernel
theorem dX10_signAt_131 : decode prog_37_method_9_code 131 = .ok (.if_icmp .eq 87, 3) := by decide +kernel
theorem dX10_signAt_134 : decode prog_37_method_9_code 134 = .ok (.iload_n 1, 1) := by decide +kernel
theorem dX10_signAt_135 : decode prog_37_method_9_code 135 = .ok (.bipush 93, 2) := by decide +kernel
theorem dX10_signAt_137 : decode prog_37_method_9_code 137 = .ok (.if_icmp .eq 81, 3) := by decide +kernel
theorem dX10_signAt_140 : decode prog_37_method_9_code 140 = .ok (.iload_n 1, 1) := by decide +kernel
theorem dX10_signAt_141 : decode prog_37_method_9_code 141 = .ok (.bipush 59, 2) := by decide +kernel
theorem dX10_signAt_143 : decode prog_37_method_9_code 143 = .ok (.if_icmp .eq 75, 3) := by decide +kernel
theorem dX10_signAt_146 : decode prog_37_method_9_code 146 = .ok (.iload_n 1, 1) := by decide +kernel
theorem dX10_signAt_147 : decode prog_37_method_9_code 147 = .ok (.bipush 44, 2) := by decide +kernel
theorem dX10_signAt_149 : decode prog_37_method_9_code 149 = .ok (.if_icmp .eq 69, 3) := by decide +kernel
theorem dX10_signAt_152 : decode prog_37_method_9_code 152 = .ok (.iload_n 1, 1) := by decide +kernel
theorem dX10_signAt_153 : decode prog_37_method_9_code 153 = .ok (.bipush 61, 2) := by decide +kernel
theorem dX10_signAt_155 : decode prog_37_method_9_code 155 = .ok (.if_icmp .eq 63, 3) := by decide +kernel
theorem dX10_signAt_158 : decode prog_37_method_9_code 158 = .ok (.iload_n 1, 1) := by decide +kernel
theorem dX10_signAt_159 : decode prog_37_method_9_code 159 = .ok (.bipush 60, 2) := by decide +kernel
theorem dX10_signAt_161 : decode prog_37_method_9_code 161 = .ok (.if_icmp .eq 57, 3) := by decide +kernel
theorem dX10_signAt_164 : decode prog_37_method_9_code 164 = .ok (.iload_n 1, 1) := by decide +kernel
theorem dX10_signAt_165 : decode prog_37_method_9_code 165 = .ok (.bipush 62, 2) := by decide +kernel
theorem dX10_signAt_167 : decode prog_37_method_9_code 167 = .ok (.if_icmp .eq 51, 3) := by decide +kernel
theorem dX10_signAt_170 : decode prog_37_method_9_code 170 = .ok (.iload_n 1, 1) := by decide +kernel
theorem dX10_signAt_171 : decode prog_37_method_9_code 171 = .ok (.bipush 43, 2) := by decide +kernel
theorem dX10_signAt_173 : decode prog_37_method_9_code 173 = .ok (.if_icmp .eq 45, 3) := by decide +kernel
theorem dX10_signAt_176 : decode prog_37_method_9_code 176 = .ok (.iload_n 1, 1) := by decide +kernel
theorem dX10_signAt_177 : decode prog_37_method_9_code 177 = .ok (.bipush 45, 2) := by decide +kernel
theorem dX10_signAt_179 : decode prog_37_method_9_code 179 = .ok (.if_icmp .eq 39, 3) := by decide +kernel
theorem dX10_signAt_182 : decode prog_37_method_9_code 182 = .ok (.iload_n 1, 1) := by decide +kernel
theorem dX10_signAt_183 : decode prog_37_method_9_code 183 = .ok (.bipush 42, 2) := by decide +kernel
theorem dX10_signAt_185 : decode prog_37_method_9_code 185 = .ok (.if_icmp .eq 33, 3) := by decide +kernel
theorem dX10_signAt_188 : decode prog_37_method_9_code 188 = .ok (.iload_n 1, 1) := by decide +kernel
theorem dX10_signAt_189 : decode prog_37_method_9_code 189 = .ok (.bipush 47, 2) := by decide +kernel
theorem dX10_signAt_191 : decode prog_37_method_9_code 191 = .ok (.if_icmp .eq 27, 3) := by decide +kernel
theorem dX10_signAt_194 : decode prog_37_method_9_code 194 = .ok (.iload_n 1, 1) := by decide +kernel
theorem dX10_signAt_195 : decode prog_37_method_9_code 195 = .ok (.bipush 37, 2) := by decide +kernel
theorem dX10_signAt_197 : decode prog_37_method_9_code 197 = .ok (.if_icmp .eq 21, 3) := by decide +kernel
theorem dX10_signAt_200 : decode prog_37_method_9_code 200 = .ok (.iload_n 1, 1) := by decide +kernel
theorem dX10_signAt_201 : decode prog_37_method_9_code 201 = .ok (.bipush 38, 2) := by decide +kernel
theorem dX10_signAt_203 : decode prog_37_method_9_code 203 = .ok (.if_icmp .eq 15, 3) := by decide +kernel
theorem dX10_signAt_206 : decode prog_37_method_9_code 206 = .ok (.iload_n 1, 1) := by decide +kernel
theorem dX10_signAt_207 : decode prog_37_method_9_code 207 = .ok (.bipush 124, 2) := by decide +kernel
theorem dX10_signAt_209 : decode prog_37_method_9_code 209 = .ok (.if_icmp .eq 9, 3) := by decide +kernel
theorem dX10_signAt_212 : decode prog_37_method_9_code 212 = .ok (.iload_n 1, 1) := by decide +kernel
theorem dX10_signAt_213 : decode prog_37_method_9_code 213 = .ok (.bipush 33, 2) := by decide +kernel
theorem dX10_signAt_215 : decode prog_37_method_9_code 215 = .ok (.if_icmp .ne 7, 3) := by decide +kernel
theorem dX10_signAt_218 : decode prog_37_method_9_code 218 = .ok (.iconst 1, 1) := by decide +kernel
theorem dX10_signAt_219 : decode prog_37_method_9_code 219 = .ok (.goto 4, 3) := by decide +kernel
theorem dX10_signAt_222 : decode prog_37_method_9_code 222 = .ok (.iconst 0, 1) := by decide +kernel
theorem dX10_signAt_223 : decode prog_37_method_9_code 223 = .ok (.istore_n 3, 1) := by decide +kernel
theorem dX10_signAt_224 : decode prog_37_method_9_code 224 = .ok (.aload_n 0, 1) := by decide +kernel
theorem dX10_signAt_225 : decode prog_37_method_9_code 225 = .ok (.iload_n 1, 1) := by decide +kernel
theorem dX10_signAt_226 : decode prog_37_method_9_code 226 = .ok (.i2l, 1) := by decide +kernel
theorem dX10_signAt_227 : decode prog_37_method_9_code 227 = .ok (.putfield 272, 3) := by decide +kernel
theorem dX10_signAt_230 : decode prog_37_method_9_code 230 = .ok (.iload_n 3, 1) := by decide +kernel
theorem dX10_signAt_231 : decode prog_37_method_9_code 231 = .ok (.ifCond .ne 8, 3) := by decide +kernel
theorem dX10_signAt_234 : decode prog_37_method_9_code 234 = .ok (.aload_n 0, 1) := by decide +kernel
theorem dX10_signAt_235 : decode prog_37_method_9_code 235 = .ok (.iconst 4, 1) := by decide +kernel
theorem dX10_signAt_236 : decode prog_37_method_9_code 236 = .ok (.putfield 276, 3) := by decide +kernel
theorem dX10_signAt_239 : decode prog_37_method_9_code 239 = .ok (.aload_n 0, 1) := by decide +kernel
theorem dX10_signAt_240 : decode prog_37_method_9_code 240 = .ok (.getfield 269, 3) := by decide +kernel
theorem dX10_signAt_243 : decode prog_37_method_9_code 243 = .ok (.iconst 1, 1) := by decide +kernel
theorem dX10_signAt_244 : decode prog_37_method_9_code 244 = .ok (.iadd, 1) := by decide +kernel
theorem dX10_signAt_245 : decode prog_37_method_9_code 245 = .ok (.ireturn, 1) := by decide +kernel
theorem dX10_textOf_0 : decode prog_37_method_26_code 0 = .ok (.aload_n 0, 1) := by decide +kernel
theorem dX10_textOf_1 : decode prog_37_method_26_code 1 = .ok (.iconst 0, 1) := by decide +kernel
theorem dX10_textOf_2 : decode prog_37_method_26_code 2 = .ok (.putfield 362, 3) := by decide +kernel
theorem dX10_textOf_5 : decode prog_37_method_26_code 5 = .ok (.aload_n 0, 1) := by decide +kernel
theorem dX10_textOf_6 : decode prog_37_method_26_code 6 = .ok (.getfield 311, 3) := by decide +kernel
theorem dX10_textOf_9 : decode prog_37_method_26_code 9 = .ok (.ifCond .ne 59, 3) := by decide +kernel
theorem dX10_textOf_12 : decode prog_37_method_26_code 12 = .ok (.aload_n 0, 1) := by decide +kernel
theorem dX10_textOf_13 : decode prog_37_method_26_code 13 = .ok (.getfield 362, 3) := by decide +kernel
theorem dX10_textOf_16 : decode prog_37_method_26_code 16 = .ok (.ifCond .gt 10, 3) := by decide +kernel
theorem dX10_textOf_19 : decode prog_37_method_26_code 19 = .ok (.aload_n 0, 1) := by decide +kernel
theorem dX10_textOf_20 : decode prog_37_method_26_code 20 = .ok (.getfield 276, 3) := by decide +kernel
theorem dX10_textOf_23 : decode prog_37_method_26_code 23 = .ok (.ifCond .eq 45, 3) := by decide +kernel
theorem dX10_textOf_26 : decode prog_37_method_26_code 26 = .ok (.aload_n 0, 1) := by decide +kernel
theorem dX10_textOf_27 : decode prog_37_method_26_code 27 = .ok (.getfield 362, 3) := by decide +kernel
theorem dX10_textOf_30 : decode prog_37_method_26_code 30 = .ok (.ifCond .ne 15, 3) := by decide +kernel
theorem dX10_textOf_33 : decode prog_37_method_26_code 33 = .ok (.aload_n 0, 1) := by decide +kernel
theorem dX10_textOf_34 : decode prog_37_method_26_code 34 = .ok (.iconst 0, 1) := by decide +kernel
theorem dX10_textOf_35 : decode prog_37_method_26_code 35 = .ok (.invokevirtual 365, 3) := by decide +kernel
theorem dX10_textOf_38 : decode prog_37_method_26_code 38 = .ok (.aload_n 0, 1) := by decide +kernel
theorem dX10_textOf_39 : decode prog_37_method_26_code 39 = .ok (.invokevirtual 368, 3) := by decide +kernel
theorem dX10_textOf_42 : decode prog_37_method_26_code 42 = .ok (.goto (-37), 3) := by decide +kernel
theorem dX10_textOf_45 : decode prog_37_method_26_code 45 = .ok (.aload_n 0, 1) := by decide +kernel
theorem dX10_textOf_46 : decode prog_37_method_26_code 46 = .ok (.bipush 125, 2) := by decide +kernel
theorem dX10_textOf_48 : decode prog_37_method_26_code 48 = .ok (.invokevirtual 325, 3) := by decide +kernel
theorem dX10_textOf_51 : decode prog_37_method_26_code 51 = .ok (.ifCond .eq 10, 3) := by decide +kernel
theorem dX10_textOf_54 : decode prog_37_method_26_code 54 = .ok (.aload_n 0, 1) := by decide +kernel
theorem dX10_textOf_55 : decode prog_37_method_26_code 55 = .ok (.invokevirtual 371, 3) := by decide +kernel
theorem dX10_textOf_58 : decode prog_37_method_26_code 58 = .ok (.goto (-53), 3) := by decide +kernel
theorem dX10_textOf_61 : decode prog_37_method_26_code 61 = .ok (.aload_n 0, 1) := by decide +kernel
theorem dX10_textOf_62 : decode prog_37_method_26_code 62 = .ok (.invokevirtual 374, 3) := by decide +kernel
theorem dX10_textOf_65 : decode prog_37_method_26_code 65 = .ok (.goto (-60), 3) := by decide +kernel
theorem dX10_textOf_68 : decode prog_37_method_26_code 68 = .ok (.return_, 1) := by decide +kernel
theorem dX10_word_0 : decode prog_37_method_19_code 0 = .ok (.aload_n 0, 1) := by decide +kernel
theorem dX10_word_1 : decode prog_37_method_19_code 1 = .ok (.getfield 311, 3) := by decide +kernel
theorem dX10_word_4 : decode prog_37_method_19_code 4 = .ok (.ifCond .le 4, 3) := by decide +kernel
theorem dX10_word_7 : decode prog_37_method_19_code 7 = .ok (.return_, 1) := by decide +kernel
theorem dX10_word_8 : decode prog_37_method_19_code 8 = .ok (.aload_n 0, 1) := by decide +kernel
theorem dX10_word_9 : decode prog_37_method_19_code 9 = .ok (.iload_n 1, 1) := by decide +kernel
theorem dX10_word_10 : decode prog_37_method_19_code 10 = .ok (.invokevirtual 337, 3) := by decide +kernel
theorem dX10_word_13 : decode prog_37_method_19_code 13 = .ok (.ifCond .eq 10, 3) := by decide +kernel
theorem dX10_word_16 : decode prog_37_method_19_code 16 = .ok (.aload_n 0, 1) := by decide +kernel
theorem dX10_word_17 : decode prog_37_method_19_code 17 = .ok (.invokevirtual 331, 3) := by decide +kernel
theorem dX10_word_20 : decode prog_37_method_19_code 20 = .ok (.goto 7, 3) := by decide +kernel
theorem dX10_word_23 : decode prog_37_method_19_code 23 = .ok (.aload_n 0, 1) := by decide +kernel
theorem dX10_word_24 : decode prog_37_method_19_code 24 = .ok (.invokevirtual 334, 3) := by decide +kernel
theorem dX10_word_27 : decode prog_37_method_19_code 27 = .ok (.return_, 1) := by decide +kernel
theorem dX10_isWord_0 : decode prog_37_method_14_code 0 = .ok (.aload_n 0, 1) := by decide +kernel
theorem dX10_isWord_1 : decode prog_37_method_14_code 1 = .ok (.getfield 276, 3) := by decide +kernel
theorem dX10_isWord_4 : decode prog_37_method_14_code 4 = .ok (.iconst 1, 1) := by decide +kernel
theorem dX10_isWord_5 : decode prog_37_method_14_code 5 = .ok (.if_icmp .ne 21, 3) := by decide +kernel
theorem dX10_isWord_8 : decode prog_37_method_14_code 8 = .ok (.aload_n 0, 1) := by decide +kernel
theorem dX10_isWord_9 : decode prog_37_method_14_code 9 = .ok (.getfield 272, 3) := by decide +kernel
theorem dX10_isWord_12 : decode prog_37_method_14_code 12 = .ok (.aload_n 0, 1) := by decide +kernel
theorem dX10_isWord_13 : decode prog_37_method_14_code 13 = .ok (.getfield 89, 3) := by decide +kernel
theorem dX10_isWord_16 : decode prog_37_method_14_code 16 = .ok (.iload_n 1, 1) := by decide +kernel
theorem dX10_isWord_17 : decode prog_37_method_14_code 17 = .ok (.laload, 1) := by decide +kernel
theorem dX10_isWord_18 : decode prog_37_method_14_code 18 = .ok (.lcmp, 1) := by decide +kernel
theorem dX10_isWord_19 : decode prog_37_method_14_code 19 = .ok (.ifCond .ne 7, 3) := by decide +kernel
theorem dX10_isWord_22 : decode prog_37_method_14_code 22 = .ok (.iconst 1, 1) := by decide +kernel
theorem dX10_isWord_23 : decode prog_37_method_14_code 23 = .ok (.goto 4, 3) := by decide +kernel
theorem dX10_isWord_26 : decode prog_37_method_14_code 26 = .ok (.iconst 0, 1) := by decide +kernel
theorem dX10_isWord_27 : decode prog_37_method_14_code 27 = .ok (.ireturn, 1) := by decide +kernel
theorem dX10_take_0 : decode prog_37_method_10_code 0 = .ok (.aload_n 0, 1) := by decide +kernel
theorem dX10_take_1 : decode prog_37_method_10_code 1 = .ok (.aload_n 0, 1) := by decide +kernel
theorem dX10_take_2 : decode prog_37_method_10_code 2 = .ok (.getfield 299, 3) := by decide +kernel
theorem dX10_take_5 : decode prog_37_method_10_code 5 = .ok (.invokevirtual 308, 3) := by decide +kernel
theorem dX10_take_8 : decode prog_37_method_10_code 8 = .ok (.return_, 1) := by decide +kernel
theorem dX10_wrong_0 : decode prog_37_method_12_code 0 = .ok (.aload_n 0, 1) := by decide +kernel
theorem dX10_wrong_1 : decode prog_37_method_12_code 1 = .ok (.aload_n 0, 1) := by decide +kernel
theorem dX10_wrong_2 : decode prog_37_method_12_code 2 = .ok (.getfield 276, 3) := by decide +kernel
theorem dX10_wrong_5 : decode prog_37_method_12_code 5 = .ok (.iconst 4, 1) := by decide +kernel
theorem dX10_wrong_6 : decode prog_37_method_12_code 6 = .ok (.if_icmp .ne 7, 3) := by decide +kernel
theorem dX10_wrong_9 : decode prog_37_method_12_code 9 = .ok (.iconst 1, 1) := by decide +kernel
theorem dX10_wrong_10 : decode prog_37_method_12_code 10 = .ok (.goto 4, 3) := by decide +kernel
theorem dX10_wrong_13 : decode prog_37_method_12_code 13 = .ok (.iconst 2, 1) := by decide +kernel
theorem dX10_wrong_14 : decode prog_37_method_12_code 14 = .ok (.aload_n 0, 1) := by decide +kernel
theorem dX10_wrong_15 : decode prog_37_method_12_code 15 = .ok (.getfield 269, 3) := by decide +kernel
theorem dX10_wrong_18 : decode prog_37_method_12_code 18 = .ok (.invokevirtual 317, 3) := by decide +kernel
theorem dX10_wrong_21 : decode prog_37_method_12_code 21 = .ok (.return_, 1) := by decide +kernel
theorem dX10_function_0 : decode prog_37_method_28_code 0 = .ok (.aload_n 0, 1) := by decide +kernel
theorem dX10_function_1 : decode prog_37_method_28_code 1 = .ok (.getfield 311, 3) := by decide +kernel
theorem dX10_function_4 : decode prog_37_method_28_code 4 = .ok (.ifCond .le 4, 3) := by decide +kernel
theorem dX10_function_7 : decode prog_37_method_28_code 7 = .ok (.return_, 1) := by decide +kernel
theorem dX10_function_8 : decode prog_37_method_28_code 8 = .ok (.aload_n 0, 1) := by decide +kernel
theorem dX10_function_9 : decode prog_37_method_28_code 9 = .ok (.invokevirtual 351, 3) := by decide +kernel
theorem dX10_function_12 : decode prog_37_method_28_code 12 = .ok (.ifCond .ne 8, 3) := by decide +kernel
theorem dX10_function_15 : decode prog_37_method_28_code 15 = .ok (.aload_n 0, 1) := by decide +kernel
theorem dX10_function_16 : decode prog_37_method_28_code 16 = .ok (.invokevirtual 334, 3) := by decide +kernel
theorem dX10_function_19 : decode prog_37_method_28_code 19 = .ok (.return_, 1) := by decide +kernel
theorem dX10_function_20 : decode prog_37_method_28_code 20 = .ok (.aload_n 0, 1) := by decide +kernel
theorem dX10_function_21 : decode prog_37_method_28_code 21 = .ok (.getfield 380, 3) := by decide +kernel
theorem dX10_function_24 : decode prog_37_method_28_code 24 = .ok (.bipush 12, 2) := by decide +kernel
theorem dX10_function_26 : decode prog_37_method_28_code 26 = .ok (.if_icmp .ne 13, 3) := by decide +kernel
theorem dX10_function_29 : decode prog_37_method_28_code 29 = .ok (.aload_n 0, 1) := by decide +kernel
theorem dX10_function_30 : decode prog_37_method_28_code 30 = .ok (.iconst 3, 1) := by decide +kernel
theorem dX10_function_31 : decode prog_37_method_28_code 31 = .ok (.aload_n 0, 1) := by decide +kernel
theorem dX10_function_32 : decode prog_37_method_28_code 32 = .ok (.getfield 269, 3) := by decide +kernel
theorem dX10_function_35 : decode prog_37_method_28_code 35 = .ok (.invokevirtual 317, 3) := by decide +kernel
theorem dX10_function_38 : decode prog_37_method_28_code 38 = .ok (.return_, 1) := by decide +kernel
theorem dX10_function_39 : decode prog_37_method_28_code 39 = .ok (.bipush 12, 2) := by decide +kernel
theorem dX10_function_41 : decode prog_37_method_28_code 41 = .ok (.iconst 1, 1) := by decide +kernel
theorem dX10_function_42 : decode prog_37_method_28_code 42 = .ok (.aload_n 0, 1) := by decide +kernel
theorem dX10_function_43 : decode prog_37_method_28_code 43 = .ok (.getfield 340, 3) := by decide +kernel
theorem dX10_function_46 : decode prog_37_method_28_code 46 = .ok (.isub, 1) := by decide +kernel
theorem dX10_function_47 : decode prog_37_method_28_code 47 = .ok (.imul, 1) := by decide +kernel
theorem dX10_function_48 : decode prog_37_method_28_code 48 = .ok (.aload_n 0, 1) := by decide +kernel
theorem dX10_function_49 : decode prog_37_method_28_code 49 = .ok (.getfield 380, 3) := by decide +kernel
theorem dX10_function_52 : decode prog_37_method_28_code 52 = .ok (.iadd, 1) := by decide +kernel
theorem dX10_function_53 : decode prog_37_method_28_code 53 = .ok (.istore_n 1, 1) := by decide +kernel
theorem dX10_function_54 : decode prog_37_method_28_code 54 = .ok (.aload_n 0, 1) := by decide +kernel
theorem dX10_function_55 : decode prog_37_method_28_code 55 = .ok (.getfield 272, 3) := by decide +kernel
theorem dX10_function_58 : decode prog_37_method_28_code 58 = .ok (.invokestatic 355, 3) := by decide +kernel
theorem dX10_function_61 : decode prog_37_method_28_code 61 = .ok (.istore_n 2, 1) := by decide +kernel
theorem dX10_function_62 : decode prog_37_method_28_code 62 = .ok (.bipush 12, 2) := by decide +kernel
theorem dX10_function_64 : decode prog_37_method_28_code 64 = .ok (.iconst 1, 1) := by decide +kernel
theorem dX10_function_65 : decode prog_37_method_28_code 65 = .ok (.aload_n 0, 1) := by decide +kernel
theorem dX10_function_66 : decode prog_37_method_28_code 66 = .ok (.getfield 340, 3) := by decide +kernel
theorem dX10_function_69 : decode prog_37_method_28_code 69 = .ok (.isub, 1) := by decide +kernel
theorem dX10_function_70 : decode prog_37_method_28_code 70 = .ok (.imul, 1) := by decide +kernel
theorem dX10_function_71 : decode prog_37_method_28_code 71 = .ok (.istore_n 3, 1) := by decide +kernel
theorem dX10_function_72 : decode prog_37_method_28_code 72 = .ok (.iload_n 3, 1) := by decide +kernel
theorem dX10_function_73 : decode prog_37_method_28_code 73 = .ok (.iload_n 1, 1) := by decide +kernel
theorem dX10_function_74 : decode prog_37_method_28_code 74 = .ok (.if_icmp .ge 33, 3) := by decide +kernel
theorem dX10_function_77 : decode prog_37_method_28_code 77 = .ok (.iload_n 2, 1) := by decide +kernel
theorem dX10_function_78 : decode prog_37_method_28_code 78 = .ok (.ifCond .ne 17, 3) := by decide +kernel
theorem dX10_function_81 : decode prog_37_method_28_code 81 = .ok (.aload_n 0, 1) := by decide +kernel
theorem dX10_function_82 : decode prog_37_method_28_code 82 = .ok (.getfield 103, 3) := by decide +kernel
theorem dX10_function_85 : decode prog_37_method_28_code 85 = .ok (.iload_n 3, 1) := by decide +kernel
theorem dX10_function_86 : decode prog_37_method_28_code 86 = .ok (.laload, 1) := by decide +kernel
theorem dX10_function_87 : decode prog_37_method_28_code 87 = .ok (.aload_n 0, 1) := by decide +kernel
theorem dX10_function_88 : decode prog_37_method_28_code 88 = .ok (.getfield 272, 3) := by decide +kernel
theorem dX10_function_91 : decode prog_37_method_28_code 91 = .ok (.lcmp, 1) := by decide +kernel
theorem dX10_function_92 : decode prog_37_method_28_code 92 = .ok (.ifCond .ne 7, 3) := by decide +kernel
theorem dX10_function_95 : decode prog_37_method_28_code 95 = .ok (.iconst 1, 1) := by decide +kernel
theorem dX10_function_96 : decode prog_37_method_28_code 96 = .ok (.goto 4, 3) := by decide +kernel
theorem dX10_function_99 : decode prog_37_method_28_code 99 = .ok (.iconst 0, 1) := by decide +kernel
theorem dX10_function_100 : decode prog_37_method_28_code 100 = .ok (.istore_n 2, 1) := by decide +kernel
theorem dX10_function_101 : decode prog_37_method_28_code 101 = .ok (.iinc 3 1, 3) := by decide +kernel
theorem dX10_function_104 : decode prog_37_method_28_code 104 = .ok (.goto (-32), 3) := by decide +kernel
theorem dX10_function_107 : decode prog_37_method_28_code 107 = .ok (.iload_n 2, 1) := by decide +kernel
theorem dX10_function_108 : decode prog_37_method_28_code 108 = .ok (.ifCond .eq 13, 3) := by decide +kernel
theorem dX10_function_111 : decode prog_37_method_28_code 111 = .ok (.aload_n 0, 1) := by decide +kernel
theorem dX10_function_112 : decode prog_37_method_28_code 112 = .ok (.iconst 4, 1) := by decide +kernel
theorem dX10_function_113 : decode prog_37_method_28_code 113 = .ok (.aload_n 0, 1) := by decide +kernel
theorem dX10_function_114 : decode prog_37_method_28_code 114 = .ok (.getfield 269, 3) := by decide +kernel
theorem dX10_function_117 : decode prog_37_method_28_code 117 = .ok (.invokevirtual 317, 3) := by decide +kernel
theorem dX10_function_120 : decode prog_37_method_28_code 120 = .ok (.return_, 1) := by decide +kernel
theorem dX10_function_121 : decode prog_37_method_28_code 121 = .ok (.aload_n 0, 1) := by decide +kernel
theorem dX10_function_122 : decode prog_37_method_28_code 122 = .ok (.getfield 103, 3) := by decide +kernel
theorem dX10_function_125 : decode prog_37_method_28_code 125 = .ok (.iload_n 1, 1) := by decide +kernel
theorem dX10_function_126 : decode prog_37_method_28_code 126 = .ok (.aload_n 0, 1) := by decide +kernel
theorem dX10_function_127 : decode prog_37_method_28_code 127 = .ok (.getfield 272, 3) := by decide +kernel
theorem dX10_function_130 : decode prog_37_method_28_code 130 = .ok (.lastore, 1) := by decide +kernel
theorem dX10_function_131 : decode prog_37_method_28_code 131 = .ok (.aload_n 0, 1) := by decide +kernel
theorem dX10_function_132 : decode prog_37_method_28_code 132 = .ok (.getfield 106, 3) := by decide +kernel
theorem dX10_function_135 : decode prog_37_method_28_code 135 = .ok (.iload_n 1, 1) := by decide +kernel
theorem dX10_function_136 : decode prog_37_method_28_code 136 = .ok (.aload_n 0, 1) := by decide +kernel
theorem dX10_function_137 : decode prog_37_method_28_code 137 = .ok (.getfield 269, 3) := by decide +kernel
theorem dX10_function_140 : decode prog_37_method_28_code 140 = .ok (.iastore, 1) := by decide +kernel
theorem dX10_function_141 : decode prog_37_method_28_code 141 = .ok (.aload_n 0, 1) := by decide +kernel
theorem dX10_function_142 : decode prog_37_method_28_code 142 = .ok (.dup, 1) := by decide +kernel
theorem dX10_function_143 : decode prog_37_method_28_code 143 = .ok (.getfield 380, 3) := by decide +kernel
theorem dX10_function_146 : decode prog_37_method_28_code 146 = .ok (.iconst 1, 1) := by decide +kernel
theorem dX10_function_147 : decode prog_37_method_28_code 147 = .ok (.iadd, 1) := by decide +kernel
theorem dX10_function_148 : decode prog_37_method_28_code 148 = .ok (.putfield 380, 3) := by decide +kernel
theorem dX10_function_151 : decode prog_37_method_28_code 151 = .ok (.aload_n 0, 1) := by decide +kernel
theorem dX10_function_152 : decode prog_37_method_28_code 152 = .ok (.iconst 0, 1) := by decide +kernel
theorem dX10_function_153 : decode prog_37_method_28_code 153 = .ok (.putfield 359, 3) := by decide +kernel
theorem dX10_function_156 : decode prog_37_method_28_code 156 = .ok (.aload_n 0, 1) := by decide +kernel
theorem dX10_function_157 : decode prog_37_method_28_code 157 = .ok (.invokevirtual 331, 3) := by decide +kernel
theorem dX10_function_160 : decode prog_37_method_28_code 160 = .ok (.aload_n 0, 1) := by decide +kernel
theorem dX10_function_161 : decode prog_37_method_28_code 161 = .ok (.invokevirtual 383, 3) := by decide +kernel
theorem dX10_function_164 : decode prog_37_method_28_code 164 = .ok (.aload_n 0, 1) := by decide +kernel
theorem dX10_function_165 : decode prog_37_method_28_code 165 = .ok (.getfield 109, 3) := by decide +kernel
theorem dX10_function_168 : decode prog_37_method_28_code 168 = .ok (.iload_n 1, 1) := by decide +kernel
theorem dX10_function_169 : decode prog_37_method_28_code 169 = .ok (.aload_n 0, 1) := by decide +kernel
theorem dX10_function_170 : decode prog_37_method_28_code 170 = .ok (.getfield 359, 3) := by decide +kernel
theorem dX10_function_173 : decode prog_37_method_28_code 173 = .ok (.iastore, 1) := by decide +kernel
theorem dX10_function_174 : decode prog_37_method_28_code 174 = .ok (.aload_n 0, 1) := by decide +kernel
theorem dX10_function_175 : decode prog_37_method_28_code 175 = .ok (.getfield 115, 3) := by decide +kernel
theorem dX10_function_178 : decode prog_37_method_28_code 178 = .ok (.iload_n 1, 1) := by decide +kernel
theorem dX10_function_179 : decode prog_37_method_28_code 179 = .ok (.aload_n 0, 1) := by decide +kernel
theorem dX10_function_180 : decode prog_37_method_28_code 180 = .ok (.invokevirtual 386, 3) := by decide +kernel
theorem dX10_function_183 : decode prog_37_method_28_code 183 = .ok (.iastore, 1) := by decide +kernel
theorem dX10_function_184 : decode prog_37_method_28_code 184 = .ok (.aload_n 0, 1) := by decide +kernel
theorem dX10_function_185 : decode prog_37_method_28_code 185 = .ok (.iconst 0, 1) := by decide +kernel
theorem dX10_function_186 : decode prog_37_method_28_code 186 = .ok (.iload_n 1, 1) := by decide +kernel
theorem dX10_function_187 : decode prog_37_method_28_code 187 = .ok (.iconst 0, 1) := by decide +kernel
theorem dX10_function_188 : decode prog_37_method_28_code 188 = .ok (.invokevirtual 389, 3) := by decide +kernel
theorem dX10_function_191 : decode prog_37_method_28_code 191 = .ok (.return_, 1) := by decide +kernel
theorem dX10_isName_0 : decode prog_37_method_16_code 0 = .ok (.aload_n 0, 1) := by decide +kernel
theorem dX10_isName_1 : decode prog_37_method_16_code 1 = .ok (.getfield 276, 3) := by decide +kernel
theorem dX10_isName_4 : decode prog_37_method_16_code 4 = .ok (.iconst 1, 1) := by decide +kernel
theorem dX10_isName_5 : decode prog_37_method_16_code 5 = .ok (.if_icmp .ne 14, 3) := by decide +kernel
theorem dX10_isName_8 : decode prog_37_method_16_code 8 = .ok (.aload_n 0, 1) := by decide +kernel
theorem dX10_isName_9 : decode prog_37_method_16_code 9 = .ok (.invokevirtual 321, 3) := by decide +kernel
theorem dX10_isName_12 : decode prog_37_method_16_code 12 = .ok (.ifCond .ge 7, 3) := by decide +kernel
theorem dX10_isName_15 : decode prog_37_method_16_code 15 = .ok (.iconst 1, 1) := by decide +kernel
theorem dX10_isName_16 : decode prog_37_method_16_code 16 = .ok (.goto 4, 3) := by decide +kernel
theorem dX10_isName_19 : decode prog_37_method_16_code 19 = .ok (.iconst 0, 1) := by decide +kernel
theorem dX10_isName_20 : decode prog_37_method_16_code 20 = .ok (.ireturn, 1) := by decide +kernel
theorem dX10_wordHere_0 : decode prog_37_method_15_code 0 = .ok (.aload_n 0, 1) := by decide +kernel
theorem dX10_wordHere_1 : decode prog_37_method_15_code 1 = .ok (.getfield 276, 3) := by decide +kernel
theorem dX10_wordHere_4 : decode prog_37_method_15_code 4 = .ok (.iconst 1, 1) := by decide +kernel
theorem dX10_wordHere_5 : decode prog_37_method_15_code 5 = .ok (.if_icmp .eq 5, 3) := by decide +kernel
theorem dX10_wordHere_8 : decode prog_37_method_15_code 8 = .ok (.iconst (-1), 1) := by decide +kernel
theorem dX10_wordHere_9 : decode prog_37_method_15_code 9 = .ok (.ireturn, 1) := by decide +kernel
theorem dX10_wordHere_10 : decode prog_37_method_15_code 10 = .ok (.iconst 0, 1) := by decide +kernel
theorem dX10_wordHere_11 : decode prog_37_method_15_code 11 = .ok (.istore_n 1, 1) := by decide +kernel
theorem dX10_wordHere_12 : decode prog_37_method_15_code 12 = .ok (.iload_n 1, 1) := by decide +kernel
theorem dX10_wordHere_13 : decode prog_37_method_15_code 13 = .ok (.bipush 41, 2) := by decide +kernel
theorem dX10_wordHere_15 : decode prog_37_method_15_code 15 = .ok (.if_icmp .ge 25, 3) := by decide +kernel
theorem dX10_wordHere_18 : decode prog_37_method_15_code 18 = .ok (.aload_n 0, 1) := by decide +kernel
theorem dX10_wordHere_19 : decode prog_37_method_15_code 19 = .ok (.getfield 89, 3) := by decide +kernel
theorem dX10_wordHere_22 : decode prog_37_method_15_code 22 = .ok (.iload_n 1, 1) := by decide +kernel
theorem dX10_wordHere_23 : decode prog_37_method_15_code 23 = .ok (.laload, 1) := by decide +kernel
theorem dX10_wordHere_24 : decode prog_37_method_15_code 24 = .ok (.aload_n 0, 1) := by decide +kernel
theorem dX10_wordHere_25 : decode prog_37_method_15_code 25 = .ok (.getfield 272, 3) := by decide +kernel
theorem dX10_wordHere_28 : decode prog_37_method_15_code 28 = .ok (.lcmp, 1) := by decide +kernel
theorem dX10_wordHere_29 : decode prog_37_method_15_code 29 = .ok (.ifCond .ne 5, 3) := by decide +kernel
theorem dX10_wordHere_32 : decode prog_37_method_15_code 32 = .ok (.iload_n 1, 1) := by decide +kernel
theorem dX10_wordHere_33 : decode prog_37_method_15_code 33 = .ok (.ireturn, 1) := by decide +kernel
theorem dX10_wordHere_34 : decode prog_37_method_15_code 34 = .ok (.iinc 1 1, 3) := by decide +kernel
theorem dX10_wordHere_37 : decode prog_37_method_15_code 37 = .ok (.goto (-25), 3) := by decide +kernel
theorem dX10_wordHere_40 : decode prog_37_method_15_code 40 = .ok (.iconst (-1), 1) := by decide +kernel
theorem dX10_wordHere_41 : decode prog_37_method_15_code 41 = .ok (.ireturn, 1) := by decide +kernel
theorem dX10_isShelf_0 : decode prog_37_method_24_code 0 = .ok (.lload_n 0, 1) := by decide +kernel
theorem dX10_isShelf_1 : decode prog_37_method_24_code 1 = .ok (.lconst 1, 1) := by decide +kernel
theorem dX10_isShelf_2 : decode prog_37_method_24_code 2 = .ok (.lcmp, 1) := by decide +kernel
theorem dX10_isShelf_3 : decode prog_37_method_24_code 3 = .ok (.ifCond .lt 15, 3) := by decide +kernel
theorem dX10_isShelf_6 : decode prog_37_method_24_code 6 = .ok (.lload_n 0, 1) := by decide +kernel
theorem dX10_isShelf_7 : decode prog_37_method_24_code 7 = .ok (.ldc2_w 349, 3) := by decide +kernel
theorem dX10_isShelf_10 : decode prog_37_method_24_code 10 = .ok (.lcmp, 1) := by decide +kernel
theorem dX10_isShelf_11 : decode prog_37_method_24_code 11 = .ok (.ifCond .gt 7, 3) := by decide +kernel
theorem dX10_isShelf_14 : decode prog_37_method_24_code 14 = .ok (.iconst 1, 1) := by decide +kernel
theorem dX10_isShelf_15 : decode prog_37_method_24_code 15 = .ok (.goto 4, 3) := by decide +kernel
theorem dX10_isShelf_18 : decode prog_37_method_24_code 18 = .ok (.iconst 0, 1) := by decide +kernel
theorem dX10_isShelf_19 : decode prog_37_method_24_code 19 = .ok (.ireturn, 1) := by decide +kernel
theorem dX10_parameters_0 : decode prog_37_method_29_code 0 = .ok (.aload_n 0, 1) := by decide +kernel
theorem dX10_parameters_1 : decode prog_37_method_29_code 1 = .ok (.bipush 40, 2) := by decide +kernel
theorem dX10_parameters_3 : decode prog_37_method_29_code 3 = .ok (.invokevirtual 377, 3) := by decide +kernel
theorem dX10_parameters_6 : decode prog_37_method_29_code 6 = .ok (.aload_n 0, 1) := by decide +kernel
theorem dX10_parameters_7 : decode prog_37_method_29_code 7 = .ok (.getfield 311, 3) := by decide +kernel
theorem dX10_parameters_10 : decode prog_37_method_29_code 10 = .ok (.ifCond .le 4, 3) := by decide +kernel
theorem dX10_parameters_13 : decode prog_37_method_29_code 13 = .ok (.return_, 1) := by decide +kernel
theorem dX10_parameters_14 : decode prog_37_method_29_code 14 = .ok (.aload_n 0, 1) := by decide +kernel
theorem dX10_parameters_15 : decode prog_37_method_29_code 15 = .ok (.bipush 41, 2) := by decide +kernel
theorem dX10_parameters_17 : decode prog_37_method_29_code 17 = .ok (.invokevirtual 325, 3) := by decide +kernel
theorem dX10_parameters_20 : decode prog_37_method_29_code 20 = .ok (.ifCond .ne 7, 3) := by decide +kernel
theorem dX10_parameters_23 : decode prog_37_method_29_code 23 = .ok (.iconst 1, 1) := by decide +kernel
theorem dX10_parameters_24 : decode prog_37_method_29_code 24 = .ok (.goto 4, 3) := by decide +kernel
theorem dX10_parameters_27 : decode prog_37_method_29_code 27 = .ok (.iconst 0, 1) := by decide +kernel
theorem dX10_parameters_28 : decode prog_37_method_29_code 28 = .ok (.istore_n 1, 1) := by decide +kernel
theorem dX10_parameters_29 : decode prog_37_method_29_code 29 = .ok (.iload_n 1, 1) := by decide +kernel
theorem dX10_parameters_30 : decode prog_37_method_29_code 30 = .ok (.ifCond .eq 147, 3) := by decide +kernel
theorem dX10_parameters_33 : decode prog_37_method_29_code 33 = .ok (.aload_n 0, 1) := by decide +kernel
theorem dX10_parameters_34 : decode prog_37_method_29_code 34 = .ok (.getfield 311, 3) := by decide +kernel
theorem dX10_parameters_37 : decode prog_37_method_29_code 37 = .ok (.ifCond .ne 140, 3) := by decide +kernel
theorem dX10_parameters_40 : decode prog_37_method_29_code 40 = .ok (.aload_n 0, 1) := by decide +kernel
theorem dX10_parameters_41 : decode prog_37_method_29_code 41 = .ok (.invokevirtual 351, 3) := by decide +kernel
theorem dX10_parameters_44 : decode prog_37_method_29_code 44 = .ok (.ifCond .ne 8, 3) := by decide +kernel
theorem dX10_parameters_47 : decode prog_37_method_29_code 47 = .ok (.aload_n 0, 1) := by decide +kernel
theorem dX10_parameters_48 : decode prog_37_method_29_code 48 = .ok (.invokevirtual 334, 3) := by decide +kernel
theorem dX10_parameters_51 : decode prog_37_method_29_code 51 = .ok (.return_, 1) := by decide +kernel
theorem dX10_parameters_52 : decode prog_37_method_29_code 52 = .ok (.aload_n 0, 1) := by decide +kernel
theorem dX10_parameters_53 : decode prog_37_method_29_code 53 = .ok (.getfield 359, 3) := by decide +kernel
theorem dX10_parameters_56 : decode prog_37_method_29_code 56 = .ok (.iconst 4, 1) := by decide +kernel
theorem dX10_parameters_57 : decode prog_37_method_29_code 57 = .ok (.if_icmp .ne 13, 3) := by decide +kernel
theorem dX10_parameters_60 : decode prog_37_method_29_code 60 = .ok (.aload_n 0, 1) := by decide +kernel
theorem dX10_parameters_61 : decode prog_37_method_29_code 61 = .ok (.iconst 3, 1) := by decide +kernel
theorem dX10_parameters_62 : decode prog_37_method_29_code 62 = .ok (.aload_n 0, 1) := by decide +kernel
theorem dX10_parameters_63 : decode prog_37_method_29_code 63 = .ok (.getfield 269, 3) := by decide +kernel
theorem dX10_parameters_66 : decode prog_37_method_29_code 66 = .ok (.invokevirtual 317, 3) := by decide +kernel
theorem dX10_parameters_69 : decode prog_37_method_29_code 69 = .ok (.return_, 1) := by decide +kernel
theorem dX10_parameters_70 : decode prog_37_method_29_code 70 = .ok (.aload_n 0, 1) := by decide +kernel
theorem dX10_parameters_71 : decode prog_37_method_29_code 71 = .ok (.getfield 272, 3) := by decide +kernel
theorem dX10_parameters_74 : decode prog_37_method_29_code 74 = .ok (.invokestatic 355, 3) := by decide +kernel
theorem dX10_parameters_77 : decode prog_37_method_29_code 77 = .ok (.istore_n 2, 1) := by decide +kernel
theorem dX10_parameters_78 : decode prog_37_method_29_code 78 = .ok (.iconst 0, 1) := by decide +kernel
theorem dX10_parameters_79 : decode prog_37_method_29_code 79 = .ok (.istore_n 3, 1) := by decide +kernel
theorem dX10_parameters_80 : decode prog_37_method_29_code 80 = .ok (.iload_n 3, 1) := by decide +kernel
theorem dX10_parameters_81 : decode prog_37_method_29_code 81 = .ok (.aload_n 0, 1) := by decide +kernel
theorem dX10_parameters_82 : decode prog_37_method_29_code 82 = .ok (.getfield 359, 3) := by decide +kernel
theorem dX10_parameters_85 : decode prog_37_method_29_code 85 = .ok (.if_icmp .ge 33, 3) := by decide +kernel
theorem dX10_parameters_88 : decode prog_37_method_29_code 88 = .ok (.iload_n 2, 1) := by decide +kernel
theorem dX10_parameters_89 : decode prog_37_method_29_code 89 = .ok (.ifCond .ne 17, 3) := by decide +kernel
theorem dX10_parameters_92 : decode prog_37_method_29_code 92 = .ok (.aload_n 0, 1) := by decide +kernel
theorem dX10_parameters_93 : decode prog_37_method_29_code 93 = .ok (.getfield 118, 3) := by decide +kernel
theorem dX10_parameters_96 : decode prog_37_method_29_code 96 = .ok (.iload_n 3, 1) := by decide +kernel
theorem dX10_parameters_97 : decode prog_37_method_29_code 97 = .ok (.laload, 1) := by decide +kernel
theorem dX10_parameters_98 : decode prog_37_method_29_code 98 = .ok (.aload_n 0, 1) := by decide +kernel
theorem dX10_parameters_99 : decode prog_37_method_29_code 99 = .ok (.getfield 272, 3) := by decide +kernel
theorem dX10_parameters_102 : decode prog_37_method_29_code 102 = .ok (.lcmp, 1) := by decide +kernel
theorem dX10_parameters_103 : decode prog_37_method_29_code 103 = .ok (.ifCond .ne 7, 3) := by decide +kernel
theorem dX10_parameters_106 : decode prog_37_method_29_code 106 = .ok (.iconst 1, 1) := by decide +kernel
theorem dX10_parameters_107 : decode prog_37_method_29_code 107 = .ok (.goto 4, 3) := by decide +kernel
theorem dX10_parameters_110 : decode prog_37_method_29_code 110 = .ok (.iconst 0, 1) := by decide +kernel
theorem dX10_parameters_111 : decode prog_37_method_29_code 111 = .ok (.istore_n 2, 1) := by decide +kernel
theorem dX10_parameters_112 : decode prog_37_method_29_code 112 = .ok (.iinc 3 1, 3) := by decide +kernel
theorem dX10_parameters_115 : decode prog_37_method_29_code 115 = .ok (.goto (-35), 3) := by decide +kernel
theorem dX10_parameters_118 : decode prog_37_method_29_code 118 = .ok (.iload_n 2, 1) := by decide +kernel
theorem dX10_parameters_119 : decode prog_37_method_29_code 119 = .ok (.ifCond .eq 13, 3) := by decide +kernel
theorem dX10_parameters_122 : decode prog_37_method_29_code 122 = .ok (.aload_n 0, 1) := by decide +kernel
theorem dX10_parameters_123 : decode prog_37_method_29_code 123 = .ok (.iconst 4, 1) := by decide +kernel
theorem dX10_parameters_124 : decode prog_37_method_29_code 124 = .ok (.aload_n 0, 1) := by decide +kernel
theorem dX10_parameters_125 : decode prog_37_method_29_code 125 = .ok (.getfield 269, 3) := by decide +kernel
theorem dX10_parameters_128 : decode prog_37_method_29_code 128 = .ok (.invokevirtual 317, 3) := by decide +kernel
theorem dX10_parameters_131 : decode prog_37_method_29_code 131 = .ok (.return_, 1) := by decide +kernel
theorem dX10_parameters_132 : decode prog_37_method_29_code 132 = .ok (.aload_n 0, 1) := by decide +kernel
theorem dX10_parameters_133 : decode prog_37_method_29_code 133 = .ok (.getfield 118, 3) := by decide +kernel
theorem dX10_parameters_136 : decode prog_37_method_29_code 136 = .ok (.aload_n 0, 1) := by decide +kernel
theorem dX10_parameters_137 : decode prog_37_method_29_code 137 = .ok (.getfield 359, 3) := by decide +kernel
theorem dX10_parameters_140 : decode prog_37_method_29_code 140 = .ok (.aload_n 0, 1) := by decide +kernel
theorem dX10_parameters_141 : decode prog_37_method_29_code 141 = .ok (.getfield 272, 3) := by decide +kernel
theorem dX10_parameters_144 : decode prog_37_method_29_code 144 = .ok (.lastore, 1) := by decide +kernel
theorem dX10_parameters_145 : decode prog_37_method_29_code 145 = .ok (.aload_n 0, 1) := by decide +kernel
theorem dX10_parameters_146 : decode prog_37_method_29_code 146 = .ok (.dup, 1) := by decide +kernel
theorem dX10_parameters_147 : decode prog_37_method_29_code 147 = .ok (.getfield 359, 3) := by decide +kernel
theorem dX10_parameters_150 : decode prog_37_method_29_code 150 = .ok (.iconst 1, 1) := by decide +kernel
theorem dX10_parameters_151 : decode prog_37_method_29_code 151 = .ok (.iadd, 1) := by decide +kernel
theorem dX10_parameters_152 : decode prog_37_method_29_code 152 = .ok (.putfield 359, 3) := by decide +kernel
theorem dX10_parameters_155 : decode prog_37_method_29_code 155 = .ok (.aload_n 0, 1) := by decide +kernel
theorem dX10_parameters_156 : decode prog_37_method_29_code 156 = .ok (.invokevirtual 331, 3) := by decide +kernel
theorem dX10_parameters_159 : decode prog_37_method_29_code 159 = .ok (.aload_n 0, 1) := by decide +kernel
theorem dX10_parameters_160 : decode prog_37_method_29_code 160 = .ok (.bipush 44, 2) := by decide +kernel
theorem dX10_parameters_162 : decode prog_37_method_29_code 162 = .ok (.invokevirtual 325, 3) := by decide +kernel
theorem dX10_parameters_165 : decode prog_37_method_29_code 165 = .ok (.istore_n 1, 1) := by decide +kernel
theorem dX10_parameters_166 : decode prog_37_method_29_code 166 = .ok (.iload_n 1, 1) := by decide +kernel
theorem dX10_parameters_167 : decode prog_37_method_29_code 167 = .ok (.ifCond .eq 7, 3) := by decide +kernel
theorem dX10_parameters_170 : decode prog_37_method_29_code 170 = .ok (.aload_n 0, 1) := by decide +kernel
theorem dX10_parameters_171 : decode prog_37_method_29_code 171 = .ok (.invokevirtual 331, 3) := by decide +kernel
theorem dX10_parameters_174 : decode prog_37_method_29_code 174 = .ok (.goto (-145), 3) := by decide +kernel
theorem dX10_parameters_177 : decode prog_37_method_29_code 177 = .ok (.aload_n 0, 1) := by decide +kernel
theorem dX10_parameters_178 : decode prog_37_method_29_code 178 = .ok (.bipush 41, 2) := by decide +kernel
theorem dX10_parameters_180 : decode prog_37_method_29_code 180 = .ok (.invokevirtual 393, 3) := by decide +kernel
theorem dX10_parameters_183 : decode prog_37_method_29_code 183 = .ok (.return_, 1) := by decide +kernel
theorem dX10_opens_0 : decode prog_37_method_18_code 0 = .ok (.aload_n 0, 1) := by decide +kernel
theorem dX10_opens_1 : decode prog_37_method_18_code 1 = .ok (.getfield 311, 3) := by decide +kernel
theorem dX10_opens_4 : decode prog_37_method_18_code 4 = .ok (.ifCond .le 4, 3) := by decide +kernel
theorem dX10_opens_7 : decode prog_37_method_18_code 7 = .ok (.return_, 1) := by decide +kernel
theorem dX10_opens_8 : decode prog_37_method_18_code 8 = .ok (.aload_n 0, 1) := by decide +kernel
theorem dX10_opens_9 : decode prog_37_method_18_code 9 = .ok (.iload_n 1, 1) := by decide +kernel
theorem dX10_opens_10 : decode prog_37_method_18_code 10 = .ok (.invokevirtual 325, 3) := by decide +kernel
theorem dX10_opens_13 : decode prog_37_method_18_code 13 = .ok (.ifCond .ne 8, 3) := by decide +kernel
theorem dX10_opens_16 : decode prog_37_method_18_code 16 = .ok (.aload_n 0, 1) := by decide +kernel
theorem dX10_opens_17 : decode prog_37_method_18_code 17 = .ok (.invokevirtual 334, 3) := by decide +kernel
theorem dX10_opens_20 : decode prog_37_method_18_code 20 = .ok (.return_, 1) := by decide +kernel
theorem dX10_opens_21 : decode prog_37_method_18_code 21 = .ok (.aload_n 0, 1) := by decide +kernel
theorem dX10_opens_22 : decode prog_37_method_18_code 22 = .ok (.dup, 1) := by decide +kernel
theorem dX10_opens_23 : decode prog_37_method_18_code 23 = .ok (.getfield 328, 3) := by decide +kernel
theorem dX10_opens_26 : decode prog_37_method_18_code 26 = .ok (.iconst 1, 1) := by decide +kernel
theorem dX10_opens_27 : decode prog_37_method_18_code 27 = .ok (.iadd, 1) := by decide +kernel
theorem dX10_opens_28 : decode prog_37_method_18_code 28 = .ok (.putfield 328, 3) := by decide +kernel
theorem dX10_opens_31 : decode prog_37_method_18_code 31 = .ok (.aload_n 0, 1) := by decide +kernel
theorem dX10_opens_32 : decode prog_37_method_18_code 32 = .ok (.getfield 328, 3) := by decide +kernel
theorem dX10_opens_35 : decode prog_37_method_18_code 35 = .ok (.bipush 10, 2) := by decide +kernel
theorem dX10_opens_37 : decode prog_37_method_18_code 37 = .ok (.if_icmp .le 15, 3) := by decide +kernel
theorem dX10_opens_40 : decode prog_37_method_18_code 40 = .ok (.aload_n 0, 1) := by decide +kernel
theorem dX10_opens_41 : decode prog_37_method_18_code 41 = .ok (.iconst 3, 1) := by decide +kernel
theorem dX10_opens_42 : decode prog_37_method_18_code 42 = .ok (.aload_n 0, 1) := by decide +kernel
theorem dX10_opens_43 : decode prog_37_method_18_code 43 = .ok (.getfield 269, 3) := by decide +kernel
theorem dX10_opens_46 : decode prog_37_method_18_code 46 = .ok (.invokevirtual 317, 3) := by decide +kernel
theorem dX10_opens_49 : decode prog_37_method_18_code 49 = .ok (.goto 7, 3) := by decide +kernel
theorem dX10_opens_52 : decode prog_37_method_18_code 52 = .ok (.aload_n 0, 1) := by decide +kernel
theorem dX10_opens_53 : decode prog_37_method_18_code 53 = .ok (.invokevirtual 331, 3) := by decide +kernel
theorem dX10_opens_56 : decode prog_37_method_18_code 56 = .ok (.return_, 1) := by decide +kernel
theorem dX10_isSign_0 : decode prog_37_method_13_code 0 = .ok (.aload_n 0, 1) := by decide +kernel
theorem dX10_isSign_1 : decode prog_37_method_13_code 1 = .ok (.getfield 276, 3) := by decide +kernel
theorem dX10_isSign_4 : decode prog_37_method_13_code 4 = .ok (.iconst 3, 1) := by decide +kernel
theorem dX10_isSign_5 : decode prog_37_method_13_code 5 = .ok (.if_icmp .ne 17, 3) := by decide +kernel
theorem dX10_isSign_8 : decode prog_37_method_13_code 8 = .ok (.aload_n 0, 1) := by decide +kernel
theorem dX10_isSign_9 : decode prog_37_method_13_code 9 = .ok (.getfield 272, 3) := by decide +kernel
theorem dX10_isSign_12 : decode prog_37_method_13_code 12 = .ok (.iload_n 1, 1) := by decide +kernel
theorem dX10_isSign_13 : decode prog_37_method_13_code 13 = .ok (.i2l, 1) := by decide +kernel
theorem dX10_isSign_14 : decode prog_37_method_13_code 14 = .ok (.lcmp, 1) := by decide +kernel
theorem dX10_isSign_15 : decode prog_37_method_13_code 15 = .ok (.ifCond .ne 7, 3) := by decide +kernel
theorem dX10_isSign_18 : decode prog_37_method_13_code 18 = .ok (.iconst 1, 1) := by decide +kernel
theorem dX10_isSign_19 : decode prog_37_method_13_code 19 = .ok (.goto 4, 3) := by decide +kernel
theorem dX10_isSign_22 : decode prog_37_method_13_code 22 = .ok (.iconst 0, 1) := by decide +kernel
theorem dX10_isSign_23 : decode prog_37_method_13_code 23 = .ok (.ireturn, 1) := by decide +kernel
theorem dX10_sign_0 : decode prog_37_method_17_code 0 = .ok (.aload_n 0, 1) := by decide +kernel
theorem dX10_sign_1 : decode prog_37_method_17_code 1 = .ok (.getfield 311, 3) := by decide +kernel
theorem dX10_sign_4 : decode prog_37_method_17_code 4 = .ok (.ifCond .le 4, 3) := by decide +kernel
theorem dX10_sign_7 : decode prog_37_method_17_code 7 = .ok (.return_, 1) := by decide +kernel
theorem dX10_sign_8 : decode prog_37_method_17_code 8 = .ok (.aload_n 0, 1) := by decide +kernel
theorem dX10_sign_9 : decode prog_37_method_17_code 9 = .ok (.iload_n 1, 1) := by decide +kernel
theorem dX10_sign_10 : decode prog_37_method_17_code 10 = .ok (.invokevirtual 325, 3) := by decide +kernel
theorem dX10_sign_13 : decode prog_37_method_17_code 13 = .ok (.ifCond .eq 38, 3) := by decide +kernel
theorem dX10_sign_16 : decode prog_37_method_17_code 16 = .ok (.iload_n 1, 1) := by decide +kernel
theorem dX10_sign_17 : decode prog_37_method_17_code 17 = .ok (.bipush 41, 2) := by decide +kernel
theorem dX10_sign_19 : decode prog_37_method_17_code 19 = .ok (.if_icmp .eq 15, 3) := by decide +kernel
theorem dX10_sign_22 : decode prog_37_method_17_code 22 = .ok (.iload_n 1, 1) := by decide +kernel
theorem dX10_sign_23 : decode prog_37_method_17_code 23 = .ok (.bipush 93, 2) := by decide +kernel
theorem dX10_sign_25 : decode prog_37_method_17_code 25 = .ok (.if_icmp .eq 9, 3) := by decide +kernel
theorem dX10_sign_28 : decode prog_37_method_17_code 28 = .ok (.iload_n 1, 1) := by decide +kernel
theorem dX10_sign_29 : decode prog_37_method_17_code 29 = .ok (.bipush 125, 2) := by decide +kernel
theorem dX10_sign_31 : decode prog_37_method_17_code 31 = .ok (.if_icmp .ne 13, 3) := by decide +kernel
theorem dX10_sign_34 : decode prog_37_method_17_code 34 = .ok (.aload_n 0, 1) := by decide +kernel
theorem dX10_sign_35 : decode prog_37_method_17_code 35 = .ok (.dup, 1) := by decide +kernel
theorem dX10_sign_36 : decode prog_37_method_17_code 36 = .ok (.getfield 328, 3) := by decide +kernel
theorem dX10_sign_39 : decode prog_37_method_17_code 39 = .ok (.iconst 1, 1) := by decide +kernel
theorem dX10_sign_40 : decode prog_37_method_17_code 40 = .ok (.isub, 1) := by decide +kernel
theorem dX10_sign_41 : decode prog_37_method_17_code 41 = .ok (.putfield 328, 3) := by decide +kernel
theorem dX10_sign_44 : decode prog_37_method_17_code 44 = .ok (.aload_n 0, 1) := by decide +kernel
theorem dX10_sign_45 : decode prog_37_method_17_code 45 = .ok (.invokevirtual 331, 3) := by decide +kernel
theorem dX10_sign_48 : decode prog_37_method_17_code 48 = .ok (.goto 7, 3) := by decide +kernel
theorem dX10_sign_51 : decode prog_37_method_17_code 51 = .ok (.aload_n 0, 1) := by decide +kernel
theorem dX10_sign_52 : decode prog_37_method_17_code 52 = .ok (.invokevirtual 334, 3) := by decide +kernel
theorem dX10_sign_55 : decode prog_37_method_17_code 55 = .ok (.return_, 1) := by decide +kernel
theorem dX10_here_0 : decode prog_37_method_22_code 0 = .ok (.sipush 4000, 3) := by decide +kernel
theorem dX10_here_3 : decode prog_37_method_22_code 3 = .ok (.iconst 1, 1) := by decide +kernel
theorem dX10_here_4 : decode prog_37_method_22_code 4 = .ok (.aload_n 0, 1) := by decide +kernel
theorem dX10_here_5 : decode prog_37_method_22_code 5 = .ok (.getfield 340, 3) := by decide +kernel
theorem dX10_here_8 : decode prog_37_method_22_code 8 = .ok (.isub, 1) := by decide +kernel
theorem dX10_here_9 : decode prog_37_method_22_code 9 = .ok (.imul, 1) := by decide +kernel
theorem dX10_here_10 : decode prog_37_method_22_code 10 = .ok (.aload_n 0, 1) := by decide +kernel
theorem dX10_here_11 : decode prog_37_method_22_code 11 = .ok (.getfield 343, 3) := by decide +kernel
theorem dX10_here_14 : decode prog_37_method_22_code 14 = .ok (.iadd, 1) := by decide +kernel
theorem dX10_here_15 : decode prog_37_method_22_code 15 = .ok (.ireturn, 1) := by decide +kernel
theorem dX10_block_0 : decode prog_37_method_27_code 0 = .ok (.aload_n 0, 1) := by decide +kernel
theorem dX10_block_1 : decode prog_37_method_27_code 1 = .ok (.bipush 123, 2) := by decide +kernel
theorem dX10_block_3 : decode prog_37_method_27_code 3 = .ok (.invokevirtual 377, 3) := by decide +kernel
theorem dX10_block_6 : decode prog_37_method_27_code 6 = .ok (.aload_n 0, 1) := by decide +kernel
theorem dX10_block_7 : decode prog_37_method_27_code 7 = .ok (.getfield 148, 3) := by decide +kernel
theorem dX10_block_10 : decode prog_37_method_27_code 10 = .ok (.aload_n 0, 1) := by decide +kernel
theorem dX10_block_11 : decode prog_37_method_27_code 11 = .ok (.getfield 362, 3) := by decide +kernel
theorem dX10_block_14 : decode prog_37_method_27_code 14 = .ok (.iload_n 1, 1) := by decide +kernel
theorem dX10_block_15 : decode prog_37_method_27_code 15 = .ok (.iastore, 1) := by decide +kernel
theorem dX10_block_16 : decode prog_37_method_27_code 16 = .ok (.aload_n 0, 1) := by decide +kernel
theorem dX10_block_17 : decode prog_37_method_27_code 17 = .ok (.getfield 151, 3) := by decide +kernel
theorem dX10_block_20 : decode prog_37_method_27_code 20 = .ok (.aload_n 0, 1) := by decide +kernel
theorem dX10_block_21 : decode prog_37_method_27_code 21 = .ok (.getfield 362, 3) := by decide +kernel
theorem dX10_block_24 : decode prog_37_method_27_code 24 = .ok (.iload_n 2, 1) := by decide +kernel
theorem dX10_block_25 : decode prog_37_method_27_code 25 = .ok (.iastore, 1) := by decide +kernel
theorem dX10_block_26 : decode prog_37_method_27_code 26 = .ok (.aload_n 0, 1) := by decide +kernel
theorem dX10_block_27 : decode prog_37_method_27_code 27 = .ok (.getfield 154, 3) := by decide +kernel
theorem dX10_block_30 : decode prog_37_method_27_code 30 = .ok (.aload_n 0, 1) := by decide +kernel
theorem dX10_block_31 : decode prog_37_method_27_code 31 = .ok (.getfield 362, 3) := by decide +kernel
theorem dX10_block_34 : decode prog_37_method_27_code 34 = .ok (.iload_n 3, 1) := by decide +kernel
theorem dX10_block_35 : decode prog_37_method_27_code 35 = .ok (.iastore, 1) := by decide +kernel
theorem dX10_block_36 : decode prog_37_method_27_code 36 = .ok (.aload_n 0, 1) := by decide +kernel
theorem dX10_block_37 : decode prog_37_method_27_code 37 = .ok (.dup, 1) := by decide +kernel
theorem dX10_block_38 : decode prog_37_method_27_code 38 = .ok (.getfield 362, 3) := by decide +kernel
theorem dX10_block_41 : decode prog_37_method_27_code 41 = .ok (.iconst 1, 1) := by decide +kernel
theorem dX10_block_42 : decode prog_37_method_27_code 42 = .ok (.iadd, 1) := by decide +kernel
theorem dX10_block_43 : decode prog_37_method_27_code 43 = .ok (.putfield 362, 3) := by decide +kernel
theorem dX10_block_46 : decode prog_37_method_27_code 46 = .ok (.return_, 1) := by decide +kernel
theorem dX10_closes_0 : decode prog_37_method_30_code 0 = .ok (.aload_n 0, 1) := by decide +kernel
theorem dX10_closes_1 : decode prog_37_method_30_code 1 = .ok (.bipush 125, 2) := by decide +kernel
theorem dX10_closes_3 : decode prog_37_method_30_code 3 = .ok (.invokevirtual 393, 3) := by decide +kernel
theorem dX10_closes_6 : decode prog_37_method_30_code 6 = .ok (.aload_n 0, 1) := by decide +kernel
theorem dX10_closes_7 : decode prog_37_method_30_code 7 = .ok (.dup, 1) := by decide +kernel
theorem dX10_closes_8 : decode prog_37_method_30_code 8 = .ok (.getfield 362, 3) := by decide +kernel
theorem dX10_closes_11 : decode prog_37_method_30_code 11 = .ok (.iconst 1, 1) := by decide +kernel
theorem dX10_closes_12 : decode prog_37_method_30_code 12 = .ok (.isub, 1) := by decide +kernel
theorem dX10_closes_13 : decode prog_37_method_30_code 13 = .ok (.putfield 362, 3) := by decide +kernel
theorem dX10_closes_16 : decode prog_37_method_30_code 16 = .ok (.aload_n 0, 1) := by decide +kernel
theorem dX10_closes_17 : decode prog_37_method_30_code 17 = .ok (.getfield 151, 3) := by decide +kernel
theorem dX10_closes_20 : decode prog_37_method_30_code 20 = .ok (.aload_n 0, 1) := by decide +kernel
theorem dX10_closes_21 : decode prog_37_method_30_code 21 = .ok (.getfield 362, 3) := by decide +kernel
theorem dX10_closes_24 : decode prog_37_method_30_code 24 = .ok (.iaload, 1) := by decide +kernel
theorem dX10_closes_25 : decode prog_37_method_30_code 25 = .ok (.istore_n 1, 1) := by decide +kernel
theorem dX10_closes_26 : decode prog_37_method_30_code 26 = .ok (.aload_n 0, 1) := by decide +kernel
theorem dX10_closes_27 : decode prog_37_method_30_code 27 = .ok (.getfield 148, 3) := by decide +kernel
theorem dX10_closes_30 : decode prog_37_method_30_code 30 = .ok (.aload_n 0, 1) := by decide +kernel
theorem dX10_closes_31 : decode prog_37_method_30_code 31 = .ok (.getfield 362, 3) := by decide +kernel
theorem dX10_closes_34 : decode prog_37_method_30_code 34 = .ok (.iaload, 1) := by decide +kernel
theorem dX10_closes_35 : decode prog_37_method_30_code 35 = .ok (.tableswitch 204 0 5 #[37, 67, 204, 120, 120, 149], 37) := by decide +kernel
theorem dX10_closes_72 : decode prog_37_method_30_code 72 = .ok (.aload_n 0, 1) := by decide +kernel
theorem dX10_closes_73 : decode prog_37_method_30_code 73 = .ok (.iconst 2, 1) := by decide +kernel
theorem dX10_closes_74 : decode prog_37_method_30_code 74 = .ok (.iconst 0, 1) := by decide +kernel
theorem dX10_closes_75 : decode prog_37_method_30_code 75 = .ok (.iconst 0, 1) := by decide +kernel
theorem dX10_closes_76 : decode prog_37_method_30_code 76 = .ok (.iconst 0, 1) := by decide +kernel
theorem dX10_closes_77 : decode prog_37_method_30_code 77 = .ok (.invokevirtual 396, 3) := by decide +kernel
theorem dX10_closes_80 : decode prog_37_method_30_code 80 = .ok (.pop, 1) := by decide +kernel
theorem dX10_closes_81 : decode prog_37_method_30_code 81 = .ok (.aload_n 0, 1) := by decide +kernel
theorem dX10_closes_82 : decode prog_37_method_30_code 82 = .ok (.bipush 20, 2) := by decide +kernel
theorem dX10_closes_84 : decode prog_37_method_30_code 84 = .ok (.iconst 0, 1) := by decide +kernel
theorem dX10_closes_85 : decode prog_37_method_30_code 85 = .ok (.iconst 0, 1) := by decide +kernel
theorem dX10_closes_86 : decode prog_37_method_30_code 86 = .ok (.iconst 0, 1) := by decide +kernel
theorem dX10_closes_87 : decode prog_37_method_30_code 87 = .ok (.invokevirtual 396, 3) := by decide +kernel
theorem dX10_closes_90 : decode prog_37_method_30_code 90 = .ok (.pop, 1) := by decide +kernel
theorem dX10_closes_91 : decode prog_37_method_30_code 91 = .ok (.aload_n 0, 1) := by decide +kernel
theorem dX10_closes_92 : decode prog_37_method_30_code 92 = .ok (.getfield 112, 3) := by decide +kernel
theorem dX10_closes_95 : decode prog_37_method_30_code 95 = .ok (.iload_n 1, 1) := by decide +kernel
theorem dX10_closes_96 : decode prog_37_method_30_code 96 = .ok (.aload_n 0, 1) := by decide +kernel
theorem dX10_closes_97 : decode prog_37_method_30_code 97 = .ok (.getfield 359, 3) := by decide +kernel
theorem dX10_closes_100 : decode prog_37_method_30_code 100 = .ok (.iastore, 1) := by decide +kernel
theorem dX10_closes_101 : decode prog_37_method_30_code 101 = .ok (.return_, 1) := by decide +kernel
theorem dX10_closes_102 : decode prog_37_method_30_code 102 = .ok (.aload_n 0, 1) := by decide +kernel
theorem dX10_closes_103 : decode prog_37_method_30_code 103 = .ok (.iconst 2, 1) := by decide +kernel
theorem dX10_closes_104 : decode prog_37_method_30_code 104 = .ok (.invokevirtual 337, 3) := by decide +kernel
theorem dX10_closes_107 : decode prog_37_method_30_code 107 = .ok (.ifCond .eq 37, 3) := by decide +kernel
theorem dX10_closes_110 : decode prog_37_method_30_code 110 = .ok (.aload_n 0, 1) := by decide +kernel
theorem dX10_closes_111 : decode prog_37_method_30_code 111 = .ok (.bipush 15, 2) := by decide +kernel
theorem dX10_closes_113 : decode prog_37_method_30_code 113 = .ok (.iconst 0, 1) := by decide +kernel
theorem dX10_closes_114 : decode prog_37_method_30_code 114 = .ok (.iconst 0, 1) := by decide +kernel
theorem dX10_closes_115 : decode prog_37_method_30_code 115 = .ok (.iconst 0, 1) := by decide +kernel
theorem dX10_closes_116 : decode prog_37_method_30_code 116 = .ok (.invokevirtual 396, 3) := by decide +kernel
theorem dX10_closes_119 : decode prog_37_method_30_code 119 = .ok (.istore_n 2, 1) := by decide +kernel
theorem dX10_closes_120 : decode prog_37_method_30_code 120 = .ok (.aload_n 0, 1) := by decide +kernel
theorem dX10_closes_121 : decode prog_37_method_30_code 121 = .ok (.getfield 124, 3) := by decide +kernel
theorem dX10_closes_124 : decode prog_37_method_30_code 124 = .ok (.iload_n 1, 1) := by decide +kernel
theorem dX10_closes_125 : decode prog_37_method_30_code 125 = .ok (.aload_n 0, 1) := by decide +kernel
theorem dX10_closes_126 : decode prog_37_method_30_code 126 = .ok (.invokevirtual 386, 3) := by decide +kernel
theorem dX10_closes_129 : decode prog_37_method_30_code 129 = .ok (.iastore, 1) := by decide +kernel
theorem dX10_closes_130 : decode prog_37_method_30_code 130 = .ok (.aload_n 0, 1) := by decide +kernel
theorem dX10_closes_131 : decode prog_37_method_30_code 131 = .ok (.invokevirtual 331, 3) := by decide +kernel
theorem dX10_closes_134 : decode prog_37_method_30_code 134 = .ok (.aload_n 0, 1) := by decide +kernel
theorem dX10_closes_135 : decode prog_37_method_30_code 135 = .ok (.iconst 2, 1) := by decide +kernel
theorem dX10_closes_136 : decode prog_37_method_30_code 136 = .ok (.iload_n 2, 1) := by decide +kernel
theorem dX10_closes_137 : decode prog_37_method_30_code 137 = .ok (.iconst 0, 1) := by decide +kernel
theorem dX10_closes_138 : decode prog_37_method_30_code 138 = .ok (.invokevirtual 389, 3) := by decide +kernel
theorem dX10_closes_141 : decode prog_37_method_30_code 141 = .ok (.goto 13, 3) := by decide +kernel
theorem dX10_closes_144 : decode prog_37_method_30_code 144 = .ok (.aload_n 0, 1) := by decide +kernel
theorem dX10_closes_145 : decode prog_37_method_30_code 145 = .ok (.getfield 124, 3) := by decide +kernel
theorem dX10_closes_148 : decode prog_37_method_30_code 148 = .ok (.iload_n 1, 1) := by decide +kernel
theorem dX10_closes_149 : decode prog_37_method_30_code 149 = .ok (.aload_n 0, 1) := by decide +kernel
theorem dX10_closes_150 : decode prog_37_method_30_code 150 = .ok (.invokevirtual 386, 3) := by decide +kernel
theorem dX10_closes_153 : decode prog_37_method_30_code 153 = .ok (.iastore, 1) := by decide +kernel
theorem dX10_closes_154 : decode prog_37_method_30_code 154 = .ok (.return_, 1) := by decide +kernel
theorem dX10_closes_155 : decode prog_37_method_30_code 155 = .ok (.aload_n 0, 1) := by decide +kernel
theorem dX10_closes_156 : decode prog_37_method_30_code 156 = .ok (.bipush 15, 2) := by decide +kernel
theorem dX10_closes_158 : decode prog_37_method_30_code 158 = .ok (.aload_n 0, 1) := by decide +kernel
theorem dX10_closes_159 : decode prog_37_method_30_code 159 = .ok (.getfield 154, 3) := by decide +kernel
theorem dX10_closes_162 : decode prog_37_method_30_code 162 = .ok (.aload_n 0, 1) := by decide +kernel
theorem dX10_closes_163 : decode prog_37_method_30_code 163 = .ok (.getfield 362, 3) := by decide +kernel
theorem dX10_closes_166 : decode prog_37_method_30_code 166 = .ok (.iaload, 1) := by decide +kernel
theorem dX10_closes_167 : decode prog_37_method_30_code 167 = .ok (.iconst 0, 1) := by decide +kernel
theorem dX10_closes_168 : decode prog_37_method_30_code 168 = .ok (.iconst 0, 1) := by decide +kernel
theorem dX10_closes_169 : decode prog_37_method_30_code 169 = .ok (.invokevirtual 396, 3) := by decide +kernel
theorem dX10_closes_172 : decode prog_37_method_30_code 172 = .ok (.pop, 1) := by decide +kernel
theorem dX10_closes_173 : decode prog_37_method_30_code 173 = .ok (.aload_n 0, 1) := by decide +kernel
theorem dX10_closes_174 : decode prog_37_method_30_code 174 = .ok (.getfield 124, 3) := by decide +kernel
theorem dX10_closes_177 : decode prog_37_method_30_code 177 = .ok (.iload_n 1, 1) := by decide +kernel
theorem dX10_closes_178 : decode prog_37_method_30_code 178 = .ok (.aload_n 0, 1) := by decide +kernel
theorem dX10_closes_179 : decode prog_37_method_30_code 179 = .ok (.invokevirtual 386, 3) := by decide +kernel
theorem dX10_closes_182 : decode prog_37_method_30_code 182 = .ok (.iastore, 1) := by decide +kernel
theorem dX10_closes_183 : decode prog_37_method_30_code 183 = .ok (.return_, 1) := by decide +kernel
theorem dX10_closes_184 : decode prog_37_method_30_code 184 = .ok (.aload_n 0, 1) := by decide +kernel
theorem dX10_closes_185 : decode prog_37_method_30_code 185 = .ok (.bipush 24, 2) := by decide +kernel
theorem dX10_closes_187 : decode prog_37_method_30_code 187 = .ok (.iconst 0, 1) := by decide +kernel
theorem dX10_closes_188 : decode prog_37_method_30_code 188 = .ok (.iconst 0, 1) := by decide +kernel
theorem dX10_closes_189 : decode prog_37_method_30_code 189 = .ok (.iconst 0, 1) := by decide +kernel
theorem dX10_closes_190 : decode prog_37_method_30_code 190 = .ok (.invokevirtual 396, 3) := by decide +kernel
theorem dX10_closes_193 : decode prog_37_method_30_code 193 = .ok (.istore_n 2, 1) := by decide +kernel
theorem dX10_closes_194 : decode prog_37_method_30_code 194 = .ok (.aload_n 0, 1) := by decide +kernel
theorem dX10_closes_195 : decode prog_37_method_30_code 195 = .ok (.getfield 133, 3) := by decide +kernel
theorem dX10_closes_198 : decode prog_37_method_30_code 198 = .ok (.iload_n 1, 1) := by decide +kernel
theorem dX10_closes_199 : decode prog_37_method_30_code 199 = .ok (.aload_n 0, 1) := by decide +kernel
theorem dX10_closes_200 : decode prog_37_method_30_code 200 = .ok (.getfield 269, 3) := by decide +kernel
theorem dX10_closes_203 : decode prog_37_method_30_code 203 = .ok (.iastore, 1) := by decide +kernel
theorem dX10_closes_204 : decode prog_37_method_30_code 204 = .ok (.aload_n 0, 1) := by decide +kernel
theorem dX10_closes_205 : decode prog_37_method_30_code 205 = .ok (.bipush 10, 2) := by decide +kernel
theorem dX10_closes_207 : decode prog_37_method_30_code 207 = .ok (.invokevirtual 365, 3) := by decide +kernel
theorem dX10_closes_210 : decode prog_37_method_30_code 210 = .ok (.aload_n 0, 1) := by decide +kernel
theorem dX10_closes_211 : decode prog_37_method_30_code 211 = .ok (.getfield 127, 3) := by decide +kernel
theorem dX10_closes_214 : decode prog_37_method_30_code 214 = .ok (.iload_n 1, 1) := by decide +kernel
theorem dX10_closes_215 : decode prog_37_method_30_code 215 = .ok (.aload_n 0, 1) := by decide +kernel
theorem dX10_closes_216 : decode prog_37_method_30_code 216 = .ok (.invokevirtual 400, 3) := by decide +kernel
theorem dX10_closes_219 : decode prog_37_method_30_code 219 = .ok (.iastore, 1) := by decide +kernel
theorem dX10_closes_220 : decode prog_37_method_30_code 220 = .ok (.aload_n 0, 1) := by decide +kernel
theorem dX10_closes_221 : decode prog_37_method_30_code 221 = .ok (.getfield 124, 3) := by decide +kernel
theorem dX10_closes_224 : decode prog_37_method_30_code 224 = .ok (.iload_n 1, 1) := by decide +kernel
theorem dX10_closes_225 : decode prog_37_method_30_code 225 = .ok (.aload_n 0, 1) := by decide +kernel
theorem dX10_closes_226 : decode prog_37_method_30_code 226 = .ok (.invokevirtual 386, 3) := by decide +kernel
theorem dX10_closes_229 : decode prog_37_method_30_code 229 = .ok (.iastore, 1) := by decide +kernel
theorem dX10_closes_230 : decode prog_37_method_30_code 230 = .ok (.aload_n 0, 1) := by decide +kernel
theorem dX10_closes_231 : decode prog_37_method_30_code 231 = .ok (.bipush 6, 2) := by decide +kernel
theorem dX10_closes_233 : decode prog_37_method_30_code 233 = .ok (.iload_n 2, 1) := by decide +kernel
theorem dX10_closes_234 : decode prog_37_method_30_code 234 = .ok (.iconst 0, 1) := by decide +kernel
theorem dX10_closes_235 : decode prog_37_method_30_code 235 = .ok (.invokevirtual 389, 3) := by decide +kernel
theorem dX10_closes_238 : decode prog_37_method_30_code 238 = .ok (.return_, 1) := by decide +kernel
theorem dX10_closes_239 : decode prog_37_method_30_code 239 = .ok (.aload_n 0, 1) := by decide +kernel
theorem dX10_closes_240 : decode prog_37_method_30_code 240 = .ok (.getfield 124, 3) := by decide +kernel
theorem dX10_closes_243 : decode prog_37_method_30_code 243 = .ok (.iload_n 1, 1) := by decide +kernel
theorem dX10_closes_244 : decode prog_37_method_30_code 244 = .ok (.aload_n 0, 1) := by decide +kernel
theorem dX10_closes_245 : decode prog_37_method_30_code 245 = .ok (.invokevirtual 386, 3) := by decide +kernel
theorem dX10_closes_248 : decode prog_37_method_30_code 248 = .ok (.iastore, 1) := by decide +kernel
theorem dX10_closes_249 : decode prog_37_method_30_code 249 = .ok (.return_, 1) := by decide +kernel
theorem dX10_order_0 : decode prog_37_method_21_code 0 = .ok (.sipush 4000, 3) := by decide +kernel
theorem dX10_order_3 : decode prog_37_method_21_code 3 = .ok (.iconst 1, 1) := by decide +kernel
theorem dX10_order_4 : decode prog_37_method_21_code 4 = .ok (.aload_n 0, 1) := by decide +kernel
theorem dX10_order_5 : decode prog_37_method_21_code 5 = .ok (.getfield 340, 3) := by decide +kernel
theorem dX10_order_8 : decode prog_37_method_21_code 8 = .ok (.isub, 1) := by decide +kernel
theorem dX10_order_9 : decode prog_37_method_21_code 9 = .ok (.imul, 1) := by decide +kernel
theorem dX10_order_10 : decode prog_37_method_21_code 10 = .ok (.aload_n 0, 1) := by decide +kernel
theorem dX10_order_11 : decode prog_37_method_21_code 11 = .ok (.getfield 343, 3) := by decide +kernel
theorem dX10_order_14 : decode prog_37_method_21_code 14 = .ok (.iadd, 1) := by decide +kernel
theorem dX10_order_15 : decode prog_37_method_21_code 15 = .ok (.istore 5, 2) := by decide +kernel
theorem dX10_order_17 : decode prog_37_method_21_code 17 = .ok (.aload_n 0, 1) := by decide +kernel
theorem dX10_order_18 : decode prog_37_method_21_code 18 = .ok (.getfield 121, 3) := by decide +kernel
theorem dX10_order_21 : decode prog_37_method_21_code 21 = .ok (.iload 5, 2) := by decide +kernel
theorem dX10_order_23 : decode prog_37_method_21_code 23 = .ok (.iload_n 1, 1) := by decide +kernel
theorem dX10_order_24 : decode prog_37_method_21_code 24 = .ok (.iastore, 1) := by decide +kernel
theorem dX10_order_25 : decode prog_37_method_21_code 25 = .ok (.aload_n 0, 1) := by decide +kernel
theorem dX10_order_26 : decode prog_37_method_21_code 26 = .ok (.getfield 124, 3) := by decide +kernel
theorem dX10_order_29 : decode prog_37_method_21_code 29 = .ok (.iload 5, 2) := by decide +kernel
theorem dX10_order_31 : decode prog_37_method_21_code 31 = .ok (.iload_n 2, 1) := by decide +kernel
theorem dX10_order_32 : decode prog_37_method_21_code 32 = .ok (.iastore, 1) := by decide +kernel
theorem dX10_order_33 : decode prog_37_method_21_code 33 = .ok (.aload_n 0, 1) := by decide +kernel
theorem dX10_order_34 : decode prog_37_method_21_code 34 = .ok (.getfield 127, 3) := by decide +kernel
theorem dX10_order_37 : decode prog_37_method_21_code 37 = .ok (.iload 5, 2) := by decide +kernel
theorem dX10_order_39 : decode prog_37_method_21_code 39 = .ok (.iload_n 3, 1) := by decide +kernel
theorem dX10_order_40 : decode prog_37_method_21_code 40 = .ok (.iastore, 1) := by decide +kernel
theorem dX10_order_41 : decode prog_37_method_21_code 41 = .ok (.aload_n 0, 1) := by decide +kernel
theorem dX10_order_42 : decode prog_37_method_21_code 42 = .ok (.getfield 130, 3) := by decide +kernel
theorem dX10_order_45 : decode prog_37_method_21_code 45 = .ok (.iload 5, 2) := by decide +kernel
theorem dX10_order_47 : decode prog_37_method_21_code 47 = .ok (.iconst 0, 1) := by decide +kernel
theorem dX10_order_48 : decode prog_37_method_21_code 48 = .ok (.iastore, 1) := by decide +kernel
theorem dX10_order_49 : decode prog_37_method_21_code 49 = .ok (.aload_n 0, 1) := by decide +kernel
theorem dX10_order_50 : decode prog_37_method_21_code 50 = .ok (.getfield 133, 3) := by decide +kernel
theorem dX10_order_53 : decode prog_37_method_21_code 53 = .ok (.iload 5, 2) := by decide +kernel
theorem dX10_order_55 : decode prog_37_method_21_code 55 = .ok (.iload 4, 2) := by decide +kernel
theorem dX10_order_57 : decode prog_37_method_21_code 57 = .ok (.iastore, 1) := by decide +kernel
theorem dX10_order_58 : decode prog_37_method_21_code 58 = .ok (.aload_n 0, 1) := by decide +kernel
theorem dX10_order_59 : decode prog_37_method_21_code 59 = .ok (.dup, 1) := by decide +kernel
theorem dX10_order_60 : decode prog_37_method_21_code 60 = .ok (.getfield 343, 3) := by decide +kernel
theorem dX10_order_63 : decode prog_37_method_21_code 63 = .ok (.iconst 1, 1) := by decide +kernel
theorem dX10_order_64 : decode prog_37_method_21_code 64 = .ok (.iadd, 1) := by decide +kernel
theorem dX10_order_65 : decode prog_37_method_21_code 65 = .ok (.putfield 343, 3) := by decide +kernel
theorem dX10_order_68 : decode prog_37_method_21_code 68 = .ok (.iload 5, 2) := by decide +kernel
theorem dX10_order_70 : decode prog_37_method_21_code 70 = .ok (.ireturn, 1) := by decide +kernel
theorem dX10_name_0 : decode prog_37_method_25_code 0 = .ok (.aload_n 0, 1) := by decide +kernel
theorem dX10_name_1 : decode prog_37_method_25_code 1 = .ok (.getfield 311, 3) := by decide +kernel
theorem dX10_name_4 : decode prog_37_method_25_code 4 = .ok (.ifCond .le 5, 3) := by decide +kernel
theorem dX10_name_7 : decode prog_37_method_25_code 7 = .ok (.iconst 0, 1) := by decide +kernel
theorem dX10_name_8 : decode prog_37_method_25_code 8 = .ok (.ireturn, 1) := by decide +kernel
theorem dX10_name_9 : decode prog_37_method_25_code 9 = .ok (.aload_n 0, 1) := by decide +kernel
theorem dX10_name_10 : decode prog_37_method_25_code 10 = .ok (.invokevirtual 351, 3) := by decide +kernel
theorem dX10_name_13 : decode prog_37_method_25_code 13 = .ok (.ifCond .ne 9, 3) := by decide +kernel
theorem dX10_name_16 : decode prog_37_method_25_code 16 = .ok (.aload_n 0, 1) := by decide +kernel
theorem dX10_name_17 : decode prog_37_method_25_code 17 = .ok (.invokevirtual 334, 3) := by decide +kernel
theorem dX10_name_20 : decode prog_37_method_25_code 20 = .ok (.iconst 0, 1) := by decide +kernel
theorem dX10_name_21 : decode prog_37_method_25_code 21 = .ok (.ireturn, 1) := by decide +kernel
theorem dX10_name_22 : decode prog_37_method_25_code 22 = .ok (.aload_n 0, 1) := by decide +kernel
theorem dX10_name_23 : decode prog_37_method_25_code 23 = .ok (.getfield 272, 3) := by decide +kernel
theorem dX10_name_26 : decode prog_37_method_25_code 26 = .ok (.invokestatic 355, 3) := by decide +kernel
theorem dX10_name_29 : decode prog_37_method_25_code 29 = .ok (.ifCond .eq 17, 3) := by decide +kernel
theorem dX10_name_32 : decode prog_37_method_25_code 32 = .ok (.aload_n 0, 1) := by decide +kernel
theorem dX10_name_33 : decode prog_37_method_25_code 33 = .ok (.getfield 272, 3) := by decide +kernel
theorem dX10_name_36 : decode prog_37_method_25_code 36 = .ok (.l2i, 1) := by decide +kernel
theorem dX10_name_37 : decode prog_37_method_25_code 37 = .ok (.iconst 1, 1) := by decide +kernel
theorem dX10_name_38 : decode prog_37_method_25_code 38 = .ok (.isub, 1) := by decide +kernel
theorem dX10_name_39 : decode prog_37_method_25_code 39 = .ok (.istore_n 1, 1) := by decide +kernel
theorem dX10_name_40 : decode prog_37_method_25_code 40 = .ok (.aload_n 0, 1) := by decide +kernel
theorem dX10_name_41 : decode prog_37_method_25_code 41 = .ok (.invokevirtual 331, 3) := by decide +kernel
theorem dX10_name_44 : decode prog_37_method_25_code 44 = .ok (.iload_n 1, 1) := by decide +kernel
theorem dX10_name_45 : decode prog_37_method_25_code 45 = .ok (.ireturn, 1) := by decide +kernel
theorem dX10_name_46 : decode prog_37_method_25_code 46 = .ok (.iconst 0, 1) := by decide +kernel
theorem dX10_name_47 : decode prog_37_method_25_code 47 = .ok (.istore_n 1, 1) := by decide +kernel
theorem dX10_name_48 : decode prog_37_method_25_code 48 = .ok (.iload_n 1, 1) := by decide +kernel
theorem dX10_name_49 : decode prog_37_method_25_code 49 = .ok (.aload_n 0, 1) := by decide +kernel
theorem dX10_name_50 : decode prog_37_method_25_code 50 = .ok (.getfield 359, 3) := by decide +kernel
theorem dX10_name_53 : decode prog_37_method_25_code 53 = .ok (.if_icmp .ge 23, 3) := by decide +kernel
theorem dX10_name_56 : decode prog_37_method_25_code 56 = .ok (.aload_n 0, 1) := by decide +kernel
theorem dX10_name_57 : decode prog_37_method_25_code 57 = .ok (.getfield 118, 3) := by decide +kernel
theorem dX10_name_60 : decode prog_37_method_25_code 60 = .ok (.iload_n 1, 1) := by decide +kernel
theorem dX10_name_61 : decode prog_37_method_25_code 61 = .ok (.laload, 1) := by decide +kernel
theorem dX10_name_62 : decode prog_37_method_25_code 62 = .ok (.aload_n 0, 1) := by decide +kernel
theorem dX10_name_63 : decode prog_37_method_25_code 63 = .ok (.getfield 272, 3) := by decide +kernel
theorem dX10_name_66 : decode prog_37_method_25_code 66 = .ok (.lcmp, 1) := by decide +kernel
theorem dX10_name_67 : decode prog_37_method_25_code 67 = .ok (.ifCond .eq 9, 3) := by decide +kernel
theorem dX10_name_70 : decode prog_37_method_25_code 70 = .ok (.iinc 1 1, 3) := by decide +kernel
theorem dX10_name_73 : decode prog_37_method_25_code 73 = .ok (.goto (-25), 3) := by decide +kernel
theorem dX10_name_76 : decode prog_37_method_25_code 76 = .ok (.iload_n 1, 1) := by decide +kernel
theorem dX10_name_77 : decode prog_37_method_25_code 77 = .ok (.bipush 14, 2) := by decide +kernel
theorem dX10_name_79 : decode prog_37_method_25_code 79 = .ok (.if_icmp .ne 14, 3) := by decide +kernel
theorem dX10_name_82 : decode prog_37_method_25_code 82 = .ok (.aload_n 0, 1) := by decide +kernel
theorem dX10_name_83 : decode prog_37_method_25_code 83 = .ok (.iconst 3, 1) := by decide +kernel
theorem dX10_name_84 : decode prog_37_method_25_code 84 = .ok (.aload_n 0, 1) := by decide +kernel
theorem dX10_name_85 : decode prog_37_method_25_code 85 = .ok (.getfield 269, 3) := by decide +kernel
theorem dX10_name_88 : decode prog_37_method_25_code 88 = .ok (.invokevirtual 317, 3) := by decide +kernel
theorem dX10_name_91 : decode prog_37_method_25_code 91 = .ok (.iconst 0, 1) := by decide +kernel
theorem dX10_name_92 : decode prog_37_method_25_code 92 = .ok (.ireturn, 1) := by decide +kernel
theorem dX10_name_93 : decode prog_37_method_25_code 93 = .ok (.aload_n 0, 1) := by decide +kernel
theorem dX10_name_94 : decode prog_37_method_25_code 94 = .ok (.getfield 118, 3) := by decide +kernel
theorem dX10_name_97 : decode prog_37_method_25_code 97 = .ok (.iload_n 1, 1) := by decide +kernel
theorem dX10_name_98 : decode prog_37_method_25_code 98 = .ok (.aload_n 0, 1) := by decide +kernel
theorem dX10_name_99 : decode prog_37_method_25_code 99 = .ok (.getfield 272, 3) := by decide +kernel
theorem dX10_name_102 : decode prog_37_method_25_code 102 = .ok (.lastore, 1) := by decide +kernel
theorem dX10_name_103 : decode prog_37_method_25_code 103 = .ok (.iload_n 1, 1) := by decide +kernel
theorem dX10_name_104 : decode prog_37_method_25_code 104 = .ok (.aload_n 0, 1) := by decide +kernel
theorem dX10_name_105 : decode prog_37_method_25_code 105 = .ok (.getfield 359, 3) := by decide +kernel
theorem dX10_name_108 : decode prog_37_method_25_code 108 = .ok (.if_icmp .ne 13, 3) := by decide +kernel
theorem dX10_name_111 : decode prog_37_method_25_code 111 = .ok (.aload_n 0, 1) := by decide +kernel
theorem dX10_name_112 : decode prog_37_method_25_code 112 = .ok (.dup, 1) := by decide +kernel
theorem dX10_name_113 : decode prog_37_method_25_code 113 = .ok (.getfield 359, 3) := by decide +kernel
theorem dX10_name_116 : decode prog_37_method_25_code 116 = .ok (.iconst 1, 1) := by decide +kernel
theorem dX10_name_117 : decode prog_37_method_25_code 117 = .ok (.iadd, 1) := by decide +kernel
theorem dX10_name_118 : decode prog_37_method_25_code 118 = .ok (.putfield 359, 3) := by decide +kernel
theorem dX10_name_121 : decode prog_37_method_25_code 121 = .ok (.aload_n 0, 1) := by decide +kernel
theorem dX10_name_122 : decode prog_37_method_25_code 122 = .ok (.invokevirtual 331, 3) := by decide +kernel
theorem dX10_name_125 : decode prog_37_method_25_code 125 = .ok (.bipush 8, 2) := by decide +kernel
theorem dX10_name_127 : decode prog_37_method_25_code 127 = .ok (.iload_n 1, 1) := by decide +kernel
theorem dX10_name_128 : decode prog_37_method_25_code 128 = .ok (.iadd, 1) := by decide +kernel
theorem dX10_name_129 : decode prog_37_method_25_code 129 = .ok (.ireturn, 1) := by decide +kernel
theorem dX10_statement_0 : decode prog_37_method_31_code 0 = .ok (.aload_n 0, 1) := by decide +kernel
theorem dX10_statement_1 : decode prog_37_method_31_code 1 = .ok (.getfield 269, 3) := by decide +kernel
theorem dX10_statement_4 : decode prog_37_method_31_code 4 = .ok (.istore_n 1, 1) := by decide +kernel
theorem dX10_statement_5 : decode prog_37_method_31_code 5 = .ok (.aload_n 0, 1) := by decide +kernel
theorem dX10_statement_6 : decode prog_37_method_31_code 6 = .ok (.invokevirtual 321, 3) := by decide +kernel
theorem dX10_statement_9 : decode prog_37_method_31_code 9 = .ok (.istore_n 2, 1) := by decide +kernel
theorem dX10_statement_10 : decode prog_37_method_31_code 10 = .ok (.aload_n 0, 1) := by decide +kernel
theorem dX10_statement_11 : decode prog_37_method_31_code 11 = .ok (.getfield 276, 3) := by decide +kernel
theorem dX10_statement_14 : decode prog_37_method_31_code 14 = .ok (.iconst 1, 1) := by decide +kernel
theorem dX10_statement_15 : decode prog_37_method_31_code 15 = .ok (.if_icmp .ne 23, 3) := by decide +kernel
theorem dX10_statement_18 : decode prog_37_method_31_code 18 = .ok (.iload_n 2, 1) := by decide +kernel
theorem dX10_statement_19 : decode prog_37_method_31_code 19 = .ok (.ifCond .eq 19, 3) := by decide +kernel
theorem dX10_statement_22 : decode prog_37_method_31_code 22 = .ok (.iload_n 2, 1) := by decide +kernel
theorem dX10_statement_23 : decode prog_37_method_31_code 23 = .ok (.iconst 2, 1) := by decide +kernel
theorem dX10_statement_24 : decode prog_37_method_31_code 24 = .ok (.if_icmp .eq 14, 3) := by decide +kernel
theorem dX10_statement_27 : decode prog_37_method_31_code 27 = .ok (.iload_n 2, 1) := by decide +kernel
theorem dX10_statement_28 : decode prog_37_method_31_code 28 = .ok (.iconst 5, 1) := by decide +kernel
theorem dX10_statement_29 : decode prog_37_method_31_code 29 = .ok (.if_icmp .eq 9, 3) := by decide +kernel
theorem dX10_statement_32 : decode prog_37_method_31_code 32 = .ok (.iload_n 2, 1) := by decide +kernel
theorem dX10_statement_33 : decode prog_37_method_31_code 33 = .ok (.bipush 10, 2) := by decide +kernel
theorem dX10_statement_35 : decode prog_37_method_31_code 35 = .ok (.if_icmp .ne 8, 3) := by decide +kernel
theorem dX10_statement_38 : decode prog_37_method_31_code 38 = .ok (.aload_n 0, 1) := by decide +kernel
theorem dX10_statement_39 : decode prog_37_method_31_code 39 = .ok (.invokevirtual 334, 3) := by decide +kernel
theorem dX10_statement_42 : decode prog_37_method_31_code 42 = .ok (.return_, 1) := by decide +kernel
theorem dX10_statement_43 : decode prog_37_method_31_code 43 = .ok (.aload_n 0, 1) := by decide +kernel
theorem dX10_statement_44 : decode prog_37_method_31_code 44 = .ok (.iconst 1, 1) := by decide +kernel
theorem dX10_statement_45 : decode prog_37_method_31_code 45 = .ok (.iconst 0, 1) := by decide +kernel
theorem dX10_statement_46 : decode prog_37_method_31_code 46 = .ok (.iconst 0, 1) := by decide +kernel
theorem dX10_statement_47 : decode prog_37_method_31_code 47 = .ok (.iload_n 1, 1) := by decide +kernel
theorem dX10_statement_48 : decode prog_37_method_31_code 48 = .ok (.invokevirtual 396, 3) := by decide +kernel
theorem dX10_statement_51 : decode prog_37_method_31_code 51 = .ok (.pop, 1) := by decide +kernel
theorem dX10_statement_52 : decode prog_37_method_31_code 52 = .ok (.iload_n 2, 1) := by decide +kernel
theorem dX10_statement_53 : decode prog_37_method_31_code 53 = .ok (.bipush 11, 2) := by decide +kernel
theorem dX10_statement_55 : decode prog_37_method_31_code 55 = .ok (.if_icmp .ge 14, 3) := by decide +kernel
theorem dX10_statement_58 : decode prog_37_method_31_code 58 = .ok (.iload_n 2, 1) := by decide +kernel
theorem dX10_statement_59 : decode prog_37_method_31_code 59 = .ok (.ifCond .ge 34, 3) := by decide +kernel
theorem dX10_statement_62 : decode prog_37_method_31_code 62 = .ok (.aload_n 0, 1) := by decide +kernel
theorem dX10_statement_63 : decode prog_37_method_31_code 63 = .ok (.invokevirtual 403, 3) := by decide +kernel
theorem dX10_statement_66 : decode prog_37_method_31_code 66 = .ok (.ifCond .eq 27, 3) := by decide +kernel
theorem dX10_statement_69 : decode prog_37_method_31_code 69 = .ok (.aload_n 0, 1) := by decide +kernel
theorem dX10_statement_70 : decode prog_37_method_31_code 70 = .ok (.iconst 1, 1) := by decide +kernel
theorem dX10_statement_71 : decode prog_37_method_31_code 71 = .ok (.invokevirtual 406, 3) := by decide +kernel
theorem dX10_statement_74 : decode prog_37_method_31_code 74 = .ok (.aload_n 0, 1) := by decide +kernel
theorem dX10_statement_75 : decode prog_37_method_31_code 75 = .ok (.bipush 59, 2) := by decide +kernel
theorem dX10_statement_77 : decode prog_37_method_31_code 77 = .ok (.invokevirtual 393, 3) := by decide +kernel
theorem dX10_statement_80 : decode prog_37_method_31_code 80 = .ok (.aload_n 0, 1) := by decide +kernel
theorem dX10_statement_81 : decode prog_37_method_31_code 81 = .ok (.bipush 22, 2) := by decide +kernel
theorem dX10_statement_83 : decode prog_37_method_31_code 83 = .ok (.iconst 0, 1) := by decide +kernel
theorem dX10_statement_84 : decode prog_37_method_31_code 84 = .ok (.iconst 0, 1) := by decide +kernel
theorem dX10_statement_85 : decode prog_37_method_31_code 85 = .ok (.iload_n 1, 1) := by decide +kernel
theorem dX10_statement_86 : decode prog_37_method_31_code 86 = .ok (.invokevirtual 396, 3) := by decide +kernel
theorem dX10_statement_89 : decode prog_37_method_31_code 89 = .ok (.pop, 1) := by decide +kernel
theorem dX10_statement_90 : decode prog_37_method_31_code 90 = .ok (.goto 228, 3) := by decide +kernel
theorem dX10_statement_93 : decode prog_37_method_31_code 93 = .ok (.iload_n 2, 1) := by decide +kernel
theorem dX10_statement_94 : decode prog_37_method_31_code 94 = .ok (.ifCond .ge 10, 3) := by decide +kernel
theorem dX10_statement_97 : decode prog_37_method_31_code 97 = .ok (.aload_n 0, 1) := by decide +kernel
theorem dX10_statement_98 : decode prog_37_method_31_code 98 = .ok (.invokevirtual 410, 3) := by decide +kernel
theorem dX10_statement_101 : decode prog_37_method_31_code 101 = .ok (.goto 217, 3) := by decide +kernel
theorem dX10_statement_104 : decode prog_37_method_31_code 104 = .ok (.iload_n 2, 1) := by decide +kernel
theorem dX10_statement_105 : decode prog_37_method_31_code 105 = .ok (.iconst 1, 1) := by decide +kernel
theorem dX10_statement_106 : decode prog_37_method_31_code 106 = .ok (.if_icmp .eq 8, 3) := by decide +kernel
theorem dX10_statement_109 : decode prog_37_method_31_code 109 = .ok (.iload_n 2, 1) := by decide +kernel
theorem dX10_statement_110 : decode prog_37_method_31_code 110 = .ok (.iconst 3, 1) := by decide +kernel
theorem dX10_statement_111 : decode prog_37_method_31_code 111 = .ok (.if_icmp .ne 75, 3) := by decide +kernel
theorem dX10_statement_114 : decode prog_37_method_31_code 114 = .ok (.aload_n 0, 1) := by decide +kernel
theorem dX10_statement_115 : decode prog_37_method_31_code 115 = .ok (.invokevirtual 331, 3) := by decide +kernel
theorem dX10_statement_118 : decode prog_37_method_31_code 118 = .ok (.aload_n 0, 1) := by decide +kernel
theorem dX10_statement_119 : decode prog_37_method_31_code 119 = .ok (.invokevirtual 386, 3) := by decide +kernel
theorem dX10_statement_122 : decode prog_37_method_31_code 122 = .ok (.istore_n 3, 1) := by decide +kernel
theorem dX10_statement_123 : decode prog_37_method_31_code 123 = .ok (.iload_n 2, 1) := by decide +kernel
theorem dX10_statement_124 : decode prog_37_method_31_code 124 = .ok (.iconst 3, 1) := by decide +kernel
theorem dX10_statement_125 : decode prog_37_method_31_code 125 = .ok (.if_icmp .ne 13, 3) := by decide +kernel
theorem dX10_statement_128 : decode prog_37_method_31_code 128 = .ok (.aload_n 0, 1) := by decide +kernel
theorem dX10_statement_129 : decode prog_37_method_31_code 129 = .ok (.bipush 16, 2) := by decide +kernel
theorem dX10_statement_131 : decode prog_37_method_31_code 131 = .ok (.iconst 0, 1) := by decide +kernel
theorem dX10_statement_132 : decode prog_37_method_31_code 132 = .ok (.iconst 0, 1) := by decide +kernel
theorem dX10_statement_133 : decode prog_37_method_31_code 133 = .ok (.iload_n 1, 1) := by decide +kernel
theorem dX10_statement_134 : decode prog_37_method_31_code 134 = .ok (.invokevirtual 396, 3) := by decide +kernel
theorem dX10_statement_137 : decode prog_37_method_31_code 137 = .ok (.pop, 1) := by decide +kernel
theorem dX10_statement_138 : decode prog_37_method_31_code 138 = .ok (.aload_n 0, 1) := by decide +kernel
theorem dX10_statement_139 : decode prog_37_method_31_code 139 = .ok (.bipush 40, 2) := by decide +kernel
theorem dX10_statement_141 : decode prog_37_method_31_code 141 = .ok (.invokevirtual 377, 3) := by decide +kernel
theorem dX10_statement_144 : decode prog_37_method_31_code 144 = .ok (.aload_n 0, 1) := by decide +kernel
theorem dX10_statement_145 : decode prog_37_method_31_code 145 = .ok (.iconst 0, 1) := by decide +kernel
theorem dX10_statement_146 : decode prog_37_method_31_code 146 = .ok (.invokevirtual 406, 3) := by decide +kernel
theorem dX10_statement_149 : decode prog_37_method_31_code 149 = .ok (.aload_n 0, 1) := by decide +kernel
theorem dX10_statement_150 : decode prog_37_method_31_code 150 = .ok (.bipush 41, 2) := by decide +kernel
theorem dX10_statement_152 : decode prog_37_method_31_code 152 = .ok (.invokevirtual 393, 3) := by decide +kernel
theorem dX10_statement_155 : decode prog_37_method_31_code 155 = .ok (.aload_n 0, 1) := by decide +kernel
theorem dX10_statement_156 : decode prog_37_method_31_code 156 = .ok (.bipush 14, 2) := by decide +kernel
theorem dX10_statement_158 : decode prog_37_method_31_code 158 = .ok (.iconst 0, 1) := by decide +kernel
theorem dX10_statement_159 : decode prog_37_method_31_code 159 = .ok (.iconst 0, 1) := by decide +kernel
theorem dX10_statement_160 : decode prog_37_method_31_code 160 = .ok (.iload_n 1, 1) := by decide +kernel
theorem dX10_statement_161 : decode prog_37_method_31_code 161 = .ok (.invokevirtual 396, 3) := by decide +kernel
theorem dX10_statement_164 : decode prog_37_method_31_code 164 = .ok (.istore 4, 2) := by decide +kernel
theorem dX10_statement_166 : decode prog_37_method_31_code 166 = .ok (.aload_n 0, 1) := by decide +kernel
theorem dX10_statement_167 : decode prog_37_method_31_code 167 = .ok (.iload_n 2, 1) := by decide +kernel
theorem dX10_statement_168 : decode prog_37_method_31_code 168 = .ok (.iconst 1, 1) := by decide +kernel
theorem dX10_statement_169 : decode prog_37_method_31_code 169 = .ok (.if_icmp .ne 7, 3) := by decide +kernel
theorem dX10_statement_172 : decode prog_37_method_31_code 172 = .ok (.iconst 1, 1) := by decide +kernel
theorem dX10_statement_173 : decode prog_37_method_31_code 173 = .ok (.goto 4, 3) := by decide +kernel
theorem dX10_statement_176 : decode prog_37_method_31_code 176 = .ok (.iconst 3, 1) := by decide +kernel
theorem dX10_statement_177 : decode prog_37_method_31_code 177 = .ok (.iload 4, 2) := by decide +kernel
theorem dX10_statement_179 : decode prog_37_method_31_code 179 = .ok (.iload_n 3, 1) := by decide +kernel
theorem dX10_statement_180 : decode prog_37_method_31_code 180 = .ok (.invokevirtual 389, 3) := by decide +kernel
theorem dX10_statement_183 : decode prog_37_method_31_code 183 = .ok (.goto 135, 3) := by decide +kernel
theorem dX10_statement_186 : decode prog_37_method_31_code 186 = .ok (.iload_n 2, 1) := by decide +kernel
theorem dX10_statement_187 : decode prog_37_method_31_code 187 = .ok (.iconst 4, 1) := by decide +kernel
theorem dX10_statement_188 : decode prog_37_method_31_code 188 = .ok (.if_icmp .ne 55, 3) := by decide +kernel
theorem dX10_statement_191 : decode prog_37_method_31_code 191 = .ok (.aload_n 0, 1) := by decide +kernel
theorem dX10_statement_192 : decode prog_37_method_31_code 192 = .ok (.invokevirtual 331, 3) := by decide +kernel
theorem dX10_statement_195 : decode prog_37_method_31_code 195 = .ok (.aload_n 0, 1) := by decide +kernel
theorem dX10_statement_196 : decode prog_37_method_31_code 196 = .ok (.invokevirtual 400, 3) := by decide +kernel
theorem dX10_statement_199 : decode prog_37_method_31_code 199 = .ok (.istore_n 3, 1) := by decide +kernel
theorem dX10_statement_200 : decode prog_37_method_31_code 200 = .ok (.aload_n 0, 1) := by decide +kernel
theorem dX10_statement_201 : decode prog_37_method_31_code 201 = .ok (.iconst 5, 1) := by decide +kernel
theorem dX10_statement_202 : decode prog_37_method_31_code 202 = .ok (.invokevirtual 365, 3) := by decide +kernel
theorem dX10_statement_205 : decode prog_37_method_31_code 205 = .ok (.aload_n 0, 1) := by decide +kernel
theorem dX10_statement_206 : decode prog_37_method_31_code 206 = .ok (.iconst 0, 1) := by decide +kernel
theorem dX10_statement_207 : decode prog_37_method_31_code 207 = .ok (.invokevirtual 406, 3) := by decide +kernel
theorem dX10_statement_210 : decode prog_37_method_31_code 210 = .ok (.aload_n 0, 1) := by decide +kernel
theorem dX10_statement_211 : decode prog_37_method_31_code 211 = .ok (.bipush 17, 2) := by decide +kernel
theorem dX10_statement_213 : decode prog_37_method_31_code 213 = .ok (.iconst 0, 1) := by decide +kernel
theorem dX10_statement_214 : decode prog_37_method_31_code 214 = .ok (.iconst 0, 1) := by decide +kernel
theorem dX10_statement_215 : decode prog_37_method_31_code 215 = .ok (.iload_n 1, 1) := by decide +kernel
theorem dX10_statement_216 : decode prog_37_method_31_code 216 = .ok (.invokevirtual 396, 3) := by decide +kernel
theorem dX10_statement_219 : decode prog_37_method_31_code 219 = .ok (.pop, 1) := by decide +kernel
theorem dX10_statement_220 : decode prog_37_method_31_code 220 = .ok (.aload_n 0, 1) := by decide +kernel
theorem dX10_statement_221 : decode prog_37_method_31_code 221 = .ok (.bipush 18, 2) := by decide +kernel
theorem dX10_statement_223 : decode prog_37_method_31_code 223 = .ok (.iconst 0, 1) := by decide +kernel
theorem dX10_statement_224 : decode prog_37_method_31_code 224 = .ok (.iload_n 3, 1) := by decide +kernel
theorem dX10_statement_225 : decode prog_37_method_31_code 225 = .ok (.iload_n 1, 1) := by decide +kernel
theorem dX10_statement_226 : decode prog_37_method_31_code 226 = .ok (.invokevirtual 396, 3) := by decide +kernel
theorem dX10_statement_229 : decode prog_37_method_31_code 229 = .ok (.istore 4, 2) := by decide +kernel
theorem dX10_statement_231 : decode prog_37_method_31_code 231 = .ok (.aload_n 0, 1) := by decide +kernel
theorem dX10_statement_232 : decode prog_37_method_31_code 232 = .ok (.iconst 4, 1) := by decide +kernel
theorem dX10_statement_233 : decode prog_37_method_31_code 233 = .ok (.iload 4, 2) := by decide +kernel
theorem dX10_statement_235 : decode prog_37_method_31_code 235 = .ok (.iload 4, 2) := by decide +kernel
theorem dX10_statement_237 : decode prog_37_method_31_code 237 = .ok (.invokevirtual 389, 3) := by decide +kernel
theorem dX10_statement_240 : decode prog_37_method_31_code 240 = .ok (.goto 78, 3) := by decide +kernel
theorem dX10_statement_243 : decode prog_37_method_31_code 243 = .ok (.iload_n 2, 1) := by decide +kernel
theorem dX10_statement_244 : decode prog_37_method_31_code 244 = .ok (.bipush 9, 2) := by decide +kernel
theorem dX10_statement_246 : decode prog_37_method_31_code 246 = .ok (.if_icmp .ne 25, 3) := by decide +kernel
theorem dX10_statement_249 : decode prog_37_method_31_code 249 = .ok (.aload_n 0, 1) := by decide +kernel
theorem dX10_statement_250 : decode prog_37_method_31_code 250 = .ok (.invokevirtual 331, 3) := by decide +kernel
theorem dX10_statement_253 : decode prog_37_method_31_code 253 = .ok (.aload_n 0, 1) := by decide +kernel
theorem dX10_statement_254 : decode prog_37_method_31_code 254 = .ok (.iconst 5, 1) := by decide +kernel
theorem dX10_statement_255 : decode prog_37_method_31_code 255 = .ok (.aload_n 0, 1) := by decide +kernel
theorem dX10_statement_256 : decode prog_37_method_31_code 256 = .ok (.bipush 23, 2) := by decide +kernel
theorem dX10_statement_258 : decode prog_37_method_31_code 258 = .ok (.iconst 0, 1) := by decide +kernel
theorem dX10_statement_259 : decode prog_37_method_31_code 259 = .ok (.iconst 0, 1) := by decide +kernel
theorem dX10_statement_260 : decode prog_37_method_31_code 260 = .ok (.iconst 0, 1) := by decide +kernel
theorem dX10_statement_261 : decode prog_37_method_31_code 261 = .ok (.invokevirtual 396, 3) := by decide +kernel
theorem dX10_statement_264 : decode prog_37_method_31_code 264 = .ok (.iconst 0, 1) := by decide +kernel
theorem dX10_statement_265 : decode prog_37_method_31_code 265 = .ok (.invokevirtual 389, 3) := by decide +kernel
theorem dX10_statement_268 : decode prog_37_method_31_code 268 = .ok (.goto 50, 3) := by decide +kernel
theorem dX10_statement_271 : decode prog_37_method_31_code 271 = .ok (.aload_n 0, 1) := by decide +kernel
theorem dX10_statement_272 : decode prog_37_method_31_code 272 = .ok (.invokevirtual 331, 3) := by decide +kernel
theorem dX10_statement_275 : decode prog_37_method_31_code 275 = .ok (.aload_n 0, 1) := by decide +kernel
theorem dX10_statement_276 : decode prog_37_method_31_code 276 = .ok (.iconst 0, 1) := by decide +kernel
theorem dX10_statement_277 : decode prog_37_method_31_code 277 = .ok (.invokevirtual 406, 3) := by decide +kernel
theorem dX10_statement_280 : decode prog_37_method_31_code 280 = .ok (.aload_n 0, 1) := by decide +kernel
theorem dX10_statement_281 : decode prog_37_method_31_code 281 = .ok (.bipush 59, 2) := by decide +kernel
theorem dX10_statement_283 : decode prog_37_method_31_code 283 = .ok (.invokevirtual 393, 3) := by decide +kernel
theorem dX10_statement_286 : decode prog_37_method_31_code 286 = .ok (.aload_n 0, 1) := by decide +kernel
theorem dX10_statement_287 : decode prog_37_method_31_code 287 = .ok (.iload_n 2, 1) := by decide +kernel
theorem dX10_statement_288 : decode prog_37_method_31_code 288 = .ok (.bipush 6, 2) := by decide +kernel
theorem dX10_statement_290 : decode prog_37_method_31_code 290 = .ok (.if_icmp .ne 8, 3) := by decide +kernel
theorem dX10_statement_293 : decode prog_37_method_31_code 293 = .ok (.bipush 19, 2) := by decide +kernel
theorem dX10_statement_295 : decode prog_37_method_31_code 295 = .ok (.goto 16, 3) := by decide +kernel
theorem dX10_statement_298 : decode prog_37_method_31_code 298 = .ok (.iload_n 2, 1) := by decide +kernel
theorem dX10_statement_299 : decode prog_37_method_31_code 299 = .ok (.bipush 7, 2) := by decide +kernel
theorem dX10_statement_301 : decode prog_37_method_31_code 301 = .ok (.if_icmp .ne 8, 3) := by decide +kernel
theorem dX10_statement_304 : decode prog_37_method_31_code 304 = .ok (.bipush 20, 2) := by decide +kernel
theorem dX10_statement_306 : decode prog_37_method_31_code 306 = .ok (.goto 5, 3) := by decide +kernel
theorem dX10_statement_309 : decode prog_37_method_31_code 309 = .ok (.bipush 21, 2) := by decide +kernel
theorem dX10_statement_311 : decode prog_37_method_31_code 311 = .ok (.iconst 0, 1) := by decide +kernel
theorem dX10_statement_312 : decode prog_37_method_31_code 312 = .ok (.iconst 0, 1) := by decide +kernel
theorem dX10_statement_313 : decode prog_37_method_31_code 313 = .ok (.iload_n 1, 1) := by decide +kernel
theorem dX10_statement_314 : decode prog_37_method_31_code 314 = .ok (.invokevirtual 396, 3) := by decide +kernel
theorem dX10_statement_317 : decode prog_37_method_31_code 317 = .ok (.pop, 1) := by decide +kernel
theorem dX10_statement_318 : decode prog_37_method_31_code 318 = .ok (.return_, 1) := by decide +kernel
theorem dX10_isBracketBehind_0 : decode prog_37_method_20_code 0 = .ok (.aload_n 0, 1) := by decide +kernel
theorem dX10_isBracketBehind_1 : decode prog_37_method_20_code 1 = .ok (.aload_n 0, 1) := by decide +kernel
theorem dX10_isBracketBehind_2 : decode prog_37_method_20_code 2 = .ok (.aload_n 0, 1) := by decide +kernel
theorem dX10_isBracketBehind_3 : decode prog_37_method_20_code 3 = .ok (.getfield 299, 3) := by decide +kernel
theorem dX10_isBracketBehind_6 : decode prog_37_method_20_code 6 = .ok (.invokevirtual 266, 3) := by decide +kernel
theorem dX10_isBracketBehind_9 : decode prog_37_method_20_code 9 = .ok (.invokevirtual 262, 3) := by decide +kernel
theorem dX10_isBracketBehind_12 : decode prog_37_method_20_code 12 = .ok (.bipush 40, 2) := by decide +kernel
theorem dX10_isBracketBehind_14 : decode prog_37_method_20_code 14 = .ok (.if_icmp .ne 7, 3) := by decide +kernel
theorem dX10_isBracketBehind_17 : decode prog_37_method_20_code 17 = .ok (.iconst 1, 1) := by decide +kernel
theorem dX10_isBracketBehind_18 : decode prog_37_method_20_code 18 = .ok (.goto 4, 3) := by decide +kernel
theorem dX10_isBracketBehind_21 : decode prog_37_method_20_code 21 = .ok (.iconst 0, 1) := by decide +kernel
theorem dX10_isBracketBehind_22 : decode prog_37_method_20_code 22 = .ok (.ireturn, 1) := by decide +kernel
theorem dX10_expression_0 : decode prog_37_method_37_code 0 = .ok (.aload_n 0, 1) := by decide +kernel
theorem dX10_expression_1 : decode prog_37_method_37_code 1 = .ok (.iconst 0, 1) := by decide +kernel
theorem dX10_expression_2 : decode prog_37_method_37_code 2 = .ok (.putfield 413, 3) := by decide +kernel
theorem dX10_expression_5 : decode prog_37_method_37_code 5 = .ok (.iconst 0, 1) := by decide +kernel
theorem dX10_expression_6 : decode prog_37_method_37_code 6 = .ok (.istore_n 2, 1) := by decide +kernel
theorem dX10_expression_7 : decode prog_37_method_37_code 7 = .ok (.aload_n 0, 1) := by decide +kernel
theorem dX10_expression_8 : decode prog_37_method_37_code 8 = .ok (.getfield 311, 3) := by decide +kernel
theorem dX10_expression_11 : decode prog_37_method_37_code 11 = .ok (.ifCond .ne 220, 3) := by decide +kernel
theorem dX10_expression_14 : decode prog_37_method_37_code 14 = .ok (.iload_n 2, 1) := by decide +kernel
theorem dX10_expression_15 : decode prog_37_method_37_code 15 = .ok (.ifCond .ne 11, 3) := by decide +kernel
theorem dX10_expression_18 : decode prog_37_method_37_code 18 = .ok (.aload_n 0, 1) := by decide +kernel
theorem dX10_expression_19 : decode prog_37_method_37_code 19 = .ok (.invokevirtual 422, 3) := by decide +kernel
theorem dX10_expression_22 : decode prog_37_method_37_code 22 = .ok (.istore_n 2, 1) := by decide +kernel
theorem dX10_expression_23 : decode prog_37_method_37_code 23 = .ok (.goto (-16), 3) := by decide +kernel
theorem dX10_expression_26 : decode prog_37_method_37_code 26 = .ok (.iload_n 1, 1) := by decide +kernel
theorem dX10_expression_27 : decode prog_37_method_37_code 27 = .ok (.ifCond .eq 11, 3) := by decide +kernel
theorem dX10_expression_30 : decode prog_37_method_37_code 30 = .ok (.aload_n 0, 1) := by decide +kernel
theorem dX10_expression_31 : decode prog_37_method_37_code 31 = .ok (.getfield 413, 3) := by decide +kernel
theorem dX10_expression_34 : decode prog_37_method_37_code 34 = .ok (.ifCond .ne 4, 3) := by decide +kernel
theorem dX10_expression_37 : decode prog_37_method_37_code 37 = .ok (.return_, 1) := by decide +kernel
theorem dX10_expression_38 : decode prog_37_method_37_code 38 = .ok (.aload_n 0, 1) := by decide +kernel
theorem dX10_expression_39 : decode prog_37_method_37_code 39 = .ok (.bipush 91, 2) := by decide +kernel
theorem dX10_expression_41 : decode prog_37_method_37_code 41 = .ok (.invokevirtual 325, 3) := by decide +kernel
theorem dX10_expression_44 : decode prog_37_method_37_code 44 = .ok (.ifCond .eq 26, 3) := by decide +kernel
theorem dX10_expression_47 : decode prog_37_method_37_code 47 = .ok (.aload_n 0, 1) := by decide +kernel
theorem dX10_expression_48 : decode prog_37_method_37_code 48 = .ok (.getfield 269, 3) := by decide +kernel
theorem dX10_expression_51 : decode prog_37_method_37_code 51 = .ok (.istore_n 3, 1) := by decide +kernel
theorem dX10_expression_52 : decode prog_37_method_37_code 52 = .ok (.aload_n 0, 1) := by decide +kernel
theorem dX10_expression_53 : decode prog_37_method_37_code 53 = .ok (.bipush 91, 2) := by decide +kernel
theorem dX10_expression_55 : decode prog_37_method_37_code 55 = .ok (.invokevirtual 377, 3) := by decide +kernel
theorem dX10_expression_58 : decode prog_37_method_37_code 58 = .ok (.aload_n 0, 1) := by decide +kernel
theorem dX10_expression_59 : decode prog_37_method_37_code 59 = .ok (.iconst 4, 1) := by decide +kernel
theorem dX10_expression_60 : decode prog_37_method_37_code 60 = .ok (.iconst 0, 1) := by decide +kernel
theorem dX10_expression_61 : decode prog_37_method_37_code 61 = .ok (.iload_n 3, 1) := by decide +kernel
theorem dX10_expression_62 : decode prog_37_method_37_code 62 = .ok (.invokevirtual 425, 3) := by decide +kernel
theorem dX10_expression_65 : decode prog_37_method_37_code 65 = .ok (.iconst 0, 1) := by decide +kernel
theorem dX10_expression_66 : decode prog_37_method_37_code 66 = .ok (.istore_n 2, 1) := by decide +kernel
theorem dX10_expression_67 : decode prog_37_method_37_code 67 = .ok (.goto (-60), 3) := by decide +kernel
theorem dX10_expression_70 : decode prog_37_method_37_code 70 = .ok (.aload_n 0, 1) := by decide +kernel
theorem dX10_expression_71 : decode prog_37_method_37_code 71 = .ok (.iconst 2, 1) := by decide +kernel
theorem dX10_expression_72 : decode prog_37_method_37_code 72 = .ok (.invokevirtual 416, 3) := by decide +kernel
theorem dX10_expression_75 : decode prog_37_method_37_code 75 = .ok (.ifCond .eq 38, 3) := by decide +kernel
theorem dX10_expression_78 : decode prog_37_method_37_code 78 = .ok (.aload_n 0, 1) := by decide +kernel
theorem dX10_expression_79 : decode prog_37_method_37_code 79 = .ok (.dup, 1) := by decide +kernel
theorem dX10_expression_80 : decode prog_37_method_37_code 80 = .ok (.getfield 413, 3) := by decide +kernel
theorem dX10_expression_83 : decode prog_37_method_37_code 83 = .ok (.iconst 1, 1) := by decide +kernel
theorem dX10_expression_84 : decode prog_37_method_37_code 84 = .ok (.isub, 1) := by decide +kernel
theorem dX10_expression_85 : decode prog_37_method_37_code 85 = .ok (.putfield 413, 3) := by decide +kernel
theorem dX10_expression_88 : decode prog_37_method_37_code 88 = .ok (.aload_n 0, 1) := by decide +kernel
theorem dX10_expression_89 : decode prog_37_method_37_code 89 = .ok (.iconst 4, 1) := by decide +kernel
theorem dX10_expression_90 : decode prog_37_method_37_code 90 = .ok (.aload_n 0, 1) := by decide +kernel
theorem dX10_expression_91 : decode prog_37_method_37_code 91 = .ok (.getfield 160, 3) := by decide +kernel
theorem dX10_expression_94 : decode prog_37_method_37_code 94 = .ok (.aload_n 0, 1) := by decide +kernel
theorem dX10_expression_95 : decode prog_37_method_37_code 95 = .ok (.getfield 413, 3) := by decide +kernel
theorem dX10_expression_98 : decode prog_37_method_37_code 98 = .ok (.iaload, 1) := by decide +kernel
theorem dX10_expression_99 : decode prog_37_method_37_code 99 = .ok (.iconst 0, 1) := by decide +kernel
theorem dX10_expression_100 : decode prog_37_method_37_code 100 = .ok (.aload_n 0, 1) := by decide +kernel
theorem dX10_expression_101 : decode prog_37_method_37_code 101 = .ok (.getfield 166, 3) := by decide +kernel
theorem dX10_expression_104 : decode prog_37_method_37_code 104 = .ok (.aload_n 0, 1) := by decide +kernel
theorem dX10_expression_105 : decode prog_37_method_37_code 105 = .ok (.getfield 413, 3) := by decide +kernel
theorem dX10_expression_108 : decode prog_37_method_37_code 108 = .ok (.iaload, 1) := by decide +kernel
theorem dX10_expression_109 : decode prog_37_method_37_code 109 = .ok (.invokevirtual 396, 3) := by decide +kernel
theorem dX10_expression_112 : decode prog_37_method_37_code 112 = .ok (.pop, 1) := by decide +kernel
theorem dX10_expression_113 : decode prog_37_method_37_code 113 = .ok (.aload_n 0, 1) := by decide +kernel
theorem dX10_expression_114 : decode prog_37_method_37_code 114 = .ok (.getfield 276, 3) := by decide +kernel
theorem dX10_expression_117 : decode prog_37_method_37_code 117 = .ok (.iconst 3, 1) := by decide +kernel
theorem dX10_expression_118 : decode prog_37_method_37_code 118 = .ok (.if_icmp .ne 14, 3) := by decide +kernel
theorem dX10_expression_121 : decode prog_37_method_37_code 121 = .ok (.aload_n 0, 1) := by decide +kernel
theorem dX10_expression_122 : decode prog_37_method_37_code 122 = .ok (.getfield 272, 3) := by decide +kernel
theorem dX10_expression_125 : decode prog_37_method_37_code 125 = .ok (.l2i, 1) := by decide +kernel
theorem dX10_expression_126 : decode prog_37_method_37_code 126 = .ok (.invokestatic 419, 3) := by decide +kernel
theorem dX10_expression_129 : decode prog_37_method_37_code 129 = .ok (.goto 4, 3) := by decide +kernel
theorem dX10_expression_132 : decode prog_37_method_37_code 132 = .ok (.iconst (-1), 1) := by decide +kernel
theorem dX10_expression_133 : decode prog_37_method_37_code 133 = .ok (.istore_n 3, 1) := by decide +kernel
theorem dX10_expression_134 : decode prog_37_method_37_code 134 = .ok (.iload_n 3, 1) := by decide +kernel
theorem dX10_expression_135 : decode prog_37_method_37_code 135 = .ok (.ifCond .lt 17, 3) := by decide +kernel
theorem dX10_expression_138 : decode prog_37_method_37_code 138 = .ok (.aload_n 0, 1) := by decide +kernel
theorem dX10_expression_139 : decode prog_37_method_37_code 139 = .ok (.iload_n 3, 1) := by decide +kernel
theorem dX10_expression_140 : decode prog_37_method_37_code 140 = .ok (.iconst 1, 1) := by decide +kernel
theorem dX10_expression_141 : decode prog_37_method_37_code 141 = .ok (.if_icmp .ne 7, 3) := by decide +kernel
theorem dX10_expression_144 : decode prog_37_method_37_code 144 = .ok (.iconst 2, 1) := by decide +kernel
theorem dX10_expression_145 : decode prog_37_method_37_code 145 = .ok (.goto 4, 3) := by decide +kernel
theorem dX10_expression_148 : decode prog_37_method_37_code 148 = .ok (.iload_n 3, 1) := by decide +kernel
theorem dX10_expression_149 : decode prog_37_method_37_code 149 = .ok (.invokevirtual 428, 3) := by decide +kernel
theorem dX10_expression_152 : decode prog_37_method_37_code 152 = .ok (.iload_n 3, 1) := by decide +kernel
theorem dX10_expression_153 : decode prog_37_method_37_code 153 = .ok (.ifCond .lt 57, 3) := by decide +kernel
theorem dX10_expression_156 : decode prog_37_method_37_code 156 = .ok (.iload_n 3, 1) := by decide +kernel
theorem dX10_expression_157 : decode prog_37_method_37_code 157 = .ok (.iconst 1, 1) := by decide +kernel
theorem dX10_expression_158 : decode prog_37_method_37_code 158 = .ok (.if_icmp .ne 29, 3) := by decide +kernel
theorem dX10_expression_161 : decode prog_37_method_37_code 161 = .ok (.aload_n 0, 1) := by decide +kernel
theorem dX10_expression_162 : decode prog_37_method_37_code 162 = .ok (.iconst 1, 1) := by decide +kernel
theorem dX10_expression_163 : decode prog_37_method_37_code 163 = .ok (.invokevirtual 416, 3) := by decide +kernel
theorem dX10_expression_166 : decode prog_37_method_37_code 166 = .ok (.ifCond .eq 21, 3) := by decide +kernel
theorem dX10_expression_169 : decode prog_37_method_37_code 169 = .ok (.aload_n 0, 1) := by decide +kernel
theorem dX10_expression_170 : decode prog_37_method_37_code 170 = .ok (.getfield 160, 3) := by decide +kernel
theorem dX10_expression_173 : decode prog_37_method_37_code 173 = .ok (.aload_n 0, 1) := by decide +kernel
theorem dX10_expression_174 : decode prog_37_method_37_code 174 = .ok (.getfield 413, 3) := by decide +kernel
theorem dX10_expression_177 : decode prog_37_method_37_code 177 = .ok (.iconst 1, 1) := by decide +kernel
theorem dX10_expression_178 : decode prog_37_method_37_code 178 = .ok (.isub, 1) := by decide +kernel
theorem dX10_expression_179 : decode prog_37_method_37_code 179 = .ok (.iaload, 1) := by decide +kernel
theorem dX10_expression_180 : decode prog_37_method_37_code 180 = .ok (.invokestatic 419, 3) := by decide +kernel
theorem dX10_expression_183 : decode prog_37_method_37_code 183 = .ok (.iconst 1, 1) := by decide +kernel
theorem dX10_expression_184 : decode prog_37_method_37_code 184 = .ok (.if_icmp .eq 26, 3) := by decide +kernel
theorem dX10_expression_187 : decode prog_37_method_37_code 187 = .ok (.aload_n 0, 1) := by decide +kernel
theorem dX10_expression_188 : decode prog_37_method_37_code 188 = .ok (.iconst 1, 1) := by decide +kernel
theorem dX10_expression_189 : decode prog_37_method_37_code 189 = .ok (.aload_n 0, 1) := by decide +kernel
theorem dX10_expression_190 : decode prog_37_method_37_code 190 = .ok (.getfield 272, 3) := by decide +kernel
theorem dX10_expression_193 : decode prog_37_method_37_code 193 = .ok (.l2i, 1) := by decide +kernel
theorem dX10_expression_194 : decode prog_37_method_37_code 194 = .ok (.aload_n 0, 1) := by decide +kernel
theorem dX10_expression_195 : decode prog_37_method_37_code 195 = .ok (.getfield 269, 3) := by decide +kernel
theorem dX10_expression_198 : decode prog_37_method_37_code 198 = .ok (.invokevirtual 425, 3) := by decide +kernel
theorem dX10_expression_201 : decode prog_37_method_37_code 201 = .ok (.aload_n 0, 1) := by decide +kernel
theorem dX10_expression_202 : decode prog_37_method_37_code 202 = .ok (.invokevirtual 331, 3) := by decide +kernel
theorem dX10_expression_205 : decode prog_37_method_37_code 205 = .ok (.iconst 0, 1) := by decide +kernel
theorem dX10_expression_206 : decode prog_37_method_37_code 206 = .ok (.istore_n 2, 1) := by decide +kernel
theorem dX10_expression_207 : decode prog_37_method_37_code 207 = .ok (.goto (-200), 3) := by decide +kernel
theorem dX10_expression_210 : decode prog_37_method_37_code 210 = .ok (.aload_n 0, 1) := by decide +kernel
theorem dX10_expression_211 : decode prog_37_method_37_code 211 = .ok (.iconst 0, 1) := by decide +kernel
theorem dX10_expression_212 : decode prog_37_method_37_code 212 = .ok (.invokevirtual 428, 3) := by decide +kernel
theorem dX10_expression_215 : decode prog_37_method_37_code 215 = .ok (.aload_n 0, 1) := by decide +kernel
theorem dX10_expression_216 : decode prog_37_method_37_code 216 = .ok (.getfield 413, 3) := by decide +kernel
theorem dX10_expression_219 : decode prog_37_method_37_code 219 = .ok (.ifCond .ne 4, 3) := by decide +kernel
theorem dX10_expression_222 : decode prog_37_method_37_code 222 = .ok (.return_, 1) := by decide +kernel
theorem dX10_expression_223 : decode prog_37_method_37_code 223 = .ok (.aload_n 0, 1) := by decide +kernel
theorem dX10_expression_224 : decode prog_37_method_37_code 224 = .ok (.invokevirtual 431, 3) := by decide +kernel
theorem dX10_expression_227 : decode prog_37_method_37_code 227 = .ok (.istore_n 2, 1) := by decide +kernel
theorem dX10_expression_228 : decode prog_37_method_37_code 228 = .ok (.goto (-221), 3) := by decide +kernel
theorem dX10_expression_231 : decode prog_37_method_37_code 231 = .ok (.return_, 1) := by decide +kernel
theorem dX10_starts_0 : decode prog_37_method_38_code 0 = .ok (.aload_n 0, 1) := by decide +kernel
theorem dX10_starts_1 : decode prog_37_method_38_code 1 = .ok (.getfield 269, 3) := by decide +kernel
theorem dX10_starts_4 : decode prog_37_method_38_code 4 = .ok (.istore_n 1, 1) := by decide +kernel
theorem dX10_starts_5 : decode prog_37_method_38_code 5 = .ok (.aload_n 0, 1) := by decide +kernel
theorem dX10_starts_6 : decode prog_37_method_38_code 6 = .ok (.invokevirtual 321, 3) := by decide +kernel
theorem dX10_starts_9 : decode prog_37_method_38_code 9 = .ok (.istore_n 2, 1) := by decide +kernel
theorem dX10_starts_10 : decode prog_37_method_38_code 10 = .ok (.aload_n 0, 1) := by decide +kernel
theorem dX10_starts_11 : decode prog_37_method_38_code 11 = .ok (.getfield 276, 3) := by decide +kernel
theorem dX10_starts_14 : decode prog_37_method_38_code 14 = .ok (.iconst 2, 1) := by decide +kernel
theorem dX10_starts_15 : decode prog_37_method_38_code 15 = .ok (.if_icmp .ne 22, 3) := by decide +kernel
theorem dX10_starts_18 : decode prog_37_method_38_code 18 = .ok (.aload_n 0, 1) := by decide +kernel
theorem dX10_starts_19 : decode prog_37_method_38_code 19 = .ok (.iconst 2, 1) := by decide +kernel
theorem dX10_starts_20 : decode prog_37_method_38_code 20 = .ok (.aload_n 0, 1) := by decide +kernel
theorem dX10_starts_21 : decode prog_37_method_38_code 21 = .ok (.getfield 272, 3) := by decide +kernel
theorem dX10_starts_24 : decode prog_37_method_38_code 24 = .ok (.l2i, 1) := by decide +kernel
theorem dX10_starts_25 : decode prog_37_method_38_code 25 = .ok (.iconst 0, 1) := by decide +kernel
theorem dX10_starts_26 : decode prog_37_method_38_code 26 = .ok (.iload_n 1, 1) := by decide +kernel
theorem dX10_starts_27 : decode prog_37_method_38_code 27 = .ok (.invokevirtual 396, 3) := by decide +kernel
theorem dX10_starts_30 : decode prog_37_method_38_code 30 = .ok (.pop, 1) := by decide +kernel
theorem dX10_starts_31 : decode prog_37_method_38_code 31 = .ok (.aload_n 0, 1) := by decide +kernel
theorem dX10_starts_32 : decode prog_37_method_38_code 32 = .ok (.invokevirtual 331, 3) := by decide +kernel
theorem dX10_starts_35 : decode prog_37_method_38_code 35 = .ok (.iconst 1, 1) := by decide +kernel
theorem dX10_starts_36 : decode prog_37_method_38_code 36 = .ok (.ireturn, 1) := by decide +kernel
theorem dX10_starts_37 : decode prog_37_method_38_code 37 = .ok (.aload_n 0, 1) := by decide +kernel
theorem dX10_starts_38 : decode prog_37_method_38_code 38 = .ok (.bipush 45, 2) := by decide +kernel
theorem dX10_starts_40 : decode prog_37_method_38_code 40 = .ok (.invokevirtual 325, 3) := by decide +kernel
theorem dX10_starts_43 : decode prog_37_method_38_code 43 = .ok (.ifCond .ne 12, 3) := by decide +kernel
theorem dX10_starts_46 : decode prog_37_method_38_code 46 = .ok (.aload_n 0, 1) := by decide +kernel
theorem dX10_starts_47 : decode prog_37_method_38_code 47 = .ok (.bipush 33, 2) := by decide +kernel
theorem dX10_starts_49 : decode prog_37_method_38_code 49 = .ok (.invokevirtual 325, 3) := by decide +kernel
theorem dX10_starts_52 : decode prog_37_method_38_code 52 = .ok (.ifCond .eq 28, 3) := by decide +kernel
theorem dX10_starts_55 : decode prog_37_method_38_code 55 = .ok (.aload_n 0, 1) := by decide +kernel
theorem dX10_starts_56 : decode prog_37_method_38_code 56 = .ok (.iconst 2, 1) := by decide +kernel
theorem dX10_starts_57 : decode prog_37_method_38_code 57 = .ok (.invokevirtual 416, 3) := by decide +kernel
theorem dX10_starts_60 : decode prog_37_method_38_code 60 = .ok (.ifCond .ne 20, 3) := by decide +kernel
theorem dX10_starts_63 : decode prog_37_method_38_code 63 = .ok (.aload_n 0, 1) := by decide +kernel
theorem dX10_starts_64 : decode prog_37_method_38_code 64 = .ok (.iconst 2, 1) := by decide +kernel
theorem dX10_starts_65 : decode prog_37_method_38_code 65 = .ok (.aload_n 0, 1) := by decide +kernel
theorem dX10_starts_66 : decode prog_37_method_38_code 66 = .ok (.getfield 272, 3) := by decide +kernel
theorem dX10_starts_69 : decode prog_37_method_38_code 69 = .ok (.l2i, 1) := by decide +kernel
theorem dX10_starts_70 : decode prog_37_method_38_code 70 = .ok (.iload_n 1, 1) := by decide +kernel
theorem dX10_starts_71 : decode prog_37_method_38_code 71 = .ok (.invokevirtual 425, 3) := by decide +kernel
theorem dX10_starts_74 : decode prog_37_method_38_code 74 = .ok (.aload_n 0, 1) := by decide +kernel
theorem dX10_starts_75 : decode prog_37_method_38_code 75 = .ok (.invokevirtual 331, 3) := by decide +kernel
theorem dX10_starts_78 : decode prog_37_method_38_code 78 = .ok (.iconst 0, 1) := by decide +kernel
theorem dX10_starts_79 : decode prog_37_method_38_code 79 = .ok (.ireturn, 1) := by decide +kernel
theorem dX10_starts_80 : decode prog_37_method_38_code 80 = .ok (.aload_n 0, 1) := by decide +kernel
theorem dX10_starts_81 : decode prog_37_method_38_code 81 = .ok (.bipush 40, 2) := by decide +kernel
theorem dX10_starts_83 : decode prog_37_method_38_code 83 = .ok (.invokevirtual 325, 3) := by decide +kernel
theorem dX10_starts_86 : decode prog_37_method_38_code 86 = .ok (.ifCond .eq 18, 3) := by decide +kernel
theorem dX10_starts_89 : decode prog_37_method_38_code 89 = .ok (.aload_n 0, 1) := by decide +kernel
theorem dX10_starts_90 : decode prog_37_method_38_code 90 = .ok (.bipush 40, 2) := by decide +kernel
theorem dX10_starts_92 : decode prog_37_method_38_code 92 = .ok (.invokevirtual 377, 3) := by decide +kernel
theorem dX10_starts_95 : decode prog_37_method_38_code 95 = .ok (.aload_n 0, 1) := by decide +kernel
theorem dX10_starts_96 : decode prog_37_method_38_code 96 = .ok (.iconst 3, 1) := by decide +kernel
theorem dX10_starts_97 : decode prog_37_method_38_code 97 = .ok (.iconst 0, 1) := by decide +kernel
theorem dX10_starts_98 : decode prog_37_method_38_code 98 = .ok (.iload_n 1, 1) := by decide +kernel
theorem dX10_starts_99 : decode prog_37_method_38_code 99 = .ok (.invokevirtual 425, 3) := by decide +kernel
theorem dX10_starts_102 : decode prog_37_method_38_code 102 = .ok (.iconst 0, 1) := by decide +kernel
theorem dX10_starts_103 : decode prog_37_method_38_code 103 = .ok (.ireturn, 1) := by decide +kernel
theorem dX10_starts_104 : decode prog_37_method_38_code 104 = .ok (.aload_n 0, 1) := by decide +kernel
theorem dX10_starts_105 : decode prog_37_method_38_code 105 = .ok (.bipush 91, 2) := by decide +kernel
theorem dX10_starts_107 : decode prog_37_method_38_code 107 = .ok (.invokevirtual 325, 3) := by decide +kernel
theorem dX10_starts_110 : decode prog_37_method_38_code 110 = .ok (.ifCond .eq 45, 3) := by decide +kernel
theorem dX10_starts_113 : decode prog_37_method_38_code 113 = .ok (.aload_n 0, 1) := by decide +kernel
theorem dX10_starts_114 : decode prog_37_method_38_code 114 = .ok (.bipush 91, 2) := by decide +kernel
theorem dX10_starts_116 : decode prog_37_method_38_code 116 = .ok (.invokevirtual 377, 3) := by decide +kernel
theorem dX10_starts_119 : decode prog_37_method_38_code 119 = .ok (.aload_n 0, 1) := by decide +kernel
theorem dX10_starts_120 : decode prog_37_method_38_code 120 = .ok (.iconst 5, 1) := by decide +kernel
theorem dX10_starts_121 : decode prog_37_method_38_code 121 = .ok (.iconst 0, 1) := by decide +kernel
theorem dX10_starts_122 : decode prog_37_method_38_code 122 = .ok (.iload_n 1, 1) := by decide +kernel
theorem dX10_starts_123 : decode prog_37_method_38_code 123 = .ok (.invokevirtual 425, 3) := by decide +kernel
theorem dX10_starts_126 : decode prog_37_method_38_code 126 = .ok (.aload_n 0, 1) := by decide +kernel
theorem dX10_starts_127 : decode prog_37_method_38_code 127 = .ok (.getfield 311, 3) := by decide +kernel
theorem dX10_starts_130 : decode prog_37_method_38_code 130 = .ok (.ifCond .ne 23, 3) := by decide +kernel
theorem dX10_starts_133 : decode prog_37_method_38_code 133 = .ok (.aload_n 0, 1) := by decide +kernel
theorem dX10_starts_134 : decode prog_37_method_38_code 134 = .ok (.bipush 93, 2) := by decide +kernel
theorem dX10_starts_136 : decode prog_37_method_38_code 136 = .ok (.invokevirtual 325, 3) := by decide +kernel
theorem dX10_starts_139 : decode prog_37_method_38_code 139 = .ok (.ifCond .eq 14, 3) := by decide +kernel
theorem dX10_starts_142 : decode prog_37_method_38_code 142 = .ok (.aload_n 0, 1) := by decide +kernel
theorem dX10_starts_143 : decode prog_37_method_38_code 143 = .ok (.invokevirtual 434, 3) := by decide +kernel
theorem dX10_starts_146 : decode prog_37_method_38_code 146 = .ok (.ifCond .eq 7, 3) := by decide +kernel
theorem dX10_starts_149 : decode prog_37_method_38_code 149 = .ok (.iconst 1, 1) := by decide +kernel
theorem dX10_starts_150 : decode prog_37_method_38_code 150 = .ok (.goto 4, 3) := by decide +kernel
theorem dX10_starts_153 : decode prog_37_method_38_code 153 = .ok (.iconst 0, 1) := by decide +kernel
theorem dX10_starts_154 : decode prog_37_method_38_code 154 = .ok (.ireturn, 1) := by decide +kernel
theorem dX10_starts_155 : decode prog_37_method_38_code 155 = .ok (.aload_n 0, 1) := by decide +kernel
theorem dX10_starts_156 : decode prog_37_method_38_code 156 = .ok (.getfield 276, 3) := by decide +kernel
theorem dX10_starts_159 : decode prog_37_method_38_code 159 = .ok (.iconst 1, 1) := by decide +kernel
theorem dX10_starts_160 : decode prog_37_method_38_code 160 = .ok (.if_icmp .ne 27, 3) := by decide +kernel
theorem dX10_starts_163 : decode prog_37_method_38_code 163 = .ok (.iload_n 2, 1) := by decide +kernel
theorem dX10_starts_164 : decode prog_37_method_38_code 164 = .ok (.bipush 11, 2) := by decide +kernel
theorem dX10_starts_166 : decode prog_37_method_38_code 166 = .ok (.if_icmp .ge 14, 3) := by decide +kernel
theorem dX10_starts_169 : decode prog_37_method_38_code 169 = .ok (.iload_n 2, 1) := by decide +kernel
theorem dX10_starts_170 : decode prog_37_method_38_code 170 = .ok (.ifCond .ge 17, 3) := by decide +kernel
theorem dX10_starts_173 : decode prog_37_method_38_code 173 = .ok (.aload_n 0, 1) := by decide +kernel
theorem dX10_starts_174 : decode prog_37_method_38_code 174 = .ok (.invokevirtual 403, 3) := by decide +kernel
theorem dX10_starts_177 : decode prog_37_method_38_code 177 = .ok (.ifCond .eq 10, 3) := by decide +kernel
theorem dX10_starts_180 : decode prog_37_method_38_code 180 = .ok (.aload_n 0, 1) := by decide +kernel
theorem dX10_starts_181 : decode prog_37_method_38_code 181 = .ok (.iload_n 2, 1) := by decide +kernel
theorem dX10_starts_182 : decode prog_37_method_38_code 182 = .ok (.iload_n 1, 1) := by decide +kernel
theorem dX10_starts_183 : decode prog_37_method_38_code 183 = .ok (.invokevirtual 437, 3) := by decide +kernel
theorem dX10_starts_186 : decode prog_37_method_38_code 186 = .ok (.ireturn, 1) := by decide +kernel
theorem dX10_starts_187 : decode prog_37_method_38_code 187 = .ok (.aload_n 0, 1) := by decide +kernel
theorem dX10_starts_188 : decode prog_37_method_38_code 188 = .ok (.getfield 276, 3) := by decide +kernel
theorem dX10_starts_191 : decode prog_37_method_38_code 191 = .ok (.iconst 1, 1) := by decide +kernel
theorem dX10_starts_192 : decode prog_37_method_38_code 192 = .ok (.if_icmp .ne 23, 3) := by decide +kernel
theorem dX10_starts_195 : decode prog_37_method_38_code 195 = .ok (.iload_n 2, 1) := by decide +kernel
theorem dX10_starts_196 : decode prog_37_method_38_code 196 = .ok (.ifCond .ge 19, 3) := by decide +kernel
theorem dX10_starts_199 : decode prog_37_method_38_code 199 = .ok (.aload_n 0, 1) := by decide +kernel
theorem dX10_starts_200 : decode prog_37_method_38_code 200 = .ok (.invokevirtual 400, 3) := by decide +kernel
theorem dX10_starts_203 : decode prog_37_method_38_code 203 = .ok (.istore_n 3, 1) := by decide +kernel
theorem dX10_starts_204 : decode prog_37_method_38_code 204 = .ok (.aload_n 0, 1) := by decide +kernel
theorem dX10_starts_205 : decode prog_37_method_38_code 205 = .ok (.iconst 3, 1) := by decide +kernel
theorem dX10_starts_206 : decode prog_37_method_38_code 206 = .ok (.iload_n 3, 1) := by decide +kernel
theorem dX10_starts_207 : decode prog_37_method_38_code 207 = .ok (.iconst 0, 1) := by decide +kernel
theorem dX10_starts_208 : decode prog_37_method_38_code 208 = .ok (.iload_n 1, 1) := by decide +kernel
theorem dX10_starts_209 : decode prog_37_method_38_code 209 = .ok (.invokevirtual 396, 3) := by decide +kernel
theorem dX10_starts_212 : decode prog_37_method_38_code 212 = .ok (.pop, 1) := by decide +kernel
theorem dX10_starts_213 : decode prog_37_method_38_code 213 = .ok (.iconst 1, 1) := by decide +kernel
theorem dX10_starts_214 : decode prog_37_method_38_code 214 = .ok (.ireturn, 1) := by decide +kernel
theorem dX10_starts_215 : decode prog_37_method_38_code 215 = .ok (.aload_n 0, 1) := by decide +kernel
theorem dX10_starts_216 : decode prog_37_method_38_code 216 = .ok (.invokevirtual 334, 3) := by decide +kernel
theorem dX10_starts_219 : decode prog_37_method_38_code 219 = .ok (.iconst 0, 1) := by decide +kernel
theorem dX10_starts_220 : decode prog_37_method_38_code 220 = .ok (.ireturn, 1) := by decide +kernel
theorem dX10_isWaiting_0 : decode prog_37_method_35_code 0 = .ok (.aload_n 0, 1) := by decide +kernel
theorem dX10_isWaiting_1 : decode prog_37_method_35_code 1 = .ok (.getfield 413, 3) := by decide +kernel
theorem dX10_isWaiting_4 : decode prog_37_method_35_code 4 = .ok (.ifCond .le 22, 3) := by decide +kernel
theorem dX10_isWaiting_7 : decode prog_37_method_35_code 7 = .ok (.aload_n 0, 1) := by decide +kernel
theorem dX10_isWaiting_8 : decode prog_37_method_35_code 8 = .ok (.getfield 157, 3) := by decide +kernel
theorem dX10_isWaiting_11 : decode prog_37_method_35_code 11 = .ok (.aload_n 0, 1) := by decide +kernel
theorem dX10_isWaiting_12 : decode prog_37_method_35_code 12 = .ok (.getfield 413, 3) := by decide +kernel
theorem dX10_isWaiting_15 : decode prog_37_method_35_code 15 = .ok (.iconst 1, 1) := by decide +kernel
theorem dX10_isWaiting_16 : decode prog_37_method_35_code 16 = .ok (.isub, 1) := by decide +kernel
theorem dX10_isWaiting_17 : decode prog_37_method_35_code 17 = .ok (.iaload, 1) := by decide +kernel
theorem dX10_isWaiting_18 : decode prog_37_method_35_code 18 = .ok (.iload_n 1, 1) := by decide +kernel
theorem dX10_isWaiting_19 : decode prog_37_method_35_code 19 = .ok (.if_icmp .ne 7, 3) := by decide +kernel
theorem dX10_isWaiting_22 : decode prog_37_method_35_code 22 = .ok (.iconst 1, 1) := by decide +kernel
theorem dX10_isWaiting_23 : decode prog_37_method_35_code 23 = .ok (.goto 4, 3) := by decide +kernel
theorem dX10_isWaiting_26 : decode prog_37_method_35_code 26 = .ok (.iconst 0, 1) := by decide +kernel
theorem dX10_isWaiting_27 : decode prog_37_method_35_code 27 = .ok (.ireturn, 1) := by decide +kernel
theorem dX10_wait_0 : decode prog_37_method_33_code 0 = .ok (.aload_n 0, 1) := by decide +kernel
theorem dX10_wait_1 : decode prog_37_method_33_code 1 = .ok (.getfield 157, 3) := by decide +kernel
theorem dX10_wait_4 : decode prog_37_method_33_code 4 = .ok (.aload_n 0, 1) := by decide +kernel
theorem dX10_wait_5 : decode prog_37_method_33_code 5 = .ok (.getfield 413, 3) := by decide +kernel
theorem dX10_wait_8 : decode prog_37_method_33_code 8 = .ok (.iload_n 1, 1) := by decide +kernel
theorem dX10_wait_9 : decode prog_37_method_33_code 9 = .ok (.iastore, 1) := by decide +kernel
theorem dX10_wait_10 : decode prog_37_method_33_code 10 = .ok (.aload_n 0, 1) := by decide +kernel
theorem dX10_wait_11 : decode prog_37_method_33_code 11 = .ok (.getfield 160, 3) := by decide +kernel
theorem dX10_wait_14 : decode prog_37_method_33_code 14 = .ok (.aload_n 0, 1) := by decide +kernel
theorem dX10_wait_15 : decode prog_37_method_33_code 15 = .ok (.getfield 413, 3) := by decide +kernel
theorem dX10_wait_18 : decode prog_37_method_33_code 18 = .ok (.iload_n 2, 1) := by decide +kernel
theorem dX10_wait_19 : decode prog_37_method_33_code 19 = .ok (.iastore, 1) := by decide +kernel
theorem dX10_wait_20 : decode prog_37_method_33_code 20 = .ok (.aload_n 0, 1) := by decide +kernel
theorem dX10_wait_21 : decode prog_37_method_33_code 21 = .ok (.getfield 163, 3) := by decide +kernel
theorem dX10_wait_24 : decode prog_37_method_33_code 24 = .ok (.aload_n 0, 1) := by decide +kernel
theorem dX10_wait_25 : decode prog_37_method_33_code 25 = .ok (.getfield 413, 3) := by decide +kernel
theorem dX10_wait_28 : decode prog_37_method_33_code 28 = .ok (.iconst 0, 1) := by decide +kernel
theorem dX10_wait_29 : decode prog_37_method_33_code 29 = .ok (.iastore, 1) := by decide +kernel
theorem dX10_wait_30 : decode prog_37_method_33_code 30 = .ok (.aload_n 0, 1) := by decide +kernel
theorem dX10_wait_31 : decode prog_37_method_33_code 31 = .ok (.getfield 166, 3) := by decide +kernel
theorem dX10_wait_34 : decode prog_37_method_33_code 34 = .ok (.aload_n 0, 1) := by decide +kernel
theorem dX10_wait_35 : decode prog_37_method_33_code 35 = .ok (.getfield 413, 3) := by decide +kernel
theorem dX10_wait_38 : decode prog_37_method_33_code 38 = .ok (.iload_n 3, 1) := by decide +kernel
theorem dX10_wait_39 : decode prog_37_method_33_code 39 = .ok (.iastore, 1) := by decide +kernel
theorem dX10_wait_40 : decode prog_37_method_33_code 40 = .ok (.aload_n 0, 1) := by decide +kernel
theorem dX10_wait_41 : decode prog_37_method_33_code 41 = .ok (.dup, 1) := by decide +kernel
theorem dX10_wait_42 : decode prog_37_method_33_code 42 = .ok (.getfield 413, 3) := by decide +kernel
theorem dX10_wait_45 : decode prog_37_method_33_code 45 = .ok (.iconst 1, 1) := by decide +kernel
theorem dX10_wait_46 : decode prog_37_method_33_code 46 = .ok (.iadd, 1) := by decide +kernel
theorem dX10_wait_47 : decode prog_37_method_33_code 47 = .ok (.putfield 413, 3) := by decide +kernel
theorem dX10_wait_50 : decode prog_37_method_33_code 50 = .ok (.return_, 1) := by decide +kernel
theorem dX10_ends2_0 : decode prog_37_method_42_code 0 = .ok (.aload_n 0, 1) := by decide +kernel
theorem dX10_ends2_1 : decode prog_37_method_42_code 1 = .ok (.dup, 1) := by decide +kernel
theorem dX10_ends2_2 : decode prog_37_method_42_code 2 = .ok (.getfield 413, 3) := by decide +kernel
theorem dX10_ends2_5 : decode prog_37_method_42_code 5 = .ok (.iconst 1, 1) := by decide +kernel
theorem dX10_ends2_6 : decode prog_37_method_42_code 6 = .ok (.isub, 1) := by decide +kernel
theorem dX10_ends2_7 : decode prog_37_method_42_code 7 = .ok (.putfield 413, 3) := by decide +kernel
theorem dX10_ends2_10 : decode prog_37_method_42_code 10 = .ok (.aload_n 0, 1) := by decide +kernel
theorem dX10_ends2_11 : decode prog_37_method_42_code 11 = .ok (.getfield 413, 3) := by decide +kernel
theorem dX10_ends2_14 : decode prog_37_method_42_code 14 = .ok (.istore_n 1, 1) := by decide +kernel
theorem dX10_ends2_15 : decode prog_37_method_42_code 15 = .ok (.aload_n 0, 1) := by decide +kernel
theorem dX10_ends2_16 : decode prog_37_method_42_code 16 = .ok (.getfield 163, 3) := by decide +kernel
theorem dX10_ends2_19 : decode prog_37_method_42_code 19 = .ok (.iload_n 1, 1) := by decide +kernel
theorem dX10_ends2_20 : decode prog_37_method_42_code 20 = .ok (.iaload, 1) := by decide +kernel
theorem dX10_ends2_21 : decode prog_37_method_42_code 21 = .ok (.istore_n 2, 1) := by decide +kernel
theorem dX10_ends2_22 : decode prog_37_method_42_code 22 = .ok (.aload_n 0, 1) := by decide +kernel
theorem dX10_ends2_23 : decode prog_37_method_42_code 23 = .ok (.getfield 157, 3) := by decide +kernel
theorem dX10_ends2_26 : decode prog_37_method_42_code 26 = .ok (.iload_n 1, 1) := by decide +kernel
theorem dX10_ends2_27 : decode prog_37_method_42_code 27 = .ok (.iaload, 1) := by decide +kernel
theorem dX10_ends2_28 : decode prog_37_method_42_code 28 = .ok (.iconst 5, 1) := by decide +kernel
theorem dX10_ends2_29 : decode prog_37_method_42_code 29 = .ok (.if_icmp .ne 26, 3) := by decide +kernel
theorem dX10_ends2_32 : decode prog_37_method_42_code 32 = .ok (.aload_n 0, 1) := by decide +kernel
theorem dX10_ends2_33 : decode prog_37_method_42_code 33 = .ok (.bipush 93, 2) := by decide +kernel
theorem dX10_ends2_35 : decode prog_37_method_42_code 35 = .ok (.invokevirtual 393, 3) := by decide +kernel
theorem dX10_ends2_38 : decode prog_37_method_42_code 38 = .ok (.aload_n 0, 1) := by decide +kernel
theorem dX10_ends2_39 : decode prog_37_method_42_code 39 = .ok (.bipush 6, 2) := by decide +kernel
theorem dX10_ends2_41 : decode prog_37_method_42_code 41 = .ok (.iload_n 2, 1) := by decide +kernel
theorem dX10_ends2_42 : decode prog_37_method_42_code 42 = .ok (.iconst 0, 1) := by decide +kernel
theorem dX10_ends2_43 : decode prog_37_method_42_code 43 = .ok (.aload_n 0, 1) := by decide +kernel
theorem dX10_ends2_44 : decode prog_37_method_42_code 44 = .ok (.getfield 166, 3) := by decide +kernel
theorem dX10_ends2_47 : decode prog_37_method_42_code 47 = .ok (.iload_n 1, 1) := by decide +kernel
theorem dX10_ends2_48 : decode prog_37_method_42_code 48 = .ok (.iaload, 1) := by decide +kernel
theorem dX10_ends2_49 : decode prog_37_method_42_code 49 = .ok (.invokevirtual 396, 3) := by decide +kernel
theorem dX10_ends2_52 : decode prog_37_method_42_code 52 = .ok (.pop, 1) := by decide +kernel
theorem dX10_ends2_53 : decode prog_37_method_42_code 53 = .ok (.iconst 1, 1) := by decide +kernel
theorem dX10_ends2_54 : decode prog_37_method_42_code 54 = .ok (.ireturn, 1) := by decide +kernel
theorem dX10_ends2_55 : decode prog_37_method_42_code 55 = .ok (.aload_n 0, 1) := by decide +kernel
theorem dX10_ends2_56 : decode prog_37_method_42_code 56 = .ok (.getfield 157, 3) := by decide +kernel
theorem dX10_ends2_59 : decode prog_37_method_42_code 59 = .ok (.iload_n 1, 1) := by decide +kernel
theorem dX10_ends2_60 : decode prog_37_method_42_code 60 = .ok (.iaload, 1) := by decide +kernel
theorem dX10_ends2_61 : decode prog_37_method_42_code 61 = .ok (.bipush 7, 2) := by decide +kernel
theorem dX10_ends2_63 : decode prog_37_method_42_code 63 = .ok (.if_icmp .ne 45, 3) := by decide +kernel
theorem dX10_ends2_66 : decode prog_37_method_42_code 66 = .ok (.aload_n 0, 1) := by decide +kernel
theorem dX10_ends2_67 : decode prog_37_method_42_code 67 = .ok (.bipush 41, 2) := by decide +kernel
theorem dX10_ends2_69 : decode prog_37_method_42_code 69 = .ok (.invokevirtual 325, 3) := by decide +kernel
theorem dX10_ends2_72 : decode prog_37_method_42_code 72 = .ok (.ifCond .eq 36, 3) := by decide +kernel
theorem dX10_ends2_75 : decode prog_37_method_42_code 75 = .ok (.aload_n 0, 1) := by decide +kernel
theorem dX10_ends2_76 : decode prog_37_method_42_code 76 = .ok (.getfield 160, 3) := by decide +kernel
theorem dX10_ends2_79 : decode prog_37_method_42_code 79 = .ok (.iload_n 1, 1) := by decide +kernel
theorem dX10_ends2_80 : decode prog_37_method_42_code 80 = .ok (.iaload, 1) := by decide +kernel
theorem dX10_ends2_81 : decode prog_37_method_42_code 81 = .ok (.iconst 5, 1) := by decide +kernel
theorem dX10_ends2_82 : decode prog_37_method_42_code 82 = .ok (.if_icmp .eq 26, 3) := by decide +kernel
theorem dX10_ends2_85 : decode prog_37_method_42_code 85 = .ok (.iload_n 2, 1) := by decide +kernel
theorem dX10_ends2_86 : decode prog_37_method_42_code 86 = .ok (.aload_n 0, 1) := by decide +kernel
theorem dX10_ends2_87 : decode prog_37_method_42_code 87 = .ok (.aload_n 0, 1) := by decide +kernel
theorem dX10_ends2_88 : decode prog_37_method_42_code 88 = .ok (.getfield 160, 3) := by decide +kernel
theorem dX10_ends2_91 : decode prog_37_method_42_code 91 = .ok (.iload_n 1, 1) := by decide +kernel
theorem dX10_ends2_92 : decode prog_37_method_42_code 92 = .ok (.iaload, 1) := by decide +kernel
theorem dX10_ends2_93 : decode prog_37_method_42_code 93 = .ok (.invokevirtual 441, 3) := by decide +kernel
theorem dX10_ends2_96 : decode prog_37_method_42_code 96 = .ok (.if_icmp .eq 12, 3) := by decide +kernel
theorem dX10_ends2_99 : decode prog_37_method_42_code 99 = .ok (.aload_n 0, 1) := by decide +kernel
theorem dX10_ends2_100 : decode prog_37_method_42_code 100 = .ok (.iconst 5, 1) := by decide +kernel
theorem dX10_ends2_101 : decode prog_37_method_42_code 101 = .ok (.aload_n 0, 1) := by decide +kernel
theorem dX10_ends2_102 : decode prog_37_method_42_code 102 = .ok (.getfield 269, 3) := by decide +kernel
theorem dX10_ends2_105 : decode prog_37_method_42_code 105 = .ok (.invokevirtual 317, 3) := by decide +kernel
theorem dX10_ends2_108 : decode prog_37_method_42_code 108 = .ok (.aload_n 0, 1) := by decide +kernel
theorem dX10_ends2_109 : decode prog_37_method_42_code 109 = .ok (.bipush 41, 2) := by decide +kernel
theorem dX10_ends2_111 : decode prog_37_method_42_code 111 = .ok (.invokevirtual 393, 3) := by decide +kernel
theorem dX10_ends2_114 : decode prog_37_method_42_code 114 = .ok (.aload_n 0, 1) := by decide +kernel
theorem dX10_ends2_115 : decode prog_37_method_42_code 115 = .ok (.getfield 311, 3) := by decide +kernel
theorem dX10_ends2_118 : decode prog_37_method_42_code 118 = .ok (.ifCond .le 5, 3) := by decide +kernel
theorem dX10_ends2_121 : decode prog_37_method_42_code 121 = .ok (.iconst 1, 1) := by decide +kernel
theorem dX10_ends2_122 : decode prog_37_method_42_code 122 = .ok (.ireturn, 1) := by decide +kernel
theorem dX10_ends2_123 : decode prog_37_method_42_code 123 = .ok (.aload_n 0, 1) := by decide +kernel
theorem dX10_ends2_124 : decode prog_37_method_42_code 124 = .ok (.getfield 157, 3) := by decide +kernel
theorem dX10_ends2_127 : decode prog_37_method_42_code 127 = .ok (.iload_n 1, 1) := by decide +kernel
theorem dX10_ends2_128 : decode prog_37_method_42_code 128 = .ok (.iaload, 1) := by decide +kernel
theorem dX10_ends2_129 : decode prog_37_method_42_code 129 = .ok (.bipush 7, 2) := by decide +kernel
theorem dX10_ends2_131 : decode prog_37_method_42_code 131 = .ok (.if_icmp .ne 26, 3) := by decide +kernel
theorem dX10_ends2_134 : decode prog_37_method_42_code 134 = .ok (.aload_n 0, 1) := by decide +kernel
theorem dX10_ends2_135 : decode prog_37_method_42_code 135 = .ok (.bipush 8, 2) := by decide +kernel
theorem dX10_ends2_137 : decode prog_37_method_42_code 137 = .ok (.aload_n 0, 1) := by decide +kernel
theorem dX10_ends2_138 : decode prog_37_method_42_code 138 = .ok (.getfield 160, 3) := by decide +kernel
theorem dX10_ends2_141 : decode prog_37_method_42_code 141 = .ok (.iload_n 1, 1) := by decide +kernel
theorem dX10_ends2_142 : decode prog_37_method_42_code 142 = .ok (.iaload, 1) := by decide +kernel
theorem dX10_ends2_143 : decode prog_37_method_42_code 143 = .ok (.iload_n 2, 1) := by decide +kernel
theorem dX10_ends2_144 : decode prog_37_method_42_code 144 = .ok (.aload_n 0, 1) := by decide +kernel
theorem dX10_ends2_145 : decode prog_37_method_42_code 145 = .ok (.getfield 166, 3) := by decide +kernel
theorem dX10_ends2_148 : decode prog_37_method_42_code 148 = .ok (.iload_n 1, 1) := by decide +kernel
theorem dX10_ends2_149 : decode prog_37_method_42_code 149 = .ok (.iaload, 1) := by decide +kernel
theorem dX10_ends2_150 : decode prog_37_method_42_code 150 = .ok (.invokevirtual 396, 3) := by decide +kernel
theorem dX10_ends2_153 : decode prog_37_method_42_code 153 = .ok (.pop, 1) := by decide +kernel
theorem dX10_ends2_154 : decode prog_37_method_42_code 154 = .ok (.goto 119, 3) := by decide +kernel
theorem dX10_ends2_157 : decode prog_37_method_42_code 157 = .ok (.aload_n 0, 1) := by decide +kernel
theorem dX10_ends2_158 : decode prog_37_method_42_code 158 = .ok (.getfield 157, 3) := by decide +kernel
theorem dX10_ends2_161 : decode prog_37_method_42_code 161 = .ok (.iload_n 1, 1) := by decide +kernel
theorem dX10_ends2_162 : decode prog_37_method_42_code 162 = .ok (.iaload, 1) := by decide +kernel
theorem dX10_ends2_163 : decode prog_37_method_42_code 163 = .ok (.bipush 6, 2) := by decide +kernel
theorem dX10_ends2_165 : decode prog_37_method_42_code 165 = .ok (.if_icmp .ne 37, 3) := by decide +kernel
theorem dX10_ends2_168 : decode prog_37_method_42_code 168 = .ok (.aload_n 0, 1) := by decide +kernel
theorem dX10_ends2_169 : decode prog_37_method_42_code 169 = .ok (.aload_n 0, 1) := by decide +kernel
theorem dX10_ends2_170 : decode prog_37_method_42_code 170 = .ok (.bipush 9, 2) := by decide +kernel
theorem dX10_ends2_172 : decode prog_37_method_42_code 172 = .ok (.iconst 0, 1) := by decide +kernel
theorem dX10_ends2_173 : decode prog_37_method_42_code 173 = .ok (.iload_n 2, 1) := by decide +kernel
theorem dX10_ends2_174 : decode prog_37_method_42_code 174 = .ok (.aload_n 0, 1) := by decide +kernel
theorem dX10_ends2_175 : decode prog_37_method_42_code 175 = .ok (.getfield 166, 3) := by decide +kernel
theorem dX10_ends2_178 : decode prog_37_method_42_code 178 = .ok (.iload_n 1, 1) := by decide +kernel
theorem dX10_ends2_179 : decode prog_37_method_42_code 179 = .ok (.iaload, 1) := by decide +kernel
theorem dX10_ends2_180 : decode prog_37_method_42_code 180 = .ok (.invokevirtual 396, 3) := by decide +kernel
theorem dX10_ends2_183 : decode prog_37_method_42_code 183 = .ok (.aload_n 0, 1) := by decide +kernel
theorem dX10_ends2_184 : decode prog_37_method_42_code 184 = .ok (.getfield 169, 3) := by decide +kernel
theorem dX10_ends2_187 : decode prog_37_method_42_code 187 = .ok (.iload_n 1, 1) := by decide +kernel
theorem dX10_ends2_188 : decode prog_37_method_42_code 188 = .ok (.laload, 1) := by decide +kernel
theorem dX10_ends2_189 : decode prog_37_method_42_code 189 = .ok (.iload_n 2, 1) := by decide +kernel
theorem dX10_ends2_190 : decode prog_37_method_42_code 190 = .ok (.aload_n 0, 1) := by decide +kernel
theorem dX10_ends2_191 : decode prog_37_method_42_code 191 = .ok (.getfield 172, 3) := by decide +kernel
theorem dX10_ends2_194 : decode prog_37_method_42_code 194 = .ok (.iload_n 1, 1) := by decide +kernel
theorem dX10_ends2_195 : decode prog_37_method_42_code 195 = .ok (.iaload, 1) := by decide +kernel
theorem dX10_ends2_196 : decode prog_37_method_42_code 196 = .ok (.invokevirtual 444, 3) := by decide +kernel
theorem dX10_ends2_199 : decode prog_37_method_42_code 199 = .ok (.goto 74, 3) := by decide +kernel
theorem dX10_ends2_202 : decode prog_37_method_42_code 202 = .ok (.aload_n 0, 1) := by decide +kernel
theorem dX10_ends2_203 : decode prog_37_method_42_code 203 = .ok (.bipush 10, 2) := by decide +kernel
theorem dX10_ends2_205 : decode prog_37_method_42_code 205 = .ok (.aload_n 0, 1) := by decide +kernel
theorem dX10_ends2_206 : decode prog_37_method_42_code 206 = .ok (.getfield 160, 3) := by decide +kernel
theorem dX10_ends2_209 : decode prog_37_method_42_code 209 = .ok (.iload_n 1, 1) := by decide +kernel
theorem dX10_ends2_210 : decode prog_37_method_42_code 210 = .ok (.iaload, 1) := by decide +kernel
theorem dX10_ends2_211 : decode prog_37_method_42_code 211 = .ok (.iconst 0, 1) := by decide +kernel
theorem dX10_ends2_212 : decode prog_37_method_42_code 212 = .ok (.aload_n 0, 1) := by decide +kernel
theorem dX10_ends2_213 : decode prog_37_method_42_code 213 = .ok (.getfield 166, 3) := by decide +kernel
theorem dX10_ends2_216 : decode prog_37_method_42_code 216 = .ok (.iload_n 1, 1) := by decide +kernel
theorem dX10_ends2_217 : decode prog_37_method_42_code 217 = .ok (.iaload, 1) := by decide +kernel
theorem dX10_ends2_218 : decode prog_37_method_42_code 218 = .ok (.invokevirtual 396, 3) := by decide +kernel
theorem dX10_ends2_221 : decode prog_37_method_42_code 221 = .ok (.pop, 1) := by decide +kernel
theorem dX10_ends2_222 : decode prog_37_method_42_code 222 = .ok (.aload_n 0, 1) := by decide +kernel
theorem dX10_ends2_223 : decode prog_37_method_42_code 223 = .ok (.aload_n 0, 1) := by decide +kernel
theorem dX10_ends2_224 : decode prog_37_method_42_code 224 = .ok (.bipush 11, 2) := by decide +kernel
theorem dX10_ends2_226 : decode prog_37_method_42_code 226 = .ok (.aload_n 0, 1) := by decide +kernel
theorem dX10_ends2_227 : decode prog_37_method_42_code 227 = .ok (.getfield 160, 3) := by decide +kernel
theorem dX10_ends2_230 : decode prog_37_method_42_code 230 = .ok (.iload_n 1, 1) := by decide +kernel
theorem dX10_ends2_231 : decode prog_37_method_42_code 231 = .ok (.iaload, 1) := by decide +kernel
theorem dX10_ends2_232 : decode prog_37_method_42_code 232 = .ok (.iconst 0, 1) := by decide +kernel
theorem dX10_ends2_233 : decode prog_37_method_42_code 233 = .ok (.aload_n 0, 1) := by decide +kernel
theorem dX10_ends2_234 : decode prog_37_method_42_code 234 = .ok (.getfield 166, 3) := by decide +kernel
theorem dX10_ends2_237 : decode prog_37_method_42_code 237 = .ok (.iload_n 1, 1) := by decide +kernel
theorem dX10_ends2_238 : decode prog_37_method_42_code 238 = .ok (.iaload, 1) := by decide +kernel
theorem dX10_ends2_239 : decode prog_37_method_42_code 239 = .ok (.invokevirtual 396, 3) := by decide +kernel
theorem dX10_ends2_242 : decode prog_37_method_42_code 242 = .ok (.aload_n 0, 1) := by decide +kernel
theorem dX10_ends2_243 : decode prog_37_method_42_code 243 = .ok (.getfield 169, 3) := by decide +kernel
theorem dX10_ends2_246 : decode prog_37_method_42_code 246 = .ok (.iload_n 1, 1) := by decide +kernel
theorem dX10_ends2_247 : decode prog_37_method_42_code 247 = .ok (.laload, 1) := by decide +kernel
theorem dX10_ends2_248 : decode prog_37_method_42_code 248 = .ok (.aload_n 0, 1) := by decide +kernel
theorem dX10_ends2_249 : decode prog_37_method_42_code 249 = .ok (.getfield 160, 3) := by decide +kernel
theorem dX10_ends2_252 : decode prog_37_method_42_code 252 = .ok (.iload_n 1, 1) := by decide +kernel
theorem dX10_ends2_253 : decode prog_37_method_42_code 253 = .ok (.iaload, 1) := by decide +kernel
theorem dX10_ends2_254 : decode prog_37_method_42_code 254 = .ok (.bipush 28, 2) := by decide +kernel
theorem dX10_ends2_256 : decode prog_37_method_42_code 256 = .ok (.if_icmp .ne 7, 3) := by decide +kernel
theorem dX10_ends2_259 : decode prog_37_method_42_code 259 = .ok (.iconst 1, 1) := by decide +kernel
theorem dX10_ends2_260 : decode prog_37_method_42_code 260 = .ok (.goto 4, 3) := by decide +kernel
theorem dX10_ends2_263 : decode prog_37_method_42_code 263 = .ok (.iconst 2, 1) := by decide +kernel
theorem dX10_ends2_264 : decode prog_37_method_42_code 264 = .ok (.aload_n 0, 1) := by decide +kernel
theorem dX10_ends2_265 : decode prog_37_method_42_code 265 = .ok (.getfield 172, 3) := by decide +kernel
theorem dX10_ends2_268 : decode prog_37_method_42_code 268 = .ok (.iload_n 1, 1) := by decide +kernel
theorem dX10_ends2_269 : decode prog_37_method_42_code 269 = .ok (.iaload, 1) := by decide +kernel
theorem dX10_ends2_270 : decode prog_37_method_42_code 270 = .ok (.invokevirtual 444, 3) := by decide +kernel
theorem dX10_ends2_273 : decode prog_37_method_42_code 273 = .ok (.iconst 1, 1) := by decide +kernel
theorem dX10_ends2_274 : decode prog_37_method_42_code 274 = .ok (.ireturn, 1) := by decide +kernel
theorem dX10_most0_0 : decode prog_37_method_41_code 0 = .ok (.iload_n 1, 1) := by decide +kernel
theorem dX10_most0_1 : decode prog_37_method_41_code 1 = .ok (.iconst 5, 1) := by decide +kernel
theorem dX10_most0_2 : decode prog_37_method_41_code 2 = .ok (.if_icmp .ne 8, 3) := by decide +kernel
theorem dX10_most0_5 : decode prog_37_method_41_code 5 = .ok (.bipush 6, 2) := by decide +kernel
theorem dX10_most0_7 : decode prog_37_method_41_code 7 = .ok (.goto 9, 3) := by decide +kernel
theorem dX10_most0_10 : decode prog_37_method_41_code 10 = .ok (.aload_n 0, 1) := by decide +kernel
theorem dX10_most0_11 : decode prog_37_method_41_code 11 = .ok (.getfield 95, 3) := by decide +kernel
theorem dX10_most0_14 : decode prog_37_method_41_code 14 = .ok (.iload_n 1, 1) := by decide +kernel
theorem dX10_most0_15 : decode prog_37_method_41_code 15 = .ok (.iaload, 1) := by decide +kernel
theorem dX10_most0_16 : decode prog_37_method_41_code 16 = .ok (.ireturn, 1) := by decide +kernel
theorem dX10_called_0 : decode prog_37_method_23_code 0 = .ok (.aload_n 0, 1) := by decide +kernel
theorem dX10_called_1 : decode prog_37_method_23_code 1 = .ok (.getfield 136, 3) := by decide +kernel
theorem dX10_called_4 : decode prog_37_method_23_code 4 = .ok (.aload_n 0, 1) := by decide +kernel
theorem dX10_called_5 : decode prog_37_method_23_code 5 = .ok (.getfield 346, 3) := by decide +kernel
theorem dX10_called_8 : decode prog_37_method_23_code 8 = .ok (.iload_n 1, 1) := by decide +kernel
theorem dX10_called_9 : decode prog_37_method_23_code 9 = .ok (.iastore, 1) := by decide +kernel
theorem dX10_called_10 : decode prog_37_method_23_code 10 = .ok (.aload_n 0, 1) := by decide +kernel
theorem dX10_called_11 : decode prog_37_method_23_code 11 = .ok (.getfield 145, 3) := by decide +kernel
theorem dX10_called_14 : decode prog_37_method_23_code 14 = .ok (.aload_n 0, 1) := by decide +kernel
theorem dX10_called_15 : decode prog_37_method_23_code 15 = .ok (.getfield 346, 3) := by decide +kernel
theorem dX10_called_18 : decode prog_37_method_23_code 18 = .ok (.lload_n 2, 1) := by decide +kernel
theorem dX10_called_19 : decode prog_37_method_23_code 19 = .ok (.lastore, 1) := by decide +kernel
theorem dX10_called_20 : decode prog_37_method_23_code 20 = .ok (.aload_n 0, 1) := by decide +kernel
theorem dX10_called_21 : decode prog_37_method_23_code 21 = .ok (.getfield 142, 3) := by decide +kernel
theorem dX10_called_24 : decode prog_37_method_23_code 24 = .ok (.aload_n 0, 1) := by decide +kernel
theorem dX10_called_25 : decode prog_37_method_23_code 25 = .ok (.getfield 346, 3) := by decide +kernel
theorem dX10_called_28 : decode prog_37_method_23_code 28 = .ok (.iload 4, 2) := by decide +kernel
theorem dX10_called_30 : decode prog_37_method_23_code 30 = .ok (.iastore, 1) := by decide +kernel
theorem dX10_called_31 : decode prog_37_method_23_code 31 = .ok (.aload_n 0, 1) := by decide +kernel
theorem dX10_called_32 : decode prog_37_method_23_code 32 = .ok (.getfield 139, 3) := by decide +kernel
theorem dX10_called_35 : decode prog_37_method_23_code 35 = .ok (.aload_n 0, 1) := by decide +kernel
theorem dX10_called_36 : decode prog_37_method_23_code 36 = .ok (.getfield 346, 3) := by decide +kernel
theorem dX10_called_39 : decode prog_37_method_23_code 39 = .ok (.iload 5, 2) := by decide +kernel
theorem dX10_called_41 : decode prog_37_method_23_code 41 = .ok (.iastore, 1) := by decide +kernel
theorem dX10_called_42 : decode prog_37_method_23_code 42 = .ok (.aload_n 0, 1) := by decide +kernel
theorem dX10_called_43 : decode prog_37_method_23_code 43 = .ok (.dup, 1) := by decide +kernel
theorem dX10_called_44 : decode prog_37_method_23_code 44 = .ok (.getfield 346, 3) := by decide +kernel
theorem dX10_called_47 : decode prog_37_method_23_code 47 = .ok (.iconst 1, 1) := by decide +kernel
theorem dX10_called_48 : decode prog_37_method_23_code 48 = .ok (.iadd, 1) := by decide +kernel
theorem dX10_called_49 : decode prog_37_method_23_code 49 = .ok (.putfield 346, 3) := by decide +kernel
theorem dX10_called_52 : decode prog_37_method_23_code 52 = .ok (.return_, 1) := by decide +kernel
theorem dX10_begins1_0 : decode prog_37_method_39_code 0 = .ok (.aload_n 0, 1) := by decide +kernel
theorem dX10_begins1_1 : decode prog_37_method_39_code 1 = .ok (.getfield 272, 3) := by decide +kernel
theorem dX10_begins1_4 : decode prog_37_method_39_code 4 = .ok (.lstore_n 3, 1) := by decide +kernel
theorem dX10_begins1_5 : decode prog_37_method_39_code 5 = .ok (.iload_n 1, 1) := by decide +kernel
theorem dX10_begins1_6 : decode prog_37_method_39_code 6 = .ok (.bipush 11, 2) := by decide +kernel
theorem dX10_begins1_8 : decode prog_37_method_39_code 8 = .ok (.isub, 1) := by decide +kernel
theorem dX10_begins1_9 : decode prog_37_method_39_code 9 = .ok (.istore 5, 2) := by decide +kernel
theorem dX10_begins1_11 : decode prog_37_method_39_code 11 = .ok (.aload_n 0, 1) := by decide +kernel
theorem dX10_begins1_12 : decode prog_37_method_39_code 12 = .ok (.invokevirtual 331, 3) := by decide +kernel
theorem dX10_begins1_15 : decode prog_37_method_39_code 15 = .ok (.aload_n 0, 1) := by decide +kernel
theorem dX10_begins1_16 : decode prog_37_method_39_code 16 = .ok (.bipush 40, 2) := by decide +kernel
theorem dX10_begins1_18 : decode prog_37_method_39_code 18 = .ok (.invokevirtual 377, 3) := by decide +kernel
theorem dX10_begins1_21 : decode prog_37_method_39_code 21 = .ok (.aload_n 0, 1) := by decide +kernel
theorem dX10_begins1_22 : decode prog_37_method_39_code 22 = .ok (.getfield 311, 3) := by decide +kernel
theorem dX10_begins1_25 : decode prog_37_method_39_code 25 = .ok (.ifCond .le 5, 3) := by decide +kernel
theorem dX10_begins1_28 : decode prog_37_method_39_code 28 = .ok (.iconst 0, 1) := by decide +kernel
theorem dX10_begins1_29 : decode prog_37_method_39_code 29 = .ok (.ireturn, 1) := by decide +kernel
theorem dX10_begins1_30 : decode prog_37_method_39_code 30 = .ok (.aload_n 0, 1) := by decide +kernel
theorem dX10_begins1_31 : decode prog_37_method_39_code 31 = .ok (.iload_n 1, 1) := by decide +kernel
theorem dX10_begins1_32 : decode prog_37_method_39_code 32 = .ok (.ifCond .ge 8, 3) := by decide +kernel
theorem dX10_begins1_35 : decode prog_37_method_39_code 35 = .ok (.bipush 6, 2) := by decide +kernel
theorem dX10_begins1_37 : decode prog_37_method_39_code 37 = .ok (.goto 17, 3) := by decide +kernel
theorem dX10_begins1_40 : decode prog_37_method_39_code 40 = .ok (.iload 5, 2) := by decide +kernel
theorem dX10_begins1_42 : decode prog_37_method_39_code 42 = .ok (.bipush 28, 2) := by decide +kernel
theorem dX10_begins1_44 : decode prog_37_method_39_code 44 = .ok (.if_icmp .lt 8, 3) := by decide +kernel
theorem dX10_begins1_47 : decode prog_37_method_39_code 47 = .ok (.bipush 8, 2) := by decide +kernel
theorem dX10_begins1_49 : decode prog_37_method_39_code 49 = .ok (.goto 5, 3) := by decide +kernel
theorem dX10_begins1_52 : decode prog_37_method_39_code 52 = .ok (.bipush 7, 2) := by decide +kernel
theorem dX10_begins1_54 : decode prog_37_method_39_code 54 = .ok (.iload 5, 2) := by decide +kernel
theorem dX10_begins1_56 : decode prog_37_method_39_code 56 = .ok (.iload_n 2, 1) := by decide +kernel
theorem dX10_begins1_57 : decode prog_37_method_39_code 57 = .ok (.invokevirtual 425, 3) := by decide +kernel
theorem dX10_begins1_60 : decode prog_37_method_39_code 60 = .ok (.aload_n 0, 1) := by decide +kernel
theorem dX10_begins1_61 : decode prog_37_method_39_code 61 = .ok (.getfield 169, 3) := by decide +kernel
theorem dX10_begins1_64 : decode prog_37_method_39_code 64 = .ok (.aload_n 0, 1) := by decide +kernel
theorem dX10_begins1_65 : decode prog_37_method_39_code 65 = .ok (.getfield 413, 3) := by decide +kernel
theorem dX10_begins1_68 : decode prog_37_method_39_code 68 = .ok (.iconst 1, 1) := by decide +kernel
theorem dX10_begins1_69 : decode prog_37_method_39_code 69 = .ok (.isub, 1) := by decide +kernel
theorem dX10_begins1_70 : decode prog_37_method_39_code 70 = .ok (.lload_n 3, 1) := by decide +kernel
theorem dX10_begins1_71 : decode prog_37_method_39_code 71 = .ok (.lastore, 1) := by decide +kernel
theorem dX10_begins1_72 : decode prog_37_method_39_code 72 = .ok (.aload_n 0, 1) := by decide +kernel
theorem dX10_begins1_73 : decode prog_37_method_39_code 73 = .ok (.getfield 172, 3) := by decide +kernel
theorem dX10_begins1_76 : decode prog_37_method_39_code 76 = .ok (.aload_n 0, 1) := by decide +kernel
theorem dX10_begins1_77 : decode prog_37_method_39_code 77 = .ok (.getfield 413, 3) := by decide +kernel
theorem dX10_begins1_80 : decode prog_37_method_39_code 80 = .ok (.iconst 1, 1) := by decide +kernel
theorem dX10_begins1_81 : decode prog_37_method_39_code 81 = .ok (.isub, 1) := by decide +kernel
theorem dX10_begins1_82 : decode prog_37_method_39_code 82 = .ok (.iload_n 2, 1) := by decide +kernel
theorem dX10_begins1_83 : decode prog_37_method_39_code 83 = .ok (.iastore, 1) := by decide +kernel
theorem dX10_begins1_84 : decode prog_37_method_39_code 84 = .ok (.iload_n 1, 1) := by decide +kernel
theorem dX10_begins1_85 : decode prog_37_method_39_code 85 = .ok (.ifCond .lt 66, 3) := by decide +kernel
theorem dX10_begins1_88 : decode prog_37_method_39_code 88 = .ok (.iload 5, 2) := by decide +kernel
theorem dX10_begins1_90 : decode prog_37_method_39_code 90 = .ok (.bipush 28, 2) := by decide +kernel
theorem dX10_begins1_92 : decode prog_37_method_39_code 92 = .ok (.if_icmp .lt 59, 3) := by decide +kernel
theorem dX10_begins1_95 : decode prog_37_method_39_code 95 = .ok (.aload_n 0, 1) := by decide +kernel
theorem dX10_begins1_96 : decode prog_37_method_39_code 96 = .ok (.getfield 169, 3) := by decide +kernel
theorem dX10_begins1_99 : decode prog_37_method_39_code 99 = .ok (.aload_n 0, 1) := by decide +kernel
theorem dX10_begins1_100 : decode prog_37_method_39_code 100 = .ok (.getfield 413, 3) := by decide +kernel
theorem dX10_begins1_103 : decode prog_37_method_39_code 103 = .ok (.iconst 1, 1) := by decide +kernel
theorem dX10_begins1_104 : decode prog_37_method_39_code 104 = .ok (.isub, 1) := by decide +kernel
theorem dX10_begins1_105 : decode prog_37_method_39_code 105 = .ok (.aload_n 0, 1) := by decide +kernel
theorem dX10_begins1_106 : decode prog_37_method_39_code 106 = .ok (.getfield 272, 3) := by decide +kernel
theorem dX10_begins1_109 : decode prog_37_method_39_code 109 = .ok (.lastore, 1) := by decide +kernel
theorem dX10_begins1_110 : decode prog_37_method_39_code 110 = .ok (.aload_n 0, 1) := by decide +kernel
theorem dX10_begins1_111 : decode prog_37_method_39_code 111 = .ok (.getfield 172, 3) := by decide +kernel
theorem dX10_begins1_114 : decode prog_37_method_39_code 114 = .ok (.aload_n 0, 1) := by decide +kernel
theorem dX10_begins1_115 : decode prog_37_method_39_code 115 = .ok (.getfield 413, 3) := by decide +kernel
theorem dX10_begins1_118 : decode prog_37_method_39_code 118 = .ok (.iconst 1, 1) := by decide +kernel
theorem dX10_begins1_119 : decode prog_37_method_39_code 119 = .ok (.isub, 1) := by decide +kernel
theorem dX10_begins1_120 : decode prog_37_method_39_code 120 = .ok (.aload_n 0, 1) := by decide +kernel
theorem dX10_begins1_121 : decode prog_37_method_39_code 121 = .ok (.getfield 269, 3) := by decide +kernel
theorem dX10_begins1_124 : decode prog_37_method_39_code 124 = .ok (.iastore, 1) := by decide +kernel
theorem dX10_begins1_125 : decode prog_37_method_39_code 125 = .ok (.aload_n 0, 1) := by decide +kernel
theorem dX10_begins1_126 : decode prog_37_method_39_code 126 = .ok (.invokevirtual 351, 3) := by decide +kernel
theorem dX10_begins1_129 : decode prog_37_method_39_code 129 = .ok (.ifCond .eq 10, 3) := by decide +kernel
theorem dX10_begins1_132 : decode prog_37_method_39_code 132 = .ok (.aload_n 0, 1) := by decide +kernel
theorem dX10_begins1_133 : decode prog_37_method_39_code 133 = .ok (.invokevirtual 331, 3) := by decide +kernel
theorem dX10_begins1_136 : decode prog_37_method_39_code 136 = .ok (.goto 7, 3) := by decide +kernel
theorem dX10_begins1_139 : decode prog_37_method_39_code 139 = .ok (.aload_n 0, 1) := by decide +kernel
theorem dX10_begins1_140 : decode prog_37_method_39_code 140 = .ok (.invokevirtual 334, 3) := by decide +kernel
theorem dX10_begins1_143 : decode prog_37_method_39_code 143 = .ok (.aload_n 0, 1) := by decide +kernel
theorem dX10_begins1_144 : decode prog_37_method_39_code 144 = .ok (.bipush 44, 2) := by decide +kernel
theorem dX10_begins1_146 : decode prog_37_method_39_code 146 = .ok (.invokevirtual 393, 3) := by decide +kernel
theorem dX10_begins1_149 : decode prog_37_method_39_code 149 = .ok (.iconst 0, 1) := by decide +kernel
theorem dX10_begins1_150 : decode prog_37_method_39_code 150 = .ok (.ireturn, 1) := by decide +kernel
theorem dX10_begins1_151 : decode prog_37_method_39_code 151 = .ok (.aload_n 0, 1) := by decide +kernel
theorem dX10_begins1_152 : decode prog_37_method_39_code 152 = .ok (.bipush 41, 2) := by decide +kernel
theorem dX10_begins1_154 : decode prog_37_method_39_code 154 = .ok (.invokevirtual 325, 3) := by decide +kernel
theorem dX10_begins1_157 : decode prog_37_method_39_code 157 = .ok (.ifCond .eq 14, 3) := by decide +kernel
theorem dX10_begins1_160 : decode prog_37_method_39_code 160 = .ok (.aload_n 0, 1) := by decide +kernel
theorem dX10_begins1_161 : decode prog_37_method_39_code 161 = .ok (.invokevirtual 434, 3) := by decide +kernel
theorem dX10_begins1_164 : decode prog_37_method_39_code 164 = .ok (.ifCond .eq 7, 3) := by decide +kernel
theorem dX10_begins1_167 : decode prog_37_method_39_code 167 = .ok (.iconst 1, 1) := by decide +kernel
theorem dX10_begins1_168 : decode prog_37_method_39_code 168 = .ok (.goto 4, 3) := by decide +kernel
theorem dX10_begins1_171 : decode prog_37_method_39_code 171 = .ok (.iconst 0, 1) := by decide +kernel
theorem dX10_begins1_172 : decode prog_37_method_39_code 172 = .ok (.ireturn, 1) := by decide +kernel
theorem dX10_levelOf_0 : decode prog_37_method_34_code 0 = .ok (.iload_n 0, 1) := by decide +kernel
theorem dX10_levelOf_1 : decode prog_37_method_34_code 1 = .ok (.bipush 38, 2) := by decide +kernel
theorem dX10_levelOf_3 : decode prog_37_method_34_code 3 = .ok (.if_icmp .eq 9, 3) := by decide +kernel
theorem dX10_levelOf_6 : decode prog_37_method_34_code 6 = .ok (.iload_n 0, 1) := by decide +kernel
theorem dX10_levelOf_7 : decode prog_37_method_34_code 7 = .ok (.bipush 124, 2) := by decide +kernel
theorem dX10_levelOf_9 : decode prog_37_method_34_code 9 = .ok (.if_icmp .ne 7, 3) := by decide +kernel
theorem dX10_levelOf_12 : decode prog_37_method_34_code 12 = .ok (.iconst 0, 1) := by decide +kernel
theorem dX10_levelOf_13 : decode prog_37_method_34_code 13 = .ok (.goto 65, 3) := by decide +kernel
theorem dX10_levelOf_16 : decode prog_37_method_34_code 16 = .ok (.iload_n 0, 1) := by decide +kernel
theorem dX10_levelOf_17 : decode prog_37_method_34_code 17 = .ok (.sipush 256, 3) := by decide +kernel
theorem dX10_levelOf_20 : decode prog_37_method_34_code 20 = .ok (.if_icmp .ge 15, 3) := by decide +kernel
theorem dX10_levelOf_23 : decode prog_37_method_34_code 23 = .ok (.iload_n 0, 1) := by decide +kernel
theorem dX10_levelOf_24 : decode prog_37_method_34_code 24 = .ok (.bipush 60, 2) := by decide +kernel
theorem dX10_levelOf_26 : decode prog_37_method_34_code 26 = .ok (.if_icmp .eq 9, 3) := by decide +kernel
theorem dX10_levelOf_29 : decode prog_37_method_34_code 29 = .ok (.iload_n 0, 1) := by decide +kernel
theorem dX10_levelOf_30 : decode prog_37_method_34_code 30 = .ok (.bipush 62, 2) := by decide +kernel
theorem dX10_levelOf_32 : decode prog_37_method_34_code 32 = .ok (.if_icmp .ne 7, 3) := by decide +kernel
theorem dX10_levelOf_35 : decode prog_37_method_34_code 35 = .ok (.iconst 1, 1) := by decide +kernel
theorem dX10_levelOf_36 : decode prog_37_method_34_code 36 = .ok (.goto 42, 3) := by decide +kernel
theorem dX10_levelOf_39 : decode prog_37_method_34_code 39 = .ok (.iload_n 0, 1) := by decide +kernel
theorem dX10_levelOf_40 : decode prog_37_method_34_code 40 = .ok (.bipush 43, 2) := by decide +kernel
theorem dX10_levelOf_42 : decode prog_37_method_34_code 42 = .ok (.if_icmp .eq 9, 3) := by decide +kernel
theorem dX10_levelOf_45 : decode prog_37_method_34_code 45 = .ok (.iload_n 0, 1) := by decide +kernel
theorem dX10_levelOf_46 : decode prog_37_method_34_code 46 = .ok (.bipush 45, 2) := by decide +kernel
theorem dX10_levelOf_48 : decode prog_37_method_34_code 48 = .ok (.if_icmp .ne 7, 3) := by decide +kernel
theorem dX10_levelOf_51 : decode prog_37_method_34_code 51 = .ok (.iconst 2, 1) := by decide +kernel
theorem dX10_levelOf_52 : decode prog_37_method_34_code 52 = .ok (.goto 26, 3) := by decide +kernel
theorem dX10_levelOf_55 : decode prog_37_method_34_code 55 = .ok (.iload_n 0, 1) := by decide +kernel
theorem dX10_levelOf_56 : decode prog_37_method_34_code 56 = .ok (.bipush 42, 2) := by decide +kernel
theorem dX10_levelOf_58 : decode prog_37_method_34_code 58 = .ok (.if_icmp .eq 15, 3) := by decide +kernel
theorem dX10_levelOf_61 : decode prog_37_method_34_code 61 = .ok (.iload_n 0, 1) := by decide +kernel
theorem dX10_levelOf_62 : decode prog_37_method_34_code 62 = .ok (.bipush 47, 2) := by decide +kernel
theorem dX10_levelOf_64 : decode prog_37_method_34_code 64 = .ok (.if_icmp .eq 9, 3) := by decide +kernel
theorem dX10_levelOf_67 : decode prog_37_method_34_code 67 = .ok (.iload_n 0, 1) := by decide +kernel
theorem dX10_levelOf_68 : decode prog_37_method_34_code 68 = .ok (.bipush 37, 2) := by decide +kernel
theorem dX10_levelOf_70 : decode prog_37_method_34_code 70 = .ok (.if_icmp .ne 7, 3) := by decide +kernel
theorem dX10_levelOf_73 : decode prog_37_method_34_code 73 = .ok (.iconst 3, 1) := by decide +kernel
theorem dX10_levelOf_74 : decode prog_37_method_34_code 74 = .ok (.goto 4, 3) := by decide +kernel
theorem dX10_levelOf_77 : decode prog_37_method_34_code 77 = .ok (.iconst (-1), 1) := by decide +kernel
theorem dX10_levelOf_78 : decode prog_37_method_34_code 78 = .ok (.ireturn, 1) := by decide +kernel
theorem dX10_reduce_0 : decode prog_37_method_36_code 0 = .ok (.aload_n 0, 1) := by decide +kernel
theorem dX10_reduce_1 : decode prog_37_method_36_code 1 = .ok (.iconst 1, 1) := by decide +kernel
theorem dX10_reduce_2 : decode prog_37_method_36_code 2 = .ok (.invokevirtual 416, 3) := by decide +kernel
theorem dX10_reduce_5 : decode prog_37_method_36_code 5 = .ok (.ifCond .eq 59, 3) := by decide +kernel
theorem dX10_reduce_8 : decode prog_37_method_36_code 8 = .ok (.aload_n 0, 1) := by decide +kernel
theorem dX10_reduce_9 : decode prog_37_method_36_code 9 = .ok (.getfield 160, 3) := by decide +kernel
theorem dX10_reduce_12 : decode prog_37_method_36_code 12 = .ok (.aload_n 0, 1) := by decide +kernel
theorem dX10_reduce_13 : decode prog_37_method_36_code 13 = .ok (.getfield 413, 3) := by decide +kernel
theorem dX10_reduce_16 : decode prog_37_method_36_code 16 = .ok (.iconst 1, 1) := by decide +kernel
theorem dX10_reduce_17 : decode prog_37_method_36_code 17 = .ok (.isub, 1) := by decide +kernel
theorem dX10_reduce_18 : decode prog_37_method_36_code 18 = .ok (.iaload, 1) := by decide +kernel
theorem dX10_reduce_19 : decode prog_37_method_36_code 19 = .ok (.invokestatic 419, 3) := by decide +kernel
theorem dX10_reduce_22 : decode prog_37_method_36_code 22 = .ok (.iload_n 1, 1) := by decide +kernel
theorem dX10_reduce_23 : decode prog_37_method_36_code 23 = .ok (.if_icmp .lt 41, 3) := by decide +kernel
theorem dX10_reduce_26 : decode prog_37_method_36_code 26 = .ok (.aload_n 0, 1) := by decide +kernel
theorem dX10_reduce_27 : decode prog_37_method_36_code 27 = .ok (.dup, 1) := by decide +kernel
theorem dX10_reduce_28 : decode prog_37_method_36_code 28 = .ok (.getfield 413, 3) := by decide +kernel
theorem dX10_reduce_31 : decode prog_37_method_36_code 31 = .ok (.iconst 1, 1) := by decide +kernel
theorem dX10_reduce_32 : decode prog_37_method_36_code 32 = .ok (.isub, 1) := by decide +kernel
theorem dX10_reduce_33 : decode prog_37_method_36_code 33 = .ok (.putfield 413, 3) := by decide +kernel
theorem dX10_reduce_36 : decode prog_37_method_36_code 36 = .ok (.aload_n 0, 1) := by decide +kernel
theorem dX10_reduce_37 : decode prog_37_method_36_code 37 = .ok (.iconst 5, 1) := by decide +kernel
theorem dX10_reduce_38 : decode prog_37_method_36_code 38 = .ok (.aload_n 0, 1) := by decide +kernel
theorem dX10_reduce_39 : decode prog_37_method_36_code 39 = .ok (.getfield 160, 3) := by decide +kernel
theorem dX10_reduce_42 : decode prog_37_method_36_code 42 = .ok (.aload_n 0, 1) := by decide +kernel
theorem dX10_reduce_43 : decode prog_37_method_36_code 43 = .ok (.getfield 413, 3) := by decide +kernel
theorem dX10_reduce_46 : decode prog_37_method_36_code 46 = .ok (.iaload, 1) := by decide +kernel
theorem dX10_reduce_47 : decode prog_37_method_36_code 47 = .ok (.iconst 0, 1) := by decide +kernel
theorem dX10_reduce_48 : decode prog_37_method_36_code 48 = .ok (.aload_n 0, 1) := by decide +kernel
theorem dX10_reduce_49 : decode prog_37_method_36_code 49 = .ok (.getfield 166, 3) := by decide +kernel
theorem dX10_reduce_52 : decode prog_37_method_36_code 52 = .ok (.aload_n 0, 1) := by decide +kernel
theorem dX10_reduce_53 : decode prog_37_method_36_code 53 = .ok (.getfield 413, 3) := by decide +kernel
theorem dX10_reduce_56 : decode prog_37_method_36_code 56 = .ok (.iaload, 1) := by decide +kernel
theorem dX10_reduce_57 : decode prog_37_method_36_code 57 = .ok (.invokevirtual 396, 3) := by decide +kernel
theorem dX10_reduce_60 : decode prog_37_method_36_code 60 = .ok (.pop, 1) := by decide +kernel
theorem dX10_reduce_61 : decode prog_37_method_36_code 61 = .ok (.goto (-61), 3) := by decide +kernel
theorem dX10_reduce_64 : decode prog_37_method_36_code 64 = .ok (.return_, 1) := by decide +kernel
theorem dX10_ends1_0 : decode prog_37_method_40_code 0 = .ok (.aload_n 0, 1) := by decide +kernel
theorem dX10_ends1_1 : decode prog_37_method_40_code 1 = .ok (.getfield 413, 3) := by decide +kernel
theorem dX10_ends1_4 : decode prog_37_method_40_code 4 = .ok (.iconst 1, 1) := by decide +kernel
theorem dX10_ends1_5 : decode prog_37_method_40_code 5 = .ok (.isub, 1) := by decide +kernel
theorem dX10_ends1_6 : decode prog_37_method_40_code 6 = .ok (.istore_n 1, 1) := by decide +kernel
theorem dX10_ends1_7 : decode prog_37_method_40_code 7 = .ok (.aload_n 0, 1) := by decide +kernel
theorem dX10_ends1_8 : decode prog_37_method_40_code 8 = .ok (.getfield 163, 3) := by decide +kernel
theorem dX10_ends1_11 : decode prog_37_method_40_code 11 = .ok (.iload_n 1, 1) := by decide +kernel
theorem dX10_ends1_12 : decode prog_37_method_40_code 12 = .ok (.dup2, 1) := by decide +kernel
theorem dX10_ends1_13 : decode prog_37_method_40_code 13 = .ok (.iaload, 1) := by decide +kernel
theorem dX10_ends1_14 : decode prog_37_method_40_code 14 = .ok (.iconst 1, 1) := by decide +kernel
theorem dX10_ends1_15 : decode prog_37_method_40_code 15 = .ok (.iadd, 1) := by decide +kernel
theorem dX10_ends1_16 : decode prog_37_method_40_code 16 = .ok (.iastore, 1) := by decide +kernel
theorem dX10_ends1_17 : decode prog_37_method_40_code 17 = .ok (.aload_n 0, 1) := by decide +kernel
theorem dX10_ends1_18 : decode prog_37_method_40_code 18 = .ok (.getfield 157, 3) := by decide +kernel
theorem dX10_ends1_21 : decode prog_37_method_40_code 21 = .ok (.iload_n 1, 1) := by decide +kernel
theorem dX10_ends1_22 : decode prog_37_method_40_code 22 = .ok (.iaload, 1) := by decide +kernel
theorem dX10_ends1_23 : decode prog_37_method_40_code 23 = .ok (.istore_n 2, 1) := by decide +kernel
theorem dX10_ends1_24 : decode prog_37_method_40_code 24 = .ok (.aload_n 0, 1) := by decide +kernel
theorem dX10_ends1_25 : decode prog_37_method_40_code 25 = .ok (.bipush 44, 2) := by decide +kernel
theorem dX10_ends1_27 : decode prog_37_method_40_code 27 = .ok (.invokevirtual 325, 3) := by decide +kernel
theorem dX10_ends1_30 : decode prog_37_method_40_code 30 = .ok (.istore_n 3, 1) := by decide +kernel
theorem dX10_ends1_31 : decode prog_37_method_40_code 31 = .ok (.iload_n 2, 1) := by decide +kernel
theorem dX10_ends1_32 : decode prog_37_method_40_code 32 = .ok (.iconst 3, 1) := by decide +kernel
theorem dX10_ends1_33 : decode prog_37_method_40_code 33 = .ok (.if_icmp .eq 8, 3) := by decide +kernel
theorem dX10_ends1_36 : decode prog_37_method_40_code 36 = .ok (.iload_n 2, 1) := by decide +kernel
theorem dX10_ends1_37 : decode prog_37_method_40_code 37 = .ok (.iconst 4, 1) := by decide +kernel
theorem dX10_ends1_38 : decode prog_37_method_40_code 38 = .ok (.if_icmp .ne 51, 3) := by decide +kernel
theorem dX10_ends1_41 : decode prog_37_method_40_code 41 = .ok (.aload_n 0, 1) := by decide +kernel
theorem dX10_ends1_42 : decode prog_37_method_40_code 42 = .ok (.dup, 1) := by decide +kernel
theorem dX10_ends1_43 : decode prog_37_method_40_code 43 = .ok (.getfield 413, 3) := by decide +kernel
theorem dX10_ends1_46 : decode prog_37_method_40_code 46 = .ok (.iconst 1, 1) := by decide +kernel
theorem dX10_ends1_47 : decode prog_37_method_40_code 47 = .ok (.isub, 1) := by decide +kernel
theorem dX10_ends1_48 : decode prog_37_method_40_code 48 = .ok (.putfield 413, 3) := by decide +kernel
theorem dX10_ends1_51 : decode prog_37_method_40_code 51 = .ok (.aload_n 0, 1) := by decide +kernel
theorem dX10_ends1_52 : decode prog_37_method_40_code 52 = .ok (.iload_n 2, 1) := by decide +kernel
theorem dX10_ends1_53 : decode prog_37_method_40_code 53 = .ok (.iconst 3, 1) := by decide +kernel
theorem dX10_ends1_54 : decode prog_37_method_40_code 54 = .ok (.if_icmp .ne 8, 3) := by decide +kernel
theorem dX10_ends1_57 : decode prog_37_method_40_code 57 = .ok (.bipush 41, 2) := by decide +kernel
theorem dX10_ends1_59 : decode prog_37_method_40_code 59 = .ok (.goto 5, 3) := by decide +kernel
theorem dX10_ends1_62 : decode prog_37_method_40_code 62 = .ok (.bipush 93, 2) := by decide +kernel
theorem dX10_ends1_64 : decode prog_37_method_40_code 64 = .ok (.invokevirtual 393, 3) := by decide +kernel
theorem dX10_ends1_67 : decode prog_37_method_40_code 67 = .ok (.iload_n 2, 1) := by decide +kernel
theorem dX10_ends1_68 : decode prog_37_method_40_code 68 = .ok (.iconst 4, 1) := by decide +kernel
theorem dX10_ends1_69 : decode prog_37_method_40_code 69 = .ok (.if_icmp .ne 18, 3) := by decide +kernel
theorem dX10_ends1_72 : decode prog_37_method_40_code 72 = .ok (.aload_n 0, 1) := by decide +kernel
theorem dX10_ends1_73 : decode prog_37_method_40_code 73 = .ok (.bipush 7, 2) := by decide +kernel
theorem dX10_ends1_75 : decode prog_37_method_40_code 75 = .ok (.iconst 0, 1) := by decide +kernel
theorem dX10_ends1_76 : decode prog_37_method_40_code 76 = .ok (.iconst 0, 1) := by decide +kernel
theorem dX10_ends1_77 : decode prog_37_method_40_code 77 = .ok (.aload_n 0, 1) := by decide +kernel
theorem dX10_ends1_78 : decode prog_37_method_40_code 78 = .ok (.getfield 166, 3) := by decide +kernel
theorem dX10_ends1_81 : decode prog_37_method_40_code 81 = .ok (.iload_n 1, 1) := by decide +kernel
theorem dX10_ends1_82 : decode prog_37_method_40_code 82 = .ok (.iaload, 1) := by decide +kernel
theorem dX10_ends1_83 : decode prog_37_method_40_code 83 = .ok (.invokevirtual 396, 3) := by decide +kernel
theorem dX10_ends1_86 : decode prog_37_method_40_code 86 = .ok (.pop, 1) := by decide +kernel
theorem dX10_ends1_87 : decode prog_37_method_40_code 87 = .ok (.iconst 1, 1) := by decide +kernel
theorem dX10_ends1_88 : decode prog_37_method_40_code 88 = .ok (.ireturn, 1) := by decide +kernel
theorem dX10_ends1_89 : decode prog_37_method_40_code 89 = .ok (.iload_n 2, 1) := by decide +kernel
theorem dX10_ends1_90 : decode prog_37_method_40_code 90 = .ok (.bipush 8, 2) := by decide +kernel
theorem dX10_ends1_92 : decode prog_37_method_40_code 92 = .ok (.if_icmp .ne 32, 3) := by decide +kernel
theorem dX10_ends1_95 : decode prog_37_method_40_code 95 = .ok (.aload_n 0, 1) := by decide +kernel
theorem dX10_ends1_96 : decode prog_37_method_40_code 96 = .ok (.getfield 160, 3) := by decide +kernel
theorem dX10_ends1_99 : decode prog_37_method_40_code 99 = .ok (.iload_n 1, 1) := by decide +kernel
theorem dX10_ends1_100 : decode prog_37_method_40_code 100 = .ok (.iaload, 1) := by decide +kernel
theorem dX10_ends1_101 : decode prog_37_method_40_code 101 = .ok (.bipush 29, 2) := by decide +kernel
theorem dX10_ends1_103 : decode prog_37_method_40_code 103 = .ok (.if_icmp .ne 21, 3) := by decide +kernel
theorem dX10_ends1_106 : decode prog_37_method_40_code 106 = .ok (.aload_n 0, 1) := by decide +kernel
theorem dX10_ends1_107 : decode prog_37_method_40_code 107 = .ok (.getfield 163, 3) := by decide +kernel
theorem dX10_ends1_110 : decode prog_37_method_40_code 110 = .ok (.iload_n 1, 1) := by decide +kernel
theorem dX10_ends1_111 : decode prog_37_method_40_code 111 = .ok (.iaload, 1) := by decide +kernel
theorem dX10_ends1_112 : decode prog_37_method_40_code 112 = .ok (.iconst 1, 1) := by decide +kernel
theorem dX10_ends1_113 : decode prog_37_method_40_code 113 = .ok (.if_icmp .ne 11, 3) := by decide +kernel
theorem dX10_ends1_116 : decode prog_37_method_40_code 116 = .ok (.aload_n 0, 1) := by decide +kernel
theorem dX10_ends1_117 : decode prog_37_method_40_code 117 = .ok (.bipush 44, 2) := by decide +kernel
theorem dX10_ends1_119 : decode prog_37_method_40_code 119 = .ok (.invokevirtual 393, 3) := by decide +kernel
theorem dX10_ends1_122 : decode prog_37_method_40_code 122 = .ok (.iconst 0, 1) := by decide +kernel
theorem dX10_ends1_123 : decode prog_37_method_40_code 123 = .ok (.ireturn, 1) := by decide +kernel
theorem dX10_ends1_124 : decode prog_37_method_40_code 124 = .ok (.iload_n 2, 1) := by decide +kernel
theorem dX10_ends1_125 : decode prog_37_method_40_code 125 = .ok (.bipush 7, 2) := by decide +kernel
theorem dX10_ends1_127 : decode prog_37_method_40_code 127 = .ok (.if_icmp .ne 35, 3) := by decide +kernel
theorem dX10_ends1_130 : decode prog_37_method_40_code 130 = .ok (.iload_n 3, 1) := by decide +kernel
theorem dX10_ends1_131 : decode prog_37_method_40_code 131 = .ok (.ifCond .eq 31, 3) := by decide +kernel
theorem dX10_ends1_134 : decode prog_37_method_40_code 134 = .ok (.aload_n 0, 1) := by decide +kernel
theorem dX10_ends1_135 : decode prog_37_method_40_code 135 = .ok (.getfield 163, 3) := by decide +kernel
theorem dX10_ends1_138 : decode prog_37_method_40_code 138 = .ok (.iload_n 1, 1) := by decide +kernel
theorem dX10_ends1_139 : decode prog_37_method_40_code 139 = .ok (.iaload, 1) := by decide +kernel
theorem dX10_ends1_140 : decode prog_37_method_40_code 140 = .ok (.aload_n 0, 1) := by decide +kernel
theorem dX10_ends1_141 : decode prog_37_method_40_code 141 = .ok (.aload_n 0, 1) := by decide +kernel
theorem dX10_ends1_142 : decode prog_37_method_40_code 142 = .ok (.getfield 160, 3) := by decide +kernel
theorem dX10_ends1_145 : decode prog_37_method_40_code 145 = .ok (.iload_n 1, 1) := by decide +kernel
theorem dX10_ends1_146 : decode prog_37_method_40_code 146 = .ok (.iaload, 1) := by decide +kernel
theorem dX10_ends1_147 : decode prog_37_method_40_code 147 = .ok (.invokevirtual 441, 3) := by decide +kernel
theorem dX10_ends1_150 : decode prog_37_method_40_code 150 = .ok (.if_icmp .lt 12, 3) := by decide +kernel
theorem dX10_ends1_153 : decode prog_37_method_40_code 153 = .ok (.aload_n 0, 1) := by decide +kernel
theorem dX10_ends1_154 : decode prog_37_method_40_code 154 = .ok (.iconst 5, 1) := by decide +kernel
theorem dX10_ends1_155 : decode prog_37_method_40_code 155 = .ok (.aload_n 0, 1) := by decide +kernel
theorem dX10_ends1_156 : decode prog_37_method_40_code 156 = .ok (.getfield 269, 3) := by decide +kernel
theorem dX10_ends1_159 : decode prog_37_method_40_code 159 = .ok (.invokevirtual 317, 3) := by decide +kernel
theorem dX10_ends1_162 : decode prog_37_method_40_code 162 = .ok (.iload_n 3, 1) := by decide +kernel
theorem dX10_ends1_163 : decode prog_37_method_40_code 163 = .ok (.ifCond .eq 22, 3) := by decide +kernel
theorem dX10_ends1_166 : decode prog_37_method_40_code 166 = .ok (.iload_n 2, 1) := by decide +kernel
theorem dX10_ends1_167 : decode prog_37_method_40_code 167 = .ok (.bipush 8, 2) := by decide +kernel
theorem dX10_ends1_169 : decode prog_37_method_40_code 169 = .ok (.if_icmp .eq 16, 3) := by decide +kernel
theorem dX10_ends1_172 : decode prog_37_method_40_code 172 = .ok (.aload_n 0, 1) := by decide +kernel
theorem dX10_ends1_173 : decode prog_37_method_40_code 173 = .ok (.getfield 311, 3) := by decide +kernel
theorem dX10_ends1_176 : decode prog_37_method_40_code 176 = .ok (.ifCond .ne 7, 3) := by decide +kernel
theorem dX10_ends1_179 : decode prog_37_method_40_code 179 = .ok (.aload_n 0, 1) := by decide +kernel
theorem dX10_ends1_180 : decode prog_37_method_40_code 180 = .ok (.invokevirtual 331, 3) := by decide +kernel
theorem dX10_ends1_183 : decode prog_37_method_40_code 183 = .ok (.iconst 0, 1) := by decide +kernel
theorem dX10_ends1_184 : decode prog_37_method_40_code 184 = .ok (.ireturn, 1) := by decide +kernel
theorem dX10_ends1_185 : decode prog_37_method_40_code 185 = .ok (.aload_n 0, 1) := by decide +kernel
theorem dX10_ends1_186 : decode prog_37_method_40_code 186 = .ok (.invokevirtual 434, 3) := by decide +kernel
theorem dX10_ends1_189 : decode prog_37_method_40_code 189 = .ok (.ireturn, 1) := by decide +kernel
theorem dX10_puts_0 : decode prog_37_method_32_code 0 = .ok (.aload_n 0, 1) := by decide +kernel
theorem dX10_puts_1 : decode prog_37_method_32_code 1 = .ok (.getfield 269, 3) := by decide +kernel
theorem dX10_puts_4 : decode prog_37_method_32_code 4 = .ok (.istore_n 1, 1) := by decide +kernel
theorem dX10_puts_5 : decode prog_37_method_32_code 5 = .ok (.aload_n 0, 1) := by decide +kernel
theorem dX10_puts_6 : decode prog_37_method_32_code 6 = .ok (.invokevirtual 400, 3) := by decide +kernel
theorem dX10_puts_9 : decode prog_37_method_32_code 9 = .ok (.istore_n 2, 1) := by decide +kernel
theorem dX10_puts_10 : decode prog_37_method_32_code 10 = .ok (.aload_n 0, 1) := by decide +kernel
theorem dX10_puts_11 : decode prog_37_method_32_code 11 = .ok (.getfield 311, 3) := by decide +kernel
